/-! OtterTrust -/
set_option maxRecDepth 100000
def RX1 : String := "OtterTrust"
def TX1 : u_T := fun k => match k with
  | 0 => ("OtterTrust", "now", "LOtterTrust$River;", false)
  | 1 => ("OtterTrust", "saved", "LOtterTrust$River;", false)
  | 2 => ("OtterTrust", "earlier", "Ljava/util/Deque;", true)
  | 3 => ("OtterTrust", "tape", "Ljava/lang/StringBuilder;", true)
  | 4 => ("OtterTrust", "line", "Ljava/lang/String;", false)
  | 5 => ("OtterTrust", "faultPosition", "I", false)
  | 6 => ("OtterTrust", "latest", "LOtterTrust$Refused;", false)
  | _ => ("OtterTrust", "latestPlace", "I", false)
def tyX1 : Nat → FieldType := fun k => match k with
  | 0 => .object "OtterTrust$River"
  | 1 => .object "OtterTrust$River"
  | 2 => .object "java/util/Deque"
  | 3 => .object "java/lang/StringBuilder"
  | 4 => .object "java/lang/String"
  | 5 => .int
  | 6 => .object "OtterTrust$Refused"
  | _ => .int
abbrev wsX10 : List Cond := u_ws RX1 TX1 8
theorem nmX1 : ∀ a, a < 8 → ∀ b, b < 8 → a ≠ b → (TX1 a).2.1 ≠ (TX1 b).2.1 := by decide +kernel
theorem tyX1_ok : ∀ k, k < 8 → parseFieldDescriptor (TX1 k).2.2.1 = some (tyX1 k) := by decide +kernel
abbrev cX1_init : ByteArray := prog_1_method_7_code
def yX1_init : MethodName := ⟨RX1, "<init>", "()V"⟩
def dkwX1_init_2 : List UInt8 := [181, 0, 58, 177]
abbrev dktX1_init_2 : List UInt8 := dkwX1_init_2 ++ []
def dkwX1_init_1 : List UInt8 := [181, 0, 41, 42, 187, 0, 45, 89, 183, 0, 47, 181, 0, 48, 42, 18, 52, 181, 0, 54, 42, 2]
abbrev dktX1_init_1 : List UInt8 := dkwX1_init_1 ++ dktX1_init_2
def dkwX1_init_0 : List UInt8 := [42, 183, 0, 28, 42, 187, 0, 31, 89, 183, 0, 33, 181, 0, 34, 42, 187, 0, 38, 89, 183, 0, 40]
abbrev dktX1_init_0 : List UInt8 := dkwX1_init_0 ++ dktX1_init_1
theorem dksX1_init_0 : cX1_init.data.toList.drop 0 = dktX1_init_0 := by decide +kernel
theorem dksX1_init_1 : cX1_init.data.toList.drop 23 = dktX1_init_1 := dk_seg dksX1_init_0 23 rfl rfl
theorem dksX1_init_2 : cX1_init.data.toList.drop 45 = dktX1_init_2 := dk_seg dksX1_init_1 22 rfl rfl
theorem dX1_init_0 : decode cX1_init 0 = .ok (.aload_n 0, 1) := dk_42 (dk_at dksX1_init_0 0 rfl rfl)
theorem dX1_init_1 : decode cX1_init 1 = .ok (.invokespecial 28, 3) := dk_183 0 28 (dk_at dksX1_init_0 1 rfl rfl)
theorem dX1_init_4 : decode cX1_init 4 = .ok (.aload_n 0, 1) := dk_42 (dk_at dksX1_init_0 4 rfl rfl)
theorem dX1_init_5 : decode cX1_init 5 = .ok (.new 31, 3) := dk_187 0 31 (dk_at dksX1_init_0 5 rfl rfl)
theorem dX1_init_8 : decode cX1_init 8 = .ok (.dup, 1) := dk_89 (dk_at dksX1_init_0 8 rfl rfl)
theorem dX1_init_9 : decode cX1_init 9 = .ok (.invokespecial 33, 3) := dk_183 0 33 (dk_at dksX1_init_0 9 rfl rfl)
theorem dX1_init_12 : decode cX1_init 12 = .ok (.putfield 34, 3) := dk_181 0 34 (dk_at dksX1_init_0 12 rfl rfl)
theorem dX1_init_15 : decode cX1_init 15 = .ok (.aload_n 0, 1) := dk_42 (dk_at dksX1_init_0 15 rfl rfl)
theorem dX1_init_16 : decode cX1_init 16 = .ok (.new 38, 3) := dk_187 0 38 (dk_at dksX1_init_0 16 rfl rfl)
theorem dX1_init_19 : decode cX1_init 19 = .ok (.dup, 1) := dk_89 (dk_at dksX1_init_0 19 rfl rfl)
theorem dX1_init_20 : decode cX1_init 20 = .ok (.invokespecial 40, 3) := dk_183 0 40 (dk_at dksX1_init_0 20 rfl rfl)
theorem dX1_init_23 : decode cX1_init 23 = .ok (.putfield 41, 3) := dk_181 0 41 (dk_at dksX1_init_1 0 rfl rfl)
theorem dX1_init_26 : decode cX1_init 26 = .ok (.aload_n 0, 1) := dk_42 (dk_at dksX1_init_1 3 rfl rfl)
theorem dX1_init_27 : decode cX1_init 27 = .ok (.new 45, 3) := dk_187 0 45 (dk_at dksX1_init_1 4 rfl rfl)
theorem dX1_init_30 : decode cX1_init 30 = .ok (.dup, 1) := dk_89 (dk_at dksX1_init_1 7 rfl rfl)
theorem dX1_init_31 : decode cX1_init 31 = .ok (.invokespecial 47, 3) := dk_183 0 47 (dk_at dksX1_init_1 8 rfl rfl)
theorem dX1_init_34 : decode cX1_init 34 = .ok (.putfield 48, 3) := dk_181 0 48 (dk_at dksX1_init_1 11 rfl rfl)
theorem dX1_init_37 : decode cX1_init 37 = .ok (.aload_n 0, 1) := dk_42 (dk_at dksX1_init_1 14 rfl rfl)
theorem dX1_init_38 : decode cX1_init 38 = .ok (.ldc 52, 2) := dk_18 52 (dk_at dksX1_init_1 15 rfl rfl)
theorem dX1_init_40 : decode cX1_init 40 = .ok (.putfield 54, 3) := dk_181 0 54 (dk_at dksX1_init_1 17 rfl rfl)
theorem dX1_init_43 : decode cX1_init 43 = .ok (.aload_n 0, 1) := dk_42 (dk_at dksX1_init_1 20 rfl rfl)
theorem dX1_init_44 : decode cX1_init 44 = .ok (.iconst (-1), 1) := dk_2 (dk_at dksX1_init_1 21 rfl rfl)
theorem dX1_init_45 : decode cX1_init 45 = .ok (.putfield 58, 3) := dk_181 0 58 (dk_at dksX1_init_2 0 rfl rfl)
theorem dX1_init_48 : decode cX1_init 48 = .ok (.return_, 1) := dk_177 (dk_at dksX1_init_2 3 rfl rfl)
abbrev cX1_census : ByteArray := prog_1_method_20_code
def yX1_census : MethodName := ⟨RX1, "census", "()I"⟩
def dkwX1_census_0 : List UInt8 := [42, 8, 3, 3, 182, 0, 105, 172]
abbrev dktX1_census_0 : List UInt8 := dkwX1_census_0 ++ []
theorem dksX1_census_0 : cX1_census.data.toList.drop 0 = dktX1_census_0 := by decide +kernel
theorem dX1_census_0 : decode cX1_census 0 = .ok (.aload_n 0, 1) := dk_42 (dk_at dksX1_census_0 0 rfl rfl)
theorem dX1_census_1 : decode cX1_census 1 = .ok (.iconst 5, 1) := dk_8 (dk_at dksX1_census_0 1 rfl rfl)
theorem dX1_census_2 : decode cX1_census 2 = .ok (.iconst 0, 1) := dk_3 (dk_at dksX1_census_0 2 rfl rfl)
theorem dX1_census_3 : decode cX1_census 3 = .ok (.iconst 0, 1) := dk_3 (dk_at dksX1_census_0 3 rfl rfl)
theorem dX1_census_4 : decode cX1_census 4 = .ok (.invokevirtual 105, 3) := dk_182 0 105 (dk_at dksX1_census_0 4 rfl rfl)
theorem dX1_census_7 : decode cX1_census 7 = .ok (.ireturn, 1) := dk_172 (dk_at dksX1_census_0 7 rfl rfl)
abbrev cX1_done : ByteArray := prog_1_method_10_code
def yX1_done : MethodName := ⟨RX1, "done", "(III)I"⟩
def dkwX1_done_2 : List UInt8 := [182, 0, 101, 191]
abbrev dktX1_done_2 : List UInt8 := dkwX1_done_2 ++ []
def dkwX1_done_1 : List UInt8 := [25, 4, 182, 0, 94, 54, 5, 42, 25, 4, 182, 0, 98, 21, 5, 172, 58, 5, 42, 25, 5, 3]
abbrev dktX1_done_1 : List UInt8 := dkwX1_done_1 ++ dktX1_done_2
def dkwX1_done_0 : List UInt8 := [187, 0, 31, 89, 42, 180, 0, 34, 183, 0, 86, 58, 4, 187, 0, 89, 89, 27, 28, 29, 183, 0, 91]
abbrev dktX1_done_0 : List UInt8 := dkwX1_done_0 ++ dktX1_done_1
theorem dksX1_done_0 : cX1_done.data.toList.drop 0 = dktX1_done_0 := by decide +kernel
theorem dksX1_done_1 : cX1_done.data.toList.drop 23 = dktX1_done_1 := dk_seg dksX1_done_0 23 rfl rfl
theorem dksX1_done_2 : cX1_done.data.toList.drop 45 = dktX1_done_2 := dk_seg dksX1_done_1 22 rfl rfl
theorem dX1_done_0 : decode cX1_done 0 = .ok (.new 31, 3) := dk_187 0 31 (dk_at dksX1_done_0 0 rfl rfl)
theorem dX1_done_3 : decode cX1_done 3 = .ok (.dup, 1) := dk_89 (dk_at dksX1_done_0 3 rfl rfl)
theorem dX1_done_4 : decode cX1_done 4 = .ok (.aload_n 0, 1) := dk_42 (dk_at dksX1_done_0 4 rfl rfl)
theorem dX1_done_5 : decode cX1_done 5 = .ok (.getfield 34, 3) := dk_180 0 34 (dk_at dksX1_done_0 5 rfl rfl)
theorem dX1_done_8 : decode cX1_done 8 = .ok (.invokespecial 86, 3) := dk_183 0 86 (dk_at dksX1_done_0 8 rfl rfl)
theorem dX1_done_11 : decode cX1_done 11 = .ok (.astore 4, 2) := dk_58 4 (dk_at dksX1_done_0 11 rfl rfl)
theorem dX1_done_13 : decode cX1_done 13 = .ok (.new 89, 3) := dk_187 0 89 (dk_at dksX1_done_0 13 rfl rfl)
theorem dX1_done_16 : decode cX1_done 16 = .ok (.dup, 1) := dk_89 (dk_at dksX1_done_0 16 rfl rfl)
theorem dX1_done_17 : decode cX1_done 17 = .ok (.iload_n 1, 1) := dk_27 (dk_at dksX1_done_0 17 rfl rfl)
theorem dX1_done_18 : decode cX1_done 18 = .ok (.iload_n 2, 1) := dk_28 (dk_at dksX1_done_0 18 rfl rfl)
theorem dX1_done_19 : decode cX1_done 19 = .ok (.iload_n 3, 1) := dk_29 (dk_at dksX1_done_0 19 rfl rfl)
theorem dX1_done_20 : decode cX1_done 20 = .ok (.invokespecial 91, 3) := dk_183 0 91 (dk_at dksX1_done_0 20 rfl rfl)
theorem dX1_done_23 : decode cX1_done 23 = .ok (.aload 4, 2) := dk_25 4 (dk_at dksX1_done_1 0 rfl rfl)
theorem dX1_done_25 : decode cX1_done 25 = .ok (.invokevirtual 94, 3) := dk_182 0 94 (dk_at dksX1_done_1 2 rfl rfl)
theorem dX1_done_28 : decode cX1_done 28 = .ok (.istore 5, 2) := dk_54 5 (dk_at dksX1_done_1 5 rfl rfl)
theorem dX1_done_30 : decode cX1_done 30 = .ok (.aload_n 0, 1) := dk_42 (dk_at dksX1_done_1 7 rfl rfl)
theorem dX1_done_31 : decode cX1_done 31 = .ok (.aload 4, 2) := dk_25 4 (dk_at dksX1_done_1 8 rfl rfl)
theorem dX1_done_33 : decode cX1_done 33 = .ok (.invokevirtual 98, 3) := dk_182 0 98 (dk_at dksX1_done_1 10 rfl rfl)
theorem dX1_done_36 : decode cX1_done 36 = .ok (.iload 5, 2) := dk_21 5 (dk_at dksX1_done_1 13 rfl rfl)
theorem dX1_done_38 : decode cX1_done 38 = .ok (.ireturn, 1) := dk_172 (dk_at dksX1_done_1 15 rfl rfl)
theorem dX1_done_39 : decode cX1_done 39 = .ok (.astore 5, 2) := dk_58 5 (dk_at dksX1_done_1 16 rfl rfl)
theorem dX1_done_41 : decode cX1_done 41 = .ok (.aload_n 0, 1) := dk_42 (dk_at dksX1_done_1 18 rfl rfl)
theorem dX1_done_42 : decode cX1_done 42 = .ok (.aload 5, 2) := dk_25 5 (dk_at dksX1_done_1 19 rfl rfl)
theorem dX1_done_44 : decode cX1_done 44 = .ok (.iconst 0, 1) := dk_3 (dk_at dksX1_done_1 21 rfl rfl)
theorem dX1_done_45 : decode cX1_done 45 = .ok (.invokevirtual 101, 3) := dk_182 0 101 (dk_at dksX1_done_2 0 rfl rfl)
theorem dX1_done_48 : decode cX1_done 48 = .ok (.athrow, 1) := dk_191 (dk_at dksX1_done_2 3 rfl rfl)
abbrev cX1_isBetween : ByteArray := prog_1_method_1_code
def yX1_isBetween : MethodName := ⟨RX1, "isBetween", "(III)Z"⟩
def dkwX1_isBetween_0 : List UInt8 := [27, 26, 163, 0, 12, 26, 28, 163, 0, 7, 4, 167, 0, 4, 3, 172]
abbrev dktX1_isBetween_0 : List UInt8 := dkwX1_isBetween_0 ++ []
theorem dksX1_isBetween_0 : cX1_isBetween.data.toList.drop 0 = dktX1_isBetween_0 := by decide +kernel
theorem dX1_isBetween_0 : decode cX1_isBetween 0 = .ok (.iload_n 1, 1) := dk_27 (dk_at dksX1_isBetween_0 0 rfl rfl)
theorem dX1_isBetween_1 : decode cX1_isBetween 1 = .ok (.iload_n 0, 1) := dk_26 (dk_at dksX1_isBetween_0 1 rfl rfl)
theorem dX1_isBetween_2 : decode cX1_isBetween 2 = .ok (.if_icmp .gt 12, 3) := dk_163 0 12 (dk_at dksX1_isBetween_0 2 rfl rfl)
theorem dX1_isBetween_5 : decode cX1_isBetween 5 = .ok (.iload_n 0, 1) := dk_26 (dk_at dksX1_isBetween_0 5 rfl rfl)
theorem dX1_isBetween_6 : decode cX1_isBetween 6 = .ok (.iload_n 2, 1) := dk_28 (dk_at dksX1_isBetween_0 6 rfl rfl)
theorem dX1_isBetween_7 : decode cX1_isBetween 7 = .ok (.if_icmp .gt 7, 3) := dk_163 0 7 (dk_at dksX1_isBetween_0 7 rfl rfl)
theorem dX1_isBetween_10 : decode cX1_isBetween 10 = .ok (.iconst 1, 1) := dk_4 (dk_at dksX1_isBetween_0 10 rfl rfl)
theorem dX1_isBetween_11 : decode cX1_isBetween 11 = .ok (.goto 4, 3) := dk_167 0 4 (dk_at dksX1_isBetween_0 11 rfl rfl)
theorem dX1_isBetween_14 : decode cX1_isBetween 14 = .ok (.iconst 0, 1) := dk_3 (dk_at dksX1_isBetween_0 14 rfl rfl)
theorem dX1_isBetween_15 : decode cX1_isBetween 15 = .ok (.ireturn, 1) := dk_172 (dk_at dksX1_isBetween_0 15 rfl rfl)
abbrev cX1_check : ByteArray := prog_1_method_5_code
def yX1_check : MethodName := ⟨RX1, "check", "(ZII)V"⟩
def dkwX1_check_0 : List UInt8 := [26, 154, 0, 13, 187, 0, 13, 89, 27, 28, 183, 0, 15, 191, 177]
abbrev dktX1_check_0 : List UInt8 := dkwX1_check_0 ++ []
theorem dksX1_check_0 : cX1_check.data.toList.drop 0 = dktX1_check_0 := by decide +kernel
theorem dX1_check_0 : decode cX1_check 0 = .ok (.iload_n 0, 1) := dk_26 (dk_at dksX1_check_0 0 rfl rfl)
theorem dX1_check_1 : decode cX1_check 1 = .ok (.ifCond .ne 13, 3) := dk_154 0 13 (dk_at dksX1_check_0 1 rfl rfl)
theorem dX1_check_4 : decode cX1_check 4 = .ok (.new 13, 3) := dk_187 0 13 (dk_at dksX1_check_0 4 rfl rfl)
theorem dX1_check_7 : decode cX1_check 7 = .ok (.dup, 1) := dk_89 (dk_at dksX1_check_0 7 rfl rfl)
theorem dX1_check_8 : decode cX1_check 8 = .ok (.iload_n 1, 1) := dk_27 (dk_at dksX1_check_0 8 rfl rfl)
theorem dX1_check_9 : decode cX1_check 9 = .ok (.iload_n 2, 1) := dk_28 (dk_at dksX1_check_0 9 rfl rfl)
theorem dX1_check_10 : decode cX1_check 10 = .ok (.invokespecial 15, 3) := dk_183 0 15 (dk_at dksX1_check_0 10 rfl rfl)
theorem dX1_check_13 : decode cX1_check 13 = .ok (.athrow, 1) := dk_191 (dk_at dksX1_check_0 13 rfl rfl)
theorem dX1_check_14 : decode cX1_check 14 = .ok (.return_, 1) := dk_177 (dk_at dksX1_check_0 14 rfl rfl)
abbrev cX1_checkRange : ByteArray := prog_1_method_6_code
def yX1_checkRange : MethodName := ⟨RX1, "checkRange", "(III)V"⟩
def dkwX1_checkRange_0 : List UInt8 := [26, 27, 28, 184, 0, 18, 6, 26, 184, 0, 24, 177]
abbrev dktX1_checkRange_0 : List UInt8 := dkwX1_checkRange_0 ++ []
theorem dksX1_checkRange_0 : cX1_checkRange.data.toList.drop 0 = dktX1_checkRange_0 := by decide +kernel
theorem dX1_checkRange_0 : decode cX1_checkRange 0 = .ok (.iload_n 0, 1) := dk_26 (dk_at dksX1_checkRange_0 0 rfl rfl)
theorem dX1_checkRange_1 : decode cX1_checkRange 1 = .ok (.iload_n 1, 1) := dk_27 (dk_at dksX1_checkRange_0 1 rfl rfl)
theorem dX1_checkRange_2 : decode cX1_checkRange 2 = .ok (.iload_n 2, 1) := dk_28 (dk_at dksX1_checkRange_0 2 rfl rfl)
theorem dX1_checkRange_3 : decode cX1_checkRange 3 = .ok (.invokestatic 18, 3) := dk_184 0 18 (dk_at dksX1_checkRange_0 3 rfl rfl)
theorem dX1_checkRange_6 : decode cX1_checkRange 6 = .ok (.iconst 3, 1) := dk_6 (dk_at dksX1_checkRange_0 6 rfl rfl)
theorem dX1_checkRange_7 : decode cX1_checkRange 7 = .ok (.iload_n 0, 1) := dk_26 (dk_at dksX1_checkRange_0 7 rfl rfl)
theorem dX1_checkRange_8 : decode cX1_checkRange 8 = .ok (.invokestatic 24, 3) := dk_184 0 24 (dk_at dksX1_checkRange_0 8 rfl rfl)
theorem dX1_checkRange_11 : decode cX1_checkRange 11 = .ok (.return_, 1) := dk_177 (dk_at dksX1_checkRange_0 11 rfl rfl)
abbrev cX1_remember : ByteArray := prog_1_method_8_code
def yX1_remember : MethodName := ⟨RX1, "remember", "(LOtterTrust$River;)V"⟩
def dkwX1_remember_1 : List UInt8 := [42, 180, 0, 41, 42, 180, 0, 34, 185, 0, 72, 2, 0, 42, 43, 181, 0, 34, 177]
abbrev dktX1_remember_1 : List UInt8 := dkwX1_remember_1 ++ []
def dkwX1_remember_0 : List UInt8 := [42, 180, 0, 41, 185, 0, 62, 1, 0, 16, 8, 160, 0, 13, 42, 180, 0, 41, 185, 0, 68, 1, 0, 87]
abbrev dktX1_remember_0 : List UInt8 := dkwX1_remember_0 ++ dktX1_remember_1
theorem dksX1_remember_0 : cX1_remember.data.toList.drop 0 = dktX1_remember_0 := by decide +kernel
theorem dksX1_remember_1 : cX1_remember.data.toList.drop 24 = dktX1_remember_1 := dk_seg dksX1_remember_0 24 rfl rfl
theorem dX1_remember_0 : decode cX1_remember 0 = .ok (.aload_n 0, 1) := dk_42 (dk_at dksX1_remember_0 0 rfl rfl)
theorem dX1_remember_1 : decode cX1_remember 1 = .ok (.getfield 41, 3) := dk_180 0 41 (dk_at dksX1_remember_0 1 rfl rfl)
theorem dX1_remember_4 : decode cX1_remember 4 = .ok (.invokeinterface 62 1, 5) := by decide +kernel
theorem dX1_remember_9 : decode cX1_remember 9 = .ok (.bipush 8, 2) := dk_16 8 (dk_at dksX1_remember_0 9 rfl rfl)
theorem dX1_remember_11 : decode cX1_remember 11 = .ok (.if_icmp .ne 13, 3) := dk_160 0 13 (dk_at dksX1_remember_0 11 rfl rfl)
theorem dX1_remember_14 : decode cX1_remember 14 = .ok (.aload_n 0, 1) := dk_42 (dk_at dksX1_remember_0 14 rfl rfl)
theorem dX1_remember_15 : decode cX1_remember 15 = .ok (.getfield 41, 3) := dk_180 0 41 (dk_at dksX1_remember_0 15 rfl rfl)
theorem dX1_remember_18 : decode cX1_remember 18 = .ok (.invokeinterface 68 1, 5) := by decide +kernel
theorem dX1_remember_23 : decode cX1_remember 23 = .ok (.pop, 1) := dk_87 (dk_at dksX1_remember_0 23 rfl rfl)
theorem dX1_remember_24 : decode cX1_remember 24 = .ok (.aload_n 0, 1) := dk_42 (dk_at dksX1_remember_1 0 rfl rfl)
theorem dX1_remember_25 : decode cX1_remember 25 = .ok (.getfield 41, 3) := dk_180 0 41 (dk_at dksX1_remember_1 1 rfl rfl)
theorem dX1_remember_28 : decode cX1_remember 28 = .ok (.aload_n 0, 1) := dk_42 (dk_at dksX1_remember_1 4 rfl rfl)
theorem dX1_remember_29 : decode cX1_remember 29 = .ok (.getfield 34, 3) := dk_180 0 34 (dk_at dksX1_remember_1 5 rfl rfl)
theorem dX1_remember_32 : decode cX1_remember 32 = .ok (.invokeinterface 72 2, 5) := by decide +kernel
theorem dX1_remember_37 : decode cX1_remember 37 = .ok (.aload_n 0, 1) := dk_42 (dk_at dksX1_remember_1 13 rfl rfl)
theorem dX1_remember_38 : decode cX1_remember 38 = .ok (.aload_n 1, 1) := dk_43 (dk_at dksX1_remember_1 14 rfl rfl)
theorem dX1_remember_39 : decode cX1_remember 39 = .ok (.putfield 34, 3) := dk_181 0 34 (dk_at dksX1_remember_1 15 rfl rfl)
theorem dX1_remember_42 : decode cX1_remember 42 = .ok (.return_, 1) := dk_177 (dk_at dksX1_remember_1 18 rfl rfl)
abbrev cX1_kept : ByteArray := prog_1_method_9_code
def yX1_kept : MethodName := ⟨RX1, "kept", "(LOtterTrust$Refused;I)Ljava/lang/UnsupportedOperationException;"⟩
def dkwX1_kept_0 : List UInt8 := [42, 43, 181, 0, 76, 42, 28, 181, 0, 80, 187, 0, 83, 89, 183, 0, 85, 176]
abbrev dktX1_kept_0 : List UInt8 := dkwX1_kept_0 ++ []
theorem dksX1_kept_0 : cX1_kept.data.toList.drop 0 = dktX1_kept_0 := by decide +kernel
theorem dX1_kept_0 : decode cX1_kept 0 = .ok (.aload_n 0, 1) := dk_42 (dk_at dksX1_kept_0 0 rfl rfl)
theorem dX1_kept_1 : decode cX1_kept 1 = .ok (.aload_n 1, 1) := dk_43 (dk_at dksX1_kept_0 1 rfl rfl)
theorem dX1_kept_2 : decode cX1_kept 2 = .ok (.putfield 76, 3) := dk_181 0 76 (dk_at dksX1_kept_0 2 rfl rfl)
theorem dX1_kept_5 : decode cX1_kept 5 = .ok (.aload_n 0, 1) := dk_42 (dk_at dksX1_kept_0 5 rfl rfl)
theorem dX1_kept_6 : decode cX1_kept 6 = .ok (.iload_n 2, 1) := dk_28 (dk_at dksX1_kept_0 6 rfl rfl)
theorem dX1_kept_7 : decode cX1_kept 7 = .ok (.putfield 80, 3) := dk_181 0 80 (dk_at dksX1_kept_0 7 rfl rfl)
theorem dX1_kept_10 : decode cX1_kept 10 = .ok (.new 83, 3) := dk_187 0 83 (dk_at dksX1_kept_0 10 rfl rfl)
theorem dX1_kept_13 : decode cX1_kept 13 = .ok (.dup, 1) := dk_89 (dk_at dksX1_kept_0 13 rfl rfl)
theorem dX1_kept_14 : decode cX1_kept 14 = .ok (.invokespecial 85, 3) := dk_183 0 85 (dk_at dksX1_kept_0 14 rfl rfl)
theorem dX1_kept_17 : decode cX1_kept 17 = .ok (.areturn, 1) := dk_176 (dk_at dksX1_kept_0 17 rfl rfl)
abbrev cX1_unseen : ByteArray := prog_1_method_33_code
def yX1_unseen : MethodName := ⟨RX1, "unseen", "()I"⟩
def dkwX1_unseen_0 : List UInt8 := [42, 180, 0, 34, 182, 0, 240, 172]
abbrev dktX1_unseen_0 : List UInt8 := dkwX1_unseen_0 ++ []
theorem dksX1_unseen_0 : cX1_unseen.data.toList.drop 0 = dktX1_unseen_0 := by decide +kernel
theorem dX1_unseen_0 : decode cX1_unseen 0 = .ok (.aload_n 0, 1) := dk_42 (dk_at dksX1_unseen_0 0 rfl rfl)
theorem dX1_unseen_1 : decode cX1_unseen 1 = .ok (.getfield 34, 3) := dk_180 0 34 (dk_at dksX1_unseen_0 1 rfl rfl)
theorem dX1_unseen_4 : decode cX1_unseen 4 = .ok (.invokevirtual 240, 3) := dk_182 0 240 (dk_at dksX1_unseen_0 4 rfl rfl)
theorem dX1_unseen_7 : decode cX1_unseen 7 = .ok (.ireturn, 1) := dk_172 (dk_at dksX1_unseen_0 7 rfl rfl)
abbrev cX1_lonely : ByteArray := prog_1_method_34_code
def yX1_lonely : MethodName := ⟨RX1, "lonely", "()I"⟩
def dkwX1_lonely_3 : List UInt8 := [167, 255, 193, 27, 172]
abbrev dktX1_lonely_3 : List UInt8 := dkwX1_lonely_3 ++ []
def dkwX1_lonely_2 : List UInt8 := [180, 0, 34, 28, 182, 0, 159, 4, 160, 0, 9, 4, 28, 120, 167, 0, 4, 3, 128, 60, 132, 2, 1]
abbrev dktX1_lonely_2 : List UInt8 := dkwX1_lonely_2 ++ dktX1_lonely_3
def dkwX1_lonely_1 : List UInt8 := [180, 0, 34, 180, 0, 109, 28, 185, 0, 120, 2, 0, 192, 0, 124, 180, 0, 151, 153, 0, 21, 42]
abbrev dktX1_lonely_1 : List UInt8 := dkwX1_lonely_1 ++ dktX1_lonely_2
def dkwX1_lonely_0 : List UInt8 := [3, 60, 3, 61, 28, 42, 180, 0, 34, 180, 0, 109, 185, 0, 113, 1, 0, 162, 0, 53, 27, 42]
abbrev dktX1_lonely_0 : List UInt8 := dkwX1_lonely_0 ++ dktX1_lonely_1
theorem dksX1_lonely_0 : cX1_lonely.data.toList.drop 0 = dktX1_lonely_0 := by decide +kernel
theorem dksX1_lonely_1 : cX1_lonely.data.toList.drop 22 = dktX1_lonely_1 := dk_seg dksX1_lonely_0 22 rfl rfl
theorem dksX1_lonely_2 : cX1_lonely.data.toList.drop 44 = dktX1_lonely_2 := dk_seg dksX1_lonely_1 22 rfl rfl
theorem dksX1_lonely_3 : cX1_lonely.data.toList.drop 67 = dktX1_lonely_3 := dk_seg dksX1_lonely_2 23 rfl rfl
theorem dX1_lonely_0 : decode cX1_lonely 0 = .ok (.iconst 0, 1) := dk_3 (dk_at dksX1_lonely_0 0 rfl rfl)
theorem dX1_lonely_1 : decode cX1_lonely 1 = .ok (.istore_n 1, 1) := dk_60 (dk_at dksX1_lonely_0 1 rfl rfl)
theorem dX1_lonely_2 : decode cX1_lonely 2 = .ok (.iconst 0, 1) := dk_3 (dk_at dksX1_lonely_0 2 rfl rfl)
theorem dX1_lonely_3 : decode cX1_lonely 3 = .ok (.istore_n 2, 1) := dk_61 (dk_at dksX1_lonely_0 3 rfl rfl)
theorem dX1_lonely_4 : decode cX1_lonely 4 = .ok (.iload_n 2, 1) := dk_28 (dk_at dksX1_lonely_0 4 rfl rfl)
theorem dX1_lonely_5 : decode cX1_lonely 5 = .ok (.aload_n 0, 1) := dk_42 (dk_at dksX1_lonely_0 5 rfl rfl)
theorem dX1_lonely_6 : decode cX1_lonely 6 = .ok (.getfield 34, 3) := dk_180 0 34 (dk_at dksX1_lonely_0 6 rfl rfl)
theorem dX1_lonely_9 : decode cX1_lonely 9 = .ok (.getfield 109, 3) := dk_180 0 109 (dk_at dksX1_lonely_0 9 rfl rfl)
theorem dX1_lonely_12 : decode cX1_lonely 12 = .ok (.invokeinterface 113 1, 5) := by decide +kernel
theorem dX1_lonely_17 : decode cX1_lonely 17 = .ok (.if_icmp .ge 53, 3) := dk_162 0 53 (dk_at dksX1_lonely_0 17 rfl rfl)
theorem dX1_lonely_20 : decode cX1_lonely 20 = .ok (.iload_n 1, 1) := dk_27 (dk_at dksX1_lonely_0 20 rfl rfl)
theorem dX1_lonely_21 : decode cX1_lonely 21 = .ok (.aload_n 0, 1) := dk_42 (dk_at dksX1_lonely_0 21 rfl rfl)
theorem dX1_lonely_22 : decode cX1_lonely 22 = .ok (.getfield 34, 3) := dk_180 0 34 (dk_at dksX1_lonely_1 0 rfl rfl)
theorem dX1_lonely_25 : decode cX1_lonely 25 = .ok (.getfield 109, 3) := dk_180 0 109 (dk_at dksX1_lonely_1 3 rfl rfl)
theorem dX1_lonely_28 : decode cX1_lonely 28 = .ok (.iload_n 2, 1) := dk_28 (dk_at dksX1_lonely_1 6 rfl rfl)
theorem dX1_lonely_29 : decode cX1_lonely 29 = .ok (.invokeinterface 120 2, 5) := by decide +kernel
theorem dX1_lonely_34 : decode cX1_lonely 34 = .ok (.checkcast 124, 3) := dk_192 0 124 (dk_at dksX1_lonely_1 12 rfl rfl)
theorem dX1_lonely_37 : decode cX1_lonely 37 = .ok (.getfield 151, 3) := dk_180 0 151 (dk_at dksX1_lonely_1 15 rfl rfl)
theorem dX1_lonely_40 : decode cX1_lonely 40 = .ok (.ifCond .eq 21, 3) := dk_153 0 21 (dk_at dksX1_lonely_1 18 rfl rfl)
theorem dX1_lonely_43 : decode cX1_lonely 43 = .ok (.aload_n 0, 1) := dk_42 (dk_at dksX1_lonely_1 21 rfl rfl)
theorem dX1_lonely_44 : decode cX1_lonely 44 = .ok (.getfield 34, 3) := dk_180 0 34 (dk_at dksX1_lonely_2 0 rfl rfl)
theorem dX1_lonely_47 : decode cX1_lonely 47 = .ok (.iload_n 2, 1) := dk_28 (dk_at dksX1_lonely_2 3 rfl rfl)
theorem dX1_lonely_48 : decode cX1_lonely 48 = .ok (.invokevirtual 159, 3) := dk_182 0 159 (dk_at dksX1_lonely_2 4 rfl rfl)
theorem dX1_lonely_51 : decode cX1_lonely 51 = .ok (.iconst 1, 1) := dk_4 (dk_at dksX1_lonely_2 7 rfl rfl)
theorem dX1_lonely_52 : decode cX1_lonely 52 = .ok (.if_icmp .ne 9, 3) := dk_160 0 9 (dk_at dksX1_lonely_2 8 rfl rfl)
theorem dX1_lonely_55 : decode cX1_lonely 55 = .ok (.iconst 1, 1) := dk_4 (dk_at dksX1_lonely_2 11 rfl rfl)
theorem dX1_lonely_56 : decode cX1_lonely 56 = .ok (.iload_n 2, 1) := dk_28 (dk_at dksX1_lonely_2 12 rfl rfl)
theorem dX1_lonely_57 : decode cX1_lonely 57 = .ok (.ishl, 1) := dk_120 (dk_at dksX1_lonely_2 13 rfl rfl)
theorem dX1_lonely_58 : decode cX1_lonely 58 = .ok (.goto 4, 3) := dk_167 0 4 (dk_at dksX1_lonely_2 14 rfl rfl)
theorem dX1_lonely_61 : decode cX1_lonely 61 = .ok (.iconst 0, 1) := dk_3 (dk_at dksX1_lonely_2 17 rfl rfl)
theorem dX1_lonely_62 : decode cX1_lonely 62 = .ok (.ior, 1) := dk_128 (dk_at dksX1_lonely_2 18 rfl rfl)
theorem dX1_lonely_63 : decode cX1_lonely 63 = .ok (.istore_n 1, 1) := dk_60 (dk_at dksX1_lonely_2 19 rfl rfl)
theorem dX1_lonely_64 : decode cX1_lonely 64 = .ok (.iinc 2 1, 3) := dk_132 2 1 (dk_at dksX1_lonely_2 20 rfl rfl)
theorem dX1_lonely_67 : decode cX1_lonely 67 = .ok (.goto (-63), 3) := dk_167 255 193 (dk_at dksX1_lonely_3 0 rfl rfl)
theorem dX1_lonely_70 : decode cX1_lonely 70 = .ok (.iload_n 1, 1) := dk_27 (dk_at dksX1_lonely_3 3 rfl rfl)
theorem dX1_lonely_71 : decode cX1_lonely 71 = .ok (.ireturn, 1) := dk_172 (dk_at dksX1_lonely_3 4 rfl rfl)
abbrev cX1_safeLevel : ByteArray := prog_1_method_35_code
def yX1_safeLevel : MethodName := ⟨RX1, "safeLevel", "()I"⟩
def dkwX1_safeLevel_2 : List UInt8 := [45, 180, 0, 138, 184, 0, 243, 167, 0, 4, 27, 60, 132, 2, 1, 167, 255, 200, 27, 4, 100, 172]
abbrev dktX1_safeLevel_2 : List UInt8 := dkwX1_safeLevel_2 ++ []
def dkwX1_safeLevel_1 : List UInt8 := [180, 0, 34, 180, 0, 109, 28, 185, 0, 120, 2, 0, 192, 0, 124, 78, 45, 182, 0, 147, 153, 0, 14, 27]
abbrev dktX1_safeLevel_1 : List UInt8 := dkwX1_safeLevel_1 ++ dktX1_safeLevel_2
def dkwX1_safeLevel_0 : List UInt8 := [16, 10, 60, 3, 61, 28, 42, 180, 0, 34, 180, 0, 109, 185, 0, 113, 1, 0, 162, 0, 46, 42]
abbrev dktX1_safeLevel_0 : List UInt8 := dkwX1_safeLevel_0 ++ dktX1_safeLevel_1
theorem dksX1_safeLevel_0 : cX1_safeLevel.data.toList.drop 0 = dktX1_safeLevel_0 := by decide +kernel
theorem dksX1_safeLevel_1 : cX1_safeLevel.data.toList.drop 22 = dktX1_safeLevel_1 := dk_seg dksX1_safeLevel_0 22 rfl rfl
theorem dksX1_safeLevel_2 : cX1_safeLevel.data.toList.drop 46 = dktX1_safeLevel_2 := dk_seg dksX1_safeLevel_1 24 rfl rfl
theorem dX1_safeLevel_0 : decode cX1_safeLevel 0 = .ok (.bipush 10, 2) := dk_16 10 (dk_at dksX1_safeLevel_0 0 rfl rfl)
theorem dX1_safeLevel_2 : decode cX1_safeLevel 2 = .ok (.istore_n 1, 1) := dk_60 (dk_at dksX1_safeLevel_0 2 rfl rfl)
theorem dX1_safeLevel_3 : decode cX1_safeLevel 3 = .ok (.iconst 0, 1) := dk_3 (dk_at dksX1_safeLevel_0 3 rfl rfl)
theorem dX1_safeLevel_4 : decode cX1_safeLevel 4 = .ok (.istore_n 2, 1) := dk_61 (dk_at dksX1_safeLevel_0 4 rfl rfl)
theorem dX1_safeLevel_5 : decode cX1_safeLevel 5 = .ok (.iload_n 2, 1) := dk_28 (dk_at dksX1_safeLevel_0 5 rfl rfl)
theorem dX1_safeLevel_6 : decode cX1_safeLevel 6 = .ok (.aload_n 0, 1) := dk_42 (dk_at dksX1_safeLevel_0 6 rfl rfl)
theorem dX1_safeLevel_7 : decode cX1_safeLevel 7 = .ok (.getfield 34, 3) := dk_180 0 34 (dk_at dksX1_safeLevel_0 7 rfl rfl)
theorem dX1_safeLevel_10 : decode cX1_safeLevel 10 = .ok (.getfield 109, 3) := dk_180 0 109 (dk_at dksX1_safeLevel_0 10 rfl rfl)
theorem dX1_safeLevel_13 : decode cX1_safeLevel 13 = .ok (.invokeinterface 113 1, 5) := by decide +kernel
theorem dX1_safeLevel_18 : decode cX1_safeLevel 18 = .ok (.if_icmp .ge 46, 3) := dk_162 0 46 (dk_at dksX1_safeLevel_0 18 rfl rfl)
theorem dX1_safeLevel_21 : decode cX1_safeLevel 21 = .ok (.aload_n 0, 1) := dk_42 (dk_at dksX1_safeLevel_0 21 rfl rfl)
theorem dX1_safeLevel_22 : decode cX1_safeLevel 22 = .ok (.getfield 34, 3) := dk_180 0 34 (dk_at dksX1_safeLevel_1 0 rfl rfl)
theorem dX1_safeLevel_25 : decode cX1_safeLevel 25 = .ok (.getfield 109, 3) := dk_180 0 109 (dk_at dksX1_safeLevel_1 3 rfl rfl)
theorem dX1_safeLevel_28 : decode cX1_safeLevel 28 = .ok (.iload_n 2, 1) := dk_28 (dk_at dksX1_safeLevel_1 6 rfl rfl)
theorem dX1_safeLevel_29 : decode cX1_safeLevel 29 = .ok (.invokeinterface 120 2, 5) := by decide +kernel
theorem dX1_safeLevel_34 : decode cX1_safeLevel 34 = .ok (.checkcast 124, 3) := dk_192 0 124 (dk_at dksX1_safeLevel_1 12 rfl rfl)
theorem dX1_safeLevel_37 : decode cX1_safeLevel 37 = .ok (.astore_n 3, 1) := dk_78 (dk_at dksX1_safeLevel_1 15 rfl rfl)
theorem dX1_safeLevel_38 : decode cX1_safeLevel 38 = .ok (.aload_n 3, 1) := dk_45 (dk_at dksX1_safeLevel_1 16 rfl rfl)
theorem dX1_safeLevel_39 : decode cX1_safeLevel 39 = .ok (.invokevirtual 147, 3) := dk_182 0 147 (dk_at dksX1_safeLevel_1 17 rfl rfl)
theorem dX1_safeLevel_42 : decode cX1_safeLevel 42 = .ok (.ifCond .eq 14, 3) := dk_153 0 14 (dk_at dksX1_safeLevel_1 20 rfl rfl)
theorem dX1_safeLevel_45 : decode cX1_safeLevel 45 = .ok (.iload_n 1, 1) := dk_27 (dk_at dksX1_safeLevel_1 23 rfl rfl)
theorem dX1_safeLevel_46 : decode cX1_safeLevel 46 = .ok (.aload_n 3, 1) := dk_45 (dk_at dksX1_safeLevel_2 0 rfl rfl)
theorem dX1_safeLevel_47 : decode cX1_safeLevel 47 = .ok (.getfield 138, 3) := dk_180 0 138 (dk_at dksX1_safeLevel_2 1 rfl rfl)
theorem dX1_safeLevel_50 : decode cX1_safeLevel 50 = .ok (.invokestatic 243, 3) := dk_184 0 243 (dk_at dksX1_safeLevel_2 4 rfl rfl)
theorem dX1_safeLevel_53 : decode cX1_safeLevel 53 = .ok (.goto 4, 3) := dk_167 0 4 (dk_at dksX1_safeLevel_2 7 rfl rfl)
theorem dX1_safeLevel_56 : decode cX1_safeLevel 56 = .ok (.iload_n 1, 1) := dk_27 (dk_at dksX1_safeLevel_2 10 rfl rfl)
theorem dX1_safeLevel_57 : decode cX1_safeLevel 57 = .ok (.istore_n 1, 1) := dk_60 (dk_at dksX1_safeLevel_2 11 rfl rfl)
theorem dX1_safeLevel_58 : decode cX1_safeLevel 58 = .ok (.iinc 2 1, 3) := dk_132 2 1 (dk_at dksX1_safeLevel_2 12 rfl rfl)
theorem dX1_safeLevel_61 : decode cX1_safeLevel 61 = .ok (.goto (-56), 3) := dk_167 255 200 (dk_at dksX1_safeLevel_2 15 rfl rfl)
theorem dX1_safeLevel_64 : decode cX1_safeLevel 64 = .ok (.iload_n 1, 1) := dk_27 (dk_at dksX1_safeLevel_2 18 rfl rfl)
theorem dX1_safeLevel_65 : decode cX1_safeLevel 65 = .ok (.iconst 1, 1) := dk_4 (dk_at dksX1_safeLevel_2 19 rfl rfl)
theorem dX1_safeLevel_66 : decode cX1_safeLevel 66 = .ok (.isub, 1) := dk_100 (dk_at dksX1_safeLevel_2 20 rfl rfl)
theorem dX1_safeLevel_67 : decode cX1_safeLevel 67 = .ok (.ireturn, 1) := dk_172 (dk_at dksX1_safeLevel_2 21 rfl rfl)
abbrev cX1_line : ByteArray := prog_1_method_45_code
def yX1_line : MethodName := ⟨RX1, "line", "()I"⟩
def dkwX1_line_5 : List UInt8 := [43, 182, 1, 6, 181, 0, 54, 42, 180, 0, 54, 182, 1, 65, 172]
abbrev dktX1_line_5 : List UInt8 := dkwX1_line_5 ++ []
def dkwX1_line_4 : List UInt8 := [162, 0, 17, 43, 19, 1, 60, 182, 1, 62, 87, 132, 4, 1, 167, 255, 236, 132, 2, 1, 167, 255, 155, 42]
abbrev dktX1_line_4 : List UInt8 := dkwX1_line_4 ++ dktX1_line_5
def dkwX1_line_3 : List UInt8 := [43, 42, 180, 0, 34, 28, 182, 0, 159, 182, 1, 57, 87, 3, 54, 4, 21, 4, 45, 180, 0, 162]
abbrev dktX1_line_3 : List UInt8 := dkwX1_line_3 ++ dktX1_line_4
def dkwX1_line_2 : List UInt8 := [182, 1, 54, 153, 0, 8, 16, 61, 167, 0, 5, 16, 126, 182, 1, 0, 87, 45, 180, 0, 151, 153, 0, 16]
abbrev dktX1_line_2 : List UInt8 := dkwX1_line_2 ++ dktX1_line_3
def dkwX1_line_1 : List UInt8 := [162, 0, 91, 42, 180, 0, 34, 180, 0, 109, 28, 185, 0, 120, 2, 0, 192, 0, 124, 78, 43, 45]
abbrev dktX1_line_1 : List UInt8 := dkwX1_line_1 ++ dktX1_line_2
def dkwX1_line_0 : List UInt8 := [187, 0, 45, 89, 183, 0, 47, 76, 3, 61, 28, 42, 180, 0, 34, 180, 0, 109, 185, 0, 113, 1, 0]
abbrev dktX1_line_0 : List UInt8 := dkwX1_line_0 ++ dktX1_line_1
theorem dksX1_line_0 : cX1_line.data.toList.drop 0 = dktX1_line_0 := by decide +kernel
theorem dksX1_line_1 : cX1_line.data.toList.drop 23 = dktX1_line_1 := dk_seg dksX1_line_0 23 rfl rfl
theorem dksX1_line_2 : cX1_line.data.toList.drop 45 = dktX1_line_2 := dk_seg dksX1_line_1 22 rfl rfl
theorem dksX1_line_3 : cX1_line.data.toList.drop 69 = dktX1_line_3 := dk_seg dksX1_line_2 24 rfl rfl
theorem dksX1_line_4 : cX1_line.data.toList.drop 91 = dktX1_line_4 := dk_seg dksX1_line_3 22 rfl rfl
theorem dksX1_line_5 : cX1_line.data.toList.drop 115 = dktX1_line_5 := dk_seg dksX1_line_4 24 rfl rfl
theorem dX1_line_0 : decode cX1_line 0 = .ok (.new 45, 3) := dk_187 0 45 (dk_at dksX1_line_0 0 rfl rfl)
theorem dX1_line_3 : decode cX1_line 3 = .ok (.dup, 1) := dk_89 (dk_at dksX1_line_0 3 rfl rfl)
theorem dX1_line_4 : decode cX1_line 4 = .ok (.invokespecial 47, 3) := dk_183 0 47 (dk_at dksX1_line_0 4 rfl rfl)
theorem dX1_line_7 : decode cX1_line 7 = .ok (.astore_n 1, 1) := dk_76 (dk_at dksX1_line_0 7 rfl rfl)
theorem dX1_line_8 : decode cX1_line 8 = .ok (.iconst 0, 1) := dk_3 (dk_at dksX1_line_0 8 rfl rfl)
theorem dX1_line_9 : decode cX1_line 9 = .ok (.istore_n 2, 1) := dk_61 (dk_at dksX1_line_0 9 rfl rfl)
theorem dX1_line_10 : decode cX1_line 10 = .ok (.iload_n 2, 1) := dk_28 (dk_at dksX1_line_0 10 rfl rfl)
theorem dX1_line_11 : decode cX1_line 11 = .ok (.aload_n 0, 1) := dk_42 (dk_at dksX1_line_0 11 rfl rfl)
theorem dX1_line_12 : decode cX1_line 12 = .ok (.getfield 34, 3) := dk_180 0 34 (dk_at dksX1_line_0 12 rfl rfl)
theorem dX1_line_15 : decode cX1_line 15 = .ok (.getfield 109, 3) := dk_180 0 109 (dk_at dksX1_line_0 15 rfl rfl)
theorem dX1_line_18 : decode cX1_line 18 = .ok (.invokeinterface 113 1, 5) := by decide +kernel
theorem dX1_line_23 : decode cX1_line 23 = .ok (.if_icmp .ge 91, 3) := dk_162 0 91 (dk_at dksX1_line_1 0 rfl rfl)
theorem dX1_line_26 : decode cX1_line 26 = .ok (.aload_n 0, 1) := dk_42 (dk_at dksX1_line_1 3 rfl rfl)
theorem dX1_line_27 : decode cX1_line 27 = .ok (.getfield 34, 3) := dk_180 0 34 (dk_at dksX1_line_1 4 rfl rfl)
theorem dX1_line_30 : decode cX1_line 30 = .ok (.getfield 109, 3) := dk_180 0 109 (dk_at dksX1_line_1 7 rfl rfl)
theorem dX1_line_33 : decode cX1_line 33 = .ok (.iload_n 2, 1) := dk_28 (dk_at dksX1_line_1 10 rfl rfl)
theorem dX1_line_34 : decode cX1_line 34 = .ok (.invokeinterface 120 2, 5) := by decide +kernel
theorem dX1_line_39 : decode cX1_line 39 = .ok (.checkcast 124, 3) := dk_192 0 124 (dk_at dksX1_line_1 16 rfl rfl)
theorem dX1_line_42 : decode cX1_line 42 = .ok (.astore_n 3, 1) := dk_78 (dk_at dksX1_line_1 19 rfl rfl)
theorem dX1_line_43 : decode cX1_line 43 = .ok (.aload_n 1, 1) := dk_43 (dk_at dksX1_line_1 20 rfl rfl)
theorem dX1_line_44 : decode cX1_line 44 = .ok (.aload_n 3, 1) := dk_45 (dk_at dksX1_line_1 21 rfl rfl)
theorem dX1_line_45 : decode cX1_line 45 = .ok (.invokevirtual 310, 3) := dk_182 1 54 (dk_at dksX1_line_2 0 rfl rfl)
theorem dX1_line_48 : decode cX1_line 48 = .ok (.ifCond .eq 8, 3) := dk_153 0 8 (dk_at dksX1_line_2 3 rfl rfl)
theorem dX1_line_51 : decode cX1_line 51 = .ok (.bipush 61, 2) := dk_16 61 (dk_at dksX1_line_2 6 rfl rfl)
theorem dX1_line_53 : decode cX1_line 53 = .ok (.goto 5, 3) := dk_167 0 5 (dk_at dksX1_line_2 8 rfl rfl)
theorem dX1_line_56 : decode cX1_line 56 = .ok (.bipush 126, 2) := dk_16 126 (dk_at dksX1_line_2 11 rfl rfl)
theorem dX1_line_58 : decode cX1_line 58 = .ok (.invokevirtual 256, 3) := dk_182 1 0 (dk_at dksX1_line_2 13 rfl rfl)
theorem dX1_line_61 : decode cX1_line 61 = .ok (.pop, 1) := dk_87 (dk_at dksX1_line_2 16 rfl rfl)
theorem dX1_line_62 : decode cX1_line 62 = .ok (.aload_n 3, 1) := dk_45 (dk_at dksX1_line_2 17 rfl rfl)
theorem dX1_line_63 : decode cX1_line 63 = .ok (.getfield 151, 3) := dk_180 0 151 (dk_at dksX1_line_2 18 rfl rfl)
theorem dX1_line_66 : decode cX1_line 66 = .ok (.ifCond .eq 16, 3) := dk_153 0 16 (dk_at dksX1_line_2 21 rfl rfl)
theorem dX1_line_69 : decode cX1_line 69 = .ok (.aload_n 1, 1) := dk_43 (dk_at dksX1_line_3 0 rfl rfl)
theorem dX1_line_70 : decode cX1_line 70 = .ok (.aload_n 0, 1) := dk_42 (dk_at dksX1_line_3 1 rfl rfl)
theorem dX1_line_71 : decode cX1_line 71 = .ok (.getfield 34, 3) := dk_180 0 34 (dk_at dksX1_line_3 2 rfl rfl)
theorem dX1_line_74 : decode cX1_line 74 = .ok (.iload_n 2, 1) := dk_28 (dk_at dksX1_line_3 5 rfl rfl)
theorem dX1_line_75 : decode cX1_line 75 = .ok (.invokevirtual 159, 3) := dk_182 0 159 (dk_at dksX1_line_3 6 rfl rfl)
theorem dX1_line_78 : decode cX1_line 78 = .ok (.invokevirtual 313, 3) := dk_182 1 57 (dk_at dksX1_line_3 9 rfl rfl)
theorem dX1_line_81 : decode cX1_line 81 = .ok (.pop, 1) := dk_87 (dk_at dksX1_line_3 12 rfl rfl)
theorem dX1_line_82 : decode cX1_line 82 = .ok (.iconst 0, 1) := dk_3 (dk_at dksX1_line_3 13 rfl rfl)
theorem dX1_line_83 : decode cX1_line 83 = .ok (.istore 4, 2) := dk_54 4 (dk_at dksX1_line_3 14 rfl rfl)
theorem dX1_line_85 : decode cX1_line 85 = .ok (.iload 4, 2) := dk_21 4 (dk_at dksX1_line_3 16 rfl rfl)
theorem dX1_line_87 : decode cX1_line 87 = .ok (.aload_n 3, 1) := dk_45 (dk_at dksX1_line_3 18 rfl rfl)
theorem dX1_line_88 : decode cX1_line 88 = .ok (.getfield 162, 3) := dk_180 0 162 (dk_at dksX1_line_3 19 rfl rfl)
theorem dX1_line_91 : decode cX1_line 91 = .ok (.if_icmp .ge 17, 3) := dk_162 0 17 (dk_at dksX1_line_4 0 rfl rfl)
theorem dX1_line_94 : decode cX1_line 94 = .ok (.aload_n 1, 1) := dk_43 (dk_at dksX1_line_4 3 rfl rfl)
theorem dX1_line_95 : decode cX1_line 95 = .ok (.ldc_w 316, 3) := dk_19 1 60 (dk_at dksX1_line_4 4 rfl rfl)
theorem dX1_line_98 : decode cX1_line 98 = .ok (.invokevirtual 318, 3) := dk_182 1 62 (dk_at dksX1_line_4 7 rfl rfl)
theorem dX1_line_101 : decode cX1_line 101 = .ok (.pop, 1) := dk_87 (dk_at dksX1_line_4 10 rfl rfl)
theorem dX1_line_102 : decode cX1_line 102 = .ok (.iinc 4 1, 3) := dk_132 4 1 (dk_at dksX1_line_4 11 rfl rfl)
theorem dX1_line_105 : decode cX1_line 105 = .ok (.goto (-20), 3) := dk_167 255 236 (dk_at dksX1_line_4 14 rfl rfl)
theorem dX1_line_108 : decode cX1_line 108 = .ok (.iinc 2 1, 3) := dk_132 2 1 (dk_at dksX1_line_4 17 rfl rfl)
theorem dX1_line_111 : decode cX1_line 111 = .ok (.goto (-101), 3) := dk_167 255 155 (dk_at dksX1_line_4 20 rfl rfl)
theorem dX1_line_114 : decode cX1_line 114 = .ok (.aload_n 0, 1) := dk_42 (dk_at dksX1_line_4 23 rfl rfl)
theorem dX1_line_115 : decode cX1_line 115 = .ok (.aload_n 1, 1) := dk_43 (dk_at dksX1_line_5 0 rfl rfl)
theorem dX1_line_116 : decode cX1_line 116 = .ok (.invokevirtual 262, 3) := dk_182 1 6 (dk_at dksX1_line_5 1 rfl rfl)
theorem dX1_line_119 : decode cX1_line 119 = .ok (.putfield 54, 3) := dk_181 0 54 (dk_at dksX1_line_5 4 rfl rfl)
theorem dX1_line_122 : decode cX1_line 122 = .ok (.aload_n 0, 1) := dk_42 (dk_at dksX1_line_5 7 rfl rfl)
theorem dX1_line_123 : decode cX1_line 123 = .ok (.getfield 54, 3) := dk_180 0 54 (dk_at dksX1_line_5 8 rfl rfl)
theorem dX1_line_126 : decode cX1_line 126 = .ok (.invokevirtual 321, 3) := dk_182 1 65 (dk_at dksX1_line_5 11 rfl rfl)
theorem dX1_line_129 : decode cX1_line 129 = .ok (.ireturn, 1) := dk_172 (dk_at dksX1_line_5 14 rfl rfl)
abbrev cX1_countedAgain : ByteArray := prog_1_method_50_code
def yX1_countedAgain : MethodName := ⟨RX1, "countedAgain", "()I"⟩
def dkwX1_countedAgain_0 : List UInt8 := [42, 180, 0, 34, 180, 0, 178, 182, 1, 105, 172]
abbrev dktX1_countedAgain_0 : List UInt8 := dkwX1_countedAgain_0 ++ []
theorem dksX1_countedAgain_0 : cX1_countedAgain.data.toList.drop 0 = dktX1_countedAgain_0 := by decide +kernel
theorem dX1_countedAgain_0 : decode cX1_countedAgain 0 = .ok (.aload_n 0, 1) := dk_42 (dk_at dksX1_countedAgain_0 0 rfl rfl)
theorem dX1_countedAgain_1 : decode cX1_countedAgain 1 = .ok (.getfield 34, 3) := dk_180 0 34 (dk_at dksX1_countedAgain_0 1 rfl rfl)
theorem dX1_countedAgain_4 : decode cX1_countedAgain 4 = .ok (.getfield 178, 3) := dk_180 0 178 (dk_at dksX1_countedAgain_0 4 rfl rfl)
theorem dX1_countedAgain_7 : decode cX1_countedAgain 7 = .ok (.invokevirtual 361, 3) := dk_182 1 105 (dk_at dksX1_countedAgain_0 7 rfl rfl)
theorem dX1_countedAgain_10 : decode cX1_countedAgain 10 = .ok (.ireturn, 1) := dk_172 (dk_at dksX1_countedAgain_0 10 rfl rfl)
abbrev cX1_save : ByteArray := prog_1_method_52_code
def yX1_save : MethodName := ⟨RX1, "save", "()I"⟩
def dkwX1_save_0 : List UInt8 := [42, 42, 180, 0, 34, 181, 1, 112, 42, 180, 0, 34, 180, 0, 220, 172]
abbrev dktX1_save_0 : List UInt8 := dkwX1_save_0 ++ []
theorem dksX1_save_0 : cX1_save.data.toList.drop 0 = dktX1_save_0 := by decide +kernel
theorem dX1_save_0 : decode cX1_save 0 = .ok (.aload_n 0, 1) := dk_42 (dk_at dksX1_save_0 0 rfl rfl)
theorem dX1_save_1 : decode cX1_save 1 = .ok (.aload_n 0, 1) := dk_42 (dk_at dksX1_save_0 1 rfl rfl)
theorem dX1_save_2 : decode cX1_save 2 = .ok (.getfield 34, 3) := dk_180 0 34 (dk_at dksX1_save_0 2 rfl rfl)
theorem dX1_save_5 : decode cX1_save 5 = .ok (.putfield 368, 3) := dk_181 1 112 (dk_at dksX1_save_0 5 rfl rfl)
theorem dX1_save_8 : decode cX1_save 8 = .ok (.aload_n 0, 1) := dk_42 (dk_at dksX1_save_0 8 rfl rfl)
theorem dX1_save_9 : decode cX1_save 9 = .ok (.getfield 34, 3) := dk_180 0 34 (dk_at dksX1_save_0 9 rfl rfl)
theorem dX1_save_12 : decode cX1_save 12 = .ok (.getfield 220, 3) := dk_180 0 220 (dk_at dksX1_save_0 12 rfl rfl)
theorem dX1_save_15 : decode cX1_save 15 = .ok (.ireturn, 1) := dk_172 (dk_at dksX1_save_0 15 rfl rfl)
abbrev cX1_reach : ByteArray := prog_1_method_11_code
def yX1_reach : MethodName := ⟨RX1, "reach", "(II)I"⟩
def dkwX1_reach_0 : List UInt8 := [42, 16, 6, 27, 28, 182, 0, 105, 172]
abbrev dktX1_reach_0 : List UInt8 := dkwX1_reach_0 ++ []
theorem dksX1_reach_0 : cX1_reach.data.toList.drop 0 = dktX1_reach_0 := by decide +kernel
theorem dX1_reach_0 : decode cX1_reach 0 = .ok (.aload_n 0, 1) := dk_42 (dk_at dksX1_reach_0 0 rfl rfl)
theorem dX1_reach_1 : decode cX1_reach 1 = .ok (.bipush 6, 2) := dk_16 6 (dk_at dksX1_reach_0 1 rfl rfl)
theorem dX1_reach_3 : decode cX1_reach 3 = .ok (.iload_n 1, 1) := dk_27 (dk_at dksX1_reach_0 3 rfl rfl)
theorem dX1_reach_4 : decode cX1_reach 4 = .ok (.iload_n 2, 1) := dk_28 (dk_at dksX1_reach_0 4 rfl rfl)
theorem dX1_reach_5 : decode cX1_reach 5 = .ok (.invokevirtual 105, 3) := dk_182 0 105 (dk_at dksX1_reach_0 5 rfl rfl)
theorem dX1_reach_8 : decode cX1_reach 8 = .ok (.ireturn, 1) := dk_172 (dk_at dksX1_reach_0 8 rfl rfl)
abbrev cX1_holt : ByteArray := prog_1_method_12_code
def yX1_holt : MethodName := ⟨RX1, "holt", "(I)I"⟩
def dkwX1_holt_0 : List UInt8 := [42, 16, 7, 27, 3, 182, 0, 105, 172]
abbrev dktX1_holt_0 : List UInt8 := dkwX1_holt_0 ++ []
theorem dksX1_holt_0 : cX1_holt.data.toList.drop 0 = dktX1_holt_0 := by decide +kernel
theorem dX1_holt_0 : decode cX1_holt 0 = .ok (.aload_n 0, 1) := dk_42 (dk_at dksX1_holt_0 0 rfl rfl)
theorem dX1_holt_1 : decode cX1_holt 1 = .ok (.bipush 7, 2) := dk_16 7 (dk_at dksX1_holt_0 1 rfl rfl)
theorem dX1_holt_3 : decode cX1_holt 3 = .ok (.iload_n 1, 1) := dk_27 (dk_at dksX1_holt_0 3 rfl rfl)
theorem dX1_holt_4 : decode cX1_holt 4 = .ok (.iconst 0, 1) := dk_3 (dk_at dksX1_holt_0 4 rfl rfl)
theorem dX1_holt_5 : decode cX1_holt 5 = .ok (.invokevirtual 105, 3) := dk_182 0 105 (dk_at dksX1_holt_0 5 rfl rfl)
theorem dX1_holt_8 : decode cX1_holt 8 = .ok (.ireturn, 1) := dk_172 (dk_at dksX1_holt_0 8 rfl rfl)
abbrev cX1_otter : ByteArray := prog_1_method_13_code
def yX1_otter : MethodName := ⟨RX1, "otter", "(I)I"⟩
def dkwX1_otter_0 : List UInt8 := [42, 16, 8, 27, 3, 182, 0, 105, 172]
abbrev dktX1_otter_0 : List UInt8 := dkwX1_otter_0 ++ []
theorem dksX1_otter_0 : cX1_otter.data.toList.drop 0 = dktX1_otter_0 := by decide +kernel
theorem dX1_otter_0 : decode cX1_otter 0 = .ok (.aload_n 0, 1) := dk_42 (dk_at dksX1_otter_0 0 rfl rfl)
theorem dX1_otter_1 : decode cX1_otter 1 = .ok (.bipush 8, 2) := dk_16 8 (dk_at dksX1_otter_0 1 rfl rfl)
theorem dX1_otter_3 : decode cX1_otter 3 = .ok (.iload_n 1, 1) := dk_27 (dk_at dksX1_otter_0 3 rfl rfl)
theorem dX1_otter_4 : decode cX1_otter 4 = .ok (.iconst 0, 1) := dk_3 (dk_at dksX1_otter_0 4 rfl rfl)
theorem dX1_otter_5 : decode cX1_otter 5 = .ok (.invokevirtual 105, 3) := dk_182 0 105 (dk_at dksX1_otter_0 5 rfl rfl)
theorem dX1_otter_8 : decode cX1_otter 8 = .ok (.ireturn, 1) := dk_172 (dk_at dksX1_otter_0 8 rfl rfl)
abbrev cX1_volunteer : ByteArray := prog_1_method_14_code
def yX1_volunteer : MethodName := ⟨RX1, "volunteer", "(II)I"⟩
def dkwX1_volunteer_0 : List UInt8 := [42, 16, 9, 27, 28, 182, 0, 105, 172]
abbrev dktX1_volunteer_0 : List UInt8 := dkwX1_volunteer_0 ++ []
theorem dksX1_volunteer_0 : cX1_volunteer.data.toList.drop 0 = dktX1_volunteer_0 := by decide +kernel
theorem dX1_volunteer_0 : decode cX1_volunteer 0 = .ok (.aload_n 0, 1) := dk_42 (dk_at dksX1_volunteer_0 0 rfl rfl)
theorem dX1_volunteer_1 : decode cX1_volunteer 1 = .ok (.bipush 9, 2) := dk_16 9 (dk_at dksX1_volunteer_0 1 rfl rfl)
theorem dX1_volunteer_3 : decode cX1_volunteer 3 = .ok (.iload_n 1, 1) := dk_27 (dk_at dksX1_volunteer_0 3 rfl rfl)
theorem dX1_volunteer_4 : decode cX1_volunteer 4 = .ok (.iload_n 2, 1) := dk_28 (dk_at dksX1_volunteer_0 4 rfl rfl)
theorem dX1_volunteer_5 : decode cX1_volunteer 5 = .ok (.invokevirtual 105, 3) := dk_182 0 105 (dk_at dksX1_volunteer_0 5 rfl rfl)
theorem dX1_volunteer_8 : decode cX1_volunteer 8 = .ok (.ireturn, 1) := dk_172 (dk_at dksX1_volunteer_0 8 rfl rfl)
abbrev cX1_level : ByteArray := prog_1_method_15_code
def yX1_level : MethodName := ⟨RX1, "level", "(I)I"⟩
def dkwX1_level_0 : List UInt8 := [42, 6, 27, 3, 182, 0, 105, 172]
abbrev dktX1_level_0 : List UInt8 := dkwX1_level_0 ++ []
theorem dksX1_level_0 : cX1_level.data.toList.drop 0 = dktX1_level_0 := by decide +kernel
theorem dX1_level_0 : decode cX1_level 0 = .ok (.aload_n 0, 1) := dk_42 (dk_at dksX1_level_0 0 rfl rfl)
theorem dX1_level_1 : decode cX1_level 1 = .ok (.iconst 3, 1) := dk_6 (dk_at dksX1_level_0 1 rfl rfl)
theorem dX1_level_2 : decode cX1_level 2 = .ok (.iload_n 1, 1) := dk_27 (dk_at dksX1_level_0 2 rfl rfl)
theorem dX1_level_3 : decode cX1_level 3 = .ok (.iconst 0, 1) := dk_3 (dk_at dksX1_level_0 3 rfl rfl)
theorem dX1_level_4 : decode cX1_level 4 = .ok (.invokevirtual 105, 3) := dk_182 0 105 (dk_at dksX1_level_0 4 rfl rfl)
theorem dX1_level_7 : decode cX1_level 7 = .ok (.ireturn, 1) := dk_172 (dk_at dksX1_level_0 7 rfl rfl)
abbrev cX1_give : ByteArray := prog_1_method_16_code
def yX1_give : MethodName := ⟨RX1, "give", "(I)I"⟩
def dkwX1_give_0 : List UInt8 := [42, 7, 27, 3, 182, 0, 105, 172]
abbrev dktX1_give_0 : List UInt8 := dkwX1_give_0 ++ []
theorem dksX1_give_0 : cX1_give.data.toList.drop 0 = dktX1_give_0 := by decide +kernel
theorem dX1_give_0 : decode cX1_give 0 = .ok (.aload_n 0, 1) := dk_42 (dk_at dksX1_give_0 0 rfl rfl)
theorem dX1_give_1 : decode cX1_give 1 = .ok (.iconst 4, 1) := dk_7 (dk_at dksX1_give_0 1 rfl rfl)
theorem dX1_give_2 : decode cX1_give 2 = .ok (.iload_n 1, 1) := dk_27 (dk_at dksX1_give_0 2 rfl rfl)
theorem dX1_give_3 : decode cX1_give 3 = .ok (.iconst 0, 1) := dk_3 (dk_at dksX1_give_0 3 rfl rfl)
theorem dX1_give_4 : decode cX1_give 4 = .ok (.invokevirtual 105, 3) := dk_182 0 105 (dk_at dksX1_give_0 4 rfl rfl)
theorem dX1_give_7 : decode cX1_give 7 = .ok (.ireturn, 1) := dk_172 (dk_at dksX1_give_0 7 rfl rfl)
abbrev cX1_shut : ByteArray := prog_1_method_17_code
def yX1_shut : MethodName := ⟨RX1, "shut", "(I)I"⟩
def dkwX1_shut_0 : List UInt8 := [42, 5, 27, 3, 182, 0, 105, 172]
abbrev dktX1_shut_0 : List UInt8 := dkwX1_shut_0 ++ []
theorem dksX1_shut_0 : cX1_shut.data.toList.drop 0 = dktX1_shut_0 := by decide +kernel
theorem dX1_shut_0 : decode cX1_shut 0 = .ok (.aload_n 0, 1) := dk_42 (dk_at dksX1_shut_0 0 rfl rfl)
theorem dX1_shut_1 : decode cX1_shut 1 = .ok (.iconst 2, 1) := dk_5 (dk_at dksX1_shut_0 1 rfl rfl)
theorem dX1_shut_2 : decode cX1_shut 2 = .ok (.iload_n 1, 1) := dk_27 (dk_at dksX1_shut_0 2 rfl rfl)
theorem dX1_shut_3 : decode cX1_shut 3 = .ok (.iconst 0, 1) := dk_3 (dk_at dksX1_shut_0 3 rfl rfl)
theorem dX1_shut_4 : decode cX1_shut 4 = .ok (.invokevirtual 105, 3) := dk_182 0 105 (dk_at dksX1_shut_0 4 rfl rfl)
theorem dX1_shut_7 : decode cX1_shut 7 = .ok (.ireturn, 1) := dk_172 (dk_at dksX1_shut_0 7 rfl rfl)
abbrev cX1_pass : ByteArray := prog_1_method_18_code
def yX1_pass : MethodName := ⟨RX1, "pass", "(I)I"⟩
def dkwX1_pass_0 : List UInt8 := [42, 4, 27, 3, 182, 0, 105, 172]
abbrev dktX1_pass_0 : List UInt8 := dkwX1_pass_0 ++ []
theorem dksX1_pass_0 : cX1_pass.data.toList.drop 0 = dktX1_pass_0 := by decide +kernel
theorem dX1_pass_0 : decode cX1_pass 0 = .ok (.aload_n 0, 1) := dk_42 (dk_at dksX1_pass_0 0 rfl rfl)
theorem dX1_pass_1 : decode cX1_pass 1 = .ok (.iconst 1, 1) := dk_4 (dk_at dksX1_pass_0 1 rfl rfl)
theorem dX1_pass_2 : decode cX1_pass 2 = .ok (.iload_n 1, 1) := dk_27 (dk_at dksX1_pass_0 2 rfl rfl)
theorem dX1_pass_3 : decode cX1_pass 3 = .ok (.iconst 0, 1) := dk_3 (dk_at dksX1_pass_0 3 rfl rfl)
theorem dX1_pass_4 : decode cX1_pass 4 = .ok (.invokevirtual 105, 3) := dk_182 0 105 (dk_at dksX1_pass_0 4 rfl rfl)
theorem dX1_pass_7 : decode cX1_pass 7 = .ok (.ireturn, 1) := dk_172 (dk_at dksX1_pass_0 7 rfl rfl)
abbrev cX1_walk : ByteArray := prog_1_method_19_code
def yX1_walk : MethodName := ⟨RX1, "walk", "(I)I"⟩
def dkwX1_walk_0 : List UInt8 := [42, 3, 27, 3, 182, 0, 105, 172]
abbrev dktX1_walk_0 : List UInt8 := dkwX1_walk_0 ++ []
theorem dksX1_walk_0 : cX1_walk.data.toList.drop 0 = dktX1_walk_0 := by decide +kernel
theorem dX1_walk_0 : decode cX1_walk 0 = .ok (.aload_n 0, 1) := dk_42 (dk_at dksX1_walk_0 0 rfl rfl)
theorem dX1_walk_1 : decode cX1_walk 1 = .ok (.iconst 0, 1) := dk_3 (dk_at dksX1_walk_0 1 rfl rfl)
theorem dX1_walk_2 : decode cX1_walk 2 = .ok (.iload_n 1, 1) := dk_27 (dk_at dksX1_walk_0 2 rfl rfl)
theorem dX1_walk_3 : decode cX1_walk 3 = .ok (.iconst 0, 1) := dk_3 (dk_at dksX1_walk_0 3 rfl rfl)
theorem dX1_walk_4 : decode cX1_walk 4 = .ok (.invokevirtual 105, 3) := dk_182 0 105 (dk_at dksX1_walk_0 4 rfl rfl)
theorem dX1_walk_7 : decode cX1_walk 7 = .ok (.ireturn, 1) := dk_172 (dk_at dksX1_walk_0 7 rfl rfl)
abbrev cX1_reachOf : ByteArray := prog_1_method_23_code
def yX1_reachOf : MethodName := ⟨RX1, "reachOf", "(II)I"⟩
def dkwX1_reachOf_5 : List UInt8 := [183, 0, 167, 191]
abbrev dktX1_reachOf_5 : List UInt8 := dkwX1_reachOf_5 ++ []
def dkwX1_reachOf_4 : List UInt8 := [167, 0, 4, 2, 172, 42, 180, 0, 34, 27, 182, 0, 159, 172, 45, 180, 0, 162, 172, 187, 0, 165, 89]
abbrev dktX1_reachOf_4 : List UInt8 := dkwX1_reachOf_4 ++ dktX1_reachOf_5
def dkwX1_reachOf_3 : List UInt8 := [153, 0, 7, 4, 167, 0, 4, 3, 172, 45, 180, 0, 151, 153, 0, 14, 42, 180, 0, 34, 27, 182, 0, 155]
abbrev dktX1_reachOf_3 : List UInt8 := dkwX1_reachOf_3 ++ dktX1_reachOf_4
def dkwX1_reachOf_2 : List UInt8 := [45, 180, 0, 135, 172, 45, 180, 0, 138, 172, 45, 180, 0, 141, 172, 45, 180, 0, 144, 172, 45, 182, 0, 147]
abbrev dktX1_reachOf_2 : List UInt8 := dkwX1_reachOf_2 ++ dktX1_reachOf_3
def dkwX1_reachOf_1 : List UInt8 := [170, 0, 0, 0, 112, 0, 0, 0, 0, 0, 0, 0, 7, 0, 0, 0, 45, 0, 0, 0, 50, 0, 0, 0, 55, 0, 0, 0, 60, 0, 0, 0, 65, 0, 0, 0, 78, 0, 0, 0, 98, 0, 0, 0, 107]
abbrev dktX1_reachOf_1 : List UInt8 := dkwX1_reachOf_1 ++ dktX1_reachOf_2
def dkwX1_reachOf_0 : List UInt8 := [42, 27, 182, 0, 131, 78, 28]
abbrev dktX1_reachOf_0 : List UInt8 := dkwX1_reachOf_0 ++ dktX1_reachOf_1
theorem dksX1_reachOf_0 : cX1_reachOf.data.toList.drop 0 = dktX1_reachOf_0 := by decide +kernel
theorem dksX1_reachOf_1 : cX1_reachOf.data.toList.drop 7 = dktX1_reachOf_1 := dk_seg dksX1_reachOf_0 7 rfl rfl
theorem dksX1_reachOf_2 : cX1_reachOf.data.toList.drop 52 = dktX1_reachOf_2 := dk_seg dksX1_reachOf_1 45 rfl rfl
theorem dksX1_reachOf_3 : cX1_reachOf.data.toList.drop 76 = dktX1_reachOf_3 := dk_seg dksX1_reachOf_2 24 rfl rfl
theorem dksX1_reachOf_4 : cX1_reachOf.data.toList.drop 100 = dktX1_reachOf_4 := dk_seg dksX1_reachOf_3 24 rfl rfl
theorem dksX1_reachOf_5 : cX1_reachOf.data.toList.drop 123 = dktX1_reachOf_5 := dk_seg dksX1_reachOf_4 23 rfl rfl
theorem dX1_reachOf_0 : decode cX1_reachOf 0 = .ok (.aload_n 0, 1) := dk_42 (dk_at dksX1_reachOf_0 0 rfl rfl)
theorem dX1_reachOf_1 : decode cX1_reachOf 1 = .ok (.iload_n 1, 1) := dk_27 (dk_at dksX1_reachOf_0 1 rfl rfl)
theorem dX1_reachOf_2 : decode cX1_reachOf 2 = .ok (.invokevirtual 131, 3) := dk_182 0 131 (dk_at dksX1_reachOf_0 2 rfl rfl)
theorem dX1_reachOf_5 : decode cX1_reachOf 5 = .ok (.astore_n 3, 1) := dk_78 (dk_at dksX1_reachOf_0 5 rfl rfl)
theorem dX1_reachOf_6 : decode cX1_reachOf 6 = .ok (.iload_n 2, 1) := dk_28 (dk_at dksX1_reachOf_0 6 rfl rfl)
theorem dX1_reachOf_7 : decode cX1_reachOf 7 = .ok (.tableswitch 112 0 7 #[45, 50, 55, 60, 65, 78, 98, 107], 45) := by decide +kernel
theorem dX1_reachOf_52 : decode cX1_reachOf 52 = .ok (.aload_n 3, 1) := dk_45 (dk_at dksX1_reachOf_2 0 rfl rfl)
theorem dX1_reachOf_53 : decode cX1_reachOf 53 = .ok (.getfield 135, 3) := dk_180 0 135 (dk_at dksX1_reachOf_2 1 rfl rfl)
theorem dX1_reachOf_56 : decode cX1_reachOf 56 = .ok (.ireturn, 1) := dk_172 (dk_at dksX1_reachOf_2 4 rfl rfl)
theorem dX1_reachOf_57 : decode cX1_reachOf 57 = .ok (.aload_n 3, 1) := dk_45 (dk_at dksX1_reachOf_2 5 rfl rfl)
theorem dX1_reachOf_58 : decode cX1_reachOf 58 = .ok (.getfield 138, 3) := dk_180 0 138 (dk_at dksX1_reachOf_2 6 rfl rfl)
theorem dX1_reachOf_61 : decode cX1_reachOf 61 = .ok (.ireturn, 1) := dk_172 (dk_at dksX1_reachOf_2 9 rfl rfl)
theorem dX1_reachOf_62 : decode cX1_reachOf 62 = .ok (.aload_n 3, 1) := dk_45 (dk_at dksX1_reachOf_2 10 rfl rfl)
theorem dX1_reachOf_63 : decode cX1_reachOf 63 = .ok (.getfield 141, 3) := dk_180 0 141 (dk_at dksX1_reachOf_2 11 rfl rfl)
theorem dX1_reachOf_66 : decode cX1_reachOf 66 = .ok (.ireturn, 1) := dk_172 (dk_at dksX1_reachOf_2 14 rfl rfl)
theorem dX1_reachOf_67 : decode cX1_reachOf 67 = .ok (.aload_n 3, 1) := dk_45 (dk_at dksX1_reachOf_2 15 rfl rfl)
theorem dX1_reachOf_68 : decode cX1_reachOf 68 = .ok (.getfield 144, 3) := dk_180 0 144 (dk_at dksX1_reachOf_2 16 rfl rfl)
theorem dX1_reachOf_71 : decode cX1_reachOf 71 = .ok (.ireturn, 1) := dk_172 (dk_at dksX1_reachOf_2 19 rfl rfl)
theorem dX1_reachOf_72 : decode cX1_reachOf 72 = .ok (.aload_n 3, 1) := dk_45 (dk_at dksX1_reachOf_2 20 rfl rfl)
theorem dX1_reachOf_73 : decode cX1_reachOf 73 = .ok (.invokevirtual 147, 3) := dk_182 0 147 (dk_at dksX1_reachOf_2 21 rfl rfl)
theorem dX1_reachOf_76 : decode cX1_reachOf 76 = .ok (.ifCond .eq 7, 3) := dk_153 0 7 (dk_at dksX1_reachOf_3 0 rfl rfl)
theorem dX1_reachOf_79 : decode cX1_reachOf 79 = .ok (.iconst 1, 1) := dk_4 (dk_at dksX1_reachOf_3 3 rfl rfl)
theorem dX1_reachOf_80 : decode cX1_reachOf 80 = .ok (.goto 4, 3) := dk_167 0 4 (dk_at dksX1_reachOf_3 4 rfl rfl)
theorem dX1_reachOf_83 : decode cX1_reachOf 83 = .ok (.iconst 0, 1) := dk_3 (dk_at dksX1_reachOf_3 7 rfl rfl)
theorem dX1_reachOf_84 : decode cX1_reachOf 84 = .ok (.ireturn, 1) := dk_172 (dk_at dksX1_reachOf_3 8 rfl rfl)
theorem dX1_reachOf_85 : decode cX1_reachOf 85 = .ok (.aload_n 3, 1) := dk_45 (dk_at dksX1_reachOf_3 9 rfl rfl)
theorem dX1_reachOf_86 : decode cX1_reachOf 86 = .ok (.getfield 151, 3) := dk_180 0 151 (dk_at dksX1_reachOf_3 10 rfl rfl)
theorem dX1_reachOf_89 : decode cX1_reachOf 89 = .ok (.ifCond .eq 14, 3) := dk_153 0 14 (dk_at dksX1_reachOf_3 13 rfl rfl)
theorem dX1_reachOf_92 : decode cX1_reachOf 92 = .ok (.aload_n 0, 1) := dk_42 (dk_at dksX1_reachOf_3 16 rfl rfl)
theorem dX1_reachOf_93 : decode cX1_reachOf 93 = .ok (.getfield 34, 3) := dk_180 0 34 (dk_at dksX1_reachOf_3 17 rfl rfl)
theorem dX1_reachOf_96 : decode cX1_reachOf 96 = .ok (.iload_n 1, 1) := dk_27 (dk_at dksX1_reachOf_3 20 rfl rfl)
theorem dX1_reachOf_97 : decode cX1_reachOf 97 = .ok (.invokevirtual 155, 3) := dk_182 0 155 (dk_at dksX1_reachOf_3 21 rfl rfl)
theorem dX1_reachOf_100 : decode cX1_reachOf 100 = .ok (.goto 4, 3) := dk_167 0 4 (dk_at dksX1_reachOf_4 0 rfl rfl)
theorem dX1_reachOf_103 : decode cX1_reachOf 103 = .ok (.iconst (-1), 1) := dk_2 (dk_at dksX1_reachOf_4 3 rfl rfl)
theorem dX1_reachOf_104 : decode cX1_reachOf 104 = .ok (.ireturn, 1) := dk_172 (dk_at dksX1_reachOf_4 4 rfl rfl)
theorem dX1_reachOf_105 : decode cX1_reachOf 105 = .ok (.aload_n 0, 1) := dk_42 (dk_at dksX1_reachOf_4 5 rfl rfl)
theorem dX1_reachOf_106 : decode cX1_reachOf 106 = .ok (.getfield 34, 3) := dk_180 0 34 (dk_at dksX1_reachOf_4 6 rfl rfl)
theorem dX1_reachOf_109 : decode cX1_reachOf 109 = .ok (.iload_n 1, 1) := dk_27 (dk_at dksX1_reachOf_4 9 rfl rfl)
theorem dX1_reachOf_110 : decode cX1_reachOf 110 = .ok (.invokevirtual 159, 3) := dk_182 0 159 (dk_at dksX1_reachOf_4 10 rfl rfl)
theorem dX1_reachOf_113 : decode cX1_reachOf 113 = .ok (.ireturn, 1) := dk_172 (dk_at dksX1_reachOf_4 13 rfl rfl)
theorem dX1_reachOf_114 : decode cX1_reachOf 114 = .ok (.aload_n 3, 1) := dk_45 (dk_at dksX1_reachOf_4 14 rfl rfl)
theorem dX1_reachOf_115 : decode cX1_reachOf 115 = .ok (.getfield 162, 3) := dk_180 0 162 (dk_at dksX1_reachOf_4 15 rfl rfl)
theorem dX1_reachOf_118 : decode cX1_reachOf 118 = .ok (.ireturn, 1) := dk_172 (dk_at dksX1_reachOf_4 18 rfl rfl)
theorem dX1_reachOf_119 : decode cX1_reachOf 119 = .ok (.new 165, 3) := dk_187 0 165 (dk_at dksX1_reachOf_4 19 rfl rfl)
theorem dX1_reachOf_122 : decode cX1_reachOf 122 = .ok (.dup, 1) := dk_89 (dk_at dksX1_reachOf_4 22 rfl rfl)
theorem dX1_reachOf_123 : decode cX1_reachOf 123 = .ok (.invokespecial 167, 3) := dk_183 0 167 (dk_at dksX1_reachOf_5 0 rfl rfl)
theorem dX1_reachOf_126 : decode cX1_reachOf 126 = .ok (.athrow, 1) := dk_191 (dk_at dksX1_reachOf_5 3 rfl rfl)
abbrev cX1_requiredReach : ByteArray := prog_1_method_21_code
def yX1_requiredReach : MethodName := ⟨RX1, "requiredReach", "(I)LOtterTrust$Reach;"⟩
def dkwX1_requiredReach_1 : List UInt8 := [180, 0, 34, 180, 0, 109, 27, 185, 0, 120, 2, 0, 192, 0, 124, 176]
abbrev dktX1_requiredReach_1 : List UInt8 := dkwX1_requiredReach_1 ++ []
def dkwX1_requiredReach_0 : List UInt8 := [27, 3, 42, 180, 0, 34, 180, 0, 109, 185, 0, 113, 1, 0, 4, 100, 184, 0, 18, 184, 0, 116, 42]
abbrev dktX1_requiredReach_0 : List UInt8 := dkwX1_requiredReach_0 ++ dktX1_requiredReach_1
theorem dksX1_requiredReach_0 : cX1_requiredReach.data.toList.drop 0 = dktX1_requiredReach_0 := by decide +kernel
theorem dksX1_requiredReach_1 : cX1_requiredReach.data.toList.drop 23 = dktX1_requiredReach_1 := dk_seg dksX1_requiredReach_0 23 rfl rfl
theorem dX1_requiredReach_0 : decode cX1_requiredReach 0 = .ok (.iload_n 1, 1) := dk_27 (dk_at dksX1_requiredReach_0 0 rfl rfl)
theorem dX1_requiredReach_1 : decode cX1_requiredReach 1 = .ok (.iconst 0, 1) := dk_3 (dk_at dksX1_requiredReach_0 1 rfl rfl)
theorem dX1_requiredReach_2 : decode cX1_requiredReach 2 = .ok (.aload_n 0, 1) := dk_42 (dk_at dksX1_requiredReach_0 2 rfl rfl)
theorem dX1_requiredReach_3 : decode cX1_requiredReach 3 = .ok (.getfield 34, 3) := dk_180 0 34 (dk_at dksX1_requiredReach_0 3 rfl rfl)
theorem dX1_requiredReach_6 : decode cX1_requiredReach 6 = .ok (.getfield 109, 3) := dk_180 0 109 (dk_at dksX1_requiredReach_0 6 rfl rfl)
theorem dX1_requiredReach_9 : decode cX1_requiredReach 9 = .ok (.invokeinterface 113 1, 5) := by decide +kernel
theorem dX1_requiredReach_14 : decode cX1_requiredReach 14 = .ok (.iconst 1, 1) := dk_4 (dk_at dksX1_requiredReach_0 14 rfl rfl)
theorem dX1_requiredReach_15 : decode cX1_requiredReach 15 = .ok (.isub, 1) := dk_100 (dk_at dksX1_requiredReach_0 15 rfl rfl)
theorem dX1_requiredReach_16 : decode cX1_requiredReach 16 = .ok (.invokestatic 18, 3) := dk_184 0 18 (dk_at dksX1_requiredReach_0 16 rfl rfl)
theorem dX1_requiredReach_19 : decode cX1_requiredReach 19 = .ok (.invokestatic 116, 3) := dk_184 0 116 (dk_at dksX1_requiredReach_0 19 rfl rfl)
theorem dX1_requiredReach_22 : decode cX1_requiredReach 22 = .ok (.aload_n 0, 1) := dk_42 (dk_at dksX1_requiredReach_0 22 rfl rfl)
theorem dX1_requiredReach_23 : decode cX1_requiredReach 23 = .ok (.getfield 34, 3) := dk_180 0 34 (dk_at dksX1_requiredReach_1 0 rfl rfl)
theorem dX1_requiredReach_26 : decode cX1_requiredReach 26 = .ok (.getfield 109, 3) := dk_180 0 109 (dk_at dksX1_requiredReach_1 3 rfl rfl)
theorem dX1_requiredReach_29 : decode cX1_requiredReach 29 = .ok (.iload_n 1, 1) := dk_27 (dk_at dksX1_requiredReach_1 6 rfl rfl)
theorem dX1_requiredReach_30 : decode cX1_requiredReach 30 = .ok (.invokeinterface 120 2, 5) := by decide +kernel
theorem dX1_requiredReach_35 : decode cX1_requiredReach 35 = .ok (.checkcast 124, 3) := dk_192 0 124 (dk_at dksX1_requiredReach_1 12 rfl rfl)
theorem dX1_requiredReach_38 : decode cX1_requiredReach 38 = .ok (.areturn, 1) := dk_176 (dk_at dksX1_requiredReach_1 15 rfl rfl)
abbrev cX1_requireIndex : ByteArray := prog_1_method_2_code
def yX1_requireIndex : MethodName := ⟨RX1, "requireIndex", "(Z)V"⟩
def dkwX1_requireIndex_0 : List UInt8 := [26, 154, 0, 11, 187, 0, 1, 89, 183, 0, 3, 191, 177]
abbrev dktX1_requireIndex_0 : List UInt8 := dkwX1_requireIndex_0 ++ []
theorem dksX1_requireIndex_0 : cX1_requireIndex.data.toList.drop 0 = dktX1_requireIndex_0 := by decide +kernel
theorem dX1_requireIndex_0 : decode cX1_requireIndex 0 = .ok (.iload_n 0, 1) := dk_26 (dk_at dksX1_requireIndex_0 0 rfl rfl)
theorem dX1_requireIndex_1 : decode cX1_requireIndex 1 = .ok (.ifCond .ne 11, 3) := dk_154 0 11 (dk_at dksX1_requireIndex_0 1 rfl rfl)
theorem dX1_requireIndex_4 : decode cX1_requireIndex 4 = .ok (.new 1, 3) := dk_187 0 1 (dk_at dksX1_requireIndex_0 4 rfl rfl)
theorem dX1_requireIndex_7 : decode cX1_requireIndex 7 = .ok (.dup, 1) := dk_89 (dk_at dksX1_requireIndex_0 7 rfl rfl)
theorem dX1_requireIndex_8 : decode cX1_requireIndex 8 = .ok (.invokespecial 3, 3) := dk_183 0 3 (dk_at dksX1_requireIndex_0 8 rfl rfl)
theorem dX1_requireIndex_11 : decode cX1_requireIndex 11 = .ok (.athrow, 1) := dk_191 (dk_at dksX1_requireIndex_0 11 rfl rfl)
theorem dX1_requireIndex_12 : decode cX1_requireIndex 12 = .ok (.return_, 1) := dk_177 (dk_at dksX1_requireIndex_0 12 rfl rfl)
abbrev cX1_otterOf : ByteArray := prog_1_method_24_code
def yX1_otterOf : MethodName := ⟨RX1, "otterOf", "(II)I"⟩
def dkwX1_otterOf_3 : List UInt8 := [4, 167, 0, 4, 3, 172, 45, 180, 0, 187, 172, 45, 180, 0, 188, 172, 187, 0, 165, 89, 183, 0, 167, 191]
abbrev dktX1_otterOf_3 : List UInt8 := dkwX1_otterOf_3 ++ []
def dkwX1_otterOf_2 : List UInt8 := [45, 180, 0, 172, 172, 45, 180, 0, 175, 172, 42, 180, 0, 34, 180, 0, 178, 27, 182, 0, 182, 153, 0, 7]
abbrev dktX1_otterOf_2 : List UInt8 := dkwX1_otterOf_2 ++ dktX1_otterOf_3
def dkwX1_otterOf_1 : List UInt8 := [170, 0, 0, 0, 73, 0, 0, 0, 0, 0, 0, 0, 4, 0, 0, 0, 33, 0, 0, 0, 38, 0, 0, 0, 43, 0, 0, 0, 63, 0, 0, 0, 68]
abbrev dktX1_otterOf_1 : List UInt8 := dkwX1_otterOf_1 ++ dktX1_otterOf_2
def dkwX1_otterOf_0 : List UInt8 := [42, 27, 182, 0, 168, 78, 28]
abbrev dktX1_otterOf_0 : List UInt8 := dkwX1_otterOf_0 ++ dktX1_otterOf_1
theorem dksX1_otterOf_0 : cX1_otterOf.data.toList.drop 0 = dktX1_otterOf_0 := by decide +kernel
theorem dksX1_otterOf_1 : cX1_otterOf.data.toList.drop 7 = dktX1_otterOf_1 := dk_seg dksX1_otterOf_0 7 rfl rfl
theorem dksX1_otterOf_2 : cX1_otterOf.data.toList.drop 40 = dktX1_otterOf_2 := dk_seg dksX1_otterOf_1 33 rfl rfl
theorem dksX1_otterOf_3 : cX1_otterOf.data.toList.drop 64 = dktX1_otterOf_3 := dk_seg dksX1_otterOf_2 24 rfl rfl
theorem dX1_otterOf_0 : decode cX1_otterOf 0 = .ok (.aload_n 0, 1) := dk_42 (dk_at dksX1_otterOf_0 0 rfl rfl)
theorem dX1_otterOf_1 : decode cX1_otterOf 1 = .ok (.iload_n 1, 1) := dk_27 (dk_at dksX1_otterOf_0 1 rfl rfl)
theorem dX1_otterOf_2 : decode cX1_otterOf 2 = .ok (.invokevirtual 168, 3) := dk_182 0 168 (dk_at dksX1_otterOf_0 2 rfl rfl)
theorem dX1_otterOf_5 : decode cX1_otterOf 5 = .ok (.astore_n 3, 1) := dk_78 (dk_at dksX1_otterOf_0 5 rfl rfl)
theorem dX1_otterOf_6 : decode cX1_otterOf 6 = .ok (.iload_n 2, 1) := dk_28 (dk_at dksX1_otterOf_0 6 rfl rfl)
theorem dX1_otterOf_7 : decode cX1_otterOf 7 = .ok (.tableswitch 73 0 4 #[33, 38, 43, 63, 68], 33) := by decide +kernel
theorem dX1_otterOf_40 : decode cX1_otterOf 40 = .ok (.aload_n 3, 1) := dk_45 (dk_at dksX1_otterOf_2 0 rfl rfl)
theorem dX1_otterOf_41 : decode cX1_otterOf 41 = .ok (.getfield 172, 3) := dk_180 0 172 (dk_at dksX1_otterOf_2 1 rfl rfl)
theorem dX1_otterOf_44 : decode cX1_otterOf 44 = .ok (.ireturn, 1) := dk_172 (dk_at dksX1_otterOf_2 4 rfl rfl)
theorem dX1_otterOf_45 : decode cX1_otterOf 45 = .ok (.aload_n 3, 1) := dk_45 (dk_at dksX1_otterOf_2 5 rfl rfl)
theorem dX1_otterOf_46 : decode cX1_otterOf 46 = .ok (.getfield 175, 3) := dk_180 0 175 (dk_at dksX1_otterOf_2 6 rfl rfl)
theorem dX1_otterOf_49 : decode cX1_otterOf 49 = .ok (.ireturn, 1) := dk_172 (dk_at dksX1_otterOf_2 9 rfl rfl)
theorem dX1_otterOf_50 : decode cX1_otterOf 50 = .ok (.aload_n 0, 1) := dk_42 (dk_at dksX1_otterOf_2 10 rfl rfl)
theorem dX1_otterOf_51 : decode cX1_otterOf 51 = .ok (.getfield 34, 3) := dk_180 0 34 (dk_at dksX1_otterOf_2 11 rfl rfl)
theorem dX1_otterOf_54 : decode cX1_otterOf 54 = .ok (.getfield 178, 3) := dk_180 0 178 (dk_at dksX1_otterOf_2 14 rfl rfl)
theorem dX1_otterOf_57 : decode cX1_otterOf 57 = .ok (.iload_n 1, 1) := dk_27 (dk_at dksX1_otterOf_2 17 rfl rfl)
theorem dX1_otterOf_58 : decode cX1_otterOf 58 = .ok (.invokevirtual 182, 3) := dk_182 0 182 (dk_at dksX1_otterOf_2 18 rfl rfl)
theorem dX1_otterOf_61 : decode cX1_otterOf 61 = .ok (.ifCond .eq 7, 3) := dk_153 0 7 (dk_at dksX1_otterOf_2 21 rfl rfl)
theorem dX1_otterOf_64 : decode cX1_otterOf 64 = .ok (.iconst 1, 1) := dk_4 (dk_at dksX1_otterOf_3 0 rfl rfl)
theorem dX1_otterOf_65 : decode cX1_otterOf 65 = .ok (.goto 4, 3) := dk_167 0 4 (dk_at dksX1_otterOf_3 1 rfl rfl)
theorem dX1_otterOf_68 : decode cX1_otterOf 68 = .ok (.iconst 0, 1) := dk_3 (dk_at dksX1_otterOf_3 4 rfl rfl)
theorem dX1_otterOf_69 : decode cX1_otterOf 69 = .ok (.ireturn, 1) := dk_172 (dk_at dksX1_otterOf_3 5 rfl rfl)
theorem dX1_otterOf_70 : decode cX1_otterOf 70 = .ok (.aload_n 3, 1) := dk_45 (dk_at dksX1_otterOf_3 6 rfl rfl)
theorem dX1_otterOf_71 : decode cX1_otterOf 71 = .ok (.getfield 187, 3) := dk_180 0 187 (dk_at dksX1_otterOf_3 7 rfl rfl)
theorem dX1_otterOf_74 : decode cX1_otterOf 74 = .ok (.ireturn, 1) := dk_172 (dk_at dksX1_otterOf_3 10 rfl rfl)
theorem dX1_otterOf_75 : decode cX1_otterOf 75 = .ok (.aload_n 3, 1) := dk_45 (dk_at dksX1_otterOf_3 11 rfl rfl)
theorem dX1_otterOf_76 : decode cX1_otterOf 76 = .ok (.getfield 188, 3) := dk_180 0 188 (dk_at dksX1_otterOf_3 12 rfl rfl)
theorem dX1_otterOf_79 : decode cX1_otterOf 79 = .ok (.ireturn, 1) := dk_172 (dk_at dksX1_otterOf_3 15 rfl rfl)
theorem dX1_otterOf_80 : decode cX1_otterOf 80 = .ok (.new 165, 3) := dk_187 0 165 (dk_at dksX1_otterOf_3 16 rfl rfl)
theorem dX1_otterOf_83 : decode cX1_otterOf 83 = .ok (.dup, 1) := dk_89 (dk_at dksX1_otterOf_3 19 rfl rfl)
theorem dX1_otterOf_84 : decode cX1_otterOf 84 = .ok (.invokespecial 167, 3) := dk_183 0 167 (dk_at dksX1_otterOf_3 20 rfl rfl)
theorem dX1_otterOf_87 : decode cX1_otterOf 87 = .ok (.athrow, 1) := dk_191 (dk_at dksX1_otterOf_3 23 rfl rfl)
abbrev cX1_requiredOtter : ByteArray := prog_1_method_22_code
def yX1_requiredOtter : MethodName := ⟨RX1, "requiredOtter", "(I)LOtterTrust$Otter;"⟩
def dkwX1_requiredOtter_1 : List UInt8 := [180, 0, 34, 180, 0, 126, 27, 185, 0, 120, 2, 0, 192, 0, 129, 176]
abbrev dktX1_requiredOtter_1 : List UInt8 := dkwX1_requiredOtter_1 ++ []
def dkwX1_requiredOtter_0 : List UInt8 := [27, 3, 42, 180, 0, 34, 180, 0, 126, 185, 0, 113, 1, 0, 4, 100, 184, 0, 18, 184, 0, 116, 42]
abbrev dktX1_requiredOtter_0 : List UInt8 := dkwX1_requiredOtter_0 ++ dktX1_requiredOtter_1
theorem dksX1_requiredOtter_0 : cX1_requiredOtter.data.toList.drop 0 = dktX1_requiredOtter_0 := by decide +kernel
theorem dksX1_requiredOtter_1 : cX1_requiredOtter.data.toList.drop 23 = dktX1_requiredOtter_1 := dk_seg dksX1_requiredOtter_0 23 rfl rfl
theorem dX1_requiredOtter_0 : decode cX1_requiredOtter 0 = .ok (.iload_n 1, 1) := dk_27 (dk_at dksX1_requiredOtter_0 0 rfl rfl)
theorem dX1_requiredOtter_1 : decode cX1_requiredOtter 1 = .ok (.iconst 0, 1) := dk_3 (dk_at dksX1_requiredOtter_0 1 rfl rfl)
theorem dX1_requiredOtter_2 : decode cX1_requiredOtter 2 = .ok (.aload_n 0, 1) := dk_42 (dk_at dksX1_requiredOtter_0 2 rfl rfl)
theorem dX1_requiredOtter_3 : decode cX1_requiredOtter 3 = .ok (.getfield 34, 3) := dk_180 0 34 (dk_at dksX1_requiredOtter_0 3 rfl rfl)
theorem dX1_requiredOtter_6 : decode cX1_requiredOtter 6 = .ok (.getfield 126, 3) := dk_180 0 126 (dk_at dksX1_requiredOtter_0 6 rfl rfl)
theorem dX1_requiredOtter_9 : decode cX1_requiredOtter 9 = .ok (.invokeinterface 113 1, 5) := by decide +kernel
theorem dX1_requiredOtter_14 : decode cX1_requiredOtter 14 = .ok (.iconst 1, 1) := dk_4 (dk_at dksX1_requiredOtter_0 14 rfl rfl)
theorem dX1_requiredOtter_15 : decode cX1_requiredOtter 15 = .ok (.isub, 1) := dk_100 (dk_at dksX1_requiredOtter_0 15 rfl rfl)
theorem dX1_requiredOtter_16 : decode cX1_requiredOtter 16 = .ok (.invokestatic 18, 3) := dk_184 0 18 (dk_at dksX1_requiredOtter_0 16 rfl rfl)
theorem dX1_requiredOtter_19 : decode cX1_requiredOtter 19 = .ok (.invokestatic 116, 3) := dk_184 0 116 (dk_at dksX1_requiredOtter_0 19 rfl rfl)
theorem dX1_requiredOtter_22 : decode cX1_requiredOtter 22 = .ok (.aload_n 0, 1) := dk_42 (dk_at dksX1_requiredOtter_0 22 rfl rfl)
theorem dX1_requiredOtter_23 : decode cX1_requiredOtter 23 = .ok (.getfield 34, 3) := dk_180 0 34 (dk_at dksX1_requiredOtter_1 0 rfl rfl)
theorem dX1_requiredOtter_26 : decode cX1_requiredOtter 26 = .ok (.getfield 126, 3) := dk_180 0 126 (dk_at dksX1_requiredOtter_1 3 rfl rfl)
theorem dX1_requiredOtter_29 : decode cX1_requiredOtter 29 = .ok (.iload_n 1, 1) := dk_27 (dk_at dksX1_requiredOtter_1 6 rfl rfl)
theorem dX1_requiredOtter_30 : decode cX1_requiredOtter 30 = .ok (.invokeinterface 120 2, 5) := by decide +kernel
theorem dX1_requiredOtter_35 : decode cX1_requiredOtter 35 = .ok (.checkcast 129, 3) := dk_192 0 129 (dk_at dksX1_requiredOtter_1 12 rfl rfl)
theorem dX1_requiredOtter_38 : decode cX1_requiredOtter 38 = .ok (.areturn, 1) := dk_176 (dk_at dksX1_requiredOtter_1 15 rfl rfl)
abbrev cX1_volunteerOf : ByteArray := prog_1_method_25_code
def yX1_volunteerOf : MethodName := ⟨RX1, "volunteerOf", "(II)I"⟩
def dkwX1_volunteerOf_4 : List UInt8 := [172, 187, 0, 165, 89, 183, 0, 167, 191]
abbrev dktX1_volunteerOf_4 : List UInt8 := dkwX1_volunteerOf_4 ++ []
def dkwX1_volunteerOf_3 : List UInt8 := [45, 180, 0, 196, 172, 45, 180, 0, 199, 172, 45, 180, 0, 202, 172, 45, 180, 0, 203, 172, 45, 180, 0, 205]
abbrev dktX1_volunteerOf_3 : List UInt8 := dkwX1_volunteerOf_3 ++ dktX1_volunteerOf_4
def dkwX1_volunteerOf_2 : List UInt8 := [170, 0, 0, 0, 0, 0, 0, 61, 0, 0, 0, 0, 0, 0, 0, 4, 0, 0, 0, 36, 0, 0, 0, 41, 0, 0, 0, 46, 0, 0, 0, 51, 0, 0, 0, 56]
abbrev dktX1_volunteerOf_2 : List UInt8 := dkwX1_volunteerOf_2 ++ dktX1_volunteerOf_3
def dkwX1_volunteerOf_1 : List UInt8 := [180, 0, 34, 180, 0, 191, 27, 185, 0, 120, 2, 0, 192, 0, 194, 78, 28]
abbrev dktX1_volunteerOf_1 : List UInt8 := dkwX1_volunteerOf_1 ++ dktX1_volunteerOf_2
def dkwX1_volunteerOf_0 : List UInt8 := [27, 3, 42, 180, 0, 34, 180, 0, 191, 185, 0, 113, 1, 0, 4, 100, 184, 0, 18, 184, 0, 116, 42]
abbrev dktX1_volunteerOf_0 : List UInt8 := dkwX1_volunteerOf_0 ++ dktX1_volunteerOf_1
theorem dksX1_volunteerOf_0 : cX1_volunteerOf.data.toList.drop 0 = dktX1_volunteerOf_0 := by decide +kernel
theorem dksX1_volunteerOf_1 : cX1_volunteerOf.data.toList.drop 23 = dktX1_volunteerOf_1 := dk_seg dksX1_volunteerOf_0 23 rfl rfl
theorem dksX1_volunteerOf_2 : cX1_volunteerOf.data.toList.drop 40 = dktX1_volunteerOf_2 := dk_seg dksX1_volunteerOf_1 17 rfl rfl
theorem dksX1_volunteerOf_3 : cX1_volunteerOf.data.toList.drop 76 = dktX1_volunteerOf_3 := dk_seg dksX1_volunteerOf_2 36 rfl rfl
theorem dksX1_volunteerOf_4 : cX1_volunteerOf.data.toList.drop 100 = dktX1_volunteerOf_4 := dk_seg dksX1_volunteerOf_3 24 rfl rfl
theorem dX1_volunteerOf_0 : decode cX1_volunteerOf 0 = .ok (.iload_n 1, 1) := dk_27 (dk_at dksX1_volunteerOf_0 0 rfl rfl)
theorem dX1_volunteerOf_1 : decode cX1_volunteerOf 1 = .ok (.iconst 0, 1) := dk_3 (dk_at dksX1_volunteerOf_0 1 rfl rfl)
theorem dX1_volunteerOf_2 : decode cX1_volunteerOf 2 = .ok (.aload_n 0, 1) := dk_42 (dk_at dksX1_volunteerOf_0 2 rfl rfl)
theorem dX1_volunteerOf_3 : decode cX1_volunteerOf 3 = .ok (.getfield 34, 3) := dk_180 0 34 (dk_at dksX1_volunteerOf_0 3 rfl rfl)
theorem dX1_volunteerOf_6 : decode cX1_volunteerOf 6 = .ok (.getfield 191, 3) := dk_180 0 191 (dk_at dksX1_volunteerOf_0 6 rfl rfl)
theorem dX1_volunteerOf_9 : decode cX1_volunteerOf 9 = .ok (.invokeinterface 113 1, 5) := by decide +kernel
theorem dX1_volunteerOf_14 : decode cX1_volunteerOf 14 = .ok (.iconst 1, 1) := dk_4 (dk_at dksX1_volunteerOf_0 14 rfl rfl)
theorem dX1_volunteerOf_15 : decode cX1_volunteerOf 15 = .ok (.isub, 1) := dk_100 (dk_at dksX1_volunteerOf_0 15 rfl rfl)
theorem dX1_volunteerOf_16 : decode cX1_volunteerOf 16 = .ok (.invokestatic 18, 3) := dk_184 0 18 (dk_at dksX1_volunteerOf_0 16 rfl rfl)
theorem dX1_volunteerOf_19 : decode cX1_volunteerOf 19 = .ok (.invokestatic 116, 3) := dk_184 0 116 (dk_at dksX1_volunteerOf_0 19 rfl rfl)
theorem dX1_volunteerOf_22 : decode cX1_volunteerOf 22 = .ok (.aload_n 0, 1) := dk_42 (dk_at dksX1_volunteerOf_0 22 rfl rfl)
theorem dX1_volunteerOf_23 : decode cX1_volunteerOf 23 = .ok (.getfield 34, 3) := dk_180 0 34 (dk_at dksX1_volunteerOf_1 0 rfl rfl)
theorem dX1_volunteerOf_26 : decode cX1_volunteerOf 26 = .ok (.getfield 191, 3) := dk_180 0 191 (dk_at dksX1_volunteerOf_1 3 rfl rfl)
theorem dX1_volunteerOf_29 : decode cX1_volunteerOf 29 = .ok (.iload_n 1, 1) := dk_27 (dk_at dksX1_volunteerOf_1 6 rfl rfl)
theorem dX1_volunteerOf_30 : decode cX1_volunteerOf 30 = .ok (.invokeinterface 120 2, 5) := by decide +kernel
theorem dX1_volunteerOf_35 : decode cX1_volunteerOf 35 = .ok (.checkcast 194, 3) := dk_192 0 194 (dk_at dksX1_volunteerOf_1 12 rfl rfl)
theorem dX1_volunteerOf_38 : decode cX1_volunteerOf 38 = .ok (.astore_n 3, 1) := dk_78 (dk_at dksX1_volunteerOf_1 15 rfl rfl)
theorem dX1_volunteerOf_39 : decode cX1_volunteerOf 39 = .ok (.iload_n 2, 1) := dk_28 (dk_at dksX1_volunteerOf_1 16 rfl rfl)
theorem dX1_volunteerOf_40 : decode cX1_volunteerOf 40 = .ok (.tableswitch 61 0 4 #[36, 41, 46, 51, 56], 36) := by decide +kernel
theorem dX1_volunteerOf_76 : decode cX1_volunteerOf 76 = .ok (.aload_n 3, 1) := dk_45 (dk_at dksX1_volunteerOf_3 0 rfl rfl)
theorem dX1_volunteerOf_77 : decode cX1_volunteerOf 77 = .ok (.getfield 196, 3) := dk_180 0 196 (dk_at dksX1_volunteerOf_3 1 rfl rfl)
theorem dX1_volunteerOf_80 : decode cX1_volunteerOf 80 = .ok (.ireturn, 1) := dk_172 (dk_at dksX1_volunteerOf_3 4 rfl rfl)
theorem dX1_volunteerOf_81 : decode cX1_volunteerOf 81 = .ok (.aload_n 3, 1) := dk_45 (dk_at dksX1_volunteerOf_3 5 rfl rfl)
theorem dX1_volunteerOf_82 : decode cX1_volunteerOf 82 = .ok (.getfield 199, 3) := dk_180 0 199 (dk_at dksX1_volunteerOf_3 6 rfl rfl)
theorem dX1_volunteerOf_85 : decode cX1_volunteerOf 85 = .ok (.ireturn, 1) := dk_172 (dk_at dksX1_volunteerOf_3 9 rfl rfl)
theorem dX1_volunteerOf_86 : decode cX1_volunteerOf 86 = .ok (.aload_n 3, 1) := dk_45 (dk_at dksX1_volunteerOf_3 10 rfl rfl)
theorem dX1_volunteerOf_87 : decode cX1_volunteerOf 87 = .ok (.getfield 202, 3) := dk_180 0 202 (dk_at dksX1_volunteerOf_3 11 rfl rfl)
theorem dX1_volunteerOf_90 : decode cX1_volunteerOf 90 = .ok (.ireturn, 1) := dk_172 (dk_at dksX1_volunteerOf_3 14 rfl rfl)
theorem dX1_volunteerOf_91 : decode cX1_volunteerOf 91 = .ok (.aload_n 3, 1) := dk_45 (dk_at dksX1_volunteerOf_3 15 rfl rfl)
theorem dX1_volunteerOf_92 : decode cX1_volunteerOf 92 = .ok (.getfield 203, 3) := dk_180 0 203 (dk_at dksX1_volunteerOf_3 16 rfl rfl)
theorem dX1_volunteerOf_95 : decode cX1_volunteerOf 95 = .ok (.ireturn, 1) := dk_172 (dk_at dksX1_volunteerOf_3 19 rfl rfl)
theorem dX1_volunteerOf_96 : decode cX1_volunteerOf 96 = .ok (.aload_n 3, 1) := dk_45 (dk_at dksX1_volunteerOf_3 20 rfl rfl)
theorem dX1_volunteerOf_97 : decode cX1_volunteerOf 97 = .ok (.getfield 205, 3) := dk_180 0 205 (dk_at dksX1_volunteerOf_3 21 rfl rfl)
theorem dX1_volunteerOf_100 : decode cX1_volunteerOf 100 = .ok (.ireturn, 1) := dk_172 (dk_at dksX1_volunteerOf_4 0 rfl rfl)
theorem dX1_volunteerOf_101 : decode cX1_volunteerOf 101 = .ok (.new 165, 3) := dk_187 0 165 (dk_at dksX1_volunteerOf_4 1 rfl rfl)
theorem dX1_volunteerOf_104 : decode cX1_volunteerOf 104 = .ok (.dup, 1) := dk_89 (dk_at dksX1_volunteerOf_4 4 rfl rfl)
theorem dX1_volunteerOf_105 : decode cX1_volunteerOf 105 = .ok (.invokespecial 167, 3) := dk_183 0 167 (dk_at dksX1_volunteerOf_4 5 rfl rfl)
theorem dX1_volunteerOf_108 : decode cX1_volunteerOf 108 = .ok (.athrow, 1) := dk_191 (dk_at dksX1_volunteerOf_4 8 rfl rfl)
abbrev cX1_refuge : ByteArray := prog_1_method_26_code
def yX1_refuge : MethodName := ⟨RX1, "refuge", "(I)I"⟩
def dkwX1_refuge_1 : List UInt8 := [3, 184, 0, 211, 29, 172]
abbrev dktX1_refuge_1 : List UInt8 := dkwX1_refuge_1 ++ []
def dkwX1_refuge_0 : List UInt8 := [42, 27, 182, 0, 131, 77, 42, 180, 0, 34, 27, 182, 0, 208, 62, 29, 2, 159, 0, 7, 4, 167, 0, 4]
abbrev dktX1_refuge_0 : List UInt8 := dkwX1_refuge_0 ++ dktX1_refuge_1
theorem dksX1_refuge_0 : cX1_refuge.data.toList.drop 0 = dktX1_refuge_0 := by decide +kernel
theorem dksX1_refuge_1 : cX1_refuge.data.toList.drop 24 = dktX1_refuge_1 := dk_seg dksX1_refuge_0 24 rfl rfl
theorem dX1_refuge_0 : decode cX1_refuge 0 = .ok (.aload_n 0, 1) := dk_42 (dk_at dksX1_refuge_0 0 rfl rfl)
theorem dX1_refuge_1 : decode cX1_refuge 1 = .ok (.iload_n 1, 1) := dk_27 (dk_at dksX1_refuge_0 1 rfl rfl)
theorem dX1_refuge_2 : decode cX1_refuge 2 = .ok (.invokevirtual 131, 3) := dk_182 0 131 (dk_at dksX1_refuge_0 2 rfl rfl)
theorem dX1_refuge_5 : decode cX1_refuge 5 = .ok (.astore_n 2, 1) := dk_77 (dk_at dksX1_refuge_0 5 rfl rfl)
theorem dX1_refuge_6 : decode cX1_refuge 6 = .ok (.aload_n 0, 1) := dk_42 (dk_at dksX1_refuge_0 6 rfl rfl)
theorem dX1_refuge_7 : decode cX1_refuge 7 = .ok (.getfield 34, 3) := dk_180 0 34 (dk_at dksX1_refuge_0 7 rfl rfl)
theorem dX1_refuge_10 : decode cX1_refuge 10 = .ok (.iload_n 1, 1) := dk_27 (dk_at dksX1_refuge_0 10 rfl rfl)
theorem dX1_refuge_11 : decode cX1_refuge 11 = .ok (.invokevirtual 208, 3) := dk_182 0 208 (dk_at dksX1_refuge_0 11 rfl rfl)
theorem dX1_refuge_14 : decode cX1_refuge 14 = .ok (.istore_n 3, 1) := dk_62 (dk_at dksX1_refuge_0 14 rfl rfl)
theorem dX1_refuge_15 : decode cX1_refuge 15 = .ok (.iload_n 3, 1) := dk_29 (dk_at dksX1_refuge_0 15 rfl rfl)
theorem dX1_refuge_16 : decode cX1_refuge 16 = .ok (.iconst (-1), 1) := dk_2 (dk_at dksX1_refuge_0 16 rfl rfl)
theorem dX1_refuge_17 : decode cX1_refuge 17 = .ok (.if_icmp .eq 7, 3) := dk_159 0 7 (dk_at dksX1_refuge_0 17 rfl rfl)
theorem dX1_refuge_20 : decode cX1_refuge 20 = .ok (.iconst 1, 1) := dk_4 (dk_at dksX1_refuge_0 20 rfl rfl)
theorem dX1_refuge_21 : decode cX1_refuge 21 = .ok (.goto 4, 3) := dk_167 0 4 (dk_at dksX1_refuge_0 21 rfl rfl)
theorem dX1_refuge_24 : decode cX1_refuge 24 = .ok (.iconst 0, 1) := dk_3 (dk_at dksX1_refuge_1 0 rfl rfl)
theorem dX1_refuge_25 : decode cX1_refuge 25 = .ok (.invokestatic 211, 3) := dk_184 0 211 (dk_at dksX1_refuge_1 1 rfl rfl)
theorem dX1_refuge_28 : decode cX1_refuge 28 = .ok (.iload_n 3, 1) := dk_29 (dk_at dksX1_refuge_1 4 rfl rfl)
theorem dX1_refuge_29 : decode cX1_refuge 29 = .ok (.ireturn, 1) := dk_172 (dk_at dksX1_refuge_1 5 rfl rfl)
abbrev cX1_requireElement : ByteArray := prog_1_method_4_code
def yX1_requireElement : MethodName := ⟨RX1, "requireElement", "(Z)V"⟩
def dkwX1_requireElement_0 : List UInt8 := [26, 154, 0, 11, 187, 0, 10, 89, 183, 0, 12, 191, 177]
abbrev dktX1_requireElement_0 : List UInt8 := dkwX1_requireElement_0 ++ []
theorem dksX1_requireElement_0 : cX1_requireElement.data.toList.drop 0 = dktX1_requireElement_0 := by decide +kernel
theorem dX1_requireElement_0 : decode cX1_requireElement 0 = .ok (.iload_n 0, 1) := dk_26 (dk_at dksX1_requireElement_0 0 rfl rfl)
theorem dX1_requireElement_1 : decode cX1_requireElement 1 = .ok (.ifCond .ne 11, 3) := dk_154 0 11 (dk_at dksX1_requireElement_0 1 rfl rfl)
theorem dX1_requireElement_4 : decode cX1_requireElement 4 = .ok (.new 10, 3) := dk_187 0 10 (dk_at dksX1_requireElement_0 4 rfl rfl)
theorem dX1_requireElement_7 : decode cX1_requireElement 7 = .ok (.dup, 1) := dk_89 (dk_at dksX1_requireElement_0 7 rfl rfl)
theorem dX1_requireElement_8 : decode cX1_requireElement 8 = .ok (.invokespecial 12, 3) := dk_183 0 12 (dk_at dksX1_requireElement_0 8 rfl rfl)
theorem dX1_requireElement_11 : decode cX1_requireElement 11 = .ok (.athrow, 1) := dk_191 (dk_at dksX1_requireElement_0 11 rfl rfl)
theorem dX1_requireElement_12 : decode cX1_requireElement 12 = .ok (.return_, 1) := dk_177 (dk_at dksX1_requireElement_0 12 rfl rfl)
abbrev cX1_refugeAgain : ByteArray := prog_1_method_27_code
def yX1_refugeAgain : MethodName := ⟨RX1, "refugeAgain", "(I)I"⟩
def dkwX1_refugeAgain_1 : List UInt8 := [3, 184, 0, 211, 29, 172]
abbrev dktX1_refugeAgain_1 : List UInt8 := dkwX1_refugeAgain_1 ++ []
def dkwX1_refugeAgain_0 : List UInt8 := [42, 27, 182, 0, 131, 77, 42, 180, 0, 34, 27, 182, 0, 214, 62, 29, 2, 159, 0, 7, 4, 167, 0, 4]
abbrev dktX1_refugeAgain_0 : List UInt8 := dkwX1_refugeAgain_0 ++ dktX1_refugeAgain_1
theorem dksX1_refugeAgain_0 : cX1_refugeAgain.data.toList.drop 0 = dktX1_refugeAgain_0 := by decide +kernel
theorem dksX1_refugeAgain_1 : cX1_refugeAgain.data.toList.drop 24 = dktX1_refugeAgain_1 := dk_seg dksX1_refugeAgain_0 24 rfl rfl
theorem dX1_refugeAgain_0 : decode cX1_refugeAgain 0 = .ok (.aload_n 0, 1) := dk_42 (dk_at dksX1_refugeAgain_0 0 rfl rfl)
theorem dX1_refugeAgain_1 : decode cX1_refugeAgain 1 = .ok (.iload_n 1, 1) := dk_27 (dk_at dksX1_refugeAgain_0 1 rfl rfl)
theorem dX1_refugeAgain_2 : decode cX1_refugeAgain 2 = .ok (.invokevirtual 131, 3) := dk_182 0 131 (dk_at dksX1_refugeAgain_0 2 rfl rfl)
theorem dX1_refugeAgain_5 : decode cX1_refugeAgain 5 = .ok (.astore_n 2, 1) := dk_77 (dk_at dksX1_refugeAgain_0 5 rfl rfl)
theorem dX1_refugeAgain_6 : decode cX1_refugeAgain 6 = .ok (.aload_n 0, 1) := dk_42 (dk_at dksX1_refugeAgain_0 6 rfl rfl)
theorem dX1_refugeAgain_7 : decode cX1_refugeAgain 7 = .ok (.getfield 34, 3) := dk_180 0 34 (dk_at dksX1_refugeAgain_0 7 rfl rfl)
theorem dX1_refugeAgain_10 : decode cX1_refugeAgain 10 = .ok (.iload_n 1, 1) := dk_27 (dk_at dksX1_refugeAgain_0 10 rfl rfl)
theorem dX1_refugeAgain_11 : decode cX1_refugeAgain 11 = .ok (.invokevirtual 214, 3) := dk_182 0 214 (dk_at dksX1_refugeAgain_0 11 rfl rfl)
theorem dX1_refugeAgain_14 : decode cX1_refugeAgain 14 = .ok (.istore_n 3, 1) := dk_62 (dk_at dksX1_refugeAgain_0 14 rfl rfl)
theorem dX1_refugeAgain_15 : decode cX1_refugeAgain 15 = .ok (.iload_n 3, 1) := dk_29 (dk_at dksX1_refugeAgain_0 15 rfl rfl)
theorem dX1_refugeAgain_16 : decode cX1_refugeAgain 16 = .ok (.iconst (-1), 1) := dk_2 (dk_at dksX1_refugeAgain_0 16 rfl rfl)
theorem dX1_refugeAgain_17 : decode cX1_refugeAgain 17 = .ok (.if_icmp .eq 7, 3) := dk_159 0 7 (dk_at dksX1_refugeAgain_0 17 rfl rfl)
theorem dX1_refugeAgain_20 : decode cX1_refugeAgain 20 = .ok (.iconst 1, 1) := dk_4 (dk_at dksX1_refugeAgain_0 20 rfl rfl)
theorem dX1_refugeAgain_21 : decode cX1_refugeAgain 21 = .ok (.goto 4, 3) := dk_167 0 4 (dk_at dksX1_refugeAgain_0 21 rfl rfl)
theorem dX1_refugeAgain_24 : decode cX1_refugeAgain 24 = .ok (.iconst 0, 1) := dk_3 (dk_at dksX1_refugeAgain_1 0 rfl rfl)
theorem dX1_refugeAgain_25 : decode cX1_refugeAgain 25 = .ok (.invokestatic 211, 3) := dk_184 0 211 (dk_at dksX1_refugeAgain_1 1 rfl rfl)
theorem dX1_refugeAgain_28 : decode cX1_refugeAgain 28 = .ok (.iload_n 3, 1) := dk_29 (dk_at dksX1_refugeAgain_1 4 rfl rfl)
theorem dX1_refugeAgain_29 : decode cX1_refugeAgain 29 = .ok (.ireturn, 1) := dk_172 (dk_at dksX1_refugeAgain_1 5 rfl rfl)
abbrev cX1_goal : ByteArray := prog_1_method_28_code
def yX1_goal : MethodName := ⟨RX1, "goal", "(I)I"⟩
def dkwX1_goal_1 : List UInt8 := [42, 180, 0, 34, 180, 0, 220, 4, 96, 182, 0, 223, 172]
abbrev dktX1_goal_1 : List UInt8 := dkwX1_goal_1 ++ []
def dkwX1_goal_0 : List UInt8 := [42, 27, 182, 0, 168, 180, 0, 172, 154, 0, 7, 4, 167, 0, 4, 3, 184, 0, 217, 42, 180, 0, 34, 27]
abbrev dktX1_goal_0 : List UInt8 := dkwX1_goal_0 ++ dktX1_goal_1
theorem dksX1_goal_0 : cX1_goal.data.toList.drop 0 = dktX1_goal_0 := by decide +kernel
theorem dksX1_goal_1 : cX1_goal.data.toList.drop 24 = dktX1_goal_1 := dk_seg dksX1_goal_0 24 rfl rfl
theorem dX1_goal_0 : decode cX1_goal 0 = .ok (.aload_n 0, 1) := dk_42 (dk_at dksX1_goal_0 0 rfl rfl)
theorem dX1_goal_1 : decode cX1_goal 1 = .ok (.iload_n 1, 1) := dk_27 (dk_at dksX1_goal_0 1 rfl rfl)
theorem dX1_goal_2 : decode cX1_goal 2 = .ok (.invokevirtual 168, 3) := dk_182 0 168 (dk_at dksX1_goal_0 2 rfl rfl)
theorem dX1_goal_5 : decode cX1_goal 5 = .ok (.getfield 172, 3) := dk_180 0 172 (dk_at dksX1_goal_0 5 rfl rfl)
theorem dX1_goal_8 : decode cX1_goal 8 = .ok (.ifCond .ne 7, 3) := dk_154 0 7 (dk_at dksX1_goal_0 8 rfl rfl)
theorem dX1_goal_11 : decode cX1_goal 11 = .ok (.iconst 1, 1) := dk_4 (dk_at dksX1_goal_0 11 rfl rfl)
theorem dX1_goal_12 : decode cX1_goal 12 = .ok (.goto 4, 3) := dk_167 0 4 (dk_at dksX1_goal_0 12 rfl rfl)
theorem dX1_goal_15 : decode cX1_goal 15 = .ok (.iconst 0, 1) := dk_3 (dk_at dksX1_goal_0 15 rfl rfl)
theorem dX1_goal_16 : decode cX1_goal 16 = .ok (.invokestatic 217, 3) := dk_184 0 217 (dk_at dksX1_goal_0 16 rfl rfl)
theorem dX1_goal_19 : decode cX1_goal 19 = .ok (.aload_n 0, 1) := dk_42 (dk_at dksX1_goal_0 19 rfl rfl)
theorem dX1_goal_20 : decode cX1_goal 20 = .ok (.getfield 34, 3) := dk_180 0 34 (dk_at dksX1_goal_0 20 rfl rfl)
theorem dX1_goal_23 : decode cX1_goal 23 = .ok (.iload_n 1, 1) := dk_27 (dk_at dksX1_goal_0 23 rfl rfl)
theorem dX1_goal_24 : decode cX1_goal 24 = .ok (.aload_n 0, 1) := dk_42 (dk_at dksX1_goal_1 0 rfl rfl)
theorem dX1_goal_25 : decode cX1_goal 25 = .ok (.getfield 34, 3) := dk_180 0 34 (dk_at dksX1_goal_1 1 rfl rfl)
theorem dX1_goal_28 : decode cX1_goal 28 = .ok (.getfield 220, 3) := dk_180 0 220 (dk_at dksX1_goal_1 4 rfl rfl)
theorem dX1_goal_31 : decode cX1_goal 31 = .ok (.iconst 1, 1) := dk_4 (dk_at dksX1_goal_1 7 rfl rfl)
theorem dX1_goal_32 : decode cX1_goal 32 = .ok (.iadd, 1) := dk_96 (dk_at dksX1_goal_1 8 rfl rfl)
theorem dX1_goal_33 : decode cX1_goal 33 = .ok (.invokevirtual 223, 3) := dk_182 0 223 (dk_at dksX1_goal_1 9 rfl rfl)
theorem dX1_goal_36 : decode cX1_goal 36 = .ok (.ireturn, 1) := dk_172 (dk_at dksX1_goal_1 12 rfl rfl)
abbrev cX1_requireState : ByteArray := prog_1_method_3_code
def yX1_requireState : MethodName := ⟨RX1, "requireState", "(Z)V"⟩
def dkwX1_requireState_0 : List UInt8 := [26, 154, 0, 11, 187, 0, 7, 89, 183, 0, 9, 191, 177]
abbrev dktX1_requireState_0 : List UInt8 := dkwX1_requireState_0 ++ []
theorem dksX1_requireState_0 : cX1_requireState.data.toList.drop 0 = dktX1_requireState_0 := by decide +kernel
theorem dX1_requireState_0 : decode cX1_requireState 0 = .ok (.iload_n 0, 1) := dk_26 (dk_at dksX1_requireState_0 0 rfl rfl)
theorem dX1_requireState_1 : decode cX1_requireState 1 = .ok (.ifCond .ne 11, 3) := dk_154 0 11 (dk_at dksX1_requireState_0 1 rfl rfl)
theorem dX1_requireState_4 : decode cX1_requireState 4 = .ok (.new 7, 3) := dk_187 0 7 (dk_at dksX1_requireState_0 4 rfl rfl)
theorem dX1_requireState_7 : decode cX1_requireState 7 = .ok (.dup, 1) := dk_89 (dk_at dksX1_requireState_0 7 rfl rfl)
theorem dX1_requireState_8 : decode cX1_requireState 8 = .ok (.invokespecial 9, 3) := dk_183 0 9 (dk_at dksX1_requireState_0 8 rfl rfl)
theorem dX1_requireState_11 : decode cX1_requireState 11 = .ok (.athrow, 1) := dk_191 (dk_at dksX1_requireState_0 11 rfl rfl)
theorem dX1_requireState_12 : decode cX1_requireState 12 = .ok (.return_, 1) := dk_177 (dk_at dksX1_requireState_0 12 rfl rfl)
abbrev cX1_killedIn : ByteArray := prog_1_method_29_code
def yX1_killedIn : MethodName := ⟨RX1, "killedIn", "(I)I"⟩
def dkwX1_killedIn_3 : List UInt8 := [182, 0, 227, 132, 3, 1, 167, 255, 215, 29, 172]
abbrev dktX1_killedIn_3 : List UInt8 := dkwX1_killedIn_3 ++ []
def dkwX1_killedIn_2 : List UInt8 := [180, 0, 172, 154, 0, 28, 29, 17, 1, 144, 162, 0, 7, 4, 167, 0, 4, 3, 184, 0, 211, 44]
abbrev dktX1_killedIn_2 : List UInt8 := dkwX1_killedIn_2 ++ dktX1_killedIn_3
def dkwX1_killedIn_1 : List UInt8 := [180, 0, 34, 183, 0, 86, 77, 3, 62, 44, 180, 0, 126, 27, 185, 0, 120, 2, 0, 192, 0, 129]
abbrev dktX1_killedIn_1 : List UInt8 := dkwX1_killedIn_1 ++ dktX1_killedIn_2
def dkwX1_killedIn_0 : List UInt8 := [42, 27, 182, 0, 168, 180, 0, 172, 154, 0, 7, 4, 167, 0, 4, 3, 184, 0, 217, 187, 0, 31, 89, 42]
abbrev dktX1_killedIn_0 : List UInt8 := dkwX1_killedIn_0 ++ dktX1_killedIn_1
theorem dksX1_killedIn_0 : cX1_killedIn.data.toList.drop 0 = dktX1_killedIn_0 := by decide +kernel
theorem dksX1_killedIn_1 : cX1_killedIn.data.toList.drop 24 = dktX1_killedIn_1 := dk_seg dksX1_killedIn_0 24 rfl rfl
theorem dksX1_killedIn_2 : cX1_killedIn.data.toList.drop 46 = dktX1_killedIn_2 := dk_seg dksX1_killedIn_1 22 rfl rfl
theorem dksX1_killedIn_3 : cX1_killedIn.data.toList.drop 68 = dktX1_killedIn_3 := dk_seg dksX1_killedIn_2 22 rfl rfl
theorem dX1_killedIn_0 : decode cX1_killedIn 0 = .ok (.aload_n 0, 1) := dk_42 (dk_at dksX1_killedIn_0 0 rfl rfl)
theorem dX1_killedIn_1 : decode cX1_killedIn 1 = .ok (.iload_n 1, 1) := dk_27 (dk_at dksX1_killedIn_0 1 rfl rfl)
theorem dX1_killedIn_2 : decode cX1_killedIn 2 = .ok (.invokevirtual 168, 3) := dk_182 0 168 (dk_at dksX1_killedIn_0 2 rfl rfl)
theorem dX1_killedIn_5 : decode cX1_killedIn 5 = .ok (.getfield 172, 3) := dk_180 0 172 (dk_at dksX1_killedIn_0 5 rfl rfl)
theorem dX1_killedIn_8 : decode cX1_killedIn 8 = .ok (.ifCond .ne 7, 3) := dk_154 0 7 (dk_at dksX1_killedIn_0 8 rfl rfl)
theorem dX1_killedIn_11 : decode cX1_killedIn 11 = .ok (.iconst 1, 1) := dk_4 (dk_at dksX1_killedIn_0 11 rfl rfl)
theorem dX1_killedIn_12 : decode cX1_killedIn 12 = .ok (.goto 4, 3) := dk_167 0 4 (dk_at dksX1_killedIn_0 12 rfl rfl)
theorem dX1_killedIn_15 : decode cX1_killedIn 15 = .ok (.iconst 0, 1) := dk_3 (dk_at dksX1_killedIn_0 15 rfl rfl)
theorem dX1_killedIn_16 : decode cX1_killedIn 16 = .ok (.invokestatic 217, 3) := dk_184 0 217 (dk_at dksX1_killedIn_0 16 rfl rfl)
theorem dX1_killedIn_19 : decode cX1_killedIn 19 = .ok (.new 31, 3) := dk_187 0 31 (dk_at dksX1_killedIn_0 19 rfl rfl)
theorem dX1_killedIn_22 : decode cX1_killedIn 22 = .ok (.dup, 1) := dk_89 (dk_at dksX1_killedIn_0 22 rfl rfl)
theorem dX1_killedIn_23 : decode cX1_killedIn 23 = .ok (.aload_n 0, 1) := dk_42 (dk_at dksX1_killedIn_0 23 rfl rfl)
theorem dX1_killedIn_24 : decode cX1_killedIn 24 = .ok (.getfield 34, 3) := dk_180 0 34 (dk_at dksX1_killedIn_1 0 rfl rfl)
theorem dX1_killedIn_27 : decode cX1_killedIn 27 = .ok (.invokespecial 86, 3) := dk_183 0 86 (dk_at dksX1_killedIn_1 3 rfl rfl)
theorem dX1_killedIn_30 : decode cX1_killedIn 30 = .ok (.astore_n 2, 1) := dk_77 (dk_at dksX1_killedIn_1 6 rfl rfl)
theorem dX1_killedIn_31 : decode cX1_killedIn 31 = .ok (.iconst 0, 1) := dk_3 (dk_at dksX1_killedIn_1 7 rfl rfl)
theorem dX1_killedIn_32 : decode cX1_killedIn 32 = .ok (.istore_n 3, 1) := dk_62 (dk_at dksX1_killedIn_1 8 rfl rfl)
theorem dX1_killedIn_33 : decode cX1_killedIn 33 = .ok (.aload_n 2, 1) := dk_44 (dk_at dksX1_killedIn_1 9 rfl rfl)
theorem dX1_killedIn_34 : decode cX1_killedIn 34 = .ok (.getfield 126, 3) := dk_180 0 126 (dk_at dksX1_killedIn_1 10 rfl rfl)
theorem dX1_killedIn_37 : decode cX1_killedIn 37 = .ok (.iload_n 1, 1) := dk_27 (dk_at dksX1_killedIn_1 13 rfl rfl)
theorem dX1_killedIn_38 : decode cX1_killedIn 38 = .ok (.invokeinterface 120 2, 5) := by decide +kernel
theorem dX1_killedIn_43 : decode cX1_killedIn 43 = .ok (.checkcast 129, 3) := dk_192 0 129 (dk_at dksX1_killedIn_1 19 rfl rfl)
theorem dX1_killedIn_46 : decode cX1_killedIn 46 = .ok (.getfield 172, 3) := dk_180 0 172 (dk_at dksX1_killedIn_2 0 rfl rfl)
theorem dX1_killedIn_49 : decode cX1_killedIn 49 = .ok (.ifCond .ne 28, 3) := dk_154 0 28 (dk_at dksX1_killedIn_2 3 rfl rfl)
theorem dX1_killedIn_52 : decode cX1_killedIn 52 = .ok (.iload_n 3, 1) := dk_29 (dk_at dksX1_killedIn_2 6 rfl rfl)
theorem dX1_killedIn_53 : decode cX1_killedIn 53 = .ok (.sipush 400, 3) := dk_17 1 144 (dk_at dksX1_killedIn_2 7 rfl rfl)
theorem dX1_killedIn_56 : decode cX1_killedIn 56 = .ok (.if_icmp .ge 7, 3) := dk_162 0 7 (dk_at dksX1_killedIn_2 10 rfl rfl)
theorem dX1_killedIn_59 : decode cX1_killedIn 59 = .ok (.iconst 1, 1) := dk_4 (dk_at dksX1_killedIn_2 13 rfl rfl)
theorem dX1_killedIn_60 : decode cX1_killedIn 60 = .ok (.goto 4, 3) := dk_167 0 4 (dk_at dksX1_killedIn_2 14 rfl rfl)
theorem dX1_killedIn_63 : decode cX1_killedIn 63 = .ok (.iconst 0, 1) := dk_3 (dk_at dksX1_killedIn_2 17 rfl rfl)
theorem dX1_killedIn_64 : decode cX1_killedIn 64 = .ok (.invokestatic 211, 3) := dk_184 0 211 (dk_at dksX1_killedIn_2 18 rfl rfl)
theorem dX1_killedIn_67 : decode cX1_killedIn 67 = .ok (.aload_n 2, 1) := dk_44 (dk_at dksX1_killedIn_2 21 rfl rfl)
theorem dX1_killedIn_68 : decode cX1_killedIn 68 = .ok (.invokevirtual 227, 3) := dk_182 0 227 (dk_at dksX1_killedIn_3 0 rfl rfl)
theorem dX1_killedIn_71 : decode cX1_killedIn 71 = .ok (.iinc 3 1, 3) := dk_132 3 1 (dk_at dksX1_killedIn_3 3 rfl rfl)
theorem dX1_killedIn_74 : decode cX1_killedIn 74 = .ok (.goto (-41), 3) := dk_167 255 215 (dk_at dksX1_killedIn_3 6 rfl rfl)
theorem dX1_killedIn_77 : decode cX1_killedIn 77 = .ok (.iload_n 3, 1) := dk_29 (dk_at dksX1_killedIn_3 9 rfl rfl)
theorem dX1_killedIn_78 : decode cX1_killedIn 78 = .ok (.ireturn, 1) := dk_172 (dk_at dksX1_killedIn_3 10 rfl rfl)
abbrev cX1_cubsIn : ByteArray := prog_1_method_31_code
def yX1_cubsIn : MethodName := ⟨RX1, "cubsIn", "(I)I"⟩
def dkwX1_cubsIn_2 : List UInt8 := [27, 184, 0, 233, 153, 255, 229, 29, 172]
abbrev dktX1_cubsIn_2 : List UInt8 := dkwX1_cubsIn_2 ++ []
def dkwX1_cubsIn_1 : List UInt8 := [62, 29, 17, 1, 144, 162, 0, 7, 4, 167, 0, 4, 3, 184, 0, 211, 44, 182, 0, 227, 132, 3, 1, 44]
abbrev dktX1_cubsIn_1 : List UInt8 := dkwX1_cubsIn_1 ++ dktX1_cubsIn_2
def dkwX1_cubsIn_0 : List UInt8 := [42, 27, 182, 0, 131, 180, 0, 151, 184, 0, 217, 187, 0, 31, 89, 42, 180, 0, 34, 183, 0, 86, 77, 3]
abbrev dktX1_cubsIn_0 : List UInt8 := dkwX1_cubsIn_0 ++ dktX1_cubsIn_1
theorem dksX1_cubsIn_0 : cX1_cubsIn.data.toList.drop 0 = dktX1_cubsIn_0 := by decide +kernel
theorem dksX1_cubsIn_1 : cX1_cubsIn.data.toList.drop 24 = dktX1_cubsIn_1 := dk_seg dksX1_cubsIn_0 24 rfl rfl
theorem dksX1_cubsIn_2 : cX1_cubsIn.data.toList.drop 48 = dktX1_cubsIn_2 := dk_seg dksX1_cubsIn_1 24 rfl rfl
theorem dX1_cubsIn_0 : decode cX1_cubsIn 0 = .ok (.aload_n 0, 1) := dk_42 (dk_at dksX1_cubsIn_0 0 rfl rfl)
theorem dX1_cubsIn_1 : decode cX1_cubsIn 1 = .ok (.iload_n 1, 1) := dk_27 (dk_at dksX1_cubsIn_0 1 rfl rfl)
theorem dX1_cubsIn_2 : decode cX1_cubsIn 2 = .ok (.invokevirtual 131, 3) := dk_182 0 131 (dk_at dksX1_cubsIn_0 2 rfl rfl)
theorem dX1_cubsIn_5 : decode cX1_cubsIn 5 = .ok (.getfield 151, 3) := dk_180 0 151 (dk_at dksX1_cubsIn_0 5 rfl rfl)
theorem dX1_cubsIn_8 : decode cX1_cubsIn 8 = .ok (.invokestatic 217, 3) := dk_184 0 217 (dk_at dksX1_cubsIn_0 8 rfl rfl)
theorem dX1_cubsIn_11 : decode cX1_cubsIn 11 = .ok (.new 31, 3) := dk_187 0 31 (dk_at dksX1_cubsIn_0 11 rfl rfl)
theorem dX1_cubsIn_14 : decode cX1_cubsIn 14 = .ok (.dup, 1) := dk_89 (dk_at dksX1_cubsIn_0 14 rfl rfl)
theorem dX1_cubsIn_15 : decode cX1_cubsIn 15 = .ok (.aload_n 0, 1) := dk_42 (dk_at dksX1_cubsIn_0 15 rfl rfl)
theorem dX1_cubsIn_16 : decode cX1_cubsIn 16 = .ok (.getfield 34, 3) := dk_180 0 34 (dk_at dksX1_cubsIn_0 16 rfl rfl)
theorem dX1_cubsIn_19 : decode cX1_cubsIn 19 = .ok (.invokespecial 86, 3) := dk_183 0 86 (dk_at dksX1_cubsIn_0 19 rfl rfl)
theorem dX1_cubsIn_22 : decode cX1_cubsIn 22 = .ok (.astore_n 2, 1) := dk_77 (dk_at dksX1_cubsIn_0 22 rfl rfl)
theorem dX1_cubsIn_23 : decode cX1_cubsIn 23 = .ok (.iconst 0, 1) := dk_3 (dk_at dksX1_cubsIn_0 23 rfl rfl)
theorem dX1_cubsIn_24 : decode cX1_cubsIn 24 = .ok (.istore_n 3, 1) := dk_62 (dk_at dksX1_cubsIn_1 0 rfl rfl)
theorem dX1_cubsIn_25 : decode cX1_cubsIn 25 = .ok (.iload_n 3, 1) := dk_29 (dk_at dksX1_cubsIn_1 1 rfl rfl)
theorem dX1_cubsIn_26 : decode cX1_cubsIn 26 = .ok (.sipush 400, 3) := dk_17 1 144 (dk_at dksX1_cubsIn_1 2 rfl rfl)
theorem dX1_cubsIn_29 : decode cX1_cubsIn 29 = .ok (.if_icmp .ge 7, 3) := dk_162 0 7 (dk_at dksX1_cubsIn_1 5 rfl rfl)
theorem dX1_cubsIn_32 : decode cX1_cubsIn 32 = .ok (.iconst 1, 1) := dk_4 (dk_at dksX1_cubsIn_1 8 rfl rfl)
theorem dX1_cubsIn_33 : decode cX1_cubsIn 33 = .ok (.goto 4, 3) := dk_167 0 4 (dk_at dksX1_cubsIn_1 9 rfl rfl)
theorem dX1_cubsIn_36 : decode cX1_cubsIn 36 = .ok (.iconst 0, 1) := dk_3 (dk_at dksX1_cubsIn_1 12 rfl rfl)
theorem dX1_cubsIn_37 : decode cX1_cubsIn 37 = .ok (.invokestatic 211, 3) := dk_184 0 211 (dk_at dksX1_cubsIn_1 13 rfl rfl)
theorem dX1_cubsIn_40 : decode cX1_cubsIn 40 = .ok (.aload_n 2, 1) := dk_44 (dk_at dksX1_cubsIn_1 16 rfl rfl)
theorem dX1_cubsIn_41 : decode cX1_cubsIn 41 = .ok (.invokevirtual 227, 3) := dk_182 0 227 (dk_at dksX1_cubsIn_1 17 rfl rfl)
theorem dX1_cubsIn_44 : decode cX1_cubsIn 44 = .ok (.iinc 3 1, 3) := dk_132 3 1 (dk_at dksX1_cubsIn_1 20 rfl rfl)
theorem dX1_cubsIn_47 : decode cX1_cubsIn 47 = .ok (.aload_n 2, 1) := dk_44 (dk_at dksX1_cubsIn_1 23 rfl rfl)
theorem dX1_cubsIn_48 : decode cX1_cubsIn 48 = .ok (.iload_n 1, 1) := dk_27 (dk_at dksX1_cubsIn_2 0 rfl rfl)
theorem dX1_cubsIn_49 : decode cX1_cubsIn 49 = .ok (.invokestatic 233, 3) := dk_184 0 233 (dk_at dksX1_cubsIn_2 1 rfl rfl)
theorem dX1_cubsIn_52 : decode cX1_cubsIn 52 = .ok (.ifCond .eq (-27), 3) := dk_153 255 229 (dk_at dksX1_cubsIn_2 4 rfl rfl)
theorem dX1_cubsIn_55 : decode cX1_cubsIn 55 = .ok (.iload_n 3, 1) := dk_29 (dk_at dksX1_cubsIn_2 7 rfl rfl)
theorem dX1_cubsIn_56 : decode cX1_cubsIn 56 = .ok (.ireturn, 1) := dk_172 (dk_at dksX1_cubsIn_2 8 rfl rfl)
abbrev cX1_areBorn : ByteArray := prog_1_method_30_code
def yX1_areBorn : MethodName := ⟨RX1, "areBorn", "(LOtterTrust$River;I)Z"⟩
def dkwX1_areBorn_1 : List UInt8 := [180, 0, 230, 42, 180, 0, 220, 160, 0, 7, 4, 167, 0, 4, 3, 172]
abbrev dktX1_areBorn_1 : List UInt8 := dkwX1_areBorn_1 ++ []
def dkwX1_areBorn_0 : List UInt8 := [42, 180, 0, 109, 27, 185, 0, 120, 2, 0, 192, 0, 124, 77, 44, 180, 0, 162, 158, 0, 18, 44]
abbrev dktX1_areBorn_0 : List UInt8 := dkwX1_areBorn_0 ++ dktX1_areBorn_1
theorem dksX1_areBorn_0 : cX1_areBorn.data.toList.drop 0 = dktX1_areBorn_0 := by decide +kernel
theorem dksX1_areBorn_1 : cX1_areBorn.data.toList.drop 22 = dktX1_areBorn_1 := dk_seg dksX1_areBorn_0 22 rfl rfl
theorem dX1_areBorn_0 : decode cX1_areBorn 0 = .ok (.aload_n 0, 1) := dk_42 (dk_at dksX1_areBorn_0 0 rfl rfl)
theorem dX1_areBorn_1 : decode cX1_areBorn 1 = .ok (.getfield 109, 3) := dk_180 0 109 (dk_at dksX1_areBorn_0 1 rfl rfl)
theorem dX1_areBorn_4 : decode cX1_areBorn 4 = .ok (.iload_n 1, 1) := dk_27 (dk_at dksX1_areBorn_0 4 rfl rfl)
theorem dX1_areBorn_5 : decode cX1_areBorn 5 = .ok (.invokeinterface 120 2, 5) := by decide +kernel
theorem dX1_areBorn_10 : decode cX1_areBorn 10 = .ok (.checkcast 124, 3) := dk_192 0 124 (dk_at dksX1_areBorn_0 10 rfl rfl)
theorem dX1_areBorn_13 : decode cX1_areBorn 13 = .ok (.astore_n 2, 1) := dk_77 (dk_at dksX1_areBorn_0 13 rfl rfl)
theorem dX1_areBorn_14 : decode cX1_areBorn 14 = .ok (.aload_n 2, 1) := dk_44 (dk_at dksX1_areBorn_0 14 rfl rfl)
theorem dX1_areBorn_15 : decode cX1_areBorn 15 = .ok (.getfield 162, 3) := dk_180 0 162 (dk_at dksX1_areBorn_0 15 rfl rfl)
theorem dX1_areBorn_18 : decode cX1_areBorn 18 = .ok (.ifCond .le 18, 3) := dk_158 0 18 (dk_at dksX1_areBorn_0 18 rfl rfl)
theorem dX1_areBorn_21 : decode cX1_areBorn 21 = .ok (.aload_n 2, 1) := dk_44 (dk_at dksX1_areBorn_0 21 rfl rfl)
theorem dX1_areBorn_22 : decode cX1_areBorn 22 = .ok (.getfield 230, 3) := dk_180 0 230 (dk_at dksX1_areBorn_1 0 rfl rfl)
theorem dX1_areBorn_25 : decode cX1_areBorn 25 = .ok (.aload_n 0, 1) := dk_42 (dk_at dksX1_areBorn_1 3 rfl rfl)
theorem dX1_areBorn_26 : decode cX1_areBorn 26 = .ok (.getfield 220, 3) := dk_180 0 220 (dk_at dksX1_areBorn_1 4 rfl rfl)
theorem dX1_areBorn_29 : decode cX1_areBorn 29 = .ok (.if_icmp .ne 7, 3) := dk_160 0 7 (dk_at dksX1_areBorn_1 7 rfl rfl)
theorem dX1_areBorn_32 : decode cX1_areBorn 32 = .ok (.iconst 1, 1) := dk_4 (dk_at dksX1_areBorn_1 10 rfl rfl)
theorem dX1_areBorn_33 : decode cX1_areBorn 33 = .ok (.goto 4, 3) := dk_167 0 4 (dk_at dksX1_areBorn_1 11 rfl rfl)
theorem dX1_areBorn_36 : decode cX1_areBorn 36 = .ok (.iconst 0, 1) := dk_3 (dk_at dksX1_areBorn_1 14 rfl rfl)
theorem dX1_areBorn_37 : decode cX1_areBorn 37 = .ok (.ireturn, 1) := dk_172 (dk_at dksX1_areBorn_1 15 rfl rfl)
abbrev cX1_worstDip : ByteArray := prog_1_method_32_code
def yX1_worstDip : MethodName := ⟨RX1, "worstDip", "()I"⟩
def dkwX1_worstDip_5 : List UInt8 := [159, 0, 7, 4, 167, 0, 4, 3, 184, 0, 211, 28, 172]
abbrev dktX1_worstDip_5 : List UInt8 := dkwX1_worstDip_5 ++ []
def dkwX1_worstDip_4 : List UInt8 := [54, 5, 21, 5, 29, 164, 0, 9, 21, 5, 62, 21, 4, 61, 132, 4, 1, 167, 255, 184, 28, 2]
abbrev dktX1_worstDip_4 : List UInt8 := dkwX1_worstDip_4 ++ dktX1_worstDip_5
def dkwX1_worstDip_3 : List UInt8 := [180, 0, 237, 42, 180, 0, 34, 180, 0, 109, 21, 4, 185, 0, 120, 2, 0, 192, 0, 124, 180, 0, 237, 100]
abbrev dktX1_worstDip_3 : List UInt8 := dkwX1_worstDip_3 ++ dktX1_worstDip_4
def dkwX1_worstDip_2 : List UInt8 := [185, 0, 113, 1, 0, 162, 0, 61, 43, 180, 0, 109, 21, 4, 185, 0, 120, 2, 0, 192, 0, 124]
abbrev dktX1_worstDip_2 : List UInt8 := dkwX1_worstDip_2 ++ dktX1_worstDip_3
def dkwX1_worstDip_1 : List UInt8 := [132, 2, 1, 167, 255, 243, 2, 61, 3, 62, 3, 54, 4, 21, 4, 42, 180, 0, 34, 180, 0, 109]
abbrev dktX1_worstDip_1 : List UInt8 := dkwX1_worstDip_1 ++ dktX1_worstDip_2
def dkwX1_worstDip_0 : List UInt8 := [187, 0, 31, 89, 42, 180, 0, 34, 183, 0, 86, 76, 3, 61, 28, 16, 100, 162, 0, 13, 43, 182, 0, 227]
abbrev dktX1_worstDip_0 : List UInt8 := dkwX1_worstDip_0 ++ dktX1_worstDip_1
theorem dksX1_worstDip_0 : cX1_worstDip.data.toList.drop 0 = dktX1_worstDip_0 := by decide +kernel
theorem dksX1_worstDip_1 : cX1_worstDip.data.toList.drop 24 = dktX1_worstDip_1 := dk_seg dksX1_worstDip_0 24 rfl rfl
theorem dksX1_worstDip_2 : cX1_worstDip.data.toList.drop 46 = dktX1_worstDip_2 := dk_seg dksX1_worstDip_1 22 rfl rfl
theorem dksX1_worstDip_3 : cX1_worstDip.data.toList.drop 68 = dktX1_worstDip_3 := dk_seg dksX1_worstDip_2 22 rfl rfl
theorem dksX1_worstDip_4 : cX1_worstDip.data.toList.drop 92 = dktX1_worstDip_4 := dk_seg dksX1_worstDip_3 24 rfl rfl
theorem dksX1_worstDip_5 : cX1_worstDip.data.toList.drop 114 = dktX1_worstDip_5 := dk_seg dksX1_worstDip_4 22 rfl rfl
theorem dX1_worstDip_0 : decode cX1_worstDip 0 = .ok (.new 31, 3) := dk_187 0 31 (dk_at dksX1_worstDip_0 0 rfl rfl)
theorem dX1_worstDip_3 : decode cX1_worstDip 3 = .ok (.dup, 1) := dk_89 (dk_at dksX1_worstDip_0 3 rfl rfl)
theorem dX1_worstDip_4 : decode cX1_worstDip 4 = .ok (.aload_n 0, 1) := dk_42 (dk_at dksX1_worstDip_0 4 rfl rfl)
theorem dX1_worstDip_5 : decode cX1_worstDip 5 = .ok (.getfield 34, 3) := dk_180 0 34 (dk_at dksX1_worstDip_0 5 rfl rfl)
theorem dX1_worstDip_8 : decode cX1_worstDip 8 = .ok (.invokespecial 86, 3) := dk_183 0 86 (dk_at dksX1_worstDip_0 8 rfl rfl)
theorem dX1_worstDip_11 : decode cX1_worstDip 11 = .ok (.astore_n 1, 1) := dk_76 (dk_at dksX1_worstDip_0 11 rfl rfl)
theorem dX1_worstDip_12 : decode cX1_worstDip 12 = .ok (.iconst 0, 1) := dk_3 (dk_at dksX1_worstDip_0 12 rfl rfl)
theorem dX1_worstDip_13 : decode cX1_worstDip 13 = .ok (.istore_n 2, 1) := dk_61 (dk_at dksX1_worstDip_0 13 rfl rfl)
theorem dX1_worstDip_14 : decode cX1_worstDip 14 = .ok (.iload_n 2, 1) := dk_28 (dk_at dksX1_worstDip_0 14 rfl rfl)
theorem dX1_worstDip_15 : decode cX1_worstDip 15 = .ok (.bipush 100, 2) := dk_16 100 (dk_at dksX1_worstDip_0 15 rfl rfl)
theorem dX1_worstDip_17 : decode cX1_worstDip 17 = .ok (.if_icmp .ge 13, 3) := dk_162 0 13 (dk_at dksX1_worstDip_0 17 rfl rfl)
theorem dX1_worstDip_20 : decode cX1_worstDip 20 = .ok (.aload_n 1, 1) := dk_43 (dk_at dksX1_worstDip_0 20 rfl rfl)
theorem dX1_worstDip_21 : decode cX1_worstDip 21 = .ok (.invokevirtual 227, 3) := dk_182 0 227 (dk_at dksX1_worstDip_0 21 rfl rfl)
theorem dX1_worstDip_24 : decode cX1_worstDip 24 = .ok (.iinc 2 1, 3) := dk_132 2 1 (dk_at dksX1_worstDip_1 0 rfl rfl)
theorem dX1_worstDip_27 : decode cX1_worstDip 27 = .ok (.goto (-13), 3) := dk_167 255 243 (dk_at dksX1_worstDip_1 3 rfl rfl)
theorem dX1_worstDip_30 : decode cX1_worstDip 30 = .ok (.iconst (-1), 1) := dk_2 (dk_at dksX1_worstDip_1 6 rfl rfl)
theorem dX1_worstDip_31 : decode cX1_worstDip 31 = .ok (.istore_n 2, 1) := dk_61 (dk_at dksX1_worstDip_1 7 rfl rfl)
theorem dX1_worstDip_32 : decode cX1_worstDip 32 = .ok (.iconst 0, 1) := dk_3 (dk_at dksX1_worstDip_1 8 rfl rfl)
theorem dX1_worstDip_33 : decode cX1_worstDip 33 = .ok (.istore_n 3, 1) := dk_62 (dk_at dksX1_worstDip_1 9 rfl rfl)
theorem dX1_worstDip_34 : decode cX1_worstDip 34 = .ok (.iconst 0, 1) := dk_3 (dk_at dksX1_worstDip_1 10 rfl rfl)
theorem dX1_worstDip_35 : decode cX1_worstDip 35 = .ok (.istore 4, 2) := dk_54 4 (dk_at dksX1_worstDip_1 11 rfl rfl)
theorem dX1_worstDip_37 : decode cX1_worstDip 37 = .ok (.iload 4, 2) := dk_21 4 (dk_at dksX1_worstDip_1 13 rfl rfl)
theorem dX1_worstDip_39 : decode cX1_worstDip 39 = .ok (.aload_n 0, 1) := dk_42 (dk_at dksX1_worstDip_1 15 rfl rfl)
theorem dX1_worstDip_40 : decode cX1_worstDip 40 = .ok (.getfield 34, 3) := dk_180 0 34 (dk_at dksX1_worstDip_1 16 rfl rfl)
theorem dX1_worstDip_43 : decode cX1_worstDip 43 = .ok (.getfield 109, 3) := dk_180 0 109 (dk_at dksX1_worstDip_1 19 rfl rfl)
theorem dX1_worstDip_46 : decode cX1_worstDip 46 = .ok (.invokeinterface 113 1, 5) := by decide +kernel
theorem dX1_worstDip_51 : decode cX1_worstDip 51 = .ok (.if_icmp .ge 61, 3) := dk_162 0 61 (dk_at dksX1_worstDip_2 5 rfl rfl)
theorem dX1_worstDip_54 : decode cX1_worstDip 54 = .ok (.aload_n 1, 1) := dk_43 (dk_at dksX1_worstDip_2 8 rfl rfl)
theorem dX1_worstDip_55 : decode cX1_worstDip 55 = .ok (.getfield 109, 3) := dk_180 0 109 (dk_at dksX1_worstDip_2 9 rfl rfl)
theorem dX1_worstDip_58 : decode cX1_worstDip 58 = .ok (.iload 4, 2) := dk_21 4 (dk_at dksX1_worstDip_2 12 rfl rfl)
theorem dX1_worstDip_60 : decode cX1_worstDip 60 = .ok (.invokeinterface 120 2, 5) := by decide +kernel
theorem dX1_worstDip_65 : decode cX1_worstDip 65 = .ok (.checkcast 124, 3) := dk_192 0 124 (dk_at dksX1_worstDip_2 19 rfl rfl)
theorem dX1_worstDip_68 : decode cX1_worstDip 68 = .ok (.getfield 237, 3) := dk_180 0 237 (dk_at dksX1_worstDip_3 0 rfl rfl)
theorem dX1_worstDip_71 : decode cX1_worstDip 71 = .ok (.aload_n 0, 1) := dk_42 (dk_at dksX1_worstDip_3 3 rfl rfl)
theorem dX1_worstDip_72 : decode cX1_worstDip 72 = .ok (.getfield 34, 3) := dk_180 0 34 (dk_at dksX1_worstDip_3 4 rfl rfl)
theorem dX1_worstDip_75 : decode cX1_worstDip 75 = .ok (.getfield 109, 3) := dk_180 0 109 (dk_at dksX1_worstDip_3 7 rfl rfl)
theorem dX1_worstDip_78 : decode cX1_worstDip 78 = .ok (.iload 4, 2) := dk_21 4 (dk_at dksX1_worstDip_3 10 rfl rfl)
theorem dX1_worstDip_80 : decode cX1_worstDip 80 = .ok (.invokeinterface 120 2, 5) := by decide +kernel
theorem dX1_worstDip_85 : decode cX1_worstDip 85 = .ok (.checkcast 124, 3) := dk_192 0 124 (dk_at dksX1_worstDip_3 17 rfl rfl)
theorem dX1_worstDip_88 : decode cX1_worstDip 88 = .ok (.getfield 237, 3) := dk_180 0 237 (dk_at dksX1_worstDip_3 20 rfl rfl)
theorem dX1_worstDip_91 : decode cX1_worstDip 91 = .ok (.isub, 1) := dk_100 (dk_at dksX1_worstDip_3 23 rfl rfl)
theorem dX1_worstDip_92 : decode cX1_worstDip 92 = .ok (.istore 5, 2) := dk_54 5 (dk_at dksX1_worstDip_4 0 rfl rfl)
theorem dX1_worstDip_94 : decode cX1_worstDip 94 = .ok (.iload 5, 2) := dk_21 5 (dk_at dksX1_worstDip_4 2 rfl rfl)
theorem dX1_worstDip_96 : decode cX1_worstDip 96 = .ok (.iload_n 3, 1) := dk_29 (dk_at dksX1_worstDip_4 4 rfl rfl)
theorem dX1_worstDip_97 : decode cX1_worstDip 97 = .ok (.if_icmp .le 9, 3) := dk_164 0 9 (dk_at dksX1_worstDip_4 5 rfl rfl)
theorem dX1_worstDip_100 : decode cX1_worstDip 100 = .ok (.iload 5, 2) := dk_21 5 (dk_at dksX1_worstDip_4 8 rfl rfl)
theorem dX1_worstDip_102 : decode cX1_worstDip 102 = .ok (.istore_n 3, 1) := dk_62 (dk_at dksX1_worstDip_4 10 rfl rfl)
theorem dX1_worstDip_103 : decode cX1_worstDip 103 = .ok (.iload 4, 2) := dk_21 4 (dk_at dksX1_worstDip_4 11 rfl rfl)
theorem dX1_worstDip_105 : decode cX1_worstDip 105 = .ok (.istore_n 2, 1) := dk_61 (dk_at dksX1_worstDip_4 13 rfl rfl)
theorem dX1_worstDip_106 : decode cX1_worstDip 106 = .ok (.iinc 4 1, 3) := dk_132 4 1 (dk_at dksX1_worstDip_4 14 rfl rfl)
theorem dX1_worstDip_109 : decode cX1_worstDip 109 = .ok (.goto (-72), 3) := dk_167 255 184 (dk_at dksX1_worstDip_4 17 rfl rfl)
theorem dX1_worstDip_112 : decode cX1_worstDip 112 = .ok (.iload_n 2, 1) := dk_28 (dk_at dksX1_worstDip_4 20 rfl rfl)
theorem dX1_worstDip_113 : decode cX1_worstDip 113 = .ok (.iconst (-1), 1) := dk_2 (dk_at dksX1_worstDip_4 21 rfl rfl)
theorem dX1_worstDip_114 : decode cX1_worstDip 114 = .ok (.if_icmp .eq 7, 3) := dk_159 0 7 (dk_at dksX1_worstDip_5 0 rfl rfl)
theorem dX1_worstDip_117 : decode cX1_worstDip 117 = .ok (.iconst 1, 1) := dk_4 (dk_at dksX1_worstDip_5 3 rfl rfl)
theorem dX1_worstDip_118 : decode cX1_worstDip 118 = .ok (.goto 4, 3) := dk_167 0 4 (dk_at dksX1_worstDip_5 4 rfl rfl)
theorem dX1_worstDip_121 : decode cX1_worstDip 121 = .ok (.iconst 0, 1) := dk_3 (dk_at dksX1_worstDip_5 7 rfl rfl)
theorem dX1_worstDip_122 : decode cX1_worstDip 122 = .ok (.invokestatic 211, 3) := dk_184 0 211 (dk_at dksX1_worstDip_5 8 rfl rfl)
theorem dX1_worstDip_125 : decode cX1_worstDip 125 = .ok (.iload_n 2, 1) := dk_28 (dk_at dksX1_worstDip_5 11 rfl rfl)
theorem dX1_worstDip_126 : decode cX1_worstDip 126 = .ok (.ireturn, 1) := dk_172 (dk_at dksX1_worstDip_5 12 rfl rfl)
abbrev cX1_seenBy : ByteArray := prog_1_method_36_code
def yX1_seenBy : MethodName := ⟨RX1, "seenBy", "(I)I"⟩
def dkwX1_seenBy_3 : List UInt8 := [167, 255, 209, 187, 0, 10, 89, 183, 0, 12, 191]
abbrev dktX1_seenBy_3 : List UInt8 := dkwX1_seenBy_3 ++ []
def dkwX1_seenBy_2 : List UInt8 := [185, 0, 120, 2, 0, 192, 0, 194, 44, 180, 0, 175, 182, 0, 248, 153, 0, 5, 29, 172, 132, 3, 1]
abbrev dktX1_seenBy_2 : List UInt8 := dkwX1_seenBy_2 ++ dktX1_seenBy_3
def dkwX1_seenBy_1 : List UInt8 := [42, 180, 0, 34, 180, 0, 191, 185, 0, 113, 1, 0, 162, 0, 37, 42, 180, 0, 34, 180, 0, 191, 29]
abbrev dktX1_seenBy_1 : List UInt8 := dkwX1_seenBy_1 ++ dktX1_seenBy_2
def dkwX1_seenBy_0 : List UInt8 := [42, 27, 182, 0, 168, 77, 44, 180, 0, 172, 154, 0, 7, 4, 167, 0, 4, 3, 184, 0, 217, 3, 62, 29]
abbrev dktX1_seenBy_0 : List UInt8 := dkwX1_seenBy_0 ++ dktX1_seenBy_1
theorem dksX1_seenBy_0 : cX1_seenBy.data.toList.drop 0 = dktX1_seenBy_0 := by decide +kernel
theorem dksX1_seenBy_1 : cX1_seenBy.data.toList.drop 24 = dktX1_seenBy_1 := dk_seg dksX1_seenBy_0 24 rfl rfl
theorem dksX1_seenBy_2 : cX1_seenBy.data.toList.drop 47 = dktX1_seenBy_2 := dk_seg dksX1_seenBy_1 23 rfl rfl
theorem dksX1_seenBy_3 : cX1_seenBy.data.toList.drop 70 = dktX1_seenBy_3 := dk_seg dksX1_seenBy_2 23 rfl rfl
theorem dX1_seenBy_0 : decode cX1_seenBy 0 = .ok (.aload_n 0, 1) := dk_42 (dk_at dksX1_seenBy_0 0 rfl rfl)
theorem dX1_seenBy_1 : decode cX1_seenBy 1 = .ok (.iload_n 1, 1) := dk_27 (dk_at dksX1_seenBy_0 1 rfl rfl)
theorem dX1_seenBy_2 : decode cX1_seenBy 2 = .ok (.invokevirtual 168, 3) := dk_182 0 168 (dk_at dksX1_seenBy_0 2 rfl rfl)
theorem dX1_seenBy_5 : decode cX1_seenBy 5 = .ok (.astore_n 2, 1) := dk_77 (dk_at dksX1_seenBy_0 5 rfl rfl)
theorem dX1_seenBy_6 : decode cX1_seenBy 6 = .ok (.aload_n 2, 1) := dk_44 (dk_at dksX1_seenBy_0 6 rfl rfl)
theorem dX1_seenBy_7 : decode cX1_seenBy 7 = .ok (.getfield 172, 3) := dk_180 0 172 (dk_at dksX1_seenBy_0 7 rfl rfl)
theorem dX1_seenBy_10 : decode cX1_seenBy 10 = .ok (.ifCond .ne 7, 3) := dk_154 0 7 (dk_at dksX1_seenBy_0 10 rfl rfl)
theorem dX1_seenBy_13 : decode cX1_seenBy 13 = .ok (.iconst 1, 1) := dk_4 (dk_at dksX1_seenBy_0 13 rfl rfl)
theorem dX1_seenBy_14 : decode cX1_seenBy 14 = .ok (.goto 4, 3) := dk_167 0 4 (dk_at dksX1_seenBy_0 14 rfl rfl)
theorem dX1_seenBy_17 : decode cX1_seenBy 17 = .ok (.iconst 0, 1) := dk_3 (dk_at dksX1_seenBy_0 17 rfl rfl)
theorem dX1_seenBy_18 : decode cX1_seenBy 18 = .ok (.invokestatic 217, 3) := dk_184 0 217 (dk_at dksX1_seenBy_0 18 rfl rfl)
theorem dX1_seenBy_21 : decode cX1_seenBy 21 = .ok (.iconst 0, 1) := dk_3 (dk_at dksX1_seenBy_0 21 rfl rfl)
theorem dX1_seenBy_22 : decode cX1_seenBy 22 = .ok (.istore_n 3, 1) := dk_62 (dk_at dksX1_seenBy_0 22 rfl rfl)
theorem dX1_seenBy_23 : decode cX1_seenBy 23 = .ok (.iload_n 3, 1) := dk_29 (dk_at dksX1_seenBy_0 23 rfl rfl)
theorem dX1_seenBy_24 : decode cX1_seenBy 24 = .ok (.aload_n 0, 1) := dk_42 (dk_at dksX1_seenBy_1 0 rfl rfl)
theorem dX1_seenBy_25 : decode cX1_seenBy 25 = .ok (.getfield 34, 3) := dk_180 0 34 (dk_at dksX1_seenBy_1 1 rfl rfl)
theorem dX1_seenBy_28 : decode cX1_seenBy 28 = .ok (.getfield 191, 3) := dk_180 0 191 (dk_at dksX1_seenBy_1 4 rfl rfl)
theorem dX1_seenBy_31 : decode cX1_seenBy 31 = .ok (.invokeinterface 113 1, 5) := by decide +kernel
theorem dX1_seenBy_36 : decode cX1_seenBy 36 = .ok (.if_icmp .ge 37, 3) := dk_162 0 37 (dk_at dksX1_seenBy_1 12 rfl rfl)
theorem dX1_seenBy_39 : decode cX1_seenBy 39 = .ok (.aload_n 0, 1) := dk_42 (dk_at dksX1_seenBy_1 15 rfl rfl)
theorem dX1_seenBy_40 : decode cX1_seenBy 40 = .ok (.getfield 34, 3) := dk_180 0 34 (dk_at dksX1_seenBy_1 16 rfl rfl)
theorem dX1_seenBy_43 : decode cX1_seenBy 43 = .ok (.getfield 191, 3) := dk_180 0 191 (dk_at dksX1_seenBy_1 19 rfl rfl)
theorem dX1_seenBy_46 : decode cX1_seenBy 46 = .ok (.iload_n 3, 1) := dk_29 (dk_at dksX1_seenBy_1 22 rfl rfl)
theorem dX1_seenBy_47 : decode cX1_seenBy 47 = .ok (.invokeinterface 120 2, 5) := by decide +kernel
theorem dX1_seenBy_52 : decode cX1_seenBy 52 = .ok (.checkcast 194, 3) := dk_192 0 194 (dk_at dksX1_seenBy_2 5 rfl rfl)
theorem dX1_seenBy_55 : decode cX1_seenBy 55 = .ok (.aload_n 2, 1) := dk_44 (dk_at dksX1_seenBy_2 8 rfl rfl)
theorem dX1_seenBy_56 : decode cX1_seenBy 56 = .ok (.getfield 175, 3) := dk_180 0 175 (dk_at dksX1_seenBy_2 9 rfl rfl)
theorem dX1_seenBy_59 : decode cX1_seenBy 59 = .ok (.invokevirtual 248, 3) := dk_182 0 248 (dk_at dksX1_seenBy_2 12 rfl rfl)
theorem dX1_seenBy_62 : decode cX1_seenBy 62 = .ok (.ifCond .eq 5, 3) := dk_153 0 5 (dk_at dksX1_seenBy_2 15 rfl rfl)
theorem dX1_seenBy_65 : decode cX1_seenBy 65 = .ok (.iload_n 3, 1) := dk_29 (dk_at dksX1_seenBy_2 18 rfl rfl)
theorem dX1_seenBy_66 : decode cX1_seenBy 66 = .ok (.ireturn, 1) := dk_172 (dk_at dksX1_seenBy_2 19 rfl rfl)
theorem dX1_seenBy_67 : decode cX1_seenBy 67 = .ok (.iinc 3 1, 3) := dk_132 3 1 (dk_at dksX1_seenBy_2 20 rfl rfl)
theorem dX1_seenBy_70 : decode cX1_seenBy 70 = .ok (.goto (-47), 3) := dk_167 255 209 (dk_at dksX1_seenBy_3 0 rfl rfl)
theorem dX1_seenBy_73 : decode cX1_seenBy 73 = .ok (.new 10, 3) := dk_187 0 10 (dk_at dksX1_seenBy_3 3 rfl rfl)
theorem dX1_seenBy_76 : decode cX1_seenBy 76 = .ok (.dup, 1) := dk_89 (dk_at dksX1_seenBy_3 6 rfl rfl)
theorem dX1_seenBy_77 : decode cX1_seenBy 77 = .ok (.invokespecial 12, 3) := dk_183 0 12 (dk_at dksX1_seenBy_3 7 rfl rfl)
theorem dX1_seenBy_80 : decode cX1_seenBy 80 = .ok (.athrow, 1) := dk_191 (dk_at dksX1_seenBy_3 10 rfl rfl)
abbrev cX1_busiest : ByteArray := prog_1_method_37_code
def yX1_busiest : MethodName := ⟨RX1, "busiest", "()I"⟩
def dkwX1_busiest_3 : List UInt8 := [167, 255, 192, 27, 2, 159, 0, 7, 4, 167, 0, 4, 3, 184, 0, 211, 27, 172]
abbrev dktX1_busiest_3 : List UInt8 := dkwX1_busiest_3 ++ []
def dkwX1_busiest_2 : List UInt8 := [180, 0, 34, 180, 0, 109, 29, 185, 0, 120, 2, 0, 192, 0, 124, 180, 0, 141, 61, 29, 60, 132, 3, 1]
abbrev dktX1_busiest_2 : List UInt8 := dkwX1_busiest_2 ++ dktX1_busiest_3
def dkwX1_busiest_1 : List UInt8 := [180, 0, 34, 180, 0, 109, 29, 185, 0, 120, 2, 0, 192, 0, 124, 180, 0, 141, 28, 164, 0, 25, 42]
abbrev dktX1_busiest_1 : List UInt8 := dkwX1_busiest_1 ++ dktX1_busiest_2
def dkwX1_busiest_0 : List UInt8 := [2, 60, 3, 61, 3, 62, 29, 42, 180, 0, 34, 180, 0, 109, 185, 0, 113, 1, 0, 162, 0, 54, 42]
abbrev dktX1_busiest_0 : List UInt8 := dkwX1_busiest_0 ++ dktX1_busiest_1
theorem dksX1_busiest_0 : cX1_busiest.data.toList.drop 0 = dktX1_busiest_0 := by decide +kernel
theorem dksX1_busiest_1 : cX1_busiest.data.toList.drop 23 = dktX1_busiest_1 := dk_seg dksX1_busiest_0 23 rfl rfl
theorem dksX1_busiest_2 : cX1_busiest.data.toList.drop 46 = dktX1_busiest_2 := dk_seg dksX1_busiest_1 23 rfl rfl
theorem dksX1_busiest_3 : cX1_busiest.data.toList.drop 70 = dktX1_busiest_3 := dk_seg dksX1_busiest_2 24 rfl rfl
theorem dX1_busiest_0 : decode cX1_busiest 0 = .ok (.iconst (-1), 1) := dk_2 (dk_at dksX1_busiest_0 0 rfl rfl)
theorem dX1_busiest_1 : decode cX1_busiest 1 = .ok (.istore_n 1, 1) := dk_60 (dk_at dksX1_busiest_0 1 rfl rfl)
theorem dX1_busiest_2 : decode cX1_busiest 2 = .ok (.iconst 0, 1) := dk_3 (dk_at dksX1_busiest_0 2 rfl rfl)
theorem dX1_busiest_3 : decode cX1_busiest 3 = .ok (.istore_n 2, 1) := dk_61 (dk_at dksX1_busiest_0 3 rfl rfl)
theorem dX1_busiest_4 : decode cX1_busiest 4 = .ok (.iconst 0, 1) := dk_3 (dk_at dksX1_busiest_0 4 rfl rfl)
theorem dX1_busiest_5 : decode cX1_busiest 5 = .ok (.istore_n 3, 1) := dk_62 (dk_at dksX1_busiest_0 5 rfl rfl)
theorem dX1_busiest_6 : decode cX1_busiest 6 = .ok (.iload_n 3, 1) := dk_29 (dk_at dksX1_busiest_0 6 rfl rfl)
theorem dX1_busiest_7 : decode cX1_busiest 7 = .ok (.aload_n 0, 1) := dk_42 (dk_at dksX1_busiest_0 7 rfl rfl)
theorem dX1_busiest_8 : decode cX1_busiest 8 = .ok (.getfield 34, 3) := dk_180 0 34 (dk_at dksX1_busiest_0 8 rfl rfl)
theorem dX1_busiest_11 : decode cX1_busiest 11 = .ok (.getfield 109, 3) := dk_180 0 109 (dk_at dksX1_busiest_0 11 rfl rfl)
theorem dX1_busiest_14 : decode cX1_busiest 14 = .ok (.invokeinterface 113 1, 5) := by decide +kernel
theorem dX1_busiest_19 : decode cX1_busiest 19 = .ok (.if_icmp .ge 54, 3) := dk_162 0 54 (dk_at dksX1_busiest_0 19 rfl rfl)
theorem dX1_busiest_22 : decode cX1_busiest 22 = .ok (.aload_n 0, 1) := dk_42 (dk_at dksX1_busiest_0 22 rfl rfl)
theorem dX1_busiest_23 : decode cX1_busiest 23 = .ok (.getfield 34, 3) := dk_180 0 34 (dk_at dksX1_busiest_1 0 rfl rfl)
theorem dX1_busiest_26 : decode cX1_busiest 26 = .ok (.getfield 109, 3) := dk_180 0 109 (dk_at dksX1_busiest_1 3 rfl rfl)
theorem dX1_busiest_29 : decode cX1_busiest 29 = .ok (.iload_n 3, 1) := dk_29 (dk_at dksX1_busiest_1 6 rfl rfl)
theorem dX1_busiest_30 : decode cX1_busiest 30 = .ok (.invokeinterface 120 2, 5) := by decide +kernel
theorem dX1_busiest_35 : decode cX1_busiest 35 = .ok (.checkcast 124, 3) := dk_192 0 124 (dk_at dksX1_busiest_1 12 rfl rfl)
theorem dX1_busiest_38 : decode cX1_busiest 38 = .ok (.getfield 141, 3) := dk_180 0 141 (dk_at dksX1_busiest_1 15 rfl rfl)
theorem dX1_busiest_41 : decode cX1_busiest 41 = .ok (.iload_n 2, 1) := dk_28 (dk_at dksX1_busiest_1 18 rfl rfl)
theorem dX1_busiest_42 : decode cX1_busiest 42 = .ok (.if_icmp .le 25, 3) := dk_164 0 25 (dk_at dksX1_busiest_1 19 rfl rfl)
theorem dX1_busiest_45 : decode cX1_busiest 45 = .ok (.aload_n 0, 1) := dk_42 (dk_at dksX1_busiest_1 22 rfl rfl)
theorem dX1_busiest_46 : decode cX1_busiest 46 = .ok (.getfield 34, 3) := dk_180 0 34 (dk_at dksX1_busiest_2 0 rfl rfl)
theorem dX1_busiest_49 : decode cX1_busiest 49 = .ok (.getfield 109, 3) := dk_180 0 109 (dk_at dksX1_busiest_2 3 rfl rfl)
theorem dX1_busiest_52 : decode cX1_busiest 52 = .ok (.iload_n 3, 1) := dk_29 (dk_at dksX1_busiest_2 6 rfl rfl)
theorem dX1_busiest_53 : decode cX1_busiest 53 = .ok (.invokeinterface 120 2, 5) := by decide +kernel
theorem dX1_busiest_58 : decode cX1_busiest 58 = .ok (.checkcast 124, 3) := dk_192 0 124 (dk_at dksX1_busiest_2 12 rfl rfl)
theorem dX1_busiest_61 : decode cX1_busiest 61 = .ok (.getfield 141, 3) := dk_180 0 141 (dk_at dksX1_busiest_2 15 rfl rfl)
theorem dX1_busiest_64 : decode cX1_busiest 64 = .ok (.istore_n 2, 1) := dk_61 (dk_at dksX1_busiest_2 18 rfl rfl)
theorem dX1_busiest_65 : decode cX1_busiest 65 = .ok (.iload_n 3, 1) := dk_29 (dk_at dksX1_busiest_2 19 rfl rfl)
theorem dX1_busiest_66 : decode cX1_busiest 66 = .ok (.istore_n 1, 1) := dk_60 (dk_at dksX1_busiest_2 20 rfl rfl)
theorem dX1_busiest_67 : decode cX1_busiest 67 = .ok (.iinc 3 1, 3) := dk_132 3 1 (dk_at dksX1_busiest_2 21 rfl rfl)
theorem dX1_busiest_70 : decode cX1_busiest 70 = .ok (.goto (-64), 3) := dk_167 255 192 (dk_at dksX1_busiest_3 0 rfl rfl)
theorem dX1_busiest_73 : decode cX1_busiest 73 = .ok (.iload_n 1, 1) := dk_27 (dk_at dksX1_busiest_3 3 rfl rfl)
theorem dX1_busiest_74 : decode cX1_busiest 74 = .ok (.iconst (-1), 1) := dk_2 (dk_at dksX1_busiest_3 4 rfl rfl)
theorem dX1_busiest_75 : decode cX1_busiest 75 = .ok (.if_icmp .eq 7, 3) := dk_159 0 7 (dk_at dksX1_busiest_3 5 rfl rfl)
theorem dX1_busiest_78 : decode cX1_busiest 78 = .ok (.iconst 1, 1) := dk_4 (dk_at dksX1_busiest_3 8 rfl rfl)
theorem dX1_busiest_79 : decode cX1_busiest 79 = .ok (.goto 4, 3) := dk_167 0 4 (dk_at dksX1_busiest_3 9 rfl rfl)
theorem dX1_busiest_82 : decode cX1_busiest 82 = .ok (.iconst 0, 1) := dk_3 (dk_at dksX1_busiest_3 12 rfl rfl)
theorem dX1_busiest_83 : decode cX1_busiest 83 = .ok (.invokestatic 211, 3) := dk_184 0 211 (dk_at dksX1_busiest_3 13 rfl rfl)
theorem dX1_busiest_86 : decode cX1_busiest 86 = .ok (.iload_n 1, 1) := dk_27 (dk_at dksX1_busiest_3 16 rfl rfl)
theorem dX1_busiest_87 : decode cX1_busiest 87 = .ok (.ireturn, 1) := dk_172 (dk_at dksX1_busiest_3 17 rfl rfl)
abbrev cX1_ranked : ByteArray := prog_1_method_39_code
def yX1_ranked : MethodName := ⟨RX1, "ranked", "(I)I"⟩
def dkwX1_ranked_2 : List UInt8 := [160, 0, 5, 28, 172, 132, 2, 1, 167, 255, 204, 187, 0, 10, 89, 183, 0, 12, 191]
abbrev dktX1_ranked_2 : List UInt8 := dkwX1_ranked_2 ++ []
def dkwX1_ranked_1 : List UInt8 := [180, 0, 109, 28, 185, 0, 120, 2, 0, 192, 0, 124, 180, 0, 151, 153, 0, 14, 42, 28, 182, 0, 250, 27]
abbrev dktX1_ranked_1 : List UInt8 := dkwX1_ranked_1 ++ dktX1_ranked_2
def dkwX1_ranked_0 : List UInt8 := [3, 61, 28, 42, 180, 0, 34, 180, 0, 109, 185, 0, 113, 1, 0, 162, 0, 42, 42, 180, 0, 34]
abbrev dktX1_ranked_0 : List UInt8 := dkwX1_ranked_0 ++ dktX1_ranked_1
theorem dksX1_ranked_0 : cX1_ranked.data.toList.drop 0 = dktX1_ranked_0 := by decide +kernel
theorem dksX1_ranked_1 : cX1_ranked.data.toList.drop 22 = dktX1_ranked_1 := dk_seg dksX1_ranked_0 22 rfl rfl
theorem dksX1_ranked_2 : cX1_ranked.data.toList.drop 46 = dktX1_ranked_2 := dk_seg dksX1_ranked_1 24 rfl rfl
theorem dX1_ranked_0 : decode cX1_ranked 0 = .ok (.iconst 0, 1) := dk_3 (dk_at dksX1_ranked_0 0 rfl rfl)
theorem dX1_ranked_1 : decode cX1_ranked 1 = .ok (.istore_n 2, 1) := dk_61 (dk_at dksX1_ranked_0 1 rfl rfl)
theorem dX1_ranked_2 : decode cX1_ranked 2 = .ok (.iload_n 2, 1) := dk_28 (dk_at dksX1_ranked_0 2 rfl rfl)
theorem dX1_ranked_3 : decode cX1_ranked 3 = .ok (.aload_n 0, 1) := dk_42 (dk_at dksX1_ranked_0 3 rfl rfl)
theorem dX1_ranked_4 : decode cX1_ranked 4 = .ok (.getfield 34, 3) := dk_180 0 34 (dk_at dksX1_ranked_0 4 rfl rfl)
theorem dX1_ranked_7 : decode cX1_ranked 7 = .ok (.getfield 109, 3) := dk_180 0 109 (dk_at dksX1_ranked_0 7 rfl rfl)
theorem dX1_ranked_10 : decode cX1_ranked 10 = .ok (.invokeinterface 113 1, 5) := by decide +kernel
theorem dX1_ranked_15 : decode cX1_ranked 15 = .ok (.if_icmp .ge 42, 3) := dk_162 0 42 (dk_at dksX1_ranked_0 15 rfl rfl)
theorem dX1_ranked_18 : decode cX1_ranked 18 = .ok (.aload_n 0, 1) := dk_42 (dk_at dksX1_ranked_0 18 rfl rfl)
theorem dX1_ranked_19 : decode cX1_ranked 19 = .ok (.getfield 34, 3) := dk_180 0 34 (dk_at dksX1_ranked_0 19 rfl rfl)
theorem dX1_ranked_22 : decode cX1_ranked 22 = .ok (.getfield 109, 3) := dk_180 0 109 (dk_at dksX1_ranked_1 0 rfl rfl)
theorem dX1_ranked_25 : decode cX1_ranked 25 = .ok (.iload_n 2, 1) := dk_28 (dk_at dksX1_ranked_1 3 rfl rfl)
theorem dX1_ranked_26 : decode cX1_ranked 26 = .ok (.invokeinterface 120 2, 5) := by decide +kernel
theorem dX1_ranked_31 : decode cX1_ranked 31 = .ok (.checkcast 124, 3) := dk_192 0 124 (dk_at dksX1_ranked_1 9 rfl rfl)
theorem dX1_ranked_34 : decode cX1_ranked 34 = .ok (.getfield 151, 3) := dk_180 0 151 (dk_at dksX1_ranked_1 12 rfl rfl)
theorem dX1_ranked_37 : decode cX1_ranked 37 = .ok (.ifCond .eq 14, 3) := dk_153 0 14 (dk_at dksX1_ranked_1 15 rfl rfl)
theorem dX1_ranked_40 : decode cX1_ranked 40 = .ok (.aload_n 0, 1) := dk_42 (dk_at dksX1_ranked_1 18 rfl rfl)
theorem dX1_ranked_41 : decode cX1_ranked 41 = .ok (.iload_n 2, 1) := dk_28 (dk_at dksX1_ranked_1 19 rfl rfl)
theorem dX1_ranked_42 : decode cX1_ranked 42 = .ok (.invokevirtual 250, 3) := dk_182 0 250 (dk_at dksX1_ranked_1 20 rfl rfl)
theorem dX1_ranked_45 : decode cX1_ranked 45 = .ok (.iload_n 1, 1) := dk_27 (dk_at dksX1_ranked_1 23 rfl rfl)
theorem dX1_ranked_46 : decode cX1_ranked 46 = .ok (.if_icmp .ne 5, 3) := dk_160 0 5 (dk_at dksX1_ranked_2 0 rfl rfl)
theorem dX1_ranked_49 : decode cX1_ranked 49 = .ok (.iload_n 2, 1) := dk_28 (dk_at dksX1_ranked_2 3 rfl rfl)
theorem dX1_ranked_50 : decode cX1_ranked 50 = .ok (.ireturn, 1) := dk_172 (dk_at dksX1_ranked_2 4 rfl rfl)
theorem dX1_ranked_51 : decode cX1_ranked 51 = .ok (.iinc 2 1, 3) := dk_132 2 1 (dk_at dksX1_ranked_2 5 rfl rfl)
theorem dX1_ranked_54 : decode cX1_ranked 54 = .ok (.goto (-52), 3) := dk_167 255 204 (dk_at dksX1_ranked_2 8 rfl rfl)
theorem dX1_ranked_57 : decode cX1_ranked 57 = .ok (.new 10, 3) := dk_187 0 10 (dk_at dksX1_ranked_2 11 rfl rfl)
theorem dX1_ranked_60 : decode cX1_ranked 60 = .ok (.dup, 1) := dk_89 (dk_at dksX1_ranked_2 14 rfl rfl)
theorem dX1_ranked_61 : decode cX1_ranked 61 = .ok (.invokespecial 12, 3) := dk_183 0 12 (dk_at dksX1_ranked_2 15 rfl rfl)
theorem dX1_ranked_64 : decode cX1_ranked 64 = .ok (.athrow, 1) := dk_191 (dk_at dksX1_ranked_2 18 rfl rfl)
abbrev cX1_countBetter : ByteArray := prog_1_method_38_code
def yX1_countBetter : MethodName := ⟨RX1, "countBetter", "(I)I"⟩
def dkwX1_countBetter_4 : List UInt8 := [153, 0, 7, 4, 167, 0, 4, 3, 96, 61, 132, 3, 1, 167, 255, 152, 28, 172]
abbrev dktX1_countBetter_4 : List UInt8 := dkwX1_countBetter_4 ++ []
def dkwX1_countBetter_3 : List UInt8 := [180, 0, 34, 180, 0, 109, 29, 185, 0, 120, 2, 0, 192, 0, 124, 180, 0, 151, 153, 0, 12, 21, 4]
abbrev dktX1_countBetter_3 : List UInt8 := dkwX1_countBetter_3 ++ dktX1_countBetter_4
def dkwX1_countBetter_2 : List UInt8 := [180, 0, 34, 27, 182, 0, 155, 160, 0, 12, 29, 27, 162, 0, 7, 4, 167, 0, 4, 3, 54, 4, 28, 42]
abbrev dktX1_countBetter_2 : List UInt8 := dkwX1_countBetter_2 ++ dktX1_countBetter_3
def dkwX1_countBetter_1 : List UInt8 := [29, 182, 0, 155, 42, 180, 0, 34, 27, 182, 0, 155, 163, 0, 27, 42, 180, 0, 34, 29, 182, 0, 155, 42]
abbrev dktX1_countBetter_1 : List UInt8 := dkwX1_countBetter_1 ++ dktX1_countBetter_2
def dkwX1_countBetter_0 : List UInt8 := [3, 61, 3, 62, 29, 42, 180, 0, 34, 180, 0, 109, 185, 0, 113, 1, 0, 162, 0, 94, 42, 180, 0, 34]
abbrev dktX1_countBetter_0 : List UInt8 := dkwX1_countBetter_0 ++ dktX1_countBetter_1
theorem dksX1_countBetter_0 : cX1_countBetter.data.toList.drop 0 = dktX1_countBetter_0 := by decide +kernel
theorem dksX1_countBetter_1 : cX1_countBetter.data.toList.drop 24 = dktX1_countBetter_1 := dk_seg dksX1_countBetter_0 24 rfl rfl
theorem dksX1_countBetter_2 : cX1_countBetter.data.toList.drop 48 = dktX1_countBetter_2 := dk_seg dksX1_countBetter_1 24 rfl rfl
theorem dksX1_countBetter_3 : cX1_countBetter.data.toList.drop 72 = dktX1_countBetter_3 := dk_seg dksX1_countBetter_2 24 rfl rfl
theorem dksX1_countBetter_4 : cX1_countBetter.data.toList.drop 95 = dktX1_countBetter_4 := dk_seg dksX1_countBetter_3 23 rfl rfl
theorem dX1_countBetter_0 : decode cX1_countBetter 0 = .ok (.iconst 0, 1) := dk_3 (dk_at dksX1_countBetter_0 0 rfl rfl)
theorem dX1_countBetter_1 : decode cX1_countBetter 1 = .ok (.istore_n 2, 1) := dk_61 (dk_at dksX1_countBetter_0 1 rfl rfl)
theorem dX1_countBetter_2 : decode cX1_countBetter 2 = .ok (.iconst 0, 1) := dk_3 (dk_at dksX1_countBetter_0 2 rfl rfl)
theorem dX1_countBetter_3 : decode cX1_countBetter 3 = .ok (.istore_n 3, 1) := dk_62 (dk_at dksX1_countBetter_0 3 rfl rfl)
theorem dX1_countBetter_4 : decode cX1_countBetter 4 = .ok (.iload_n 3, 1) := dk_29 (dk_at dksX1_countBetter_0 4 rfl rfl)
theorem dX1_countBetter_5 : decode cX1_countBetter 5 = .ok (.aload_n 0, 1) := dk_42 (dk_at dksX1_countBetter_0 5 rfl rfl)
theorem dX1_countBetter_6 : decode cX1_countBetter 6 = .ok (.getfield 34, 3) := dk_180 0 34 (dk_at dksX1_countBetter_0 6 rfl rfl)
theorem dX1_countBetter_9 : decode cX1_countBetter 9 = .ok (.getfield 109, 3) := dk_180 0 109 (dk_at dksX1_countBetter_0 9 rfl rfl)
theorem dX1_countBetter_12 : decode cX1_countBetter 12 = .ok (.invokeinterface 113 1, 5) := by decide +kernel
theorem dX1_countBetter_17 : decode cX1_countBetter 17 = .ok (.if_icmp .ge 94, 3) := dk_162 0 94 (dk_at dksX1_countBetter_0 17 rfl rfl)
theorem dX1_countBetter_20 : decode cX1_countBetter 20 = .ok (.aload_n 0, 1) := dk_42 (dk_at dksX1_countBetter_0 20 rfl rfl)
theorem dX1_countBetter_21 : decode cX1_countBetter 21 = .ok (.getfield 34, 3) := dk_180 0 34 (dk_at dksX1_countBetter_0 21 rfl rfl)
theorem dX1_countBetter_24 : decode cX1_countBetter 24 = .ok (.iload_n 3, 1) := dk_29 (dk_at dksX1_countBetter_1 0 rfl rfl)
theorem dX1_countBetter_25 : decode cX1_countBetter 25 = .ok (.invokevirtual 155, 3) := dk_182 0 155 (dk_at dksX1_countBetter_1 1 rfl rfl)
theorem dX1_countBetter_28 : decode cX1_countBetter 28 = .ok (.aload_n 0, 1) := dk_42 (dk_at dksX1_countBetter_1 4 rfl rfl)
theorem dX1_countBetter_29 : decode cX1_countBetter 29 = .ok (.getfield 34, 3) := dk_180 0 34 (dk_at dksX1_countBetter_1 5 rfl rfl)
theorem dX1_countBetter_32 : decode cX1_countBetter 32 = .ok (.iload_n 1, 1) := dk_27 (dk_at dksX1_countBetter_1 8 rfl rfl)
theorem dX1_countBetter_33 : decode cX1_countBetter 33 = .ok (.invokevirtual 155, 3) := dk_182 0 155 (dk_at dksX1_countBetter_1 9 rfl rfl)
theorem dX1_countBetter_36 : decode cX1_countBetter 36 = .ok (.if_icmp .gt 27, 3) := dk_163 0 27 (dk_at dksX1_countBetter_1 12 rfl rfl)
theorem dX1_countBetter_39 : decode cX1_countBetter 39 = .ok (.aload_n 0, 1) := dk_42 (dk_at dksX1_countBetter_1 15 rfl rfl)
theorem dX1_countBetter_40 : decode cX1_countBetter 40 = .ok (.getfield 34, 3) := dk_180 0 34 (dk_at dksX1_countBetter_1 16 rfl rfl)
theorem dX1_countBetter_43 : decode cX1_countBetter 43 = .ok (.iload_n 3, 1) := dk_29 (dk_at dksX1_countBetter_1 19 rfl rfl)
theorem dX1_countBetter_44 : decode cX1_countBetter 44 = .ok (.invokevirtual 155, 3) := dk_182 0 155 (dk_at dksX1_countBetter_1 20 rfl rfl)
theorem dX1_countBetter_47 : decode cX1_countBetter 47 = .ok (.aload_n 0, 1) := dk_42 (dk_at dksX1_countBetter_1 23 rfl rfl)
theorem dX1_countBetter_48 : decode cX1_countBetter 48 = .ok (.getfield 34, 3) := dk_180 0 34 (dk_at dksX1_countBetter_2 0 rfl rfl)
theorem dX1_countBetter_51 : decode cX1_countBetter 51 = .ok (.iload_n 1, 1) := dk_27 (dk_at dksX1_countBetter_2 3 rfl rfl)
theorem dX1_countBetter_52 : decode cX1_countBetter 52 = .ok (.invokevirtual 155, 3) := dk_182 0 155 (dk_at dksX1_countBetter_2 4 rfl rfl)
theorem dX1_countBetter_55 : decode cX1_countBetter 55 = .ok (.if_icmp .ne 12, 3) := dk_160 0 12 (dk_at dksX1_countBetter_2 7 rfl rfl)
theorem dX1_countBetter_58 : decode cX1_countBetter 58 = .ok (.iload_n 3, 1) := dk_29 (dk_at dksX1_countBetter_2 10 rfl rfl)
theorem dX1_countBetter_59 : decode cX1_countBetter 59 = .ok (.iload_n 1, 1) := dk_27 (dk_at dksX1_countBetter_2 11 rfl rfl)
theorem dX1_countBetter_60 : decode cX1_countBetter 60 = .ok (.if_icmp .ge 7, 3) := dk_162 0 7 (dk_at dksX1_countBetter_2 12 rfl rfl)
theorem dX1_countBetter_63 : decode cX1_countBetter 63 = .ok (.iconst 1, 1) := dk_4 (dk_at dksX1_countBetter_2 15 rfl rfl)
theorem dX1_countBetter_64 : decode cX1_countBetter 64 = .ok (.goto 4, 3) := dk_167 0 4 (dk_at dksX1_countBetter_2 16 rfl rfl)
theorem dX1_countBetter_67 : decode cX1_countBetter 67 = .ok (.iconst 0, 1) := dk_3 (dk_at dksX1_countBetter_2 19 rfl rfl)
theorem dX1_countBetter_68 : decode cX1_countBetter 68 = .ok (.istore 4, 2) := dk_54 4 (dk_at dksX1_countBetter_2 20 rfl rfl)
theorem dX1_countBetter_70 : decode cX1_countBetter 70 = .ok (.iload_n 2, 1) := dk_28 (dk_at dksX1_countBetter_2 22 rfl rfl)
theorem dX1_countBetter_71 : decode cX1_countBetter 71 = .ok (.aload_n 0, 1) := dk_42 (dk_at dksX1_countBetter_2 23 rfl rfl)
theorem dX1_countBetter_72 : decode cX1_countBetter 72 = .ok (.getfield 34, 3) := dk_180 0 34 (dk_at dksX1_countBetter_3 0 rfl rfl)
theorem dX1_countBetter_75 : decode cX1_countBetter 75 = .ok (.getfield 109, 3) := dk_180 0 109 (dk_at dksX1_countBetter_3 3 rfl rfl)
theorem dX1_countBetter_78 : decode cX1_countBetter 78 = .ok (.iload_n 3, 1) := dk_29 (dk_at dksX1_countBetter_3 6 rfl rfl)
theorem dX1_countBetter_79 : decode cX1_countBetter 79 = .ok (.invokeinterface 120 2, 5) := by decide +kernel
theorem dX1_countBetter_84 : decode cX1_countBetter 84 = .ok (.checkcast 124, 3) := dk_192 0 124 (dk_at dksX1_countBetter_3 12 rfl rfl)
theorem dX1_countBetter_87 : decode cX1_countBetter 87 = .ok (.getfield 151, 3) := dk_180 0 151 (dk_at dksX1_countBetter_3 15 rfl rfl)
theorem dX1_countBetter_90 : decode cX1_countBetter 90 = .ok (.ifCond .eq 12, 3) := dk_153 0 12 (dk_at dksX1_countBetter_3 18 rfl rfl)
theorem dX1_countBetter_93 : decode cX1_countBetter 93 = .ok (.iload 4, 2) := dk_21 4 (dk_at dksX1_countBetter_3 21 rfl rfl)
theorem dX1_countBetter_95 : decode cX1_countBetter 95 = .ok (.ifCond .eq 7, 3) := dk_153 0 7 (dk_at dksX1_countBetter_4 0 rfl rfl)
theorem dX1_countBetter_98 : decode cX1_countBetter 98 = .ok (.iconst 1, 1) := dk_4 (dk_at dksX1_countBetter_4 3 rfl rfl)
theorem dX1_countBetter_99 : decode cX1_countBetter 99 = .ok (.goto 4, 3) := dk_167 0 4 (dk_at dksX1_countBetter_4 4 rfl rfl)
theorem dX1_countBetter_102 : decode cX1_countBetter 102 = .ok (.iconst 0, 1) := dk_3 (dk_at dksX1_countBetter_4 7 rfl rfl)
theorem dX1_countBetter_103 : decode cX1_countBetter 103 = .ok (.iadd, 1) := dk_96 (dk_at dksX1_countBetter_4 8 rfl rfl)
theorem dX1_countBetter_104 : decode cX1_countBetter 104 = .ok (.istore_n 2, 1) := dk_61 (dk_at dksX1_countBetter_4 9 rfl rfl)
theorem dX1_countBetter_105 : decode cX1_countBetter 105 = .ok (.iinc 3 1, 3) := dk_132 3 1 (dk_at dksX1_countBetter_4 10 rfl rfl)
theorem dX1_countBetter_108 : decode cX1_countBetter 108 = .ok (.goto (-104), 3) := dk_167 255 152 (dk_at dksX1_countBetter_4 13 rfl rfl)
theorem dX1_countBetter_111 : decode cX1_countBetter 111 = .ok (.iload_n 2, 1) := dk_28 (dk_at dksX1_countBetter_4 16 rfl rfl)
theorem dX1_countBetter_112 : decode cX1_countBetter 112 = .ok (.ireturn, 1) := dk_172 (dk_at dksX1_countBetter_4 17 rfl rfl)
abbrev cX1_feed : ByteArray := prog_1_method_40_code
def yX1_feed : MethodName := ⟨RX1, "feed", "(C)I"⟩
def dkwX1_feed_1 : List UInt8 := [27, 182, 1, 0, 87, 42, 180, 0, 48, 182, 0, 253, 172]
abbrev dktX1_feed_1 : List UInt8 := dkwX1_feed_1 ++ []
def dkwX1_feed_0 : List UInt8 := [42, 180, 0, 48, 182, 0, 253, 16, 60, 162, 0, 7, 4, 167, 0, 4, 3, 184, 0, 217, 42, 180, 0, 48]
abbrev dktX1_feed_0 : List UInt8 := dkwX1_feed_0 ++ dktX1_feed_1
theorem dksX1_feed_0 : cX1_feed.data.toList.drop 0 = dktX1_feed_0 := by decide +kernel
theorem dksX1_feed_1 : cX1_feed.data.toList.drop 24 = dktX1_feed_1 := dk_seg dksX1_feed_0 24 rfl rfl
theorem dX1_feed_0 : decode cX1_feed 0 = .ok (.aload_n 0, 1) := dk_42 (dk_at dksX1_feed_0 0 rfl rfl)
theorem dX1_feed_1 : decode cX1_feed 1 = .ok (.getfield 48, 3) := dk_180 0 48 (dk_at dksX1_feed_0 1 rfl rfl)
theorem dX1_feed_4 : decode cX1_feed 4 = .ok (.invokevirtual 253, 3) := dk_182 0 253 (dk_at dksX1_feed_0 4 rfl rfl)
theorem dX1_feed_7 : decode cX1_feed 7 = .ok (.bipush 60, 2) := dk_16 60 (dk_at dksX1_feed_0 7 rfl rfl)
theorem dX1_feed_9 : decode cX1_feed 9 = .ok (.if_icmp .ge 7, 3) := dk_162 0 7 (dk_at dksX1_feed_0 9 rfl rfl)
theorem dX1_feed_12 : decode cX1_feed 12 = .ok (.iconst 1, 1) := dk_4 (dk_at dksX1_feed_0 12 rfl rfl)
theorem dX1_feed_13 : decode cX1_feed 13 = .ok (.goto 4, 3) := dk_167 0 4 (dk_at dksX1_feed_0 13 rfl rfl)
theorem dX1_feed_16 : decode cX1_feed 16 = .ok (.iconst 0, 1) := dk_3 (dk_at dksX1_feed_0 16 rfl rfl)
theorem dX1_feed_17 : decode cX1_feed 17 = .ok (.invokestatic 217, 3) := dk_184 0 217 (dk_at dksX1_feed_0 17 rfl rfl)
theorem dX1_feed_20 : decode cX1_feed 20 = .ok (.aload_n 0, 1) := dk_42 (dk_at dksX1_feed_0 20 rfl rfl)
theorem dX1_feed_21 : decode cX1_feed 21 = .ok (.getfield 48, 3) := dk_180 0 48 (dk_at dksX1_feed_0 21 rfl rfl)
theorem dX1_feed_24 : decode cX1_feed 24 = .ok (.iload_n 1, 1) := dk_27 (dk_at dksX1_feed_1 0 rfl rfl)
theorem dX1_feed_25 : decode cX1_feed 25 = .ok (.invokevirtual 256, 3) := dk_182 1 0 (dk_at dksX1_feed_1 1 rfl rfl)
theorem dX1_feed_28 : decode cX1_feed 28 = .ok (.pop, 1) := dk_87 (dk_at dksX1_feed_1 4 rfl rfl)
theorem dX1_feed_29 : decode cX1_feed 29 = .ok (.aload_n 0, 1) := dk_42 (dk_at dksX1_feed_1 5 rfl rfl)
theorem dX1_feed_30 : decode cX1_feed 30 = .ok (.getfield 48, 3) := dk_180 0 48 (dk_at dksX1_feed_1 6 rfl rfl)
theorem dX1_feed_33 : decode cX1_feed 33 = .ok (.invokevirtual 253, 3) := dk_182 0 253 (dk_at dksX1_feed_1 9 rfl rfl)
theorem dX1_feed_36 : decode cX1_feed 36 = .ok (.ireturn, 1) := dk_172 (dk_at dksX1_feed_1 12 rfl rfl)
abbrev cX1_run : ByteArray := prog_1_method_42_code
def yX1_run : MethodName := ⟨RX1, "run", "()I"⟩
def dkwX1_run_2 : List UInt8 := [167, 0, 13, 58, 4, 42, 25, 4, 29, 182, 0, 101, 191, 42, 44, 182, 0, 98, 29, 172]
abbrev dktX1_run_2 : List UInt8 := dkwX1_run_2 ++ []
def dkwX1_run_1 : List UInt8 := [154, 0, 22, 43, 182, 1, 34, 192, 0, 89, 44, 182, 0, 94, 54, 4, 132, 3, 1, 167, 255, 233]
abbrev dktX1_run_1 : List UInt8 := dkwX1_run_1 ++ dktX1_run_2
def dkwX1_run_0 : List UInt8 := [42, 182, 1, 26, 76, 187, 0, 31, 89, 42, 180, 0, 34, 183, 0, 86, 77, 3, 62, 43, 182, 1, 29]
abbrev dktX1_run_0 : List UInt8 := dkwX1_run_0 ++ dktX1_run_1
theorem dksX1_run_0 : cX1_run.data.toList.drop 0 = dktX1_run_0 := by decide +kernel
theorem dksX1_run_1 : cX1_run.data.toList.drop 23 = dktX1_run_1 := dk_seg dksX1_run_0 23 rfl rfl
theorem dksX1_run_2 : cX1_run.data.toList.drop 45 = dktX1_run_2 := dk_seg dksX1_run_1 22 rfl rfl
theorem dX1_run_0 : decode cX1_run 0 = .ok (.aload_n 0, 1) := dk_42 (dk_at dksX1_run_0 0 rfl rfl)
theorem dX1_run_1 : decode cX1_run 1 = .ok (.invokevirtual 282, 3) := dk_182 1 26 (dk_at dksX1_run_0 1 rfl rfl)
theorem dX1_run_4 : decode cX1_run 4 = .ok (.astore_n 1, 1) := dk_76 (dk_at dksX1_run_0 4 rfl rfl)
theorem dX1_run_5 : decode cX1_run 5 = .ok (.new 31, 3) := dk_187 0 31 (dk_at dksX1_run_0 5 rfl rfl)
theorem dX1_run_8 : decode cX1_run 8 = .ok (.dup, 1) := dk_89 (dk_at dksX1_run_0 8 rfl rfl)
theorem dX1_run_9 : decode cX1_run 9 = .ok (.aload_n 0, 1) := dk_42 (dk_at dksX1_run_0 9 rfl rfl)
theorem dX1_run_10 : decode cX1_run 10 = .ok (.getfield 34, 3) := dk_180 0 34 (dk_at dksX1_run_0 10 rfl rfl)
theorem dX1_run_13 : decode cX1_run 13 = .ok (.invokespecial 86, 3) := dk_183 0 86 (dk_at dksX1_run_0 13 rfl rfl)
theorem dX1_run_16 : decode cX1_run 16 = .ok (.astore_n 2, 1) := dk_77 (dk_at dksX1_run_0 16 rfl rfl)
theorem dX1_run_17 : decode cX1_run 17 = .ok (.iconst 0, 1) := dk_3 (dk_at dksX1_run_0 17 rfl rfl)
theorem dX1_run_18 : decode cX1_run 18 = .ok (.istore_n 3, 1) := dk_62 (dk_at dksX1_run_0 18 rfl rfl)
theorem dX1_run_19 : decode cX1_run 19 = .ok (.aload_n 1, 1) := dk_43 (dk_at dksX1_run_0 19 rfl rfl)
theorem dX1_run_20 : decode cX1_run 20 = .ok (.invokevirtual 285, 3) := dk_182 1 29 (dk_at dksX1_run_0 20 rfl rfl)
theorem dX1_run_23 : decode cX1_run 23 = .ok (.ifCond .ne 22, 3) := dk_154 0 22 (dk_at dksX1_run_1 0 rfl rfl)
theorem dX1_run_26 : decode cX1_run 26 = .ok (.aload_n 1, 1) := dk_43 (dk_at dksX1_run_1 3 rfl rfl)
theorem dX1_run_27 : decode cX1_run 27 = .ok (.invokevirtual 290, 3) := dk_182 1 34 (dk_at dksX1_run_1 4 rfl rfl)
theorem dX1_run_30 : decode cX1_run 30 = .ok (.checkcast 89, 3) := dk_192 0 89 (dk_at dksX1_run_1 7 rfl rfl)
theorem dX1_run_33 : decode cX1_run 33 = .ok (.aload_n 2, 1) := dk_44 (dk_at dksX1_run_1 10 rfl rfl)
theorem dX1_run_34 : decode cX1_run 34 = .ok (.invokevirtual 94, 3) := dk_182 0 94 (dk_at dksX1_run_1 11 rfl rfl)
theorem dX1_run_37 : decode cX1_run 37 = .ok (.istore 4, 2) := dk_54 4 (dk_at dksX1_run_1 14 rfl rfl)
theorem dX1_run_39 : decode cX1_run 39 = .ok (.iinc 3 1, 3) := dk_132 3 1 (dk_at dksX1_run_1 16 rfl rfl)
theorem dX1_run_42 : decode cX1_run 42 = .ok (.goto (-23), 3) := dk_167 255 233 (dk_at dksX1_run_1 19 rfl rfl)
theorem dX1_run_45 : decode cX1_run 45 = .ok (.goto 13, 3) := dk_167 0 13 (dk_at dksX1_run_2 0 rfl rfl)
theorem dX1_run_48 : decode cX1_run 48 = .ok (.astore 4, 2) := dk_58 4 (dk_at dksX1_run_2 3 rfl rfl)
theorem dX1_run_50 : decode cX1_run 50 = .ok (.aload_n 0, 1) := dk_42 (dk_at dksX1_run_2 5 rfl rfl)
theorem dX1_run_51 : decode cX1_run 51 = .ok (.aload 4, 2) := dk_25 4 (dk_at dksX1_run_2 6 rfl rfl)
theorem dX1_run_53 : decode cX1_run 53 = .ok (.iload_n 3, 1) := dk_29 (dk_at dksX1_run_2 8 rfl rfl)
theorem dX1_run_54 : decode cX1_run 54 = .ok (.invokevirtual 101, 3) := dk_182 0 101 (dk_at dksX1_run_2 9 rfl rfl)
theorem dX1_run_57 : decode cX1_run 57 = .ok (.athrow, 1) := dk_191 (dk_at dksX1_run_2 12 rfl rfl)
theorem dX1_run_58 : decode cX1_run 58 = .ok (.aload_n 0, 1) := dk_42 (dk_at dksX1_run_2 13 rfl rfl)
theorem dX1_run_59 : decode cX1_run 59 = .ok (.aload_n 2, 1) := dk_44 (dk_at dksX1_run_2 14 rfl rfl)
theorem dX1_run_60 : decode cX1_run 60 = .ok (.invokevirtual 98, 3) := dk_182 0 98 (dk_at dksX1_run_2 15 rfl rfl)
theorem dX1_run_63 : decode cX1_run 63 = .ok (.iload_n 3, 1) := dk_29 (dk_at dksX1_run_2 18 rfl rfl)
theorem dX1_run_64 : decode cX1_run 64 = .ok (.ireturn, 1) := dk_172 (dk_at dksX1_run_2 19 rfl rfl)
abbrev cX1_readOrders : ByteArray := prog_1_method_41_code
def yX1_readOrders : MethodName := ⟨RX1, "readOrders", "()Ljava/util/LinkedList;"⟩
def dkwX1_readOrders_1 : List UInt8 := [182, 1, 17, 176, 77, 42, 44, 180, 1, 23, 181, 0, 58, 187, 0, 165, 89, 183, 0, 167, 191]
abbrev dktX1_readOrders_1 : List UInt8 := dkwX1_readOrders_1 ++ []
def dkwX1_readOrders_0 : List UInt8 := [187, 1, 4, 89, 42, 180, 0, 48, 182, 1, 6, 183, 1, 10, 76, 42, 180, 0, 48, 3, 182, 1, 13, 43]
abbrev dktX1_readOrders_0 : List UInt8 := dkwX1_readOrders_0 ++ dktX1_readOrders_1
theorem dksX1_readOrders_0 : cX1_readOrders.data.toList.drop 0 = dktX1_readOrders_0 := by decide +kernel
theorem dksX1_readOrders_1 : cX1_readOrders.data.toList.drop 24 = dktX1_readOrders_1 := dk_seg dksX1_readOrders_0 24 rfl rfl
theorem dX1_readOrders_0 : decode cX1_readOrders 0 = .ok (.new 260, 3) := dk_187 1 4 (dk_at dksX1_readOrders_0 0 rfl rfl)
theorem dX1_readOrders_3 : decode cX1_readOrders 3 = .ok (.dup, 1) := dk_89 (dk_at dksX1_readOrders_0 3 rfl rfl)
theorem dX1_readOrders_4 : decode cX1_readOrders 4 = .ok (.aload_n 0, 1) := dk_42 (dk_at dksX1_readOrders_0 4 rfl rfl)
theorem dX1_readOrders_5 : decode cX1_readOrders 5 = .ok (.getfield 48, 3) := dk_180 0 48 (dk_at dksX1_readOrders_0 5 rfl rfl)
theorem dX1_readOrders_8 : decode cX1_readOrders 8 = .ok (.invokevirtual 262, 3) := dk_182 1 6 (dk_at dksX1_readOrders_0 8 rfl rfl)
theorem dX1_readOrders_11 : decode cX1_readOrders 11 = .ok (.invokespecial 266, 3) := dk_183 1 10 (dk_at dksX1_readOrders_0 11 rfl rfl)
theorem dX1_readOrders_14 : decode cX1_readOrders 14 = .ok (.astore_n 1, 1) := dk_76 (dk_at dksX1_readOrders_0 14 rfl rfl)
theorem dX1_readOrders_15 : decode cX1_readOrders 15 = .ok (.aload_n 0, 1) := dk_42 (dk_at dksX1_readOrders_0 15 rfl rfl)
theorem dX1_readOrders_16 : decode cX1_readOrders 16 = .ok (.getfield 48, 3) := dk_180 0 48 (dk_at dksX1_readOrders_0 16 rfl rfl)
theorem dX1_readOrders_19 : decode cX1_readOrders 19 = .ok (.iconst 0, 1) := dk_3 (dk_at dksX1_readOrders_0 19 rfl rfl)
theorem dX1_readOrders_20 : decode cX1_readOrders 20 = .ok (.invokevirtual 269, 3) := dk_182 1 13 (dk_at dksX1_readOrders_0 20 rfl rfl)
theorem dX1_readOrders_23 : decode cX1_readOrders 23 = .ok (.aload_n 1, 1) := dk_43 (dk_at dksX1_readOrders_0 23 rfl rfl)
theorem dX1_readOrders_24 : decode cX1_readOrders 24 = .ok (.invokevirtual 273, 3) := dk_182 1 17 (dk_at dksX1_readOrders_1 0 rfl rfl)
theorem dX1_readOrders_27 : decode cX1_readOrders 27 = .ok (.areturn, 1) := dk_176 (dk_at dksX1_readOrders_1 3 rfl rfl)
theorem dX1_readOrders_28 : decode cX1_readOrders 28 = .ok (.astore_n 2, 1) := dk_77 (dk_at dksX1_readOrders_1 4 rfl rfl)
theorem dX1_readOrders_29 : decode cX1_readOrders 29 = .ok (.aload_n 0, 1) := dk_42 (dk_at dksX1_readOrders_1 5 rfl rfl)
theorem dX1_readOrders_30 : decode cX1_readOrders 30 = .ok (.aload_n 2, 1) := dk_44 (dk_at dksX1_readOrders_1 6 rfl rfl)
theorem dX1_readOrders_31 : decode cX1_readOrders 31 = .ok (.getfield 279, 3) := dk_180 1 23 (dk_at dksX1_readOrders_1 7 rfl rfl)
theorem dX1_readOrders_34 : decode cX1_readOrders 34 = .ok (.putfield 58, 3) := dk_181 0 58 (dk_at dksX1_readOrders_1 10 rfl rfl)
theorem dX1_readOrders_37 : decode cX1_readOrders 37 = .ok (.new 165, 3) := dk_187 0 165 (dk_at dksX1_readOrders_1 13 rfl rfl)
theorem dX1_readOrders_40 : decode cX1_readOrders 40 = .ok (.dup, 1) := dk_89 (dk_at dksX1_readOrders_1 16 rfl rfl)
theorem dX1_readOrders_41 : decode cX1_readOrders 41 = .ok (.invokespecial 167, 3) := dk_183 0 167 (dk_at dksX1_readOrders_1 17 rfl rfl)
theorem dX1_readOrders_44 : decode cX1_readOrders 44 = .ok (.athrow, 1) := dk_191 (dk_at dksX1_readOrders_1 20 rfl rfl)
abbrev cX1_faultPosition : ByteArray := prog_1_method_43_code
def yX1_faultPosition : MethodName := ⟨RX1, "faultPosition", "()I"⟩
def dkwX1_faultPosition_0 : List UInt8 := [42, 180, 0, 58, 2, 159, 0, 7, 4, 167, 0, 4, 3, 184, 0, 211, 42, 180, 0, 58, 172]
abbrev dktX1_faultPosition_0 : List UInt8 := dkwX1_faultPosition_0 ++ []
theorem dksX1_faultPosition_0 : cX1_faultPosition.data.toList.drop 0 = dktX1_faultPosition_0 := by decide +kernel
theorem dX1_faultPosition_0 : decode cX1_faultPosition 0 = .ok (.aload_n 0, 1) := dk_42 (dk_at dksX1_faultPosition_0 0 rfl rfl)
theorem dX1_faultPosition_1 : decode cX1_faultPosition 1 = .ok (.getfield 58, 3) := dk_180 0 58 (dk_at dksX1_faultPosition_0 1 rfl rfl)
theorem dX1_faultPosition_4 : decode cX1_faultPosition 4 = .ok (.iconst (-1), 1) := dk_2 (dk_at dksX1_faultPosition_0 4 rfl rfl)
theorem dX1_faultPosition_5 : decode cX1_faultPosition 5 = .ok (.if_icmp .eq 7, 3) := dk_159 0 7 (dk_at dksX1_faultPosition_0 5 rfl rfl)
theorem dX1_faultPosition_8 : decode cX1_faultPosition 8 = .ok (.iconst 1, 1) := dk_4 (dk_at dksX1_faultPosition_0 8 rfl rfl)
theorem dX1_faultPosition_9 : decode cX1_faultPosition 9 = .ok (.goto 4, 3) := dk_167 0 4 (dk_at dksX1_faultPosition_0 9 rfl rfl)
theorem dX1_faultPosition_12 : decode cX1_faultPosition 12 = .ok (.iconst 0, 1) := dk_3 (dk_at dksX1_faultPosition_0 12 rfl rfl)
theorem dX1_faultPosition_13 : decode cX1_faultPosition 13 = .ok (.invokestatic 211, 3) := dk_184 0 211 (dk_at dksX1_faultPosition_0 13 rfl rfl)
theorem dX1_faultPosition_16 : decode cX1_faultPosition 16 = .ok (.aload_n 0, 1) := dk_42 (dk_at dksX1_faultPosition_0 16 rfl rfl)
theorem dX1_faultPosition_17 : decode cX1_faultPosition 17 = .ok (.getfield 58, 3) := dk_180 0 58 (dk_at dksX1_faultPosition_0 17 rfl rfl)
theorem dX1_faultPosition_20 : decode cX1_faultPosition 20 = .ok (.ireturn, 1) := dk_172 (dk_at dksX1_faultPosition_0 20 rfl rfl)
abbrev cX1_reason : ByteArray := prog_1_method_44_code
def yX1_reason : MethodName := ⟨RX1, "reason", "(I)I"⟩
def dkwX1_reason_3 : List UInt8 := [192, 1, 39, 182, 1, 51, 172]
abbrev dktX1_reason_3 : List UInt8 := dkwX1_reason_3 ++ []
def dkwX1_reason_2 : List UInt8 := [180, 1, 44, 184, 1, 38, 42, 180, 0, 80, 184, 1, 38, 184, 1, 47, 77, 44, 27, 185, 0, 120, 2, 0]
abbrev dktX1_reason_2 : List UInt8 := dkwX1_reason_2 ++ dktX1_reason_3
def dkwX1_reason_1 : List UInt8 := [4, 167, 0, 4, 3, 184, 0, 211, 42, 180, 0, 76, 180, 1, 35, 184, 1, 38, 42, 180, 0, 76]
abbrev dktX1_reason_1 : List UInt8 := dkwX1_reason_1 ++ dktX1_reason_2
def dkwX1_reason_0 : List UInt8 := [27, 3, 5, 184, 0, 18, 154, 0, 11, 187, 0, 165, 89, 183, 0, 167, 191, 42, 180, 0, 76, 198, 0, 7]
abbrev dktX1_reason_0 : List UInt8 := dkwX1_reason_0 ++ dktX1_reason_1
theorem dksX1_reason_0 : cX1_reason.data.toList.drop 0 = dktX1_reason_0 := by decide +kernel
theorem dksX1_reason_1 : cX1_reason.data.toList.drop 24 = dktX1_reason_1 := dk_seg dksX1_reason_0 24 rfl rfl
theorem dksX1_reason_2 : cX1_reason.data.toList.drop 46 = dktX1_reason_2 := dk_seg dksX1_reason_1 22 rfl rfl
theorem dksX1_reason_3 : cX1_reason.data.toList.drop 70 = dktX1_reason_3 := dk_seg dksX1_reason_2 24 rfl rfl
theorem dX1_reason_0 : decode cX1_reason 0 = .ok (.iload_n 1, 1) := dk_27 (dk_at dksX1_reason_0 0 rfl rfl)
theorem dX1_reason_1 : decode cX1_reason 1 = .ok (.iconst 0, 1) := dk_3 (dk_at dksX1_reason_0 1 rfl rfl)
theorem dX1_reason_2 : decode cX1_reason 2 = .ok (.iconst 2, 1) := dk_5 (dk_at dksX1_reason_0 2 rfl rfl)
theorem dX1_reason_3 : decode cX1_reason 3 = .ok (.invokestatic 18, 3) := dk_184 0 18 (dk_at dksX1_reason_0 3 rfl rfl)
theorem dX1_reason_6 : decode cX1_reason 6 = .ok (.ifCond .ne 11, 3) := dk_154 0 11 (dk_at dksX1_reason_0 6 rfl rfl)
theorem dX1_reason_9 : decode cX1_reason 9 = .ok (.new 165, 3) := dk_187 0 165 (dk_at dksX1_reason_0 9 rfl rfl)
theorem dX1_reason_12 : decode cX1_reason 12 = .ok (.dup, 1) := dk_89 (dk_at dksX1_reason_0 12 rfl rfl)
theorem dX1_reason_13 : decode cX1_reason 13 = .ok (.invokespecial 167, 3) := dk_183 0 167 (dk_at dksX1_reason_0 13 rfl rfl)
theorem dX1_reason_16 : decode cX1_reason 16 = .ok (.athrow, 1) := dk_191 (dk_at dksX1_reason_0 16 rfl rfl)
theorem dX1_reason_17 : decode cX1_reason 17 = .ok (.aload_n 0, 1) := dk_42 (dk_at dksX1_reason_0 17 rfl rfl)
theorem dX1_reason_18 : decode cX1_reason 18 = .ok (.getfield 76, 3) := dk_180 0 76 (dk_at dksX1_reason_0 18 rfl rfl)
theorem dX1_reason_21 : decode cX1_reason 21 = .ok (.ifnull 7, 3) := dk_198 0 7 (dk_at dksX1_reason_0 21 rfl rfl)
theorem dX1_reason_24 : decode cX1_reason 24 = .ok (.iconst 1, 1) := dk_4 (dk_at dksX1_reason_1 0 rfl rfl)
theorem dX1_reason_25 : decode cX1_reason 25 = .ok (.goto 4, 3) := dk_167 0 4 (dk_at dksX1_reason_1 1 rfl rfl)
theorem dX1_reason_28 : decode cX1_reason 28 = .ok (.iconst 0, 1) := dk_3 (dk_at dksX1_reason_1 4 rfl rfl)
theorem dX1_reason_29 : decode cX1_reason 29 = .ok (.invokestatic 211, 3) := dk_184 0 211 (dk_at dksX1_reason_1 5 rfl rfl)
theorem dX1_reason_32 : decode cX1_reason 32 = .ok (.aload_n 0, 1) := dk_42 (dk_at dksX1_reason_1 8 rfl rfl)
theorem dX1_reason_33 : decode cX1_reason 33 = .ok (.getfield 76, 3) := dk_180 0 76 (dk_at dksX1_reason_1 9 rfl rfl)
theorem dX1_reason_36 : decode cX1_reason 36 = .ok (.getfield 291, 3) := dk_180 1 35 (dk_at dksX1_reason_1 12 rfl rfl)
theorem dX1_reason_39 : decode cX1_reason 39 = .ok (.invokestatic 294, 3) := dk_184 1 38 (dk_at dksX1_reason_1 15 rfl rfl)
theorem dX1_reason_42 : decode cX1_reason 42 = .ok (.aload_n 0, 1) := dk_42 (dk_at dksX1_reason_1 18 rfl rfl)
theorem dX1_reason_43 : decode cX1_reason 43 = .ok (.getfield 76, 3) := dk_180 0 76 (dk_at dksX1_reason_1 19 rfl rfl)
theorem dX1_reason_46 : decode cX1_reason 46 = .ok (.getfield 300, 3) := dk_180 1 44 (dk_at dksX1_reason_2 0 rfl rfl)
theorem dX1_reason_49 : decode cX1_reason 49 = .ok (.invokestatic 294, 3) := dk_184 1 38 (dk_at dksX1_reason_2 3 rfl rfl)
theorem dX1_reason_52 : decode cX1_reason 52 = .ok (.aload_n 0, 1) := dk_42 (dk_at dksX1_reason_2 6 rfl rfl)
theorem dX1_reason_53 : decode cX1_reason 53 = .ok (.getfield 80, 3) := dk_180 0 80 (dk_at dksX1_reason_2 7 rfl rfl)
theorem dX1_reason_56 : decode cX1_reason 56 = .ok (.invokestatic 294, 3) := dk_184 1 38 (dk_at dksX1_reason_2 10 rfl rfl)
theorem dX1_reason_59 : decode cX1_reason 59 = .ok (.invokestatic 303, 3) := dk_184 1 47 (dk_at dksX1_reason_2 13 rfl rfl)
theorem dX1_reason_62 : decode cX1_reason 62 = .ok (.astore_n 2, 1) := dk_77 (dk_at dksX1_reason_2 16 rfl rfl)
theorem dX1_reason_63 : decode cX1_reason 63 = .ok (.aload_n 2, 1) := dk_44 (dk_at dksX1_reason_2 17 rfl rfl)
theorem dX1_reason_64 : decode cX1_reason 64 = .ok (.iload_n 1, 1) := dk_27 (dk_at dksX1_reason_2 18 rfl rfl)
theorem dX1_reason_65 : decode cX1_reason 65 = .ok (.invokeinterface 120 2, 5) := by decide +kernel
theorem dX1_reason_70 : decode cX1_reason 70 = .ok (.checkcast 295, 3) := dk_192 1 39 (dk_at dksX1_reason_3 0 rfl rfl)
theorem dX1_reason_73 : decode cX1_reason 73 = .ok (.invokevirtual 307, 3) := dk_182 1 51 (dk_at dksX1_reason_3 3 rfl rfl)
theorem dX1_reason_76 : decode cX1_reason 76 = .ok (.ireturn, 1) := dk_172 (dk_at dksX1_reason_3 6 rfl rfl)
abbrev cX1_character : ByteArray := prog_1_method_46_code
def yX1_character : MethodName := ⟨RX1, "character", "(I)C"⟩
def dkwX1_character_1 : List UInt8 := [182, 1, 68, 172]
abbrev dktX1_character_1 : List UInt8 := dkwX1_character_1 ++ []
def dkwX1_character_0 : List UInt8 := [27, 3, 42, 180, 0, 54, 182, 1, 65, 4, 100, 184, 0, 18, 184, 0, 116, 42, 180, 0, 54, 27]
abbrev dktX1_character_0 : List UInt8 := dkwX1_character_0 ++ dktX1_character_1
theorem dksX1_character_0 : cX1_character.data.toList.drop 0 = dktX1_character_0 := by decide +kernel
theorem dksX1_character_1 : cX1_character.data.toList.drop 22 = dktX1_character_1 := dk_seg dksX1_character_0 22 rfl rfl
theorem dX1_character_0 : decode cX1_character 0 = .ok (.iload_n 1, 1) := dk_27 (dk_at dksX1_character_0 0 rfl rfl)
theorem dX1_character_1 : decode cX1_character 1 = .ok (.iconst 0, 1) := dk_3 (dk_at dksX1_character_0 1 rfl rfl)
theorem dX1_character_2 : decode cX1_character 2 = .ok (.aload_n 0, 1) := dk_42 (dk_at dksX1_character_0 2 rfl rfl)
theorem dX1_character_3 : decode cX1_character 3 = .ok (.getfield 54, 3) := dk_180 0 54 (dk_at dksX1_character_0 3 rfl rfl)
theorem dX1_character_6 : decode cX1_character 6 = .ok (.invokevirtual 321, 3) := dk_182 1 65 (dk_at dksX1_character_0 6 rfl rfl)
theorem dX1_character_9 : decode cX1_character 9 = .ok (.iconst 1, 1) := dk_4 (dk_at dksX1_character_0 9 rfl rfl)
theorem dX1_character_10 : decode cX1_character 10 = .ok (.isub, 1) := dk_100 (dk_at dksX1_character_0 10 rfl rfl)
theorem dX1_character_11 : decode cX1_character 11 = .ok (.invokestatic 18, 3) := dk_184 0 18 (dk_at dksX1_character_0 11 rfl rfl)
theorem dX1_character_14 : decode cX1_character 14 = .ok (.invokestatic 116, 3) := dk_184 0 116 (dk_at dksX1_character_0 14 rfl rfl)
theorem dX1_character_17 : decode cX1_character 17 = .ok (.aload_n 0, 1) := dk_42 (dk_at dksX1_character_0 17 rfl rfl)
theorem dX1_character_18 : decode cX1_character 18 = .ok (.getfield 54, 3) := dk_180 0 54 (dk_at dksX1_character_0 18 rfl rfl)
theorem dX1_character_21 : decode cX1_character 21 = .ok (.iload_n 1, 1) := dk_27 (dk_at dksX1_character_0 21 rfl rfl)
theorem dX1_character_22 : decode cX1_character 22 = .ok (.invokevirtual 324, 3) := dk_182 1 68 (dk_at dksX1_character_1 0 rfl rfl)
theorem dX1_character_25 : decode cX1_character 25 = .ok (.ireturn, 1) := dk_172 (dk_at dksX1_character_1 3 rfl rfl)
abbrev cX1_meanQuality : ByteArray := prog_1_method_47_code
def yX1_meanQuality : MethodName := ⟨RX1, "meanQuality", "()D"⟩
def dkwX1_meanQuality_3 : List UInt8 := [182, 0, 155, 167, 0, 4, 3, 96, 61, 132, 3, 1, 167, 255, 200, 28, 135, 27, 135, 111, 175]
abbrev dktX1_meanQuality_3 : List UInt8 := dkwX1_meanQuality_3 ++ []
def dkwX1_meanQuality_2 : List UInt8 := [180, 0, 109, 29, 185, 0, 120, 2, 0, 192, 0, 124, 180, 0, 151, 153, 0, 14, 42, 180, 0, 34, 29]
abbrev dktX1_meanQuality_2 : List UInt8 := dkwX1_meanQuality_2 ++ dktX1_meanQuality_3
def dkwX1_meanQuality_1 : List UInt8 := [62, 29, 42, 180, 0, 34, 180, 0, 109, 185, 0, 113, 1, 0, 162, 0, 46, 28, 42, 180, 0, 34]
abbrev dktX1_meanQuality_1 : List UInt8 := dkwX1_meanQuality_1 ++ dktX1_meanQuality_2
def dkwX1_meanQuality_0 : List UInt8 := [42, 180, 0, 34, 5, 182, 1, 72, 60, 27, 154, 0, 11, 187, 1, 75, 89, 183, 1, 77, 191, 3, 61, 3]
abbrev dktX1_meanQuality_0 : List UInt8 := dkwX1_meanQuality_0 ++ dktX1_meanQuality_1
theorem dksX1_meanQuality_0 : cX1_meanQuality.data.toList.drop 0 = dktX1_meanQuality_0 := by decide +kernel
theorem dksX1_meanQuality_1 : cX1_meanQuality.data.toList.drop 24 = dktX1_meanQuality_1 := dk_seg dksX1_meanQuality_0 24 rfl rfl
theorem dksX1_meanQuality_2 : cX1_meanQuality.data.toList.drop 46 = dktX1_meanQuality_2 := dk_seg dksX1_meanQuality_1 22 rfl rfl
theorem dksX1_meanQuality_3 : cX1_meanQuality.data.toList.drop 69 = dktX1_meanQuality_3 := dk_seg dksX1_meanQuality_2 23 rfl rfl
theorem dX1_meanQuality_0 : decode cX1_meanQuality 0 = .ok (.aload_n 0, 1) := dk_42 (dk_at dksX1_meanQuality_0 0 rfl rfl)
theorem dX1_meanQuality_1 : decode cX1_meanQuality 1 = .ok (.getfield 34, 3) := dk_180 0 34 (dk_at dksX1_meanQuality_0 1 rfl rfl)
theorem dX1_meanQuality_4 : decode cX1_meanQuality 4 = .ok (.iconst 2, 1) := dk_5 (dk_at dksX1_meanQuality_0 4 rfl rfl)
theorem dX1_meanQuality_5 : decode cX1_meanQuality 5 = .ok (.invokevirtual 328, 3) := dk_182 1 72 (dk_at dksX1_meanQuality_0 5 rfl rfl)
theorem dX1_meanQuality_8 : decode cX1_meanQuality 8 = .ok (.istore_n 1, 1) := dk_60 (dk_at dksX1_meanQuality_0 8 rfl rfl)
theorem dX1_meanQuality_9 : decode cX1_meanQuality 9 = .ok (.iload_n 1, 1) := dk_27 (dk_at dksX1_meanQuality_0 9 rfl rfl)
theorem dX1_meanQuality_10 : decode cX1_meanQuality 10 = .ok (.ifCond .ne 11, 3) := dk_154 0 11 (dk_at dksX1_meanQuality_0 10 rfl rfl)
theorem dX1_meanQuality_13 : decode cX1_meanQuality 13 = .ok (.new 331, 3) := dk_187 1 75 (dk_at dksX1_meanQuality_0 13 rfl rfl)
theorem dX1_meanQuality_16 : decode cX1_meanQuality 16 = .ok (.dup, 1) := dk_89 (dk_at dksX1_meanQuality_0 16 rfl rfl)
theorem dX1_meanQuality_17 : decode cX1_meanQuality 17 = .ok (.invokespecial 333, 3) := dk_183 1 77 (dk_at dksX1_meanQuality_0 17 rfl rfl)
theorem dX1_meanQuality_20 : decode cX1_meanQuality 20 = .ok (.athrow, 1) := dk_191 (dk_at dksX1_meanQuality_0 20 rfl rfl)
theorem dX1_meanQuality_21 : decode cX1_meanQuality 21 = .ok (.iconst 0, 1) := dk_3 (dk_at dksX1_meanQuality_0 21 rfl rfl)
theorem dX1_meanQuality_22 : decode cX1_meanQuality 22 = .ok (.istore_n 2, 1) := dk_61 (dk_at dksX1_meanQuality_0 22 rfl rfl)
theorem dX1_meanQuality_23 : decode cX1_meanQuality 23 = .ok (.iconst 0, 1) := dk_3 (dk_at dksX1_meanQuality_0 23 rfl rfl)
theorem dX1_meanQuality_24 : decode cX1_meanQuality 24 = .ok (.istore_n 3, 1) := dk_62 (dk_at dksX1_meanQuality_1 0 rfl rfl)
theorem dX1_meanQuality_25 : decode cX1_meanQuality 25 = .ok (.iload_n 3, 1) := dk_29 (dk_at dksX1_meanQuality_1 1 rfl rfl)
theorem dX1_meanQuality_26 : decode cX1_meanQuality 26 = .ok (.aload_n 0, 1) := dk_42 (dk_at dksX1_meanQuality_1 2 rfl rfl)
theorem dX1_meanQuality_27 : decode cX1_meanQuality 27 = .ok (.getfield 34, 3) := dk_180 0 34 (dk_at dksX1_meanQuality_1 3 rfl rfl)
theorem dX1_meanQuality_30 : decode cX1_meanQuality 30 = .ok (.getfield 109, 3) := dk_180 0 109 (dk_at dksX1_meanQuality_1 6 rfl rfl)
theorem dX1_meanQuality_33 : decode cX1_meanQuality 33 = .ok (.invokeinterface 113 1, 5) := by decide +kernel
theorem dX1_meanQuality_38 : decode cX1_meanQuality 38 = .ok (.if_icmp .ge 46, 3) := dk_162 0 46 (dk_at dksX1_meanQuality_1 14 rfl rfl)
theorem dX1_meanQuality_41 : decode cX1_meanQuality 41 = .ok (.iload_n 2, 1) := dk_28 (dk_at dksX1_meanQuality_1 17 rfl rfl)
theorem dX1_meanQuality_42 : decode cX1_meanQuality 42 = .ok (.aload_n 0, 1) := dk_42 (dk_at dksX1_meanQuality_1 18 rfl rfl)
theorem dX1_meanQuality_43 : decode cX1_meanQuality 43 = .ok (.getfield 34, 3) := dk_180 0 34 (dk_at dksX1_meanQuality_1 19 rfl rfl)
theorem dX1_meanQuality_46 : decode cX1_meanQuality 46 = .ok (.getfield 109, 3) := dk_180 0 109 (dk_at dksX1_meanQuality_2 0 rfl rfl)
theorem dX1_meanQuality_49 : decode cX1_meanQuality 49 = .ok (.iload_n 3, 1) := dk_29 (dk_at dksX1_meanQuality_2 3 rfl rfl)
theorem dX1_meanQuality_50 : decode cX1_meanQuality 50 = .ok (.invokeinterface 120 2, 5) := by decide +kernel
theorem dX1_meanQuality_55 : decode cX1_meanQuality 55 = .ok (.checkcast 124, 3) := dk_192 0 124 (dk_at dksX1_meanQuality_2 9 rfl rfl)
theorem dX1_meanQuality_58 : decode cX1_meanQuality 58 = .ok (.getfield 151, 3) := dk_180 0 151 (dk_at dksX1_meanQuality_2 12 rfl rfl)
theorem dX1_meanQuality_61 : decode cX1_meanQuality 61 = .ok (.ifCond .eq 14, 3) := dk_153 0 14 (dk_at dksX1_meanQuality_2 15 rfl rfl)
theorem dX1_meanQuality_64 : decode cX1_meanQuality 64 = .ok (.aload_n 0, 1) := dk_42 (dk_at dksX1_meanQuality_2 18 rfl rfl)
theorem dX1_meanQuality_65 : decode cX1_meanQuality 65 = .ok (.getfield 34, 3) := dk_180 0 34 (dk_at dksX1_meanQuality_2 19 rfl rfl)
theorem dX1_meanQuality_68 : decode cX1_meanQuality 68 = .ok (.iload_n 3, 1) := dk_29 (dk_at dksX1_meanQuality_2 22 rfl rfl)
theorem dX1_meanQuality_69 : decode cX1_meanQuality 69 = .ok (.invokevirtual 155, 3) := dk_182 0 155 (dk_at dksX1_meanQuality_3 0 rfl rfl)
theorem dX1_meanQuality_72 : decode cX1_meanQuality 72 = .ok (.goto 4, 3) := dk_167 0 4 (dk_at dksX1_meanQuality_3 3 rfl rfl)
theorem dX1_meanQuality_75 : decode cX1_meanQuality 75 = .ok (.iconst 0, 1) := dk_3 (dk_at dksX1_meanQuality_3 6 rfl rfl)
theorem dX1_meanQuality_76 : decode cX1_meanQuality 76 = .ok (.iadd, 1) := dk_96 (dk_at dksX1_meanQuality_3 7 rfl rfl)
theorem dX1_meanQuality_77 : decode cX1_meanQuality 77 = .ok (.istore_n 2, 1) := dk_61 (dk_at dksX1_meanQuality_3 8 rfl rfl)
theorem dX1_meanQuality_78 : decode cX1_meanQuality 78 = .ok (.iinc 3 1, 3) := dk_132 3 1 (dk_at dksX1_meanQuality_3 9 rfl rfl)
theorem dX1_meanQuality_81 : decode cX1_meanQuality 81 = .ok (.goto (-56), 3) := dk_167 255 200 (dk_at dksX1_meanQuality_3 12 rfl rfl)
theorem dX1_meanQuality_84 : decode cX1_meanQuality 84 = .ok (.iload_n 2, 1) := dk_28 (dk_at dksX1_meanQuality_3 15 rfl rfl)
theorem dX1_meanQuality_85 : decode cX1_meanQuality 85 = .ok (.i2d, 1) := dk_135 (dk_at dksX1_meanQuality_3 16 rfl rfl)
theorem dX1_meanQuality_86 : decode cX1_meanQuality 86 = .ok (.iload_n 1, 1) := dk_27 (dk_at dksX1_meanQuality_3 17 rfl rfl)
theorem dX1_meanQuality_87 : decode cX1_meanQuality 87 = .ok (.i2d, 1) := dk_135 (dk_at dksX1_meanQuality_3 18 rfl rfl)
theorem dX1_meanQuality_88 : decode cX1_meanQuality 88 = .ok (.ddiv, 1) := dk_111 (dk_at dksX1_meanQuality_3 19 rfl rfl)
theorem dX1_meanQuality_89 : decode cX1_meanQuality 89 = .ok (.dreturn, 1) := dk_175 (dk_at dksX1_meanQuality_3 20 rfl rfl)
abbrev cX1_countedShare : ByteArray := prog_1_method_48_code
def yX1_countedShare : MethodName := ⟨RX1, "countedShare", "()F"⟩
def dkwX1_countedShare_1 : List UInt8 := [180, 1, 81, 134, 42, 180, 0, 34, 180, 1, 78, 134, 110, 174]
abbrev dktX1_countedShare_1 : List UInt8 := dkwX1_countedShare_1 ++ []
def dkwX1_countedShare_0 : List UInt8 := [42, 180, 0, 34, 180, 1, 78, 154, 0, 11, 187, 1, 75, 89, 183, 1, 77, 191, 42, 180, 0, 34]
abbrev dktX1_countedShare_0 : List UInt8 := dkwX1_countedShare_0 ++ dktX1_countedShare_1
theorem dksX1_countedShare_0 : cX1_countedShare.data.toList.drop 0 = dktX1_countedShare_0 := by decide +kernel
theorem dksX1_countedShare_1 : cX1_countedShare.data.toList.drop 22 = dktX1_countedShare_1 := dk_seg dksX1_countedShare_0 22 rfl rfl
theorem dX1_countedShare_0 : decode cX1_countedShare 0 = .ok (.aload_n 0, 1) := dk_42 (dk_at dksX1_countedShare_0 0 rfl rfl)
theorem dX1_countedShare_1 : decode cX1_countedShare 1 = .ok (.getfield 34, 3) := dk_180 0 34 (dk_at dksX1_countedShare_0 1 rfl rfl)
theorem dX1_countedShare_4 : decode cX1_countedShare 4 = .ok (.getfield 334, 3) := dk_180 1 78 (dk_at dksX1_countedShare_0 4 rfl rfl)
theorem dX1_countedShare_7 : decode cX1_countedShare 7 = .ok (.ifCond .ne 11, 3) := dk_154 0 11 (dk_at dksX1_countedShare_0 7 rfl rfl)
theorem dX1_countedShare_10 : decode cX1_countedShare 10 = .ok (.new 331, 3) := dk_187 1 75 (dk_at dksX1_countedShare_0 10 rfl rfl)
theorem dX1_countedShare_13 : decode cX1_countedShare 13 = .ok (.dup, 1) := dk_89 (dk_at dksX1_countedShare_0 13 rfl rfl)
theorem dX1_countedShare_14 : decode cX1_countedShare 14 = .ok (.invokespecial 333, 3) := dk_183 1 77 (dk_at dksX1_countedShare_0 14 rfl rfl)
theorem dX1_countedShare_17 : decode cX1_countedShare 17 = .ok (.athrow, 1) := dk_191 (dk_at dksX1_countedShare_0 17 rfl rfl)
theorem dX1_countedShare_18 : decode cX1_countedShare 18 = .ok (.aload_n 0, 1) := dk_42 (dk_at dksX1_countedShare_0 18 rfl rfl)
theorem dX1_countedShare_19 : decode cX1_countedShare 19 = .ok (.getfield 34, 3) := dk_180 0 34 (dk_at dksX1_countedShare_0 19 rfl rfl)
theorem dX1_countedShare_22 : decode cX1_countedShare 22 = .ok (.getfield 337, 3) := dk_180 1 81 (dk_at dksX1_countedShare_1 0 rfl rfl)
theorem dX1_countedShare_25 : decode cX1_countedShare 25 = .ok (.i2f, 1) := dk_134 (dk_at dksX1_countedShare_1 3 rfl rfl)
theorem dX1_countedShare_26 : decode cX1_countedShare 26 = .ok (.aload_n 0, 1) := dk_42 (dk_at dksX1_countedShare_1 4 rfl rfl)
theorem dX1_countedShare_27 : decode cX1_countedShare 27 = .ok (.getfield 34, 3) := dk_180 0 34 (dk_at dksX1_countedShare_1 5 rfl rfl)
theorem dX1_countedShare_30 : decode cX1_countedShare 30 = .ok (.getfield 334, 3) := dk_180 1 78 (dk_at dksX1_countedShare_1 8 rfl rfl)
theorem dX1_countedShare_33 : decode cX1_countedShare 33 = .ok (.i2f, 1) := dk_134 (dk_at dksX1_countedShare_1 11 rfl rfl)
theorem dX1_countedShare_34 : decode cX1_countedShare 34 = .ok (.fdiv, 1) := dk_110 (dk_at dksX1_countedShare_1 12 rfl rfl)
theorem dX1_countedShare_35 : decode cX1_countedShare 35 = .ok (.freturn, 1) := dk_174 (dk_at dksX1_countedShare_1 13 rfl rfl)
abbrev cX1_account : ByteArray := prog_1_method_49_code
def yX1_account : MethodName := ⟨RX1, "account", "(I)I"⟩
def dkwX1_account_9 : List UInt8 := [183, 0, 167, 191]
abbrev dktX1_account_9 : List UInt8 := dkwX1_account_9 ++ []
def dkwX1_account_8 : List UInt8 := [172, 42, 180, 0, 48, 182, 0, 253, 172, 42, 180, 0, 41, 185, 0, 62, 1, 0, 172, 187, 0, 165, 89]
abbrev dktX1_account_8 : List UInt8 := dkwX1_account_8 ++ dktX1_account_9
def dkwX1_account_7 : List UInt8 := [172, 42, 180, 0, 34, 180, 1, 81, 172, 42, 180, 0, 34, 180, 1, 100, 172, 42, 180, 0, 34, 182, 1, 103]
abbrev dktX1_account_7 : List UInt8 := dkwX1_account_7 ++ dktX1_account_8
def dkwX1_account_6 : List UInt8 := [42, 180, 0, 34, 180, 1, 97, 172, 42, 180, 0, 34, 4, 182, 1, 72, 172, 42, 180, 0, 34, 180, 1, 78]
abbrev dktX1_account_6 : List UInt8 := dkwX1_account_6 ++ dktX1_account_7
def dkwX1_account_5 : List UInt8 := [42, 180, 0, 34, 180, 0, 220, 172, 42, 180, 0, 34, 182, 1, 91, 172, 42, 180, 0, 34, 180, 1, 94, 172]
abbrev dktX1_account_5 : List UInt8 := dkwX1_account_5 ++ dktX1_account_6
def dkwX1_account_4 : List UInt8 := [180, 0, 34, 3, 182, 1, 72, 172, 42, 180, 0, 34, 180, 1, 87, 172, 42, 180, 0, 34, 180, 1, 88, 172]
abbrev dktX1_account_4 : List UInt8 := dkwX1_account_4 ++ dktX1_account_5
def dkwX1_account_3 : List UInt8 := [180, 0, 34, 180, 0, 126, 185, 0, 113, 1, 0, 172, 42, 180, 0, 34, 27, 6, 100, 182, 1, 84, 172, 42]
abbrev dktX1_account_3 : List UInt8 := dkwX1_account_3 ++ dktX1_account_4
def dkwX1_account_2 : List UInt8 := [42, 180, 0, 34, 180, 0, 109, 185, 0, 113, 1, 0, 172, 42, 180, 0, 34, 5, 182, 1, 72, 172, 42]
abbrev dktX1_account_2 : List UInt8 := dkwX1_account_2 ++ dktX1_account_3
def dkwX1_account_1 : List UInt8 := [170, 0, 0, 0, 0, 1, 1, 0, 0, 0, 0, 0, 0, 0, 19, 0, 0, 0, 95, 0, 0, 0, 108, 0, 0, 0, 117, 0, 0, 0, 130, 0, 0, 0, 130, 0, 0, 0, 130, 0, 0, 0, 141, 0, 0, 0, 150, 0, 0, 0, 158, 0, 0, 0, 166, 0, 0, 0, 174, 0, 0, 0, 182, 0, 0, 0, 190, 0, 0, 0, 198, 0, 0, 0, 207, 0, 0, 0, 215, 0, 0, 0, 223, 0, 0, 0, 231, 0, 0, 0, 239, 0, 0, 0, 247]
abbrev dktX1_account_1 : List UInt8 := dkwX1_account_1 ++ dktX1_account_2
def dkwX1_account_0 : List UInt8 := [27]
abbrev dktX1_account_0 : List UInt8 := dkwX1_account_0 ++ dktX1_account_1
theorem dksX1_account_0 : cX1_account.data.toList.drop 0 = dktX1_account_0 := by decide +kernel
theorem dksX1_account_1 : cX1_account.data.toList.drop 1 = dktX1_account_1 := dk_seg dksX1_account_0 1 rfl rfl
theorem dksX1_account_2 : cX1_account.data.toList.drop 96 = dktX1_account_2 := dk_seg dksX1_account_1 95 rfl rfl
theorem dksX1_account_3 : cX1_account.data.toList.drop 119 = dktX1_account_3 := dk_seg dksX1_account_2 23 rfl rfl
theorem dksX1_account_4 : cX1_account.data.toList.drop 143 = dktX1_account_4 := dk_seg dksX1_account_3 24 rfl rfl
theorem dksX1_account_5 : cX1_account.data.toList.drop 167 = dktX1_account_5 := dk_seg dksX1_account_4 24 rfl rfl
theorem dksX1_account_6 : cX1_account.data.toList.drop 191 = dktX1_account_6 := dk_seg dksX1_account_5 24 rfl rfl
theorem dksX1_account_7 : cX1_account.data.toList.drop 215 = dktX1_account_7 := dk_seg dksX1_account_6 24 rfl rfl
theorem dksX1_account_8 : cX1_account.data.toList.drop 239 = dktX1_account_8 := dk_seg dksX1_account_7 24 rfl rfl
theorem dksX1_account_9 : cX1_account.data.toList.drop 262 = dktX1_account_9 := dk_seg dksX1_account_8 23 rfl rfl
theorem dX1_account_0 : decode cX1_account 0 = .ok (.iload_n 1, 1) := dk_27 (dk_at dksX1_account_0 0 rfl rfl)
theorem dX1_account_1 : decode cX1_account 1 = .ok (.tableswitch 257 0 19 #[95, 108, 117, 130, 130, 130, 141, 150, 158, 166, 174, 182, 190, 198, 207, 215, 223, 231, 239, 247], 95) := by decide +kernel
theorem dX1_account_96 : decode cX1_account 96 = .ok (.aload_n 0, 1) := dk_42 (dk_at dksX1_account_2 0 rfl rfl)
theorem dX1_account_97 : decode cX1_account 97 = .ok (.getfield 34, 3) := dk_180 0 34 (dk_at dksX1_account_2 1 rfl rfl)
theorem dX1_account_100 : decode cX1_account 100 = .ok (.getfield 109, 3) := dk_180 0 109 (dk_at dksX1_account_2 4 rfl rfl)
theorem dX1_account_103 : decode cX1_account 103 = .ok (.invokeinterface 113 1, 5) := by decide +kernel
theorem dX1_account_108 : decode cX1_account 108 = .ok (.ireturn, 1) := dk_172 (dk_at dksX1_account_2 12 rfl rfl)
theorem dX1_account_109 : decode cX1_account 109 = .ok (.aload_n 0, 1) := dk_42 (dk_at dksX1_account_2 13 rfl rfl)
theorem dX1_account_110 : decode cX1_account 110 = .ok (.getfield 34, 3) := dk_180 0 34 (dk_at dksX1_account_2 14 rfl rfl)
theorem dX1_account_113 : decode cX1_account 113 = .ok (.iconst 2, 1) := dk_5 (dk_at dksX1_account_2 17 rfl rfl)
theorem dX1_account_114 : decode cX1_account 114 = .ok (.invokevirtual 328, 3) := dk_182 1 72 (dk_at dksX1_account_2 18 rfl rfl)
theorem dX1_account_117 : decode cX1_account 117 = .ok (.ireturn, 1) := dk_172 (dk_at dksX1_account_2 21 rfl rfl)
theorem dX1_account_118 : decode cX1_account 118 = .ok (.aload_n 0, 1) := dk_42 (dk_at dksX1_account_2 22 rfl rfl)
theorem dX1_account_119 : decode cX1_account 119 = .ok (.getfield 34, 3) := dk_180 0 34 (dk_at dksX1_account_3 0 rfl rfl)
theorem dX1_account_122 : decode cX1_account 122 = .ok (.getfield 126, 3) := dk_180 0 126 (dk_at dksX1_account_3 3 rfl rfl)
theorem dX1_account_125 : decode cX1_account 125 = .ok (.invokeinterface 113 1, 5) := by decide +kernel
theorem dX1_account_130 : decode cX1_account 130 = .ok (.ireturn, 1) := dk_172 (dk_at dksX1_account_3 11 rfl rfl)
theorem dX1_account_131 : decode cX1_account 131 = .ok (.aload_n 0, 1) := dk_42 (dk_at dksX1_account_3 12 rfl rfl)
theorem dX1_account_132 : decode cX1_account 132 = .ok (.getfield 34, 3) := dk_180 0 34 (dk_at dksX1_account_3 13 rfl rfl)
theorem dX1_account_135 : decode cX1_account 135 = .ok (.iload_n 1, 1) := dk_27 (dk_at dksX1_account_3 16 rfl rfl)
theorem dX1_account_136 : decode cX1_account 136 = .ok (.iconst 3, 1) := dk_6 (dk_at dksX1_account_3 17 rfl rfl)
theorem dX1_account_137 : decode cX1_account 137 = .ok (.isub, 1) := dk_100 (dk_at dksX1_account_3 18 rfl rfl)
theorem dX1_account_138 : decode cX1_account 138 = .ok (.invokevirtual 340, 3) := dk_182 1 84 (dk_at dksX1_account_3 19 rfl rfl)
theorem dX1_account_141 : decode cX1_account 141 = .ok (.ireturn, 1) := dk_172 (dk_at dksX1_account_3 22 rfl rfl)
theorem dX1_account_142 : decode cX1_account 142 = .ok (.aload_n 0, 1) := dk_42 (dk_at dksX1_account_3 23 rfl rfl)
theorem dX1_account_143 : decode cX1_account 143 = .ok (.getfield 34, 3) := dk_180 0 34 (dk_at dksX1_account_4 0 rfl rfl)
theorem dX1_account_146 : decode cX1_account 146 = .ok (.iconst 0, 1) := dk_3 (dk_at dksX1_account_4 3 rfl rfl)
theorem dX1_account_147 : decode cX1_account 147 = .ok (.invokevirtual 328, 3) := dk_182 1 72 (dk_at dksX1_account_4 4 rfl rfl)
theorem dX1_account_150 : decode cX1_account 150 = .ok (.ireturn, 1) := dk_172 (dk_at dksX1_account_4 7 rfl rfl)
theorem dX1_account_151 : decode cX1_account 151 = .ok (.aload_n 0, 1) := dk_42 (dk_at dksX1_account_4 8 rfl rfl)
theorem dX1_account_152 : decode cX1_account 152 = .ok (.getfield 34, 3) := dk_180 0 34 (dk_at dksX1_account_4 9 rfl rfl)
theorem dX1_account_155 : decode cX1_account 155 = .ok (.getfield 343, 3) := dk_180 1 87 (dk_at dksX1_account_4 12 rfl rfl)
theorem dX1_account_158 : decode cX1_account 158 = .ok (.ireturn, 1) := dk_172 (dk_at dksX1_account_4 15 rfl rfl)
theorem dX1_account_159 : decode cX1_account 159 = .ok (.aload_n 0, 1) := dk_42 (dk_at dksX1_account_4 16 rfl rfl)
theorem dX1_account_160 : decode cX1_account 160 = .ok (.getfield 34, 3) := dk_180 0 34 (dk_at dksX1_account_4 17 rfl rfl)
theorem dX1_account_163 : decode cX1_account 163 = .ok (.getfield 344, 3) := dk_180 1 88 (dk_at dksX1_account_4 20 rfl rfl)
theorem dX1_account_166 : decode cX1_account 166 = .ok (.ireturn, 1) := dk_172 (dk_at dksX1_account_4 23 rfl rfl)
theorem dX1_account_167 : decode cX1_account 167 = .ok (.aload_n 0, 1) := dk_42 (dk_at dksX1_account_5 0 rfl rfl)
theorem dX1_account_168 : decode cX1_account 168 = .ok (.getfield 34, 3) := dk_180 0 34 (dk_at dksX1_account_5 1 rfl rfl)
theorem dX1_account_171 : decode cX1_account 171 = .ok (.getfield 220, 3) := dk_180 0 220 (dk_at dksX1_account_5 4 rfl rfl)
theorem dX1_account_174 : decode cX1_account 174 = .ok (.ireturn, 1) := dk_172 (dk_at dksX1_account_5 7 rfl rfl)
theorem dX1_account_175 : decode cX1_account 175 = .ok (.aload_n 0, 1) := dk_42 (dk_at dksX1_account_5 8 rfl rfl)
theorem dX1_account_176 : decode cX1_account 176 = .ok (.getfield 34, 3) := dk_180 0 34 (dk_at dksX1_account_5 9 rfl rfl)
theorem dX1_account_179 : decode cX1_account 179 = .ok (.invokevirtual 347, 3) := dk_182 1 91 (dk_at dksX1_account_5 12 rfl rfl)
theorem dX1_account_182 : decode cX1_account 182 = .ok (.ireturn, 1) := dk_172 (dk_at dksX1_account_5 15 rfl rfl)
theorem dX1_account_183 : decode cX1_account 183 = .ok (.aload_n 0, 1) := dk_42 (dk_at dksX1_account_5 16 rfl rfl)
theorem dX1_account_184 : decode cX1_account 184 = .ok (.getfield 34, 3) := dk_180 0 34 (dk_at dksX1_account_5 17 rfl rfl)
theorem dX1_account_187 : decode cX1_account 187 = .ok (.getfield 350, 3) := dk_180 1 94 (dk_at dksX1_account_5 20 rfl rfl)
theorem dX1_account_190 : decode cX1_account 190 = .ok (.ireturn, 1) := dk_172 (dk_at dksX1_account_5 23 rfl rfl)
theorem dX1_account_191 : decode cX1_account 191 = .ok (.aload_n 0, 1) := dk_42 (dk_at dksX1_account_6 0 rfl rfl)
theorem dX1_account_192 : decode cX1_account 192 = .ok (.getfield 34, 3) := dk_180 0 34 (dk_at dksX1_account_6 1 rfl rfl)
theorem dX1_account_195 : decode cX1_account 195 = .ok (.getfield 353, 3) := dk_180 1 97 (dk_at dksX1_account_6 4 rfl rfl)
theorem dX1_account_198 : decode cX1_account 198 = .ok (.ireturn, 1) := dk_172 (dk_at dksX1_account_6 7 rfl rfl)
theorem dX1_account_199 : decode cX1_account 199 = .ok (.aload_n 0, 1) := dk_42 (dk_at dksX1_account_6 8 rfl rfl)
theorem dX1_account_200 : decode cX1_account 200 = .ok (.getfield 34, 3) := dk_180 0 34 (dk_at dksX1_account_6 9 rfl rfl)
theorem dX1_account_203 : decode cX1_account 203 = .ok (.iconst 1, 1) := dk_4 (dk_at dksX1_account_6 12 rfl rfl)
theorem dX1_account_204 : decode cX1_account 204 = .ok (.invokevirtual 328, 3) := dk_182 1 72 (dk_at dksX1_account_6 13 rfl rfl)
theorem dX1_account_207 : decode cX1_account 207 = .ok (.ireturn, 1) := dk_172 (dk_at dksX1_account_6 16 rfl rfl)
theorem dX1_account_208 : decode cX1_account 208 = .ok (.aload_n 0, 1) := dk_42 (dk_at dksX1_account_6 17 rfl rfl)
theorem dX1_account_209 : decode cX1_account 209 = .ok (.getfield 34, 3) := dk_180 0 34 (dk_at dksX1_account_6 18 rfl rfl)
theorem dX1_account_212 : decode cX1_account 212 = .ok (.getfield 334, 3) := dk_180 1 78 (dk_at dksX1_account_6 21 rfl rfl)
theorem dX1_account_215 : decode cX1_account 215 = .ok (.ireturn, 1) := dk_172 (dk_at dksX1_account_7 0 rfl rfl)
theorem dX1_account_216 : decode cX1_account 216 = .ok (.aload_n 0, 1) := dk_42 (dk_at dksX1_account_7 1 rfl rfl)
theorem dX1_account_217 : decode cX1_account 217 = .ok (.getfield 34, 3) := dk_180 0 34 (dk_at dksX1_account_7 2 rfl rfl)
theorem dX1_account_220 : decode cX1_account 220 = .ok (.getfield 337, 3) := dk_180 1 81 (dk_at dksX1_account_7 5 rfl rfl)
theorem dX1_account_223 : decode cX1_account 223 = .ok (.ireturn, 1) := dk_172 (dk_at dksX1_account_7 8 rfl rfl)
theorem dX1_account_224 : decode cX1_account 224 = .ok (.aload_n 0, 1) := dk_42 (dk_at dksX1_account_7 9 rfl rfl)
theorem dX1_account_225 : decode cX1_account 225 = .ok (.getfield 34, 3) := dk_180 0 34 (dk_at dksX1_account_7 10 rfl rfl)
theorem dX1_account_228 : decode cX1_account 228 = .ok (.getfield 356, 3) := dk_180 1 100 (dk_at dksX1_account_7 13 rfl rfl)
theorem dX1_account_231 : decode cX1_account 231 = .ok (.ireturn, 1) := dk_172 (dk_at dksX1_account_7 16 rfl rfl)
theorem dX1_account_232 : decode cX1_account 232 = .ok (.aload_n 0, 1) := dk_42 (dk_at dksX1_account_7 17 rfl rfl)
theorem dX1_account_233 : decode cX1_account 233 = .ok (.getfield 34, 3) := dk_180 0 34 (dk_at dksX1_account_7 18 rfl rfl)
theorem dX1_account_236 : decode cX1_account 236 = .ok (.invokevirtual 359, 3) := dk_182 1 103 (dk_at dksX1_account_7 21 rfl rfl)
theorem dX1_account_239 : decode cX1_account 239 = .ok (.ireturn, 1) := dk_172 (dk_at dksX1_account_8 0 rfl rfl)
theorem dX1_account_240 : decode cX1_account 240 = .ok (.aload_n 0, 1) := dk_42 (dk_at dksX1_account_8 1 rfl rfl)
theorem dX1_account_241 : decode cX1_account 241 = .ok (.getfield 48, 3) := dk_180 0 48 (dk_at dksX1_account_8 2 rfl rfl)
theorem dX1_account_244 : decode cX1_account 244 = .ok (.invokevirtual 253, 3) := dk_182 0 253 (dk_at dksX1_account_8 5 rfl rfl)
theorem dX1_account_247 : decode cX1_account 247 = .ok (.ireturn, 1) := dk_172 (dk_at dksX1_account_8 8 rfl rfl)
theorem dX1_account_248 : decode cX1_account 248 = .ok (.aload_n 0, 1) := dk_42 (dk_at dksX1_account_8 9 rfl rfl)
theorem dX1_account_249 : decode cX1_account 249 = .ok (.getfield 41, 3) := dk_180 0 41 (dk_at dksX1_account_8 10 rfl rfl)
theorem dX1_account_252 : decode cX1_account 252 = .ok (.invokeinterface 62 1, 5) := by decide +kernel
theorem dX1_account_257 : decode cX1_account 257 = .ok (.ireturn, 1) := dk_172 (dk_at dksX1_account_8 18 rfl rfl)
theorem dX1_account_258 : decode cX1_account 258 = .ok (.new 165, 3) := dk_187 0 165 (dk_at dksX1_account_8 19 rfl rfl)
theorem dX1_account_261 : decode cX1_account 261 = .ok (.dup, 1) := dk_89 (dk_at dksX1_account_8 22 rfl rfl)
theorem dX1_account_262 : decode cX1_account 262 = .ok (.invokespecial 167, 3) := dk_183 0 167 (dk_at dksX1_account_9 0 rfl rfl)
theorem dX1_account_265 : decode cX1_account 265 = .ok (.athrow, 1) := dk_191 (dk_at dksX1_account_9 3 rfl rfl)
abbrev cX1_undo : ByteArray := prog_1_method_51_code
def yX1_undo : MethodName := ⟨RX1, "undo", "()I"⟩
def dkwX1_undo_1 : List UInt8 := [180, 0, 41, 185, 1, 109, 1, 0, 192, 0, 31, 181, 0, 34, 42, 180, 0, 41, 185, 0, 62, 1, 0, 172]
abbrev dktX1_undo_1 : List UInt8 := dkwX1_undo_1 ++ []
def dkwX1_undo_0 : List UInt8 := [42, 180, 0, 41, 185, 1, 108, 1, 0, 154, 0, 7, 4, 167, 0, 4, 3, 184, 0, 217, 42, 42]
abbrev dktX1_undo_0 : List UInt8 := dkwX1_undo_0 ++ dktX1_undo_1
theorem dksX1_undo_0 : cX1_undo.data.toList.drop 0 = dktX1_undo_0 := by decide +kernel
theorem dksX1_undo_1 : cX1_undo.data.toList.drop 22 = dktX1_undo_1 := dk_seg dksX1_undo_0 22 rfl rfl
theorem dX1_undo_0 : decode cX1_undo 0 = .ok (.aload_n 0, 1) := dk_42 (dk_at dksX1_undo_0 0 rfl rfl)
theorem dX1_undo_1 : decode cX1_undo 1 = .ok (.getfield 41, 3) := dk_180 0 41 (dk_at dksX1_undo_0 1 rfl rfl)
theorem dX1_undo_4 : decode cX1_undo 4 = .ok (.invokeinterface 364 1, 5) := by decide +kernel
theorem dX1_undo_9 : decode cX1_undo 9 = .ok (.ifCond .ne 7, 3) := dk_154 0 7 (dk_at dksX1_undo_0 9 rfl rfl)
theorem dX1_undo_12 : decode cX1_undo 12 = .ok (.iconst 1, 1) := dk_4 (dk_at dksX1_undo_0 12 rfl rfl)
theorem dX1_undo_13 : decode cX1_undo 13 = .ok (.goto 4, 3) := dk_167 0 4 (dk_at dksX1_undo_0 13 rfl rfl)
theorem dX1_undo_16 : decode cX1_undo 16 = .ok (.iconst 0, 1) := dk_3 (dk_at dksX1_undo_0 16 rfl rfl)
theorem dX1_undo_17 : decode cX1_undo 17 = .ok (.invokestatic 217, 3) := dk_184 0 217 (dk_at dksX1_undo_0 17 rfl rfl)
theorem dX1_undo_20 : decode cX1_undo 20 = .ok (.aload_n 0, 1) := dk_42 (dk_at dksX1_undo_0 20 rfl rfl)
theorem dX1_undo_21 : decode cX1_undo 21 = .ok (.aload_n 0, 1) := dk_42 (dk_at dksX1_undo_0 21 rfl rfl)
theorem dX1_undo_22 : decode cX1_undo 22 = .ok (.getfield 41, 3) := dk_180 0 41 (dk_at dksX1_undo_1 0 rfl rfl)
theorem dX1_undo_25 : decode cX1_undo 25 = .ok (.invokeinterface 365 1, 5) := by decide +kernel
theorem dX1_undo_30 : decode cX1_undo 30 = .ok (.checkcast 31, 3) := dk_192 0 31 (dk_at dksX1_undo_1 8 rfl rfl)
theorem dX1_undo_33 : decode cX1_undo 33 = .ok (.putfield 34, 3) := dk_181 0 34 (dk_at dksX1_undo_1 11 rfl rfl)
theorem dX1_undo_36 : decode cX1_undo 36 = .ok (.aload_n 0, 1) := dk_42 (dk_at dksX1_undo_1 14 rfl rfl)
theorem dX1_undo_37 : decode cX1_undo 37 = .ok (.getfield 41, 3) := dk_180 0 41 (dk_at dksX1_undo_1 15 rfl rfl)
theorem dX1_undo_40 : decode cX1_undo 40 = .ok (.invokeinterface 62 1, 5) := by decide +kernel
theorem dX1_undo_45 : decode cX1_undo 45 = .ok (.ireturn, 1) := dk_172 (dk_at dksX1_undo_1 23 rfl rfl)
abbrev cX1_restore : ByteArray := prog_1_method_53_code
def yX1_restore : MethodName := ⟨RX1, "restore", "()I"⟩
def dkwX1_restore_1 : List UInt8 := [180, 0, 41, 185, 1, 115, 1, 0, 42, 180, 0, 34, 180, 0, 220, 172]
abbrev dktX1_restore_1 : List UInt8 := dkwX1_restore_1 ++ []
def dkwX1_restore_0 : List UInt8 := [42, 180, 1, 112, 198, 0, 7, 4, 167, 0, 4, 3, 184, 0, 217, 42, 42, 180, 1, 112, 181, 0, 34, 42]
abbrev dktX1_restore_0 : List UInt8 := dkwX1_restore_0 ++ dktX1_restore_1
theorem dksX1_restore_0 : cX1_restore.data.toList.drop 0 = dktX1_restore_0 := by decide +kernel
theorem dksX1_restore_1 : cX1_restore.data.toList.drop 24 = dktX1_restore_1 := dk_seg dksX1_restore_0 24 rfl rfl
theorem dX1_restore_0 : decode cX1_restore 0 = .ok (.aload_n 0, 1) := dk_42 (dk_at dksX1_restore_0 0 rfl rfl)
theorem dX1_restore_1 : decode cX1_restore 1 = .ok (.getfield 368, 3) := dk_180 1 112 (dk_at dksX1_restore_0 1 rfl rfl)
theorem dX1_restore_4 : decode cX1_restore 4 = .ok (.ifnull 7, 3) := dk_198 0 7 (dk_at dksX1_restore_0 4 rfl rfl)
theorem dX1_restore_7 : decode cX1_restore 7 = .ok (.iconst 1, 1) := dk_4 (dk_at dksX1_restore_0 7 rfl rfl)
theorem dX1_restore_8 : decode cX1_restore 8 = .ok (.goto 4, 3) := dk_167 0 4 (dk_at dksX1_restore_0 8 rfl rfl)
theorem dX1_restore_11 : decode cX1_restore 11 = .ok (.iconst 0, 1) := dk_3 (dk_at dksX1_restore_0 11 rfl rfl)
theorem dX1_restore_12 : decode cX1_restore 12 = .ok (.invokestatic 217, 3) := dk_184 0 217 (dk_at dksX1_restore_0 12 rfl rfl)
theorem dX1_restore_15 : decode cX1_restore 15 = .ok (.aload_n 0, 1) := dk_42 (dk_at dksX1_restore_0 15 rfl rfl)
theorem dX1_restore_16 : decode cX1_restore 16 = .ok (.aload_n 0, 1) := dk_42 (dk_at dksX1_restore_0 16 rfl rfl)
theorem dX1_restore_17 : decode cX1_restore 17 = .ok (.getfield 368, 3) := dk_180 1 112 (dk_at dksX1_restore_0 17 rfl rfl)
theorem dX1_restore_20 : decode cX1_restore 20 = .ok (.putfield 34, 3) := dk_181 0 34 (dk_at dksX1_restore_0 20 rfl rfl)
theorem dX1_restore_23 : decode cX1_restore 23 = .ok (.aload_n 0, 1) := dk_42 (dk_at dksX1_restore_0 23 rfl rfl)
theorem dX1_restore_24 : decode cX1_restore 24 = .ok (.getfield 41, 3) := dk_180 0 41 (dk_at dksX1_restore_1 0 rfl rfl)
theorem dX1_restore_27 : decode cX1_restore 27 = .ok (.invokeinterface 371 1, 5) := by decide +kernel
theorem dX1_restore_32 : decode cX1_restore 32 = .ok (.aload_n 0, 1) := dk_42 (dk_at dksX1_restore_1 8 rfl rfl)
theorem dX1_restore_33 : decode cX1_restore 33 = .ok (.getfield 34, 3) := dk_180 0 34 (dk_at dksX1_restore_1 9 rfl rfl)
theorem dX1_restore_36 : decode cX1_restore 36 = .ok (.getfield 220, 3) := dk_180 0 220 (dk_at dksX1_restore_1 12 rfl rfl)
theorem dX1_restore_39 : decode cX1_restore 39 = .ok (.ireturn, 1) := dk_172 (dk_at dksX1_restore_1 15 rfl rfl)
theorem q91 : (Jvm.Cond.initialized "OtterTrust") ∈ lw_all := lw_g (lw_at lw_m1 1 rfl) rfl
theorem q142 : (Jvm.Cond.instantiable "OtterTrust" (8 : Nat)) ∈ lw_all := lw_g (lw_at lw_m1 52 rfl) rfl
theorem q144 : (Jvm.Cond.instanceMethod ({ cls := "OtterTrust", name := "<init>", desc := "()V" } : Jvm.MethodName)) ∈ lw_all := lw_g (lw_at lw_m1 54 rfl) rfl
theorem q145 : (Jvm.Cond.code ({ cls := "OtterTrust", name := "<init>", desc := "()V" } : Jvm.MethodName) prog_1_method_7_code (1 : Nat) (Option.none : Option Jvm.ClassFile.FieldType)) ∈ lw_all := lw_g (lw_at lw_m1 55 rfl) rfl
theorem q146 : (Jvm.Cond.methodLink "OtterTrust" (28 : Nat) ({ cls := "java/lang/Object", name := "<init>", desc := "()V" } : Jvm.MethodName)) ∈ lw_all := lw_g (lw_at lw_m1 56 rfl) rfl
theorem q149 : (Jvm.Cond.classLink "OtterTrust" (31 : Nat) "OtterTrust$River") ∈ lw_all := lw_g (lw_at lw_m1 59 rfl) rfl
theorem q151 : (Jvm.Cond.methodLink "OtterTrust" (33 : Nat) ({ cls := "OtterTrust$River", name := "<init>", desc := "()V" } : Jvm.MethodName)) ∈ lw_all := lw_g (lw_at lw_m1 61 rfl) rfl
theorem q208 : (Jvm.Cond.fieldLinkNest "OtterTrust" (109 : Nat) "OtterTrust$River" "reaches" "Ljava/util/List;" "OtterTrust") ∈ lw_tbl := lw_at lw_m1 118 rfl
theorem q210 : (Jvm.Cond.fieldLinkNest "OtterTrust" (126 : Nat) "OtterTrust$River" "otters" "Ljava/util/List;" "OtterTrust") ∈ lw_tbl := lw_at lw_m1 120 rfl
theorem q212 : (Jvm.Cond.fieldLinkNest "OtterTrust" (191 : Nat) "OtterTrust$River" "volunteers" "Ljava/util/List;" "OtterTrust") ∈ lw_tbl := lw_at lw_m1 122 rfl
theorem q214 : (Jvm.Cond.fieldLinkNest "OtterTrust" (178 : Nat) "OtterTrust$River" "marks" "Ljava/util/BitSet;" "OtterTrust") ∈ lw_tbl := lw_at lw_m1 124 rfl
theorem q216 : (Jvm.Cond.fieldLinkNest "OtterTrust" (350 : Nat) "OtterTrust$River" "level" "I" "OtterTrust") ∈ lw_tbl := lw_at lw_m1 126 rfl
theorem q218 : (Jvm.Cond.fieldLinkNest "OtterTrust" (353 : Nat) "OtterTrust$River" "coins" "I" "OtterTrust") ∈ lw_tbl := lw_at lw_m1 128 rfl
theorem q220 : (Jvm.Cond.fieldLinkNest "OtterTrust" (220 : Nat) "OtterTrust$River" "nights" "I" "OtterTrust") ∈ lw_tbl := lw_at lw_m1 130 rfl
theorem q222 : (Jvm.Cond.fieldLinkNest "OtterTrust" (343 : Nat) "OtterTrust$River" "born" "I" "OtterTrust") ∈ lw_tbl := lw_at lw_m1 132 rfl
theorem q224 : (Jvm.Cond.fieldLinkNest "OtterTrust" (344 : Nat) "OtterTrust$River" "lost" "I" "OtterTrust") ∈ lw_tbl := lw_at lw_m1 134 rfl
theorem q226 : (Jvm.Cond.fieldLinkNest "OtterTrust" (334 : Nat) "OtterTrust$River" "left" "I" "OtterTrust") ∈ lw_tbl := lw_at lw_m1 136 rfl
theorem q228 : (Jvm.Cond.fieldLinkNest "OtterTrust" (337 : Nat) "OtterTrust$River" "counted" "I" "OtterTrust") ∈ lw_tbl := lw_at lw_m1 138 rfl
theorem q230 : (Jvm.Cond.fieldLinkNest "OtterTrust" (356 : Nat) "OtterTrust$River" "washed" "I" "OtterTrust") ∈ lw_tbl := lw_at lw_m1 140 rfl
theorem q256 : (Jvm.Cond.classLink "OtterTrust" (38 : Nat) "java/util/ArrayDeque") ∈ lw_all := lw_g (lw_at lw_m1 166 rfl) rfl
theorem q258 : (Jvm.Cond.methodLink "OtterTrust" (40 : Nat) ({ cls := "java/util/ArrayDeque", name := "<init>", desc := "()V" } : Jvm.MethodName)) ∈ lw_all := lw_g (lw_at lw_m1 168 rfl) rfl
theorem q274 : (Jvm.Cond.classLink "OtterTrust" (45 : Nat) "java/lang/StringBuilder") ∈ lw_all := lw_g (lw_at lw_m1 184 rfl) rfl
theorem q276 : (Jvm.Cond.methodLink "OtterTrust" (47 : Nat) ({ cls := "java/lang/StringBuilder", name := "<init>", desc := "()V" } : Jvm.MethodName)) ∈ lw_all := lw_g (lw_at lw_m1 186 rfl) rfl
theorem q307 : (Jvm.Cond.stringRef "OtterTrust" (52 : Nat) "") ∈ lw_tbl := lw_at lw_m1 217 rfl
theorem q308 : (Jvm.Cond.fieldLink "OtterTrust" (34 : Nat) "OtterTrust" "now" "LOtterTrust$River;") ∈ lw_all := lw_g (lw_at lw_m1 218 rfl) rfl
theorem q309 : (Jvm.Cond.fieldLink "OtterTrust" (368 : Nat) "OtterTrust" "saved" "LOtterTrust$River;") ∈ lw_all := lw_g (lw_at lw_m1 219 rfl) rfl
theorem q310 : (Jvm.Cond.fieldLink "OtterTrust" (41 : Nat) "OtterTrust" "earlier" "Ljava/util/Deque;") ∈ lw_all := lw_g (lw_at lw_m1 220 rfl) rfl
theorem q311 : (Jvm.Cond.fieldLink "OtterTrust" (48 : Nat) "OtterTrust" "tape" "Ljava/lang/StringBuilder;") ∈ lw_all := lw_g (lw_at lw_m1 221 rfl) rfl
theorem q312 : (Jvm.Cond.fieldLink "OtterTrust" (54 : Nat) "OtterTrust" "line" "Ljava/lang/String;") ∈ lw_all := lw_g (lw_at lw_m1 222 rfl) rfl
theorem q313 : (Jvm.Cond.fieldLink "OtterTrust" (58 : Nat) "OtterTrust" "faultPosition" "I") ∈ lw_all := lw_g (lw_at lw_m1 223 rfl) rfl
theorem q314 : (Jvm.Cond.fieldLink "OtterTrust" (76 : Nat) "OtterTrust" "latest" "LOtterTrust$Refused;") ∈ lw_all := lw_g (lw_at lw_m1 224 rfl) rfl
theorem q315 : (Jvm.Cond.fieldLink "OtterTrust" (80 : Nat) "OtterTrust" "latestPlace" "I") ∈ lw_all := lw_g (lw_at lw_m1 225 rfl) rfl
theorem q316 : (Jvm.Cond.lays "OtterTrust" "OtterTrust" "now" "LOtterTrust$River;") ∈ lw_all := lw_g (lw_at lw_m1 226 rfl) rfl
theorem q317 : (Jvm.Cond.soleField "OtterTrust" "now") ∈ lw_all := lw_g (lw_at lw_m1 227 rfl) rfl
theorem q318 : (Jvm.Cond.lays "OtterTrust" "OtterTrust" "saved" "LOtterTrust$River;") ∈ lw_all := lw_g (lw_at lw_m1 228 rfl) rfl
theorem q319 : (Jvm.Cond.soleField "OtterTrust" "saved") ∈ lw_all := lw_g (lw_at lw_m1 229 rfl) rfl
theorem q320 : (Jvm.Cond.laysFinal "OtterTrust" "OtterTrust" "earlier" "Ljava/util/Deque;") ∈ lw_all := lw_g (lw_at lw_m1 230 rfl) rfl
theorem q321 : (Jvm.Cond.soleField "OtterTrust" "earlier") ∈ lw_all := lw_g (lw_at lw_m1 231 rfl) rfl
theorem q322 : (Jvm.Cond.laysFinal "OtterTrust" "OtterTrust" "tape" "Ljava/lang/StringBuilder;") ∈ lw_all := lw_g (lw_at lw_m1 232 rfl) rfl
theorem q323 : (Jvm.Cond.soleField "OtterTrust" "tape") ∈ lw_all := lw_g (lw_at lw_m1 233 rfl) rfl
theorem q324 : (Jvm.Cond.lays "OtterTrust" "OtterTrust" "line" "Ljava/lang/String;") ∈ lw_all := lw_g (lw_at lw_m1 234 rfl) rfl
theorem q325 : (Jvm.Cond.soleField "OtterTrust" "line") ∈ lw_all := lw_g (lw_at lw_m1 235 rfl) rfl
theorem q326 : (Jvm.Cond.lays "OtterTrust" "OtterTrust" "faultPosition" "I") ∈ lw_all := lw_g (lw_at lw_m1 236 rfl) rfl
theorem q327 : (Jvm.Cond.soleField "OtterTrust" "faultPosition") ∈ lw_all := lw_g (lw_at lw_m1 237 rfl) rfl
theorem q328 : (Jvm.Cond.lays "OtterTrust" "OtterTrust" "latest" "LOtterTrust$Refused;") ∈ lw_all := lw_g (lw_at lw_m1 238 rfl) rfl
theorem q329 : (Jvm.Cond.soleField "OtterTrust" "latest") ∈ lw_all := lw_g (lw_at lw_m1 239 rfl) rfl
theorem q330 : (Jvm.Cond.lays "OtterTrust" "OtterTrust" "latestPlace" "I") ∈ lw_all := lw_g (lw_at lw_m2 0 rfl) rfl
theorem q331 : (Jvm.Cond.soleField "OtterTrust" "latestPlace") ∈ lw_all := lw_g (lw_at lw_m2 1 rfl) rfl
theorem q332 : (Jvm.Cond.superclass "OtterTrust" "java/lang/Object") ∈ lw_all := lw_g (lw_at lw_m2 2 rfl) rfl
theorem q334 : (Jvm.Cond.instanceMethod ({ cls := "OtterTrust", name := "census", desc := "()I" } : Jvm.MethodName)) ∈ lw_all := lw_g (lw_at lw_m2 4 rfl) rfl
theorem q335 : (Jvm.Cond.selects "OtterTrust" ({ cls := "OtterTrust", name := "census", desc := "()I" } : Jvm.MethodName) ({ cls := "OtterTrust", name := "census", desc := "()I" } : Jvm.MethodName)) ∈ lw_all := lw_g (lw_at lw_m2 5 rfl) rfl
theorem q336 : (Jvm.Cond.code ({ cls := "OtterTrust", name := "census", desc := "()I" } : Jvm.MethodName) prog_1_method_20_code (1 : Nat) (Option.some Jvm.ClassFile.FieldType.int)) ∈ lw_all := lw_g (lw_at lw_m2 6 rfl) rfl
theorem q337 : (Jvm.Cond.methodLink "OtterTrust" (105 : Nat) ({ cls := "OtterTrust", name := "done", desc := "(III)I" } : Jvm.MethodName)) ∈ lw_all := lw_g (lw_at lw_m2 7 rfl) rfl
theorem q338 : (Jvm.Cond.privateMethod ({ cls := "OtterTrust", name := "done", desc := "(III)I" } : Jvm.MethodName)) ∈ lw_tbl := lw_at lw_m2 8 rfl
theorem q339 : (Jvm.Cond.instanceMethod ({ cls := "OtterTrust", name := "done", desc := "(III)I" } : Jvm.MethodName)) ∈ lw_all := lw_g (lw_at lw_m2 9 rfl) rfl
theorem q340 : (Jvm.Cond.codeWith ({ cls := "OtterTrust", name := "done", desc := "(III)I" } : Jvm.MethodName) prog_1_method_10_code (6 : Nat) (Option.some Jvm.ClassFile.FieldType.int) [((13 : Nat), (38 : Nat), (39 : Nat), (13 : Nat))]) ∈ lw_all := lw_g (lw_at lw_m2 10 rfl) rfl
theorem q341 : (Jvm.Cond.classLink "OtterTrust" (13 : Nat) "OtterTrust$Refused") ∈ lw_all := lw_g (lw_at lw_m2 11 rfl) rfl
theorem q342 : (Jvm.Cond.methodLink "OtterTrust" (86 : Nat) ({ cls := "OtterTrust$River", name := "<init>", desc := "(LOtterTrust$River;)V" } : Jvm.MethodName)) ∈ lw_all := lw_g (lw_at lw_m2 12 rfl) rfl
theorem q760 : (Jvm.Cond.fieldLinkNest "OtterTrust" (135 : Nat) "OtterTrust$Reach" "cover" "I" "OtterTrust") ∈ lw_tbl := lw_at lw_m3 190 rfl
theorem q762 : (Jvm.Cond.fieldLinkNest "OtterTrust" (138 : Nat) "OtterTrust$Reach" "headroom" "I" "OtterTrust") ∈ lw_tbl := lw_at lw_m3 192 rfl
theorem q767 : (Jvm.Cond.fieldLinkNest "OtterTrust" (141 : Nat) "OtterTrust$Reach" "spraints" "I" "OtterTrust") ∈ lw_tbl := lw_at lw_m3 197 rfl
theorem q769 : (Jvm.Cond.fieldLinkNest "OtterTrust" (144 : Nat) "OtterTrust$Reach" "crossings" "I" "OtterTrust") ∈ lw_tbl := lw_at lw_m3 199 rfl
theorem q773 : (Jvm.Cond.fieldLinkNest "OtterTrust" (237 : Nat) "OtterTrust$Reach" "killed" "I" "OtterTrust") ∈ lw_tbl := lw_at lw_m3 203 rfl
theorem q776 : (Jvm.Cond.fieldLinkNest "OtterTrust" (151 : Nat) "OtterTrust$Reach" "hasHolt" "Z" "OtterTrust") ∈ lw_tbl := lw_at lw_m3 206 rfl
theorem q779 : (Jvm.Cond.fieldLinkNest "OtterTrust" (162 : Nat) "OtterTrust$Reach" "cubs" "I" "OtterTrust") ∈ lw_tbl := lw_at lw_m3 209 rfl
theorem q782 : (Jvm.Cond.fieldLinkNest "OtterTrust" (230 : Nat) "OtterTrust$Reach" "born" "I" "OtterTrust") ∈ lw_tbl := lw_at lw_m3 212 rfl
theorem q834 : (Jvm.Cond.selects "OtterTrust" ({ cls := "java/lang/Object", name := "getClass", desc := "()Ljava/lang/Class;" } : Jvm.MethodName) ({ cls := "java/lang/Object", name := "getClass", desc := "()Ljava/lang/Class;" } : Jvm.MethodName)) ∈ lw_all := lw_g (lw_at lw_m4 24 rfl) rfl
theorem q939 : (Jvm.Cond.fieldLinkNest "OtterTrust" (188 : Nat) "OtterTrust$Otter" "cameAt" "I" "OtterTrust") ∈ lw_tbl := lw_at lw_m4 129 rfl
theorem q942 : (Jvm.Cond.fieldLinkNest "OtterTrust" (175 : Nat) "OtterTrust$Otter" "reach" "I" "OtterTrust") ∈ lw_tbl := lw_at lw_m4 132 rfl
theorem q945 : (Jvm.Cond.fieldLinkNest "OtterTrust" (172 : Nat) "OtterTrust$Otter" "state" "I" "OtterTrust") ∈ lw_tbl := lw_at lw_m4 135 rfl
theorem q948 : (Jvm.Cond.fieldLinkNest "OtterTrust" (187 : Nat) "OtterTrust$Otter" "spraints" "I" "OtterTrust") ∈ lw_tbl := lw_at lw_m4 138 rfl
theorem q968 : (Jvm.Cond.fieldLinkNest "OtterTrust" (196 : Nat) "OtterTrust$Volunteer" "from" "I" "OtterTrust") ∈ lw_tbl := lw_at lw_m4 158 rfl
theorem q971 : (Jvm.Cond.fieldLinkNest "OtterTrust" (199 : Nat) "OtterTrust$Volunteer" "to" "I" "OtterTrust") ∈ lw_tbl := lw_at lw_m4 161 rfl
theorem q974 : (Jvm.Cond.fieldLinkNest "OtterTrust" (202 : Nat) "OtterTrust$Volunteer" "spraints" "I" "OtterTrust") ∈ lw_tbl := lw_at lw_m4 164 rfl
theorem q977 : (Jvm.Cond.fieldLinkNest "OtterTrust" (203 : Nat) "OtterTrust$Volunteer" "otters" "I" "OtterTrust") ∈ lw_tbl := lw_at lw_m4 167 rfl
theorem q980 : (Jvm.Cond.fieldLinkNest "OtterTrust" (205 : Nat) "OtterTrust$Volunteer" "inCensus" "I" "OtterTrust") ∈ lw_tbl := lw_at lw_m4 170 rfl
theorem q1018 : (Jvm.Cond.classLink "OtterTrust" (89 : Nat) "OtterTrust$Order") ∈ lw_all := lw_g (lw_at lw_m4 208 rfl) rfl
theorem q1020 : (Jvm.Cond.methodLink "OtterTrust" (91 : Nat) ({ cls := "OtterTrust$Order", name := "<init>", desc := "(III)V" } : Jvm.MethodName)) ∈ lw_all := lw_g (lw_at lw_m4 210 rfl) rfl
theorem q1034 : (Jvm.Cond.methodLink "OtterTrust" (94 : Nat) ({ cls := "OtterTrust$Order", name := "does", desc := "(LOtterTrust$River;)I" } : Jvm.MethodName)) ∈ lw_all := lw_g (lw_at lw_m4 224 rfl) rfl
theorem q1043 : (Jvm.Cond.static ({ cls := "OtterTrust", name := "isBetween", desc := "(III)Z" } : Jvm.MethodName)) ∈ lw_all := lw_g (lw_at lw_m4 233 rfl) rfl
theorem q1044 : (Jvm.Cond.code ({ cls := "OtterTrust", name := "isBetween", desc := "(III)Z" } : Jvm.MethodName) prog_1_method_1_code (3 : Nat) (Option.some Jvm.ClassFile.FieldType.boolean)) ∈ lw_all := lw_g (lw_at lw_m4 234 rfl) rfl
theorem q1046 : (Jvm.Cond.static ({ cls := "OtterTrust", name := "check", desc := "(ZII)V" } : Jvm.MethodName)) ∈ lw_all := lw_g (lw_at lw_m4 236 rfl) rfl
theorem q1047 : (Jvm.Cond.code ({ cls := "OtterTrust", name := "check", desc := "(ZII)V" } : Jvm.MethodName) prog_1_method_5_code (3 : Nat) (Option.none : Option Jvm.ClassFile.FieldType)) ∈ lw_all := lw_g (lw_at lw_m4 237 rfl) rfl
theorem q1056 : (Jvm.Cond.methodLink "OtterTrust" (15 : Nat) ({ cls := "OtterTrust$Refused", name := "<init>", desc := "(II)V" } : Jvm.MethodName)) ∈ lw_all := lw_g (lw_at lw_m5 6 rfl) rfl
theorem q1061 : (Jvm.Cond.fieldLinkNest "OtterTrust" (291 : Nat) "OtterTrust$Refused" "reason" "I" "OtterTrust") ∈ lw_tbl := lw_at lw_m5 11 rfl
theorem q1063 : (Jvm.Cond.fieldLinkNest "OtterTrust" (300 : Nat) "OtterTrust$Refused" "detail" "I" "OtterTrust") ∈ lw_tbl := lw_at lw_m5 13 rfl
theorem q1100 : (Jvm.Cond.static ({ cls := "OtterTrust", name := "checkRange", desc := "(III)V" } : Jvm.MethodName)) ∈ lw_all := lw_g (lw_at lw_m5 50 rfl) rfl
theorem q1101 : (Jvm.Cond.code ({ cls := "OtterTrust", name := "checkRange", desc := "(III)V" } : Jvm.MethodName) prog_1_method_6_code (3 : Nat) (Option.none : Option Jvm.ClassFile.FieldType)) ∈ lw_all := lw_g (lw_at lw_m5 51 rfl) rfl
theorem q1102 : (Jvm.Cond.methodLink "OtterTrust" (18 : Nat) ({ cls := "OtterTrust", name := "isBetween", desc := "(III)Z" } : Jvm.MethodName)) ∈ lw_all := lw_g (lw_at lw_m5 52 rfl) rfl
theorem q1103 : (Jvm.Cond.methodLink "OtterTrust" (24 : Nat) ({ cls := "OtterTrust", name := "check", desc := "(ZII)V" } : Jvm.MethodName)) ∈ lw_all := lw_g (lw_at lw_m5 53 rfl) rfl
theorem q1251 : (Jvm.Cond.methodLink "OtterTrust" (98 : Nat) ({ cls := "OtterTrust", name := "remember", desc := "(LOtterTrust$River;)V" } : Jvm.MethodName)) ∈ lw_all := lw_g (lw_at lw_m5 201 rfl) rfl
theorem q1252 : (Jvm.Cond.privateMethod ({ cls := "OtterTrust", name := "remember", desc := "(LOtterTrust$River;)V" } : Jvm.MethodName)) ∈ lw_tbl := lw_at lw_m5 202 rfl
theorem q1253 : (Jvm.Cond.instanceMethod ({ cls := "OtterTrust", name := "remember", desc := "(LOtterTrust$River;)V" } : Jvm.MethodName)) ∈ lw_all := lw_g (lw_at lw_m5 203 rfl) rfl
theorem q1254 : (Jvm.Cond.code ({ cls := "OtterTrust", name := "remember", desc := "(LOtterTrust$River;)V" } : Jvm.MethodName) prog_1_method_8_code (2 : Nat) (Option.none : Option Jvm.ClassFile.FieldType)) ∈ lw_all := lw_g (lw_at lw_m5 204 rfl) rfl
theorem q1255 : (Jvm.Cond.interfaceEntry "OtterTrust" (62 : Nat)) ∈ lw_tbl := lw_at lw_m5 205 rfl
theorem q1256 : (Jvm.Cond.methodLink "OtterTrust" (62 : Nat) ({ cls := "java/util/Deque", name := "size", desc := "()I" } : Jvm.MethodName)) ∈ lw_all := lw_g (lw_at lw_m5 206 rfl) rfl
theorem q1270 : (Jvm.Cond.interfaceEntry "OtterTrust" (68 : Nat)) ∈ lw_tbl := lw_at lw_m5 220 rfl
theorem q1271 : (Jvm.Cond.methodLink "OtterTrust" (68 : Nat) ({ cls := "java/util/Deque", name := "removeFirst", desc := "()Ljava/lang/Object;" } : Jvm.MethodName)) ∈ lw_all := lw_g (lw_at lw_m5 221 rfl) rfl
theorem q1315 : (Jvm.Cond.interfaceEntry "OtterTrust" (72 : Nat)) ∈ lw_tbl := lw_at lw_m6 25 rfl
theorem q1316 : (Jvm.Cond.methodLink "OtterTrust" (72 : Nat) ({ cls := "java/util/Deque", name := "addLast", desc := "(Ljava/lang/Object;)V" } : Jvm.MethodName)) ∈ lw_all := lw_g (lw_at lw_m6 26 rfl) rfl
theorem q1357 : (Jvm.Cond.methodLink "OtterTrust" (101 : Nat) ({ cls := "OtterTrust", name := "kept", desc := "(LOtterTrust$Refused;I)Ljava/lang/UnsupportedOperationException;" } : Jvm.MethodName)) ∈ lw_all := lw_g (lw_at lw_m6 67 rfl) rfl
theorem q1358 : (Jvm.Cond.privateMethod ({ cls := "OtterTrust", name := "kept", desc := "(LOtterTrust$Refused;I)Ljava/lang/UnsupportedOperationException;" } : Jvm.MethodName)) ∈ lw_tbl := lw_at lw_m6 68 rfl
theorem q1359 : (Jvm.Cond.instanceMethod ({ cls := "OtterTrust", name := "kept", desc := "(LOtterTrust$Refused;I)Ljava/lang/UnsupportedOperationException;" } : Jvm.MethodName)) ∈ lw_all := lw_g (lw_at lw_m6 69 rfl) rfl
theorem q1360 : (Jvm.Cond.code ({ cls := "OtterTrust", name := "kept", desc := "(LOtterTrust$Refused;I)Ljava/lang/UnsupportedOperationException;" } : Jvm.MethodName) prog_1_method_9_code (3 : Nat) (Option.some (Jvm.ClassFile.FieldType.object "java/lang/UnsupportedOperationException"))) ∈ lw_all := lw_g (lw_at lw_m6 70 rfl) rfl
theorem q1361 : (Jvm.Cond.classLink "OtterTrust" (83 : Nat) "java/lang/UnsupportedOperationException") ∈ lw_all := lw_g (lw_at lw_m6 71 rfl) rfl
theorem q1362 : (Jvm.Cond.methodLink "OtterTrust" (85 : Nat) ({ cls := "java/lang/UnsupportedOperationException", name := "<init>", desc := "()V" } : Jvm.MethodName)) ∈ lw_all := lw_g (lw_at lw_m6 72 rfl) rfl
theorem q1364 : (Jvm.Cond.instanceMethod ({ cls := "OtterTrust", name := "unseen", desc := "()I" } : Jvm.MethodName)) ∈ lw_all := lw_g (lw_at lw_m6 74 rfl) rfl
theorem q1365 : (Jvm.Cond.selects "OtterTrust" ({ cls := "OtterTrust", name := "unseen", desc := "()I" } : Jvm.MethodName) ({ cls := "OtterTrust", name := "unseen", desc := "()I" } : Jvm.MethodName)) ∈ lw_all := lw_g (lw_at lw_m6 75 rfl) rfl
theorem q1366 : (Jvm.Cond.code ({ cls := "OtterTrust", name := "unseen", desc := "()I" } : Jvm.MethodName) prog_1_method_33_code (1 : Nat) (Option.some Jvm.ClassFile.FieldType.int)) ∈ lw_all := lw_g (lw_at lw_m6 76 rfl) rfl
theorem q1367 : (Jvm.Cond.methodLink "OtterTrust" (240 : Nat) ({ cls := "OtterTrust$River", name := "unseen", desc := "()I" } : Jvm.MethodName)) ∈ lw_all := lw_g (lw_at lw_m6 77 rfl) rfl
theorem q1372 : (Jvm.Cond.instanceMethod ({ cls := "OtterTrust", name := "lonely", desc := "()I" } : Jvm.MethodName)) ∈ lw_all := lw_g (lw_at lw_m6 82 rfl) rfl
theorem q1373 : (Jvm.Cond.selects "OtterTrust" ({ cls := "OtterTrust", name := "lonely", desc := "()I" } : Jvm.MethodName) ({ cls := "OtterTrust", name := "lonely", desc := "()I" } : Jvm.MethodName)) ∈ lw_all := lw_g (lw_at lw_m6 83 rfl) rfl
theorem q1374 : (Jvm.Cond.code ({ cls := "OtterTrust", name := "lonely", desc := "()I" } : Jvm.MethodName) prog_1_method_34_code (3 : Nat) (Option.some Jvm.ClassFile.FieldType.int)) ∈ lw_all := lw_g (lw_at lw_m6 84 rfl) rfl
theorem q1375 : (Jvm.Cond.interfaceEntry "OtterTrust" (113 : Nat)) ∈ lw_tbl := lw_at lw_m6 85 rfl
theorem q1376 : (Jvm.Cond.methodLink "OtterTrust" (113 : Nat) ({ cls := "java/util/List", name := "size", desc := "()I" } : Jvm.MethodName)) ∈ lw_all := lw_g (lw_at lw_m6 86 rfl) rfl
theorem q1377 : (Jvm.Cond.interfaceEntry "OtterTrust" (120 : Nat)) ∈ lw_tbl := lw_at lw_m6 87 rfl
theorem q1378 : (Jvm.Cond.methodLink "OtterTrust" (120 : Nat) ({ cls := "java/util/List", name := "get", desc := "(I)Ljava/lang/Object;" } : Jvm.MethodName)) ∈ lw_all := lw_g (lw_at lw_m6 88 rfl) rfl
theorem q1379 : (Jvm.Cond.classLink "OtterTrust" (124 : Nat) "OtterTrust$Reach") ∈ lw_all := lw_g (lw_at lw_m6 89 rfl) rfl
theorem q1380 : (Jvm.Cond.methodLink "OtterTrust" (159 : Nat) ({ cls := "OtterTrust$River", name := "countAt", desc := "(I)I" } : Jvm.MethodName)) ∈ lw_all := lw_g (lw_at lw_m6 90 rfl) rfl
theorem q1382 : (Jvm.Cond.instanceMethod ({ cls := "OtterTrust", name := "safeLevel", desc := "()I" } : Jvm.MethodName)) ∈ lw_all := lw_g (lw_at lw_m6 92 rfl) rfl
theorem q1383 : (Jvm.Cond.selects "OtterTrust" ({ cls := "OtterTrust", name := "safeLevel", desc := "()I" } : Jvm.MethodName) ({ cls := "OtterTrust", name := "safeLevel", desc := "()I" } : Jvm.MethodName)) ∈ lw_all := lw_g (lw_at lw_m6 93 rfl) rfl
theorem q1384 : (Jvm.Cond.code ({ cls := "OtterTrust", name := "safeLevel", desc := "()I" } : Jvm.MethodName) prog_1_method_35_code (4 : Nat) (Option.some Jvm.ClassFile.FieldType.int)) ∈ lw_all := lw_g (lw_at lw_m6 94 rfl) rfl
theorem q1385 : (Jvm.Cond.methodLink "OtterTrust" (147 : Nat) ({ cls := "OtterTrust$Reach", name := "hasOpenDip", desc := "()Z" } : Jvm.MethodName)) ∈ lw_all := lw_g (lw_at lw_m6 95 rfl) rfl
theorem q1386 : (Jvm.Cond.methodLink "OtterTrust" (243 : Nat) ({ cls := "java/lang/Math", name := "min", desc := "(II)I" } : Jvm.MethodName)) ∈ lw_all := lw_g (lw_at lw_m6 96 rfl) rfl
theorem q1388 : (Jvm.Cond.instanceMethod ({ cls := "OtterTrust", name := "line", desc := "()I" } : Jvm.MethodName)) ∈ lw_all := lw_g (lw_at lw_m6 98 rfl) rfl
theorem q1389 : (Jvm.Cond.selects "OtterTrust" ({ cls := "OtterTrust", name := "line", desc := "()I" } : Jvm.MethodName) ({ cls := "OtterTrust", name := "line", desc := "()I" } : Jvm.MethodName)) ∈ lw_all := lw_g (lw_at lw_m6 99 rfl) rfl
theorem q1390 : (Jvm.Cond.code ({ cls := "OtterTrust", name := "line", desc := "()I" } : Jvm.MethodName) prog_1_method_45_code (5 : Nat) (Option.some Jvm.ClassFile.FieldType.int)) ∈ lw_all := lw_g (lw_at lw_m6 100 rfl) rfl
theorem q1391 : (Jvm.Cond.methodLink "OtterTrust" (310 : Nat) ({ cls := "OtterTrust$Reach", name := "hasBridge", desc := "()Z" } : Jvm.MethodName)) ∈ lw_all := lw_g (lw_at lw_m6 101 rfl) rfl
theorem q1392 : (Jvm.Cond.methodLink "OtterTrust" (256 : Nat) ({ cls := "java/lang/StringBuilder", name := "append", desc := "(C)Ljava/lang/StringBuilder;" } : Jvm.MethodName)) ∈ lw_all := lw_g (lw_at lw_m6 102 rfl) rfl
theorem q1412 : (Jvm.Cond.methodLink "OtterTrust" (313 : Nat) ({ cls := "java/lang/StringBuilder", name := "append", desc := "(I)Ljava/lang/StringBuilder;" } : Jvm.MethodName)) ∈ lw_all := lw_g (lw_at lw_m6 122 rfl) rfl
theorem q1413 : (Jvm.Cond.stringRef "OtterTrust" (316 : Nat) "'") ∈ lw_tbl := lw_at lw_m6 123 rfl
theorem q1414 : (Jvm.Cond.methodLink "OtterTrust" (318 : Nat) ({ cls := "java/lang/StringBuilder", name := "append", desc := "(Ljava/lang/String;)Ljava/lang/StringBuilder;" } : Jvm.MethodName)) ∈ lw_all := lw_g (lw_at lw_m6 124 rfl) rfl
theorem q1415 : (Jvm.Cond.methodLink "OtterTrust" (262 : Nat) ({ cls := "java/lang/StringBuilder", name := "toString", desc := "()Ljava/lang/String;" } : Jvm.MethodName)) ∈ lw_all := lw_g (lw_at lw_m6 125 rfl) rfl
theorem q1416 : (Jvm.Cond.methodLink "OtterTrust" (321 : Nat) ({ cls := "java/lang/String", name := "length", desc := "()I" } : Jvm.MethodName)) ∈ lw_all := lw_g (lw_at lw_m6 126 rfl) rfl
theorem q1418 : (Jvm.Cond.instanceMethod ({ cls := "OtterTrust", name := "countedAgain", desc := "()I" } : Jvm.MethodName)) ∈ lw_all := lw_g (lw_at lw_m6 128 rfl) rfl
theorem q1419 : (Jvm.Cond.selects "OtterTrust" ({ cls := "OtterTrust", name := "countedAgain", desc := "()I" } : Jvm.MethodName) ({ cls := "OtterTrust", name := "countedAgain", desc := "()I" } : Jvm.MethodName)) ∈ lw_all := lw_g (lw_at lw_m6 129 rfl) rfl
theorem q1420 : (Jvm.Cond.code ({ cls := "OtterTrust", name := "countedAgain", desc := "()I" } : Jvm.MethodName) prog_1_method_50_code (1 : Nat) (Option.some Jvm.ClassFile.FieldType.int)) ∈ lw_all := lw_g (lw_at lw_m6 130 rfl) rfl
theorem q1421 : (Jvm.Cond.methodLink "OtterTrust" (361 : Nat) ({ cls := "java/util/BitSet", name := "cardinality", desc := "()I" } : Jvm.MethodName)) ∈ lw_all := lw_g (lw_at lw_m6 131 rfl) rfl
theorem q1432 : (Jvm.Cond.instanceMethod ({ cls := "OtterTrust", name := "save", desc := "()I" } : Jvm.MethodName)) ∈ lw_all := lw_g (lw_at lw_m6 142 rfl) rfl
theorem q1433 : (Jvm.Cond.selects "OtterTrust" ({ cls := "OtterTrust", name := "save", desc := "()I" } : Jvm.MethodName) ({ cls := "OtterTrust", name := "save", desc := "()I" } : Jvm.MethodName)) ∈ lw_all := lw_g (lw_at lw_m6 143 rfl) rfl
theorem q1434 : (Jvm.Cond.code ({ cls := "OtterTrust", name := "save", desc := "()I" } : Jvm.MethodName) prog_1_method_52_code (1 : Nat) (Option.some Jvm.ClassFile.FieldType.int)) ∈ lw_all := lw_g (lw_at lw_m6 144 rfl) rfl
theorem q1440 : (Jvm.Cond.instanceMethod ({ cls := "OtterTrust", name := "reach", desc := "(II)I" } : Jvm.MethodName)) ∈ lw_all := lw_g (lw_at lw_m6 150 rfl) rfl
theorem q1441 : (Jvm.Cond.selects "OtterTrust" ({ cls := "OtterTrust", name := "reach", desc := "(II)I" } : Jvm.MethodName) ({ cls := "OtterTrust", name := "reach", desc := "(II)I" } : Jvm.MethodName)) ∈ lw_all := lw_g (lw_at lw_m6 151 rfl) rfl
theorem q1442 : (Jvm.Cond.code ({ cls := "OtterTrust", name := "reach", desc := "(II)I" } : Jvm.MethodName) prog_1_method_11_code (3 : Nat) (Option.some Jvm.ClassFile.FieldType.int)) ∈ lw_all := lw_g (lw_at lw_m6 152 rfl) rfl
theorem q1447 : (Jvm.Cond.instanceMethod ({ cls := "OtterTrust", name := "holt", desc := "(I)I" } : Jvm.MethodName)) ∈ lw_all := lw_g (lw_at lw_m6 157 rfl) rfl
theorem q1448 : (Jvm.Cond.selects "OtterTrust" ({ cls := "OtterTrust", name := "holt", desc := "(I)I" } : Jvm.MethodName) ({ cls := "OtterTrust", name := "holt", desc := "(I)I" } : Jvm.MethodName)) ∈ lw_all := lw_g (lw_at lw_m6 158 rfl) rfl
theorem q1449 : (Jvm.Cond.code ({ cls := "OtterTrust", name := "holt", desc := "(I)I" } : Jvm.MethodName) prog_1_method_12_code (2 : Nat) (Option.some Jvm.ClassFile.FieldType.int)) ∈ lw_all := lw_g (lw_at lw_m6 159 rfl) rfl
theorem q1454 : (Jvm.Cond.instanceMethod ({ cls := "OtterTrust", name := "otter", desc := "(I)I" } : Jvm.MethodName)) ∈ lw_all := lw_g (lw_at lw_m6 164 rfl) rfl
theorem q1455 : (Jvm.Cond.selects "OtterTrust" ({ cls := "OtterTrust", name := "otter", desc := "(I)I" } : Jvm.MethodName) ({ cls := "OtterTrust", name := "otter", desc := "(I)I" } : Jvm.MethodName)) ∈ lw_all := lw_g (lw_at lw_m6 165 rfl) rfl
theorem q1456 : (Jvm.Cond.code ({ cls := "OtterTrust", name := "otter", desc := "(I)I" } : Jvm.MethodName) prog_1_method_13_code (2 : Nat) (Option.some Jvm.ClassFile.FieldType.int)) ∈ lw_all := lw_g (lw_at lw_m6 166 rfl) rfl
theorem q1461 : (Jvm.Cond.instanceMethod ({ cls := "OtterTrust", name := "volunteer", desc := "(II)I" } : Jvm.MethodName)) ∈ lw_all := lw_g (lw_at lw_m6 171 rfl) rfl
theorem q1462 : (Jvm.Cond.selects "OtterTrust" ({ cls := "OtterTrust", name := "volunteer", desc := "(II)I" } : Jvm.MethodName) ({ cls := "OtterTrust", name := "volunteer", desc := "(II)I" } : Jvm.MethodName)) ∈ lw_all := lw_g (lw_at lw_m6 172 rfl) rfl
theorem q1463 : (Jvm.Cond.code ({ cls := "OtterTrust", name := "volunteer", desc := "(II)I" } : Jvm.MethodName) prog_1_method_14_code (3 : Nat) (Option.some Jvm.ClassFile.FieldType.int)) ∈ lw_all := lw_g (lw_at lw_m6 173 rfl) rfl
theorem q1468 : (Jvm.Cond.instanceMethod ({ cls := "OtterTrust", name := "level", desc := "(I)I" } : Jvm.MethodName)) ∈ lw_all := lw_g (lw_at lw_m6 178 rfl) rfl
theorem q1469 : (Jvm.Cond.selects "OtterTrust" ({ cls := "OtterTrust", name := "level", desc := "(I)I" } : Jvm.MethodName) ({ cls := "OtterTrust", name := "level", desc := "(I)I" } : Jvm.MethodName)) ∈ lw_all := lw_g (lw_at lw_m6 179 rfl) rfl
theorem q1470 : (Jvm.Cond.code ({ cls := "OtterTrust", name := "level", desc := "(I)I" } : Jvm.MethodName) prog_1_method_15_code (2 : Nat) (Option.some Jvm.ClassFile.FieldType.int)) ∈ lw_all := lw_g (lw_at lw_m6 180 rfl) rfl
theorem q1475 : (Jvm.Cond.instanceMethod ({ cls := "OtterTrust", name := "give", desc := "(I)I" } : Jvm.MethodName)) ∈ lw_all := lw_g (lw_at lw_m6 185 rfl) rfl
theorem q1476 : (Jvm.Cond.selects "OtterTrust" ({ cls := "OtterTrust", name := "give", desc := "(I)I" } : Jvm.MethodName) ({ cls := "OtterTrust", name := "give", desc := "(I)I" } : Jvm.MethodName)) ∈ lw_all := lw_g (lw_at lw_m6 186 rfl) rfl
theorem q1477 : (Jvm.Cond.code ({ cls := "OtterTrust", name := "give", desc := "(I)I" } : Jvm.MethodName) prog_1_method_16_code (2 : Nat) (Option.some Jvm.ClassFile.FieldType.int)) ∈ lw_all := lw_g (lw_at lw_m6 187 rfl) rfl
theorem q1482 : (Jvm.Cond.instanceMethod ({ cls := "OtterTrust", name := "shut", desc := "(I)I" } : Jvm.MethodName)) ∈ lw_all := lw_g (lw_at lw_m6 192 rfl) rfl
theorem q1483 : (Jvm.Cond.selects "OtterTrust" ({ cls := "OtterTrust", name := "shut", desc := "(I)I" } : Jvm.MethodName) ({ cls := "OtterTrust", name := "shut", desc := "(I)I" } : Jvm.MethodName)) ∈ lw_all := lw_g (lw_at lw_m6 193 rfl) rfl
theorem q1484 : (Jvm.Cond.code ({ cls := "OtterTrust", name := "shut", desc := "(I)I" } : Jvm.MethodName) prog_1_method_17_code (2 : Nat) (Option.some Jvm.ClassFile.FieldType.int)) ∈ lw_all := lw_g (lw_at lw_m6 194 rfl) rfl
theorem q1489 : (Jvm.Cond.instanceMethod ({ cls := "OtterTrust", name := "pass", desc := "(I)I" } : Jvm.MethodName)) ∈ lw_all := lw_g (lw_at lw_m6 199 rfl) rfl
theorem q1490 : (Jvm.Cond.selects "OtterTrust" ({ cls := "OtterTrust", name := "pass", desc := "(I)I" } : Jvm.MethodName) ({ cls := "OtterTrust", name := "pass", desc := "(I)I" } : Jvm.MethodName)) ∈ lw_all := lw_g (lw_at lw_m6 200 rfl) rfl
theorem q1491 : (Jvm.Cond.code ({ cls := "OtterTrust", name := "pass", desc := "(I)I" } : Jvm.MethodName) prog_1_method_18_code (2 : Nat) (Option.some Jvm.ClassFile.FieldType.int)) ∈ lw_all := lw_g (lw_at lw_m6 201 rfl) rfl
theorem q1496 : (Jvm.Cond.instanceMethod ({ cls := "OtterTrust", name := "walk", desc := "(I)I" } : Jvm.MethodName)) ∈ lw_all := lw_g (lw_at lw_m6 206 rfl) rfl
theorem q1497 : (Jvm.Cond.selects "OtterTrust" ({ cls := "OtterTrust", name := "walk", desc := "(I)I" } : Jvm.MethodName) ({ cls := "OtterTrust", name := "walk", desc := "(I)I" } : Jvm.MethodName)) ∈ lw_all := lw_g (lw_at lw_m6 207 rfl) rfl
theorem q1498 : (Jvm.Cond.code ({ cls := "OtterTrust", name := "walk", desc := "(I)I" } : Jvm.MethodName) prog_1_method_19_code (2 : Nat) (Option.some Jvm.ClassFile.FieldType.int)) ∈ lw_all := lw_g (lw_at lw_m6 208 rfl) rfl
theorem q1520 : (Jvm.Cond.instanceMethod ({ cls := "OtterTrust", name := "reachOf", desc := "(II)I" } : Jvm.MethodName)) ∈ lw_all := lw_g (lw_at lw_m6 230 rfl) rfl
theorem q1521 : (Jvm.Cond.selects "OtterTrust" ({ cls := "OtterTrust", name := "reachOf", desc := "(II)I" } : Jvm.MethodName) ({ cls := "OtterTrust", name := "reachOf", desc := "(II)I" } : Jvm.MethodName)) ∈ lw_all := lw_g (lw_at lw_m6 231 rfl) rfl
theorem q1522 : (Jvm.Cond.code ({ cls := "OtterTrust", name := "reachOf", desc := "(II)I" } : Jvm.MethodName) prog_1_method_23_code (4 : Nat) (Option.some Jvm.ClassFile.FieldType.int)) ∈ lw_all := lw_g (lw_at lw_m6 232 rfl) rfl
theorem q1523 : (Jvm.Cond.methodLink "OtterTrust" (131 : Nat) ({ cls := "OtterTrust", name := "requiredReach", desc := "(I)LOtterTrust$Reach;" } : Jvm.MethodName)) ∈ lw_all := lw_g (lw_at lw_m6 233 rfl) rfl
theorem q1524 : (Jvm.Cond.privateMethod ({ cls := "OtterTrust", name := "requiredReach", desc := "(I)LOtterTrust$Reach;" } : Jvm.MethodName)) ∈ lw_tbl := lw_at lw_m6 234 rfl
theorem q1525 : (Jvm.Cond.instanceMethod ({ cls := "OtterTrust", name := "requiredReach", desc := "(I)LOtterTrust$Reach;" } : Jvm.MethodName)) ∈ lw_all := lw_g (lw_at lw_m6 235 rfl) rfl
theorem q1526 : (Jvm.Cond.code ({ cls := "OtterTrust", name := "requiredReach", desc := "(I)LOtterTrust$Reach;" } : Jvm.MethodName) prog_1_method_21_code (2 : Nat) (Option.some (Jvm.ClassFile.FieldType.object "OtterTrust$Reach"))) ∈ lw_all := lw_g (lw_at lw_m6 236 rfl) rfl
theorem q1527 : (Jvm.Cond.methodLink "OtterTrust" (116 : Nat) ({ cls := "OtterTrust", name := "requireIndex", desc := "(Z)V" } : Jvm.MethodName)) ∈ lw_all := lw_g (lw_at lw_m6 237 rfl) rfl
theorem q1528 : (Jvm.Cond.static ({ cls := "OtterTrust", name := "requireIndex", desc := "(Z)V" } : Jvm.MethodName)) ∈ lw_all := lw_g (lw_at lw_m6 238 rfl) rfl
theorem q1529 : (Jvm.Cond.code ({ cls := "OtterTrust", name := "requireIndex", desc := "(Z)V" } : Jvm.MethodName) prog_1_method_2_code (1 : Nat) (Option.none : Option Jvm.ClassFile.FieldType)) ∈ lw_all := lw_g (lw_at lw_m6 239 rfl) rfl
theorem q1530 : (Jvm.Cond.classLink "OtterTrust" (1 : Nat) "java/lang/IndexOutOfBoundsException") ∈ lw_all := lw_g (lw_at lw_m7 0 rfl) rfl
theorem q1531 : (Jvm.Cond.methodLink "OtterTrust" (3 : Nat) ({ cls := "java/lang/IndexOutOfBoundsException", name := "<init>", desc := "()V" } : Jvm.MethodName)) ∈ lw_all := lw_g (lw_at lw_m7 1 rfl) rfl
theorem q1535 : (Jvm.Cond.methodLink "OtterTrust" (155 : Nat) ({ cls := "OtterTrust$River", name := "quality", desc := "(I)I" } : Jvm.MethodName)) ∈ lw_all := lw_g (lw_at lw_m7 5 rfl) rfl
theorem q1536 : (Jvm.Cond.classLink "OtterTrust" (165 : Nat) "java/lang/IllegalArgumentException") ∈ lw_all := lw_g (lw_at lw_m7 6 rfl) rfl
theorem q1537 : (Jvm.Cond.methodLink "OtterTrust" (167 : Nat) ({ cls := "java/lang/IllegalArgumentException", name := "<init>", desc := "()V" } : Jvm.MethodName)) ∈ lw_all := lw_g (lw_at lw_m7 7 rfl) rfl
theorem q1545 : (Jvm.Cond.instanceMethod ({ cls := "OtterTrust", name := "otterOf", desc := "(II)I" } : Jvm.MethodName)) ∈ lw_all := lw_g (lw_at lw_m7 15 rfl) rfl
theorem q1546 : (Jvm.Cond.selects "OtterTrust" ({ cls := "OtterTrust", name := "otterOf", desc := "(II)I" } : Jvm.MethodName) ({ cls := "OtterTrust", name := "otterOf", desc := "(II)I" } : Jvm.MethodName)) ∈ lw_all := lw_g (lw_at lw_m7 16 rfl) rfl
theorem q1547 : (Jvm.Cond.code ({ cls := "OtterTrust", name := "otterOf", desc := "(II)I" } : Jvm.MethodName) prog_1_method_24_code (4 : Nat) (Option.some Jvm.ClassFile.FieldType.int)) ∈ lw_all := lw_g (lw_at lw_m7 17 rfl) rfl
theorem q1548 : (Jvm.Cond.methodLink "OtterTrust" (168 : Nat) ({ cls := "OtterTrust", name := "requiredOtter", desc := "(I)LOtterTrust$Otter;" } : Jvm.MethodName)) ∈ lw_all := lw_g (lw_at lw_m7 18 rfl) rfl
theorem q1549 : (Jvm.Cond.privateMethod ({ cls := "OtterTrust", name := "requiredOtter", desc := "(I)LOtterTrust$Otter;" } : Jvm.MethodName)) ∈ lw_tbl := lw_at lw_m7 19 rfl
theorem q1550 : (Jvm.Cond.instanceMethod ({ cls := "OtterTrust", name := "requiredOtter", desc := "(I)LOtterTrust$Otter;" } : Jvm.MethodName)) ∈ lw_all := lw_g (lw_at lw_m7 20 rfl) rfl
theorem q1551 : (Jvm.Cond.code ({ cls := "OtterTrust", name := "requiredOtter", desc := "(I)LOtterTrust$Otter;" } : Jvm.MethodName) prog_1_method_22_code (2 : Nat) (Option.some (Jvm.ClassFile.FieldType.object "OtterTrust$Otter"))) ∈ lw_all := lw_g (lw_at lw_m7 21 rfl) rfl
theorem q1552 : (Jvm.Cond.classLink "OtterTrust" (129 : Nat) "OtterTrust$Otter") ∈ lw_all := lw_g (lw_at lw_m7 22 rfl) rfl
theorem q1553 : (Jvm.Cond.methodLink "OtterTrust" (182 : Nat) ({ cls := "java/util/BitSet", name := "get", desc := "(I)Z" } : Jvm.MethodName)) ∈ lw_all := lw_g (lw_at lw_m7 23 rfl) rfl
theorem q1558 : (Jvm.Cond.instanceMethod ({ cls := "OtterTrust", name := "volunteerOf", desc := "(II)I" } : Jvm.MethodName)) ∈ lw_all := lw_g (lw_at lw_m7 28 rfl) rfl
theorem q1559 : (Jvm.Cond.selects "OtterTrust" ({ cls := "OtterTrust", name := "volunteerOf", desc := "(II)I" } : Jvm.MethodName) ({ cls := "OtterTrust", name := "volunteerOf", desc := "(II)I" } : Jvm.MethodName)) ∈ lw_all := lw_g (lw_at lw_m7 29 rfl) rfl
theorem q1560 : (Jvm.Cond.code ({ cls := "OtterTrust", name := "volunteerOf", desc := "(II)I" } : Jvm.MethodName) prog_1_method_25_code (4 : Nat) (Option.some Jvm.ClassFile.FieldType.int)) ∈ lw_all := lw_g (lw_at lw_m7 30 rfl) rfl
theorem q1561 : (Jvm.Cond.classLink "OtterTrust" (194 : Nat) "OtterTrust$Volunteer") ∈ lw_all := lw_g (lw_at lw_m7 31 rfl) rfl
theorem q1567 : (Jvm.Cond.instanceMethod ({ cls := "OtterTrust", name := "refuge", desc := "(I)I" } : Jvm.MethodName)) ∈ lw_all := lw_g (lw_at lw_m7 37 rfl) rfl
theorem q1568 : (Jvm.Cond.selects "OtterTrust" ({ cls := "OtterTrust", name := "refuge", desc := "(I)I" } : Jvm.MethodName) ({ cls := "OtterTrust", name := "refuge", desc := "(I)I" } : Jvm.MethodName)) ∈ lw_all := lw_g (lw_at lw_m7 38 rfl) rfl
theorem q1569 : (Jvm.Cond.code ({ cls := "OtterTrust", name := "refuge", desc := "(I)I" } : Jvm.MethodName) prog_1_method_26_code (4 : Nat) (Option.some Jvm.ClassFile.FieldType.int)) ∈ lw_all := lw_g (lw_at lw_m7 39 rfl) rfl
theorem q1570 : (Jvm.Cond.methodLink "OtterTrust" (208 : Nat) ({ cls := "OtterTrust$River", name := "refuge", desc := "(I)I" } : Jvm.MethodName)) ∈ lw_all := lw_g (lw_at lw_m7 40 rfl) rfl
theorem q1571 : (Jvm.Cond.methodLink "OtterTrust" (211 : Nat) ({ cls := "OtterTrust", name := "requireElement", desc := "(Z)V" } : Jvm.MethodName)) ∈ lw_all := lw_g (lw_at lw_m7 41 rfl) rfl
theorem q1572 : (Jvm.Cond.static ({ cls := "OtterTrust", name := "requireElement", desc := "(Z)V" } : Jvm.MethodName)) ∈ lw_all := lw_g (lw_at lw_m7 42 rfl) rfl
theorem q1573 : (Jvm.Cond.code ({ cls := "OtterTrust", name := "requireElement", desc := "(Z)V" } : Jvm.MethodName) prog_1_method_4_code (1 : Nat) (Option.none : Option Jvm.ClassFile.FieldType)) ∈ lw_all := lw_g (lw_at lw_m7 43 rfl) rfl
theorem q1574 : (Jvm.Cond.classLink "OtterTrust" (10 : Nat) "java/util/NoSuchElementException") ∈ lw_all := lw_g (lw_at lw_m7 44 rfl) rfl
theorem q1575 : (Jvm.Cond.methodLink "OtterTrust" (12 : Nat) ({ cls := "java/util/NoSuchElementException", name := "<init>", desc := "()V" } : Jvm.MethodName)) ∈ lw_all := lw_g (lw_at lw_m7 45 rfl) rfl
theorem q1580 : (Jvm.Cond.instanceMethod ({ cls := "OtterTrust", name := "refugeAgain", desc := "(I)I" } : Jvm.MethodName)) ∈ lw_all := lw_g (lw_at lw_m7 50 rfl) rfl
theorem q1581 : (Jvm.Cond.selects "OtterTrust" ({ cls := "OtterTrust", name := "refugeAgain", desc := "(I)I" } : Jvm.MethodName) ({ cls := "OtterTrust", name := "refugeAgain", desc := "(I)I" } : Jvm.MethodName)) ∈ lw_all := lw_g (lw_at lw_m7 51 rfl) rfl
theorem q1582 : (Jvm.Cond.code ({ cls := "OtterTrust", name := "refugeAgain", desc := "(I)I" } : Jvm.MethodName) prog_1_method_27_code (4 : Nat) (Option.some Jvm.ClassFile.FieldType.int)) ∈ lw_all := lw_g (lw_at lw_m7 52 rfl) rfl
theorem q1583 : (Jvm.Cond.methodLink "OtterTrust" (214 : Nat) ({ cls := "OtterTrust$River", name := "refugeAgain", desc := "(I)I" } : Jvm.MethodName)) ∈ lw_all := lw_g (lw_at lw_m7 53 rfl) rfl
theorem q1596 : (Jvm.Cond.instanceMethod ({ cls := "OtterTrust", name := "goal", desc := "(I)I" } : Jvm.MethodName)) ∈ lw_all := lw_g (lw_at lw_m7 66 rfl) rfl
theorem q1597 : (Jvm.Cond.selects "OtterTrust" ({ cls := "OtterTrust", name := "goal", desc := "(I)I" } : Jvm.MethodName) ({ cls := "OtterTrust", name := "goal", desc := "(I)I" } : Jvm.MethodName)) ∈ lw_all := lw_g (lw_at lw_m7 67 rfl) rfl
theorem q1598 : (Jvm.Cond.code ({ cls := "OtterTrust", name := "goal", desc := "(I)I" } : Jvm.MethodName) prog_1_method_28_code (2 : Nat) (Option.some Jvm.ClassFile.FieldType.int)) ∈ lw_all := lw_g (lw_at lw_m7 68 rfl) rfl
theorem q1599 : (Jvm.Cond.methodLink "OtterTrust" (217 : Nat) ({ cls := "OtterTrust", name := "requireState", desc := "(Z)V" } : Jvm.MethodName)) ∈ lw_all := lw_g (lw_at lw_m7 69 rfl) rfl
theorem q1600 : (Jvm.Cond.static ({ cls := "OtterTrust", name := "requireState", desc := "(Z)V" } : Jvm.MethodName)) ∈ lw_all := lw_g (lw_at lw_m7 70 rfl) rfl
theorem q1601 : (Jvm.Cond.code ({ cls := "OtterTrust", name := "requireState", desc := "(Z)V" } : Jvm.MethodName) prog_1_method_3_code (1 : Nat) (Option.none : Option Jvm.ClassFile.FieldType)) ∈ lw_all := lw_g (lw_at lw_m7 71 rfl) rfl
theorem q1602 : (Jvm.Cond.classLink "OtterTrust" (7 : Nat) "java/lang/IllegalStateException") ∈ lw_all := lw_g (lw_at lw_m7 72 rfl) rfl
theorem q1603 : (Jvm.Cond.methodLink "OtterTrust" (9 : Nat) ({ cls := "java/lang/IllegalStateException", name := "<init>", desc := "()V" } : Jvm.MethodName)) ∈ lw_all := lw_g (lw_at lw_m7 73 rfl) rfl
theorem q1607 : (Jvm.Cond.methodLink "OtterTrust" (223 : Nat) ({ cls := "OtterTrust$River", name := "goal", desc := "(II)I" } : Jvm.MethodName)) ∈ lw_all := lw_g (lw_at lw_m7 77 rfl) rfl
theorem q1612 : (Jvm.Cond.instanceMethod ({ cls := "OtterTrust", name := "killedIn", desc := "(I)I" } : Jvm.MethodName)) ∈ lw_all := lw_g (lw_at lw_m7 82 rfl) rfl
theorem q1613 : (Jvm.Cond.selects "OtterTrust" ({ cls := "OtterTrust", name := "killedIn", desc := "(I)I" } : Jvm.MethodName) ({ cls := "OtterTrust", name := "killedIn", desc := "(I)I" } : Jvm.MethodName)) ∈ lw_all := lw_g (lw_at lw_m7 83 rfl) rfl
theorem q1614 : (Jvm.Cond.code ({ cls := "OtterTrust", name := "killedIn", desc := "(I)I" } : Jvm.MethodName) prog_1_method_29_code (4 : Nat) (Option.some Jvm.ClassFile.FieldType.int)) ∈ lw_all := lw_g (lw_at lw_m7 84 rfl) rfl
theorem q1615 : (Jvm.Cond.methodLink "OtterTrust" (227 : Nat) ({ cls := "OtterTrust$River", name := "night", desc := "()V" } : Jvm.MethodName)) ∈ lw_all := lw_g (lw_at lw_m7 85 rfl) rfl
theorem q1620 : (Jvm.Cond.instanceMethod ({ cls := "OtterTrust", name := "cubsIn", desc := "(I)I" } : Jvm.MethodName)) ∈ lw_all := lw_g (lw_at lw_m7 90 rfl) rfl
theorem q1621 : (Jvm.Cond.selects "OtterTrust" ({ cls := "OtterTrust", name := "cubsIn", desc := "(I)I" } : Jvm.MethodName) ({ cls := "OtterTrust", name := "cubsIn", desc := "(I)I" } : Jvm.MethodName)) ∈ lw_all := lw_g (lw_at lw_m7 91 rfl) rfl
theorem q1622 : (Jvm.Cond.code ({ cls := "OtterTrust", name := "cubsIn", desc := "(I)I" } : Jvm.MethodName) prog_1_method_31_code (4 : Nat) (Option.some Jvm.ClassFile.FieldType.int)) ∈ lw_all := lw_g (lw_at lw_m7 92 rfl) rfl
theorem q1623 : (Jvm.Cond.methodLink "OtterTrust" (233 : Nat) ({ cls := "OtterTrust", name := "areBorn", desc := "(LOtterTrust$River;I)Z" } : Jvm.MethodName)) ∈ lw_all := lw_g (lw_at lw_m7 93 rfl) rfl
theorem q1624 : (Jvm.Cond.static ({ cls := "OtterTrust", name := "areBorn", desc := "(LOtterTrust$River;I)Z" } : Jvm.MethodName)) ∈ lw_all := lw_g (lw_at lw_m7 94 rfl) rfl
theorem q1625 : (Jvm.Cond.code ({ cls := "OtterTrust", name := "areBorn", desc := "(LOtterTrust$River;I)Z" } : Jvm.MethodName) prog_1_method_30_code (3 : Nat) (Option.some Jvm.ClassFile.FieldType.boolean)) ∈ lw_all := lw_g (lw_at lw_m7 95 rfl) rfl
theorem q1630 : (Jvm.Cond.instanceMethod ({ cls := "OtterTrust", name := "worstDip", desc := "()I" } : Jvm.MethodName)) ∈ lw_all := lw_g (lw_at lw_m7 100 rfl) rfl
theorem q1631 : (Jvm.Cond.selects "OtterTrust" ({ cls := "OtterTrust", name := "worstDip", desc := "()I" } : Jvm.MethodName) ({ cls := "OtterTrust", name := "worstDip", desc := "()I" } : Jvm.MethodName)) ∈ lw_all := lw_g (lw_at lw_m7 101 rfl) rfl
theorem q1632 : (Jvm.Cond.code ({ cls := "OtterTrust", name := "worstDip", desc := "()I" } : Jvm.MethodName) prog_1_method_32_code (6 : Nat) (Option.some Jvm.ClassFile.FieldType.int)) ∈ lw_all := lw_g (lw_at lw_m7 102 rfl) rfl
theorem q1637 : (Jvm.Cond.instanceMethod ({ cls := "OtterTrust", name := "seenBy", desc := "(I)I" } : Jvm.MethodName)) ∈ lw_all := lw_g (lw_at lw_m7 107 rfl) rfl
theorem q1638 : (Jvm.Cond.selects "OtterTrust" ({ cls := "OtterTrust", name := "seenBy", desc := "(I)I" } : Jvm.MethodName) ({ cls := "OtterTrust", name := "seenBy", desc := "(I)I" } : Jvm.MethodName)) ∈ lw_all := lw_g (lw_at lw_m7 108 rfl) rfl
theorem q1639 : (Jvm.Cond.code ({ cls := "OtterTrust", name := "seenBy", desc := "(I)I" } : Jvm.MethodName) prog_1_method_36_code (4 : Nat) (Option.some Jvm.ClassFile.FieldType.int)) ∈ lw_all := lw_g (lw_at lw_m7 109 rfl) rfl
theorem q1640 : (Jvm.Cond.methodLink "OtterTrust" (248 : Nat) ({ cls := "OtterTrust$Volunteer", name := "reaches", desc := "(I)Z" } : Jvm.MethodName)) ∈ lw_all := lw_g (lw_at lw_m7 110 rfl) rfl
theorem q1645 : (Jvm.Cond.instanceMethod ({ cls := "OtterTrust", name := "busiest", desc := "()I" } : Jvm.MethodName)) ∈ lw_all := lw_g (lw_at lw_m7 115 rfl) rfl
theorem q1646 : (Jvm.Cond.selects "OtterTrust" ({ cls := "OtterTrust", name := "busiest", desc := "()I" } : Jvm.MethodName) ({ cls := "OtterTrust", name := "busiest", desc := "()I" } : Jvm.MethodName)) ∈ lw_all := lw_g (lw_at lw_m7 116 rfl) rfl
theorem q1647 : (Jvm.Cond.code ({ cls := "OtterTrust", name := "busiest", desc := "()I" } : Jvm.MethodName) prog_1_method_37_code (4 : Nat) (Option.some Jvm.ClassFile.FieldType.int)) ∈ lw_all := lw_g (lw_at lw_m7 117 rfl) rfl
theorem q1652 : (Jvm.Cond.instanceMethod ({ cls := "OtterTrust", name := "ranked", desc := "(I)I" } : Jvm.MethodName)) ∈ lw_all := lw_g (lw_at lw_m7 122 rfl) rfl
theorem q1653 : (Jvm.Cond.selects "OtterTrust" ({ cls := "OtterTrust", name := "ranked", desc := "(I)I" } : Jvm.MethodName) ({ cls := "OtterTrust", name := "ranked", desc := "(I)I" } : Jvm.MethodName)) ∈ lw_all := lw_g (lw_at lw_m7 123 rfl) rfl
theorem q1654 : (Jvm.Cond.code ({ cls := "OtterTrust", name := "ranked", desc := "(I)I" } : Jvm.MethodName) prog_1_method_39_code (3 : Nat) (Option.some Jvm.ClassFile.FieldType.int)) ∈ lw_all := lw_g (lw_at lw_m7 124 rfl) rfl
theorem q1655 : (Jvm.Cond.methodLink "OtterTrust" (250 : Nat) ({ cls := "OtterTrust", name := "countBetter", desc := "(I)I" } : Jvm.MethodName)) ∈ lw_all := lw_g (lw_at lw_m7 125 rfl) rfl
theorem q1656 : (Jvm.Cond.privateMethod ({ cls := "OtterTrust", name := "countBetter", desc := "(I)I" } : Jvm.MethodName)) ∈ lw_tbl := lw_at lw_m7 126 rfl
theorem q1657 : (Jvm.Cond.instanceMethod ({ cls := "OtterTrust", name := "countBetter", desc := "(I)I" } : Jvm.MethodName)) ∈ lw_all := lw_g (lw_at lw_m7 127 rfl) rfl
theorem q1658 : (Jvm.Cond.code ({ cls := "OtterTrust", name := "countBetter", desc := "(I)I" } : Jvm.MethodName) prog_1_method_38_code (5 : Nat) (Option.some Jvm.ClassFile.FieldType.int)) ∈ lw_all := lw_g (lw_at lw_m7 128 rfl) rfl
theorem q1663 : (Jvm.Cond.instanceMethod ({ cls := "OtterTrust", name := "feed", desc := "(C)I" } : Jvm.MethodName)) ∈ lw_all := lw_g (lw_at lw_m7 133 rfl) rfl
theorem q1664 : (Jvm.Cond.selects "OtterTrust" ({ cls := "OtterTrust", name := "feed", desc := "(C)I" } : Jvm.MethodName) ({ cls := "OtterTrust", name := "feed", desc := "(C)I" } : Jvm.MethodName)) ∈ lw_all := lw_g (lw_at lw_m7 134 rfl) rfl
theorem q1665 : (Jvm.Cond.code ({ cls := "OtterTrust", name := "feed", desc := "(C)I" } : Jvm.MethodName) prog_1_method_40_code (2 : Nat) (Option.some Jvm.ClassFile.FieldType.int)) ∈ lw_all := lw_g (lw_at lw_m7 135 rfl) rfl
theorem q1666 : (Jvm.Cond.methodLink "OtterTrust" (253 : Nat) ({ cls := "java/lang/StringBuilder", name := "length", desc := "()I" } : Jvm.MethodName)) ∈ lw_all := lw_g (lw_at lw_m7 136 rfl) rfl
theorem q1671 : (Jvm.Cond.instanceMethod ({ cls := "OtterTrust", name := "run", desc := "()I" } : Jvm.MethodName)) ∈ lw_all := lw_g (lw_at lw_m7 141 rfl) rfl
theorem q1672 : (Jvm.Cond.selects "OtterTrust" ({ cls := "OtterTrust", name := "run", desc := "()I" } : Jvm.MethodName) ({ cls := "OtterTrust", name := "run", desc := "()I" } : Jvm.MethodName)) ∈ lw_all := lw_g (lw_at lw_m7 142 rfl) rfl
theorem q1673 : (Jvm.Cond.codeWith ({ cls := "OtterTrust", name := "run", desc := "()I" } : Jvm.MethodName) prog_1_method_42_code (5 : Nat) (Option.some Jvm.ClassFile.FieldType.int) [((19 : Nat), (45 : Nat), (48 : Nat), (13 : Nat))]) ∈ lw_all := lw_g (lw_at lw_m7 143 rfl) rfl
theorem q1674 : (Jvm.Cond.methodLink "OtterTrust" (282 : Nat) ({ cls := "OtterTrust", name := "readOrders", desc := "()Ljava/util/LinkedList;" } : Jvm.MethodName)) ∈ lw_all := lw_g (lw_at lw_m7 144 rfl) rfl
theorem q1675 : (Jvm.Cond.privateMethod ({ cls := "OtterTrust", name := "readOrders", desc := "()Ljava/util/LinkedList;" } : Jvm.MethodName)) ∈ lw_tbl := lw_at lw_m7 145 rfl
theorem q1676 : (Jvm.Cond.instanceMethod ({ cls := "OtterTrust", name := "readOrders", desc := "()Ljava/util/LinkedList;" } : Jvm.MethodName)) ∈ lw_all := lw_g (lw_at lw_m7 146 rfl) rfl
theorem q1677 : (Jvm.Cond.codeWith ({ cls := "OtterTrust", name := "readOrders", desc := "()Ljava/util/LinkedList;" } : Jvm.MethodName) prog_1_method_41_code (3 : Nat) (Option.some (Jvm.ClassFile.FieldType.object "java/util/LinkedList")) [((23 : Nat), (27 : Nat), (28 : Nat), (277 : Nat))]) ∈ lw_all := lw_g (lw_at lw_m7 147 rfl) rfl
theorem q1678 : (Jvm.Cond.classLink "OtterTrust" (277 : Nat) "OtterTrust$TextException") ∈ lw_all := lw_g (lw_at lw_m7 148 rfl) rfl
theorem q1679 : (Jvm.Cond.classLink "OtterTrust" (260 : Nat) "OtterTrust$Reader") ∈ lw_all := lw_g (lw_at lw_m7 149 rfl) rfl
theorem q1681 : (Jvm.Cond.methodLink "OtterTrust" (266 : Nat) ({ cls := "OtterTrust$Reader", name := "<init>", desc := "(Ljava/lang/String;)V" } : Jvm.MethodName)) ∈ lw_all := lw_g (lw_at lw_m7 151 rfl) rfl
theorem q1692 : (Jvm.Cond.methodLink "OtterTrust" (269 : Nat) ({ cls := "java/lang/StringBuilder", name := "setLength", desc := "(I)V" } : Jvm.MethodName)) ∈ lw_all := lw_g (lw_at lw_m7 162 rfl) rfl
theorem q1744 : (Jvm.Cond.methodLink "OtterTrust" (273 : Nat) ({ cls := "OtterTrust$Reader", name := "whole", desc := "()Ljava/util/LinkedList;" } : Jvm.MethodName)) ∈ lw_all := lw_g (lw_at lw_m7 214 rfl) rfl
theorem q1818 : (Jvm.Cond.fieldLinkNest "OtterTrust" (279 : Nat) "OtterTrust$TextException" "position" "I" "OtterTrust") ∈ lw_tbl := lw_at lw_m8 48 rfl
theorem q1839 : (Jvm.Cond.methodLink "OtterTrust" (285 : Nat) ({ cls := "java/util/LinkedList", name := "isEmpty", desc := "()Z" } : Jvm.MethodName)) ∈ lw_all := lw_g (lw_at lw_m8 69 rfl) rfl
theorem q1846 : (Jvm.Cond.methodLink "OtterTrust" (290 : Nat) ({ cls := "java/util/LinkedList", name := "removeFirst", desc := "()Ljava/lang/Object;" } : Jvm.MethodName)) ∈ lw_all := lw_g (lw_at lw_m8 76 rfl) rfl
theorem q1851 : (Jvm.Cond.instanceMethod ({ cls := "OtterTrust", name := "faultPosition", desc := "()I" } : Jvm.MethodName)) ∈ lw_all := lw_g (lw_at lw_m8 81 rfl) rfl
theorem q1852 : (Jvm.Cond.selects "OtterTrust" ({ cls := "OtterTrust", name := "faultPosition", desc := "()I" } : Jvm.MethodName) ({ cls := "OtterTrust", name := "faultPosition", desc := "()I" } : Jvm.MethodName)) ∈ lw_all := lw_g (lw_at lw_m8 82 rfl) rfl
theorem q1853 : (Jvm.Cond.code ({ cls := "OtterTrust", name := "faultPosition", desc := "()I" } : Jvm.MethodName) prog_1_method_43_code (1 : Nat) (Option.some Jvm.ClassFile.FieldType.int)) ∈ lw_all := lw_g (lw_at lw_m8 83 rfl) rfl
theorem q1858 : (Jvm.Cond.instanceMethod ({ cls := "OtterTrust", name := "reason", desc := "(I)I" } : Jvm.MethodName)) ∈ lw_all := lw_g (lw_at lw_m8 88 rfl) rfl
theorem q1859 : (Jvm.Cond.selects "OtterTrust" ({ cls := "OtterTrust", name := "reason", desc := "(I)I" } : Jvm.MethodName) ({ cls := "OtterTrust", name := "reason", desc := "(I)I" } : Jvm.MethodName)) ∈ lw_all := lw_g (lw_at lw_m8 89 rfl) rfl
theorem q1860 : (Jvm.Cond.code ({ cls := "OtterTrust", name := "reason", desc := "(I)I" } : Jvm.MethodName) prog_1_method_44_code (3 : Nat) (Option.some Jvm.ClassFile.FieldType.int)) ∈ lw_all := lw_g (lw_at lw_m8 90 rfl) rfl
theorem q1861 : (Jvm.Cond.methodLink "OtterTrust" (294 : Nat) ({ cls := "java/lang/Integer", name := "valueOf", desc := "(I)Ljava/lang/Integer;" } : Jvm.MethodName)) ∈ lw_all := lw_g (lw_at lw_m8 91 rfl) rfl
theorem q1881 : (Jvm.Cond.methodLink "OtterTrust" (303 : Nat) ({ cls := "java/util/List", name := "of", desc := "(Ljava/lang/Object;Ljava/lang/Object;Ljava/lang/Object;)Ljava/util/List;" } : Jvm.MethodName)) ∈ lw_all := lw_g (lw_at lw_m8 111 rfl) rfl
theorem q1933 : (Jvm.Cond.classLink "OtterTrust" (295 : Nat) "java/lang/Integer") ∈ lw_all := lw_g (lw_at lw_m8 163 rfl) rfl
theorem q1934 : (Jvm.Cond.methodLink "OtterTrust" (307 : Nat) ({ cls := "java/lang/Integer", name := "intValue", desc := "()I" } : Jvm.MethodName)) ∈ lw_all := lw_g (lw_at lw_m8 164 rfl) rfl
theorem q1942 : (Jvm.Cond.instanceMethod ({ cls := "OtterTrust", name := "character", desc := "(I)C" } : Jvm.MethodName)) ∈ lw_all := lw_g (lw_at lw_m8 172 rfl) rfl
theorem q1943 : (Jvm.Cond.selects "OtterTrust" ({ cls := "OtterTrust", name := "character", desc := "(I)C" } : Jvm.MethodName) ({ cls := "OtterTrust", name := "character", desc := "(I)C" } : Jvm.MethodName)) ∈ lw_all := lw_g (lw_at lw_m8 173 rfl) rfl
theorem q1944 : (Jvm.Cond.code ({ cls := "OtterTrust", name := "character", desc := "(I)C" } : Jvm.MethodName) prog_1_method_46_code (2 : Nat) (Option.some Jvm.ClassFile.FieldType.char)) ∈ lw_all := lw_g (lw_at lw_m8 174 rfl) rfl
theorem q1945 : (Jvm.Cond.methodLink "OtterTrust" (324 : Nat) ({ cls := "java/lang/String", name := "charAt", desc := "(I)C" } : Jvm.MethodName)) ∈ lw_all := lw_g (lw_at lw_m8 175 rfl) rfl
theorem q1964 : (Jvm.Cond.instanceMethod ({ cls := "OtterTrust", name := "meanQuality", desc := "()D" } : Jvm.MethodName)) ∈ lw_all := lw_g (lw_at lw_m8 194 rfl) rfl
theorem q1965 : (Jvm.Cond.selects "OtterTrust" ({ cls := "OtterTrust", name := "meanQuality", desc := "()D" } : Jvm.MethodName) ({ cls := "OtterTrust", name := "meanQuality", desc := "()D" } : Jvm.MethodName)) ∈ lw_all := lw_g (lw_at lw_m8 195 rfl) rfl
theorem q1966 : (Jvm.Cond.code ({ cls := "OtterTrust", name := "meanQuality", desc := "()D" } : Jvm.MethodName) prog_1_method_47_code (4 : Nat) (Option.some Jvm.ClassFile.FieldType.double)) ∈ lw_all := lw_g (lw_at lw_m8 196 rfl) rfl
theorem q1967 : (Jvm.Cond.methodLink "OtterTrust" (328 : Nat) ({ cls := "OtterTrust$River", name := "sum", desc := "(I)I" } : Jvm.MethodName)) ∈ lw_all := lw_g (lw_at lw_m8 197 rfl) rfl
theorem q1968 : (Jvm.Cond.classLink "OtterTrust" (331 : Nat) "java/lang/ArithmeticException") ∈ lw_all := lw_g (lw_at lw_m8 198 rfl) rfl
theorem q1969 : (Jvm.Cond.methodLink "OtterTrust" (333 : Nat) ({ cls := "java/lang/ArithmeticException", name := "<init>", desc := "()V" } : Jvm.MethodName)) ∈ lw_all := lw_g (lw_at lw_m8 199 rfl) rfl
theorem q1977 : (Jvm.Cond.instanceMethod ({ cls := "OtterTrust", name := "countedShare", desc := "()F" } : Jvm.MethodName)) ∈ lw_all := lw_g (lw_at lw_m8 207 rfl) rfl
theorem q1978 : (Jvm.Cond.selects "OtterTrust" ({ cls := "OtterTrust", name := "countedShare", desc := "()F" } : Jvm.MethodName) ({ cls := "OtterTrust", name := "countedShare", desc := "()F" } : Jvm.MethodName)) ∈ lw_all := lw_g (lw_at lw_m8 208 rfl) rfl
theorem q1979 : (Jvm.Cond.code ({ cls := "OtterTrust", name := "countedShare", desc := "()F" } : Jvm.MethodName) prog_1_method_48_code (1 : Nat) (Option.some Jvm.ClassFile.FieldType.float)) ∈ lw_all := lw_g (lw_at lw_m8 209 rfl) rfl
theorem q1984 : (Jvm.Cond.instanceMethod ({ cls := "OtterTrust", name := "account", desc := "(I)I" } : Jvm.MethodName)) ∈ lw_all := lw_g (lw_at lw_m8 214 rfl) rfl
theorem q1985 : (Jvm.Cond.selects "OtterTrust" ({ cls := "OtterTrust", name := "account", desc := "(I)I" } : Jvm.MethodName) ({ cls := "OtterTrust", name := "account", desc := "(I)I" } : Jvm.MethodName)) ∈ lw_all := lw_g (lw_at lw_m8 215 rfl) rfl
theorem q1986 : (Jvm.Cond.code ({ cls := "OtterTrust", name := "account", desc := "(I)I" } : Jvm.MethodName) prog_1_method_49_code (2 : Nat) (Option.some Jvm.ClassFile.FieldType.int)) ∈ lw_all := lw_g (lw_at lw_m8 216 rfl) rfl
theorem q1987 : (Jvm.Cond.methodLink "OtterTrust" (340 : Nat) ({ cls := "OtterTrust$River", name := "countIn", desc := "(I)I" } : Jvm.MethodName)) ∈ lw_all := lw_g (lw_at lw_m8 217 rfl) rfl
theorem q1988 : (Jvm.Cond.methodLink "OtterTrust" (347 : Nat) ({ cls := "OtterTrust$River", name := "month", desc := "()I" } : Jvm.MethodName)) ∈ lw_all := lw_g (lw_at lw_m8 218 rfl) rfl
theorem q1989 : (Jvm.Cond.methodLink "OtterTrust" (359 : Nat) ({ cls := "OtterTrust$River", name := "inCensus", desc := "()I" } : Jvm.MethodName)) ∈ lw_all := lw_g (lw_at lw_m8 219 rfl) rfl
theorem q1994 : (Jvm.Cond.instanceMethod ({ cls := "OtterTrust", name := "undo", desc := "()I" } : Jvm.MethodName)) ∈ lw_all := lw_g (lw_at lw_m8 224 rfl) rfl
theorem q1995 : (Jvm.Cond.selects "OtterTrust" ({ cls := "OtterTrust", name := "undo", desc := "()I" } : Jvm.MethodName) ({ cls := "OtterTrust", name := "undo", desc := "()I" } : Jvm.MethodName)) ∈ lw_all := lw_g (lw_at lw_m8 225 rfl) rfl
theorem q1996 : (Jvm.Cond.code ({ cls := "OtterTrust", name := "undo", desc := "()I" } : Jvm.MethodName) prog_1_method_51_code (1 : Nat) (Option.some Jvm.ClassFile.FieldType.int)) ∈ lw_all := lw_g (lw_at lw_m8 226 rfl) rfl
theorem q1997 : (Jvm.Cond.interfaceEntry "OtterTrust" (364 : Nat)) ∈ lw_tbl := lw_at lw_m8 227 rfl
theorem q2008 : (Jvm.Cond.interfaceEntry "OtterTrust" (365 : Nat)) ∈ lw_tbl := lw_at lw_m8 238 rfl
theorem q2009 : (Jvm.Cond.methodLink "OtterTrust" (365 : Nat) ({ cls := "java/util/Deque", name := "removeLast", desc := "()Ljava/lang/Object;" } : Jvm.MethodName)) ∈ lw_all := lw_g (lw_at lw_m8 239 rfl) rfl
theorem q2037 : (Jvm.Cond.instanceMethod ({ cls := "OtterTrust", name := "restore", desc := "()I" } : Jvm.MethodName)) ∈ lw_all := lw_g (lw_at lw_m9 27 rfl) rfl
theorem q2038 : (Jvm.Cond.selects "OtterTrust" ({ cls := "OtterTrust", name := "restore", desc := "()I" } : Jvm.MethodName) ({ cls := "OtterTrust", name := "restore", desc := "()I" } : Jvm.MethodName)) ∈ lw_all := lw_g (lw_at lw_m9 28 rfl) rfl
theorem q2039 : (Jvm.Cond.code ({ cls := "OtterTrust", name := "restore", desc := "()I" } : Jvm.MethodName) prog_1_method_53_code (1 : Nat) (Option.some Jvm.ClassFile.FieldType.int)) ∈ lw_all := lw_g (lw_at lw_m9 29 rfl) rfl
theorem q2040 : (Jvm.Cond.interfaceEntry "OtterTrust" (371 : Nat)) ∈ lw_tbl := lw_at lw_m9 30 rfl
theorem q2542 : (Jvm.Cond.castable "OtterTrust" "java/lang/Object") ∈ lw_tbl := lw_at lw_m11 52 rfl
theorem in_X1 : ∀ w ∈ wsX10, w ∈ lw_all := lw_in wsX10 [316, 318, 320, 322, 324, 326, 328, 330] (by decide +kernel) (by decide +kernel)
