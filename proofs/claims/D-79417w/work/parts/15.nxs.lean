/-! OtterTrust$Reach -/
set_option maxRecDepth 100000
def RX4 : String := "OtterTrust$Reach"
def TX4 : u_T := fun k => match k with
  | 0 => ("OtterTrust$Reach", "cover", "I", true)
  | 1 => ("OtterTrust$Reach", "headroom", "I", true)
  | 2 => ("OtterTrust$Reach", "isShut", "Z", false)
  | 3 => ("OtterTrust$Reach", "spraints", "I", false)
  | 4 => ("OtterTrust$Reach", "crossings", "I", false)
  | 5 => ("OtterTrust$Reach", "killed", "I", false)
  | 6 => ("OtterTrust$Reach", "hasHolt", "Z", false)
  | 7 => ("OtterTrust$Reach", "cubs", "I", false)
  | 8 => ("OtterTrust$Reach", "born", "I", false)
  | _ => ("OtterTrust$Reach", "year", "I", false)
def tyX4 : Nat → FieldType := fun k => match k with
  | 0 => .int
  | 1 => .int
  | 2 => .boolean
  | 3 => .int
  | 4 => .int
  | 5 => .int
  | 6 => .boolean
  | 7 => .int
  | 8 => .int
  | _ => .int
abbrev wsX40 : List Cond := u_ws RX4 TX4 10
theorem nmX4 : ∀ a, a < 10 → ∀ b, b < 10 → a ≠ b → (TX4 a).2.1 ≠ (TX4 b).2.1 := by decide +kernel
theorem tyX4_ok : ∀ k, k < 10 → parseFieldDescriptor (TX4 k).2.2.1 = some (tyX4 k) := by decide +kernel
abbrev cX4_init : ByteArray := prog_4_method_2_code
def yX4_init : MethodName := ⟨RX4, "<init>", "(LOtterTrust$Reach;)V"⟩
def dkwX4_init_3 : List UInt8 := [180, 0, 18, 181, 0, 18, 177]
abbrev dktX4_init_3 : List UInt8 := dkwX4_init_3 ++ []
def dkwX4_init_2 : List UInt8 := [180, 0, 37, 181, 0, 37, 42, 43, 180, 0, 40, 181, 0, 40, 42, 43, 180, 0, 43, 181, 0, 43, 42, 43]
abbrev dktX4_init_2 : List UInt8 := dkwX4_init_2 ++ dktX4_init_3
def dkwX4_init_1 : List UInt8 := [180, 0, 28, 181, 0, 28, 42, 43, 180, 0, 31, 181, 0, 31, 42, 43, 180, 0, 34, 181, 0, 34, 42, 43]
abbrev dktX4_init_1 : List UInt8 := dkwX4_init_1 ++ dktX4_init_2
def dkwX4_init_0 : List UInt8 := [42, 43, 180, 0, 9, 43, 180, 0, 15, 183, 0, 21, 42, 43, 180, 0, 24, 181, 0, 24, 42, 43]
abbrev dktX4_init_0 : List UInt8 := dkwX4_init_0 ++ dktX4_init_1
theorem dksX4_init_0 : cX4_init.data.toList.drop 0 = dktX4_init_0 := by decide +kernel
theorem dksX4_init_1 : cX4_init.data.toList.drop 22 = dktX4_init_1 := dk_seg dksX4_init_0 22 rfl rfl
theorem dksX4_init_2 : cX4_init.data.toList.drop 46 = dktX4_init_2 := dk_seg dksX4_init_1 24 rfl rfl
theorem dksX4_init_3 : cX4_init.data.toList.drop 70 = dktX4_init_3 := dk_seg dksX4_init_2 24 rfl rfl
theorem dX4_init_0 : decode cX4_init 0 = .ok (.aload_n 0, 1) := dk_42 (dk_at dksX4_init_0 0 rfl rfl)
theorem dX4_init_1 : decode cX4_init 1 = .ok (.aload_n 1, 1) := dk_43 (dk_at dksX4_init_0 1 rfl rfl)
theorem dX4_init_2 : decode cX4_init 2 = .ok (.getfield 9, 3) := dk_180 0 9 (dk_at dksX4_init_0 2 rfl rfl)
theorem dX4_init_5 : decode cX4_init 5 = .ok (.aload_n 1, 1) := dk_43 (dk_at dksX4_init_0 5 rfl rfl)
theorem dX4_init_6 : decode cX4_init 6 = .ok (.getfield 15, 3) := dk_180 0 15 (dk_at dksX4_init_0 6 rfl rfl)
theorem dX4_init_9 : decode cX4_init 9 = .ok (.invokespecial 21, 3) := dk_183 0 21 (dk_at dksX4_init_0 9 rfl rfl)
theorem dX4_init_12 : decode cX4_init 12 = .ok (.aload_n 0, 1) := dk_42 (dk_at dksX4_init_0 12 rfl rfl)
theorem dX4_init_13 : decode cX4_init 13 = .ok (.aload_n 1, 1) := dk_43 (dk_at dksX4_init_0 13 rfl rfl)
theorem dX4_init_14 : decode cX4_init 14 = .ok (.getfield 24, 3) := dk_180 0 24 (dk_at dksX4_init_0 14 rfl rfl)
theorem dX4_init_17 : decode cX4_init 17 = .ok (.putfield 24, 3) := dk_181 0 24 (dk_at dksX4_init_0 17 rfl rfl)
theorem dX4_init_20 : decode cX4_init 20 = .ok (.aload_n 0, 1) := dk_42 (dk_at dksX4_init_0 20 rfl rfl)
theorem dX4_init_21 : decode cX4_init 21 = .ok (.aload_n 1, 1) := dk_43 (dk_at dksX4_init_0 21 rfl rfl)
theorem dX4_init_22 : decode cX4_init 22 = .ok (.getfield 28, 3) := dk_180 0 28 (dk_at dksX4_init_1 0 rfl rfl)
theorem dX4_init_25 : decode cX4_init 25 = .ok (.putfield 28, 3) := dk_181 0 28 (dk_at dksX4_init_1 3 rfl rfl)
theorem dX4_init_28 : decode cX4_init 28 = .ok (.aload_n 0, 1) := dk_42 (dk_at dksX4_init_1 6 rfl rfl)
theorem dX4_init_29 : decode cX4_init 29 = .ok (.aload_n 1, 1) := dk_43 (dk_at dksX4_init_1 7 rfl rfl)
theorem dX4_init_30 : decode cX4_init 30 = .ok (.getfield 31, 3) := dk_180 0 31 (dk_at dksX4_init_1 8 rfl rfl)
theorem dX4_init_33 : decode cX4_init 33 = .ok (.putfield 31, 3) := dk_181 0 31 (dk_at dksX4_init_1 11 rfl rfl)
theorem dX4_init_36 : decode cX4_init 36 = .ok (.aload_n 0, 1) := dk_42 (dk_at dksX4_init_1 14 rfl rfl)
theorem dX4_init_37 : decode cX4_init 37 = .ok (.aload_n 1, 1) := dk_43 (dk_at dksX4_init_1 15 rfl rfl)
theorem dX4_init_38 : decode cX4_init 38 = .ok (.getfield 34, 3) := dk_180 0 34 (dk_at dksX4_init_1 16 rfl rfl)
theorem dX4_init_41 : decode cX4_init 41 = .ok (.putfield 34, 3) := dk_181 0 34 (dk_at dksX4_init_1 19 rfl rfl)
theorem dX4_init_44 : decode cX4_init 44 = .ok (.aload_n 0, 1) := dk_42 (dk_at dksX4_init_1 22 rfl rfl)
theorem dX4_init_45 : decode cX4_init 45 = .ok (.aload_n 1, 1) := dk_43 (dk_at dksX4_init_1 23 rfl rfl)
theorem dX4_init_46 : decode cX4_init 46 = .ok (.getfield 37, 3) := dk_180 0 37 (dk_at dksX4_init_2 0 rfl rfl)
theorem dX4_init_49 : decode cX4_init 49 = .ok (.putfield 37, 3) := dk_181 0 37 (dk_at dksX4_init_2 3 rfl rfl)
theorem dX4_init_52 : decode cX4_init 52 = .ok (.aload_n 0, 1) := dk_42 (dk_at dksX4_init_2 6 rfl rfl)
theorem dX4_init_53 : decode cX4_init 53 = .ok (.aload_n 1, 1) := dk_43 (dk_at dksX4_init_2 7 rfl rfl)
theorem dX4_init_54 : decode cX4_init 54 = .ok (.getfield 40, 3) := dk_180 0 40 (dk_at dksX4_init_2 8 rfl rfl)
theorem dX4_init_57 : decode cX4_init 57 = .ok (.putfield 40, 3) := dk_181 0 40 (dk_at dksX4_init_2 11 rfl rfl)
theorem dX4_init_60 : decode cX4_init 60 = .ok (.aload_n 0, 1) := dk_42 (dk_at dksX4_init_2 14 rfl rfl)
theorem dX4_init_61 : decode cX4_init 61 = .ok (.aload_n 1, 1) := dk_43 (dk_at dksX4_init_2 15 rfl rfl)
theorem dX4_init_62 : decode cX4_init 62 = .ok (.getfield 43, 3) := dk_180 0 43 (dk_at dksX4_init_2 16 rfl rfl)
theorem dX4_init_65 : decode cX4_init 65 = .ok (.putfield 43, 3) := dk_181 0 43 (dk_at dksX4_init_2 19 rfl rfl)
theorem dX4_init_68 : decode cX4_init 68 = .ok (.aload_n 0, 1) := dk_42 (dk_at dksX4_init_2 22 rfl rfl)
theorem dX4_init_69 : decode cX4_init 69 = .ok (.aload_n 1, 1) := dk_43 (dk_at dksX4_init_2 23 rfl rfl)
theorem dX4_init_70 : decode cX4_init 70 = .ok (.getfield 18, 3) := dk_180 0 18 (dk_at dksX4_init_3 0 rfl rfl)
theorem dX4_init_73 : decode cX4_init 73 = .ok (.putfield 18, 3) := dk_181 0 18 (dk_at dksX4_init_3 3 rfl rfl)
theorem dX4_init_76 : decode cX4_init 76 = .ok (.return_, 1) := dk_177 (dk_at dksX4_init_3 6 rfl rfl)
abbrev cX4_init_2 : ByteArray := prog_4_method_1_code
def yX4_init_2 : MethodName := ⟨RX4, "<init>", "(II)V"⟩
def dkwX4_init_2_0 : List UInt8 := [42, 183, 0, 3, 42, 27, 181, 0, 9, 42, 28, 181, 0, 15, 42, 2, 181, 0, 18, 177]
abbrev dktX4_init_2_0 : List UInt8 := dkwX4_init_2_0 ++ []
theorem dksX4_init_2_0 : cX4_init_2.data.toList.drop 0 = dktX4_init_2_0 := by decide +kernel
theorem dX4_init_2_0 : decode cX4_init_2 0 = .ok (.aload_n 0, 1) := dk_42 (dk_at dksX4_init_2_0 0 rfl rfl)
theorem dX4_init_2_1 : decode cX4_init_2 1 = .ok (.invokespecial 3, 3) := dk_183 0 3 (dk_at dksX4_init_2_0 1 rfl rfl)
theorem dX4_init_2_4 : decode cX4_init_2 4 = .ok (.aload_n 0, 1) := dk_42 (dk_at dksX4_init_2_0 4 rfl rfl)
theorem dX4_init_2_5 : decode cX4_init_2 5 = .ok (.iload_n 1, 1) := dk_27 (dk_at dksX4_init_2_0 5 rfl rfl)
theorem dX4_init_2_6 : decode cX4_init_2 6 = .ok (.putfield 9, 3) := dk_181 0 9 (dk_at dksX4_init_2_0 6 rfl rfl)
theorem dX4_init_2_9 : decode cX4_init_2 9 = .ok (.aload_n 0, 1) := dk_42 (dk_at dksX4_init_2_0 9 rfl rfl)
theorem dX4_init_2_10 : decode cX4_init_2 10 = .ok (.iload_n 2, 1) := dk_28 (dk_at dksX4_init_2_0 10 rfl rfl)
theorem dX4_init_2_11 : decode cX4_init_2 11 = .ok (.putfield 15, 3) := dk_181 0 15 (dk_at dksX4_init_2_0 11 rfl rfl)
theorem dX4_init_2_14 : decode cX4_init_2 14 = .ok (.aload_n 0, 1) := dk_42 (dk_at dksX4_init_2_0 14 rfl rfl)
theorem dX4_init_2_15 : decode cX4_init_2 15 = .ok (.iconst (-1), 1) := dk_2 (dk_at dksX4_init_2_0 15 rfl rfl)
theorem dX4_init_2_16 : decode cX4_init_2 16 = .ok (.putfield 18, 3) := dk_181 0 18 (dk_at dksX4_init_2_0 16 rfl rfl)
theorem dX4_init_2_19 : decode cX4_init_2 19 = .ok (.return_, 1) := dk_177 (dk_at dksX4_init_2_0 19 rfl rfl)
abbrev cX4_hasBridge : ByteArray := prog_4_method_3_code
def yX4_hasBridge : MethodName := ⟨RX4, "hasBridge", "()Z"⟩
def dkwX4_hasBridge_0 : List UInt8 := [42, 180, 0, 15, 2, 159, 0, 7, 4, 167, 0, 4, 3, 172]
abbrev dktX4_hasBridge_0 : List UInt8 := dkwX4_hasBridge_0 ++ []
theorem dksX4_hasBridge_0 : cX4_hasBridge.data.toList.drop 0 = dktX4_hasBridge_0 := by decide +kernel
theorem dX4_hasBridge_0 : decode cX4_hasBridge 0 = .ok (.aload_n 0, 1) := dk_42 (dk_at dksX4_hasBridge_0 0 rfl rfl)
theorem dX4_hasBridge_1 : decode cX4_hasBridge 1 = .ok (.getfield 15, 3) := dk_180 0 15 (dk_at dksX4_hasBridge_0 1 rfl rfl)
theorem dX4_hasBridge_4 : decode cX4_hasBridge 4 = .ok (.iconst (-1), 1) := dk_2 (dk_at dksX4_hasBridge_0 4 rfl rfl)
theorem dX4_hasBridge_5 : decode cX4_hasBridge 5 = .ok (.if_icmp .eq 7, 3) := dk_159 0 7 (dk_at dksX4_hasBridge_0 5 rfl rfl)
theorem dX4_hasBridge_8 : decode cX4_hasBridge 8 = .ok (.iconst 1, 1) := dk_4 (dk_at dksX4_hasBridge_0 8 rfl rfl)
theorem dX4_hasBridge_9 : decode cX4_hasBridge 9 = .ok (.goto 4, 3) := dk_167 0 4 (dk_at dksX4_hasBridge_0 9 rfl rfl)
theorem dX4_hasBridge_12 : decode cX4_hasBridge 12 = .ok (.iconst 0, 1) := dk_3 (dk_at dksX4_hasBridge_0 12 rfl rfl)
theorem dX4_hasBridge_13 : decode cX4_hasBridge 13 = .ok (.ireturn, 1) := dk_172 (dk_at dksX4_hasBridge_0 13 rfl rfl)
abbrev cX4_isDeadly : ByteArray := prog_4_method_5_code
def yX4_isDeadly : MethodName := ⟨RX4, "isDeadly", "(I)Z"⟩
def dkwX4_isDeadly_1 : List UInt8 := [154, 0, 16, 42, 180, 0, 31, 6, 112, 154, 0, 7, 4, 167, 0, 4, 3, 172]
abbrev dktX4_isDeadly_1 : List UInt8 := dkwX4_isDeadly_1 ++ []
def dkwX4_isDeadly_0 : List UInt8 := [27, 42, 180, 0, 15, 162, 0, 5, 3, 172, 42, 89, 180, 0, 31, 4, 96, 181, 0, 31, 42, 180, 0, 24]
abbrev dktX4_isDeadly_0 : List UInt8 := dkwX4_isDeadly_0 ++ dktX4_isDeadly_1
theorem dksX4_isDeadly_0 : cX4_isDeadly.data.toList.drop 0 = dktX4_isDeadly_0 := by decide +kernel
theorem dksX4_isDeadly_1 : cX4_isDeadly.data.toList.drop 24 = dktX4_isDeadly_1 := dk_seg dksX4_isDeadly_0 24 rfl rfl
theorem dX4_isDeadly_0 : decode cX4_isDeadly 0 = .ok (.iload_n 1, 1) := dk_27 (dk_at dksX4_isDeadly_0 0 rfl rfl)
theorem dX4_isDeadly_1 : decode cX4_isDeadly 1 = .ok (.aload_n 0, 1) := dk_42 (dk_at dksX4_isDeadly_0 1 rfl rfl)
theorem dX4_isDeadly_2 : decode cX4_isDeadly 2 = .ok (.getfield 15, 3) := dk_180 0 15 (dk_at dksX4_isDeadly_0 2 rfl rfl)
theorem dX4_isDeadly_5 : decode cX4_isDeadly 5 = .ok (.if_icmp .ge 5, 3) := dk_162 0 5 (dk_at dksX4_isDeadly_0 5 rfl rfl)
theorem dX4_isDeadly_8 : decode cX4_isDeadly 8 = .ok (.iconst 0, 1) := dk_3 (dk_at dksX4_isDeadly_0 8 rfl rfl)
theorem dX4_isDeadly_9 : decode cX4_isDeadly 9 = .ok (.ireturn, 1) := dk_172 (dk_at dksX4_isDeadly_0 9 rfl rfl)
theorem dX4_isDeadly_10 : decode cX4_isDeadly 10 = .ok (.aload_n 0, 1) := dk_42 (dk_at dksX4_isDeadly_0 10 rfl rfl)
theorem dX4_isDeadly_11 : decode cX4_isDeadly 11 = .ok (.dup, 1) := dk_89 (dk_at dksX4_isDeadly_0 11 rfl rfl)
theorem dX4_isDeadly_12 : decode cX4_isDeadly 12 = .ok (.getfield 31, 3) := dk_180 0 31 (dk_at dksX4_isDeadly_0 12 rfl rfl)
theorem dX4_isDeadly_15 : decode cX4_isDeadly 15 = .ok (.iconst 1, 1) := dk_4 (dk_at dksX4_isDeadly_0 15 rfl rfl)
theorem dX4_isDeadly_16 : decode cX4_isDeadly 16 = .ok (.iadd, 1) := dk_96 (dk_at dksX4_isDeadly_0 16 rfl rfl)
theorem dX4_isDeadly_17 : decode cX4_isDeadly 17 = .ok (.putfield 31, 3) := dk_181 0 31 (dk_at dksX4_isDeadly_0 17 rfl rfl)
theorem dX4_isDeadly_20 : decode cX4_isDeadly 20 = .ok (.aload_n 0, 1) := dk_42 (dk_at dksX4_isDeadly_0 20 rfl rfl)
theorem dX4_isDeadly_21 : decode cX4_isDeadly 21 = .ok (.getfield 24, 3) := dk_180 0 24 (dk_at dksX4_isDeadly_0 21 rfl rfl)
theorem dX4_isDeadly_24 : decode cX4_isDeadly 24 = .ok (.ifCond .ne 16, 3) := dk_154 0 16 (dk_at dksX4_isDeadly_1 0 rfl rfl)
theorem dX4_isDeadly_27 : decode cX4_isDeadly 27 = .ok (.aload_n 0, 1) := dk_42 (dk_at dksX4_isDeadly_1 3 rfl rfl)
theorem dX4_isDeadly_28 : decode cX4_isDeadly 28 = .ok (.getfield 31, 3) := dk_180 0 31 (dk_at dksX4_isDeadly_1 4 rfl rfl)
theorem dX4_isDeadly_31 : decode cX4_isDeadly 31 = .ok (.iconst 3, 1) := dk_6 (dk_at dksX4_isDeadly_1 7 rfl rfl)
theorem dX4_isDeadly_32 : decode cX4_isDeadly 32 = .ok (.irem, 1) := dk_112 (dk_at dksX4_isDeadly_1 8 rfl rfl)
theorem dX4_isDeadly_33 : decode cX4_isDeadly 33 = .ok (.ifCond .ne 7, 3) := dk_154 0 7 (dk_at dksX4_isDeadly_1 9 rfl rfl)
theorem dX4_isDeadly_36 : decode cX4_isDeadly 36 = .ok (.iconst 1, 1) := dk_4 (dk_at dksX4_isDeadly_1 12 rfl rfl)
theorem dX4_isDeadly_37 : decode cX4_isDeadly 37 = .ok (.goto 4, 3) := dk_167 0 4 (dk_at dksX4_isDeadly_1 13 rfl rfl)
theorem dX4_isDeadly_40 : decode cX4_isDeadly 40 = .ok (.iconst 0, 1) := dk_3 (dk_at dksX4_isDeadly_1 16 rfl rfl)
theorem dX4_isDeadly_41 : decode cX4_isDeadly 41 = .ok (.ireturn, 1) := dk_172 (dk_at dksX4_isDeadly_1 17 rfl rfl)
abbrev cX4_hasOpenDip : ByteArray := prog_4_method_4_code
def yX4_hasOpenDip : MethodName := ⟨RX4, "hasOpenDip", "()Z"⟩
def dkwX4_hasOpenDip_0 : List UInt8 := [42, 182, 0, 46, 153, 0, 14, 42, 180, 0, 24, 154, 0, 7, 4, 167, 0, 4, 3, 172]
abbrev dktX4_hasOpenDip_0 : List UInt8 := dkwX4_hasOpenDip_0 ++ []
theorem dksX4_hasOpenDip_0 : cX4_hasOpenDip.data.toList.drop 0 = dktX4_hasOpenDip_0 := by decide +kernel
theorem dX4_hasOpenDip_0 : decode cX4_hasOpenDip 0 = .ok (.aload_n 0, 1) := dk_42 (dk_at dksX4_hasOpenDip_0 0 rfl rfl)
theorem dX4_hasOpenDip_1 : decode cX4_hasOpenDip 1 = .ok (.invokevirtual 46, 3) := dk_182 0 46 (dk_at dksX4_hasOpenDip_0 1 rfl rfl)
theorem dX4_hasOpenDip_4 : decode cX4_hasOpenDip 4 = .ok (.ifCond .eq 14, 3) := dk_153 0 14 (dk_at dksX4_hasOpenDip_0 4 rfl rfl)
theorem dX4_hasOpenDip_7 : decode cX4_hasOpenDip 7 = .ok (.aload_n 0, 1) := dk_42 (dk_at dksX4_hasOpenDip_0 7 rfl rfl)
theorem dX4_hasOpenDip_8 : decode cX4_hasOpenDip 8 = .ok (.getfield 24, 3) := dk_180 0 24 (dk_at dksX4_hasOpenDip_0 8 rfl rfl)
theorem dX4_hasOpenDip_11 : decode cX4_hasOpenDip 11 = .ok (.ifCond .ne 7, 3) := dk_154 0 7 (dk_at dksX4_hasOpenDip_0 11 rfl rfl)
theorem dX4_hasOpenDip_14 : decode cX4_hasOpenDip 14 = .ok (.iconst 1, 1) := dk_4 (dk_at dksX4_hasOpenDip_0 14 rfl rfl)
theorem dX4_hasOpenDip_15 : decode cX4_hasOpenDip 15 = .ok (.goto 4, 3) := dk_167 0 4 (dk_at dksX4_hasOpenDip_0 15 rfl rfl)
theorem dX4_hasOpenDip_18 : decode cX4_hasOpenDip 18 = .ok (.iconst 0, 1) := dk_3 (dk_at dksX4_hasOpenDip_0 18 rfl rfl)
theorem dX4_hasOpenDip_19 : decode cX4_hasOpenDip 19 = .ok (.ireturn, 1) := dk_172 (dk_at dksX4_hasOpenDip_0 19 rfl rfl)
theorem q104 : (Jvm.Cond.initialized "OtterTrust$Reach") ∈ lw_all := lw_g (lw_at lw_m1 14 rfl) rfl
theorem q376 : (Jvm.Cond.instantiable "OtterTrust$Reach" (10 : Nat)) ∈ lw_all := lw_g (lw_at lw_m2 46 rfl) rfl
theorem q752 : (Jvm.Cond.instanceMethod ({ cls := "OtterTrust$Reach", name := "<init>", desc := "(LOtterTrust$Reach;)V" } : Jvm.MethodName)) ∈ lw_all := lw_g (lw_at lw_m3 182 rfl) rfl
theorem q753 : (Jvm.Cond.code ({ cls := "OtterTrust$Reach", name := "<init>", desc := "(LOtterTrust$Reach;)V" } : Jvm.MethodName) prog_4_method_2_code (2 : Nat) (Option.none : Option Jvm.ClassFile.FieldType)) ∈ lw_all := lw_g (lw_at lw_m3 183 rfl) rfl
theorem q754 : (Jvm.Cond.methodLink "OtterTrust$Reach" (21 : Nat) ({ cls := "OtterTrust$Reach", name := "<init>", desc := "(II)V" } : Jvm.MethodName)) ∈ lw_all := lw_g (lw_at lw_m3 184 rfl) rfl
theorem q755 : (Jvm.Cond.instanceMethod ({ cls := "OtterTrust$Reach", name := "<init>", desc := "(II)V" } : Jvm.MethodName)) ∈ lw_all := lw_g (lw_at lw_m3 185 rfl) rfl
theorem q756 : (Jvm.Cond.code ({ cls := "OtterTrust$Reach", name := "<init>", desc := "(II)V" } : Jvm.MethodName) prog_4_method_1_code (3 : Nat) (Option.none : Option Jvm.ClassFile.FieldType)) ∈ lw_all := lw_g (lw_at lw_m3 186 rfl) rfl
theorem q757 : (Jvm.Cond.methodLink "OtterTrust$Reach" (3 : Nat) ({ cls := "java/lang/Object", name := "<init>", desc := "()V" } : Jvm.MethodName)) ∈ lw_all := lw_g (lw_at lw_m3 187 rfl) rfl
theorem q758 : (Jvm.Cond.fieldLink "OtterTrust$Reach" (9 : Nat) "OtterTrust$Reach" "cover" "I") ∈ lw_all := lw_g (lw_at lw_m3 188 rfl) rfl
theorem q761 : (Jvm.Cond.fieldLink "OtterTrust$Reach" (15 : Nat) "OtterTrust$Reach" "headroom" "I") ∈ lw_all := lw_g (lw_at lw_m3 191 rfl) rfl
theorem q763 : (Jvm.Cond.fieldLink "OtterTrust$Reach" (24 : Nat) "OtterTrust$Reach" "isShut" "Z") ∈ lw_all := lw_g (lw_at lw_m3 193 rfl) rfl
theorem q765 : (Jvm.Cond.fieldLink "OtterTrust$Reach" (28 : Nat) "OtterTrust$Reach" "spraints" "I") ∈ lw_all := lw_g (lw_at lw_m3 195 rfl) rfl
theorem q768 : (Jvm.Cond.fieldLink "OtterTrust$Reach" (31 : Nat) "OtterTrust$Reach" "crossings" "I") ∈ lw_all := lw_g (lw_at lw_m3 198 rfl) rfl
theorem q771 : (Jvm.Cond.fieldLink "OtterTrust$Reach" (34 : Nat) "OtterTrust$Reach" "killed" "I") ∈ lw_all := lw_g (lw_at lw_m3 201 rfl) rfl
theorem q774 : (Jvm.Cond.fieldLink "OtterTrust$Reach" (37 : Nat) "OtterTrust$Reach" "hasHolt" "Z") ∈ lw_all := lw_g (lw_at lw_m3 204 rfl) rfl
theorem q777 : (Jvm.Cond.fieldLink "OtterTrust$Reach" (40 : Nat) "OtterTrust$Reach" "cubs" "I") ∈ lw_all := lw_g (lw_at lw_m3 207 rfl) rfl
theorem q780 : (Jvm.Cond.fieldLink "OtterTrust$Reach" (43 : Nat) "OtterTrust$Reach" "born" "I") ∈ lw_all := lw_g (lw_at lw_m3 210 rfl) rfl
theorem q783 : (Jvm.Cond.fieldLink "OtterTrust$Reach" (18 : Nat) "OtterTrust$Reach" "year" "I") ∈ lw_all := lw_g (lw_at lw_m3 213 rfl) rfl
theorem q785 : (Jvm.Cond.laysFinal "OtterTrust$Reach" "OtterTrust$Reach" "cover" "I") ∈ lw_all := lw_g (lw_at lw_m3 215 rfl) rfl
theorem q786 : (Jvm.Cond.soleField "OtterTrust$Reach" "cover") ∈ lw_all := lw_g (lw_at lw_m3 216 rfl) rfl
theorem q787 : (Jvm.Cond.laysFinal "OtterTrust$Reach" "OtterTrust$Reach" "headroom" "I") ∈ lw_all := lw_g (lw_at lw_m3 217 rfl) rfl
theorem q788 : (Jvm.Cond.soleField "OtterTrust$Reach" "headroom") ∈ lw_all := lw_g (lw_at lw_m3 218 rfl) rfl
theorem q789 : (Jvm.Cond.lays "OtterTrust$Reach" "OtterTrust$Reach" "isShut" "Z") ∈ lw_all := lw_g (lw_at lw_m3 219 rfl) rfl
theorem q790 : (Jvm.Cond.soleField "OtterTrust$Reach" "isShut") ∈ lw_all := lw_g (lw_at lw_m3 220 rfl) rfl
theorem q791 : (Jvm.Cond.lays "OtterTrust$Reach" "OtterTrust$Reach" "spraints" "I") ∈ lw_all := lw_g (lw_at lw_m3 221 rfl) rfl
theorem q792 : (Jvm.Cond.soleField "OtterTrust$Reach" "spraints") ∈ lw_all := lw_g (lw_at lw_m3 222 rfl) rfl
theorem q793 : (Jvm.Cond.lays "OtterTrust$Reach" "OtterTrust$Reach" "crossings" "I") ∈ lw_all := lw_g (lw_at lw_m3 223 rfl) rfl
theorem q794 : (Jvm.Cond.soleField "OtterTrust$Reach" "crossings") ∈ lw_all := lw_g (lw_at lw_m3 224 rfl) rfl
theorem q795 : (Jvm.Cond.lays "OtterTrust$Reach" "OtterTrust$Reach" "killed" "I") ∈ lw_all := lw_g (lw_at lw_m3 225 rfl) rfl
theorem q796 : (Jvm.Cond.soleField "OtterTrust$Reach" "killed") ∈ lw_all := lw_g (lw_at lw_m3 226 rfl) rfl
theorem q797 : (Jvm.Cond.lays "OtterTrust$Reach" "OtterTrust$Reach" "hasHolt" "Z") ∈ lw_all := lw_g (lw_at lw_m3 227 rfl) rfl
theorem q798 : (Jvm.Cond.soleField "OtterTrust$Reach" "hasHolt") ∈ lw_all := lw_g (lw_at lw_m3 228 rfl) rfl
theorem q799 : (Jvm.Cond.lays "OtterTrust$Reach" "OtterTrust$Reach" "cubs" "I") ∈ lw_all := lw_g (lw_at lw_m3 229 rfl) rfl
theorem q800 : (Jvm.Cond.soleField "OtterTrust$Reach" "cubs") ∈ lw_all := lw_g (lw_at lw_m3 230 rfl) rfl
theorem q801 : (Jvm.Cond.lays "OtterTrust$Reach" "OtterTrust$Reach" "born" "I") ∈ lw_all := lw_g (lw_at lw_m3 231 rfl) rfl
theorem q802 : (Jvm.Cond.soleField "OtterTrust$Reach" "born") ∈ lw_all := lw_g (lw_at lw_m3 232 rfl) rfl
theorem q803 : (Jvm.Cond.lays "OtterTrust$Reach" "OtterTrust$Reach" "year" "I") ∈ lw_all := lw_g (lw_at lw_m3 233 rfl) rfl
theorem q804 : (Jvm.Cond.soleField "OtterTrust$Reach" "year") ∈ lw_all := lw_g (lw_at lw_m3 234 rfl) rfl
theorem q805 : (Jvm.Cond.superclass "OtterTrust$Reach" "java/lang/Object") ∈ lw_all := lw_g (lw_at lw_m3 235 rfl) rfl
theorem q837 : (Jvm.Cond.selects "OtterTrust$Reach" ({ cls := "java/lang/Object", name := "getClass", desc := "()Ljava/lang/Class;" } : Jvm.MethodName) ({ cls := "java/lang/Object", name := "getClass", desc := "()Ljava/lang/Class;" } : Jvm.MethodName)) ∈ lw_all := lw_g (lw_at lw_m4 27 rfl) rfl
theorem q1127 : (Jvm.Cond.instanceMethod ({ cls := "OtterTrust$Reach", name := "hasBridge", desc := "()Z" } : Jvm.MethodName)) ∈ lw_all := lw_g (lw_at lw_m5 77 rfl) rfl
theorem q1128 : (Jvm.Cond.selects "OtterTrust$Reach" ({ cls := "OtterTrust$Reach", name := "hasBridge", desc := "()Z" } : Jvm.MethodName) ({ cls := "OtterTrust$Reach", name := "hasBridge", desc := "()Z" } : Jvm.MethodName)) ∈ lw_all := lw_g (lw_at lw_m5 78 rfl) rfl
theorem q1129 : (Jvm.Cond.code ({ cls := "OtterTrust$Reach", name := "hasBridge", desc := "()Z" } : Jvm.MethodName) prog_4_method_3_code (1 : Nat) (Option.some Jvm.ClassFile.FieldType.boolean)) ∈ lw_all := lw_g (lw_at lw_m5 79 rfl) rfl
theorem q1131 : (Jvm.Cond.instanceMethod ({ cls := "OtterTrust$Reach", name := "isDeadly", desc := "(I)Z" } : Jvm.MethodName)) ∈ lw_all := lw_g (lw_at lw_m5 81 rfl) rfl
theorem q1132 : (Jvm.Cond.selects "OtterTrust$Reach" ({ cls := "OtterTrust$Reach", name := "isDeadly", desc := "(I)Z" } : Jvm.MethodName) ({ cls := "OtterTrust$Reach", name := "isDeadly", desc := "(I)Z" } : Jvm.MethodName)) ∈ lw_all := lw_g (lw_at lw_m5 82 rfl) rfl
theorem q1133 : (Jvm.Cond.code ({ cls := "OtterTrust$Reach", name := "isDeadly", desc := "(I)Z" } : Jvm.MethodName) prog_4_method_5_code (2 : Nat) (Option.some Jvm.ClassFile.FieldType.boolean)) ∈ lw_all := lw_g (lw_at lw_m5 83 rfl) rfl
theorem q1203 : (Jvm.Cond.instanceMethod ({ cls := "OtterTrust$Reach", name := "hasOpenDip", desc := "()Z" } : Jvm.MethodName)) ∈ lw_all := lw_g (lw_at lw_m5 153 rfl) rfl
theorem q1204 : (Jvm.Cond.selects "OtterTrust$Reach" ({ cls := "OtterTrust$Reach", name := "hasOpenDip", desc := "()Z" } : Jvm.MethodName) ({ cls := "OtterTrust$Reach", name := "hasOpenDip", desc := "()Z" } : Jvm.MethodName)) ∈ lw_all := lw_g (lw_at lw_m5 154 rfl) rfl
theorem q1205 : (Jvm.Cond.code ({ cls := "OtterTrust$Reach", name := "hasOpenDip", desc := "()Z" } : Jvm.MethodName) prog_4_method_4_code (1 : Nat) (Option.some Jvm.ClassFile.FieldType.boolean)) ∈ lw_all := lw_g (lw_at lw_m5 155 rfl) rfl
theorem q1206 : (Jvm.Cond.methodLink "OtterTrust$Reach" (46 : Nat) ({ cls := "OtterTrust$Reach", name := "hasBridge", desc := "()Z" } : Jvm.MethodName)) ∈ lw_all := lw_g (lw_at lw_m5 156 rfl) rfl
theorem q2549 : (Jvm.Cond.castable "OtterTrust$Reach" "java/lang/Object") ∈ lw_tbl := lw_at lw_m11 59 rfl
theorem in_X4 : ∀ w ∈ wsX40, w ∈ lw_all := lw_in wsX40 [785, 787, 789, 791, 793, 795, 797, 799, 801, 803] (by decide +kernel) (by decide +kernel)
/-! OtterTrust$Otter -/
set_option maxRecDepth 100000
def RX5 : String := "OtterTrust$Otter"
def TX5 : u_T := fun k => match k with
  | 0 => ("OtterTrust$Otter", "cameAt", "I", true)
  | 1 => ("OtterTrust$Otter", "reach", "I", false)
  | 2 => ("OtterTrust$Otter", "state", "I", false)
  | _ => ("OtterTrust$Otter", "spraints", "I", false)
def tyX5 : Nat → FieldType := fun k => match k with
  | 0 => .int
  | 1 => .int
  | 2 => .int
  | _ => .int
abbrev wsX50 : List Cond := u_ws RX5 TX5 4
theorem nmX5 : ∀ a, a < 4 → ∀ b, b < 4 → a ≠ b → (TX5 a).2.1 ≠ (TX5 b).2.1 := by decide +kernel
theorem tyX5_ok : ∀ k, k < 4 → parseFieldDescriptor (TX5 k).2.2.1 = some (tyX5 k) := by decide +kernel
abbrev cX5_init : ByteArray := prog_3_method_2_code
def yX5_init : MethodName := ⟨RX5, "<init>", "(LOtterTrust$Otter;)V"⟩
def dkwX5_init_1 : List UInt8 := [180, 0, 24, 181, 0, 24, 177]
abbrev dktX5_init_1 : List UInt8 := dkwX5_init_1 ++ []
def dkwX5_init_0 : List UInt8 := [42, 43, 180, 0, 9, 43, 180, 0, 15, 183, 0, 21, 42, 43, 180, 0, 18, 181, 0, 18, 42, 43]
abbrev dktX5_init_0 : List UInt8 := dkwX5_init_0 ++ dktX5_init_1
theorem dksX5_init_0 : cX5_init.data.toList.drop 0 = dktX5_init_0 := by decide +kernel
theorem dksX5_init_1 : cX5_init.data.toList.drop 22 = dktX5_init_1 := dk_seg dksX5_init_0 22 rfl rfl
theorem dX5_init_0 : decode cX5_init 0 = .ok (.aload_n 0, 1) := dk_42 (dk_at dksX5_init_0 0 rfl rfl)
theorem dX5_init_1 : decode cX5_init 1 = .ok (.aload_n 1, 1) := dk_43 (dk_at dksX5_init_0 1 rfl rfl)
theorem dX5_init_2 : decode cX5_init 2 = .ok (.getfield 9, 3) := dk_180 0 9 (dk_at dksX5_init_0 2 rfl rfl)
theorem dX5_init_5 : decode cX5_init 5 = .ok (.aload_n 1, 1) := dk_43 (dk_at dksX5_init_0 5 rfl rfl)
theorem dX5_init_6 : decode cX5_init 6 = .ok (.getfield 15, 3) := dk_180 0 15 (dk_at dksX5_init_0 6 rfl rfl)
theorem dX5_init_9 : decode cX5_init 9 = .ok (.invokespecial 21, 3) := dk_183 0 21 (dk_at dksX5_init_0 9 rfl rfl)
theorem dX5_init_12 : decode cX5_init 12 = .ok (.aload_n 0, 1) := dk_42 (dk_at dksX5_init_0 12 rfl rfl)
theorem dX5_init_13 : decode cX5_init 13 = .ok (.aload_n 1, 1) := dk_43 (dk_at dksX5_init_0 13 rfl rfl)
theorem dX5_init_14 : decode cX5_init 14 = .ok (.getfield 18, 3) := dk_180 0 18 (dk_at dksX5_init_0 14 rfl rfl)
theorem dX5_init_17 : decode cX5_init 17 = .ok (.putfield 18, 3) := dk_181 0 18 (dk_at dksX5_init_0 17 rfl rfl)
theorem dX5_init_20 : decode cX5_init 20 = .ok (.aload_n 0, 1) := dk_42 (dk_at dksX5_init_0 20 rfl rfl)
theorem dX5_init_21 : decode cX5_init 21 = .ok (.aload_n 1, 1) := dk_43 (dk_at dksX5_init_0 21 rfl rfl)
theorem dX5_init_22 : decode cX5_init 22 = .ok (.getfield 24, 3) := dk_180 0 24 (dk_at dksX5_init_1 0 rfl rfl)
theorem dX5_init_25 : decode cX5_init 25 = .ok (.putfield 24, 3) := dk_181 0 24 (dk_at dksX5_init_1 3 rfl rfl)
theorem dX5_init_28 : decode cX5_init 28 = .ok (.return_, 1) := dk_177 (dk_at dksX5_init_1 6 rfl rfl)
abbrev cX5_init_2 : ByteArray := prog_3_method_1_code
def yX5_init_2 : MethodName := ⟨RX5, "<init>", "(II)V"⟩
def dkwX5_init_2_1 : List UInt8 := [3, 181, 0, 18, 177]
abbrev dktX5_init_2_1 : List UInt8 := dkwX5_init_2_1 ++ []
def dkwX5_init_2_0 : List UInt8 := [42, 183, 0, 3, 42, 27, 181, 0, 9, 42, 28, 181, 0, 15, 42, 27, 2, 160, 0, 7, 5, 167, 0, 4]
abbrev dktX5_init_2_0 : List UInt8 := dkwX5_init_2_0 ++ dktX5_init_2_1
theorem dksX5_init_2_0 : cX5_init_2.data.toList.drop 0 = dktX5_init_2_0 := by decide +kernel
theorem dksX5_init_2_1 : cX5_init_2.data.toList.drop 24 = dktX5_init_2_1 := dk_seg dksX5_init_2_0 24 rfl rfl
theorem dX5_init_2_0 : decode cX5_init_2 0 = .ok (.aload_n 0, 1) := dk_42 (dk_at dksX5_init_2_0 0 rfl rfl)
theorem dX5_init_2_1 : decode cX5_init_2 1 = .ok (.invokespecial 3, 3) := dk_183 0 3 (dk_at dksX5_init_2_0 1 rfl rfl)
theorem dX5_init_2_4 : decode cX5_init_2 4 = .ok (.aload_n 0, 1) := dk_42 (dk_at dksX5_init_2_0 4 rfl rfl)
theorem dX5_init_2_5 : decode cX5_init_2 5 = .ok (.iload_n 1, 1) := dk_27 (dk_at dksX5_init_2_0 5 rfl rfl)
theorem dX5_init_2_6 : decode cX5_init_2 6 = .ok (.putfield 9, 3) := dk_181 0 9 (dk_at dksX5_init_2_0 6 rfl rfl)
theorem dX5_init_2_9 : decode cX5_init_2 9 = .ok (.aload_n 0, 1) := dk_42 (dk_at dksX5_init_2_0 9 rfl rfl)
theorem dX5_init_2_10 : decode cX5_init_2 10 = .ok (.iload_n 2, 1) := dk_28 (dk_at dksX5_init_2_0 10 rfl rfl)
theorem dX5_init_2_11 : decode cX5_init_2 11 = .ok (.putfield 15, 3) := dk_181 0 15 (dk_at dksX5_init_2_0 11 rfl rfl)
theorem dX5_init_2_14 : decode cX5_init_2 14 = .ok (.aload_n 0, 1) := dk_42 (dk_at dksX5_init_2_0 14 rfl rfl)
theorem dX5_init_2_15 : decode cX5_init_2 15 = .ok (.iload_n 1, 1) := dk_27 (dk_at dksX5_init_2_0 15 rfl rfl)
theorem dX5_init_2_16 : decode cX5_init_2 16 = .ok (.iconst (-1), 1) := dk_2 (dk_at dksX5_init_2_0 16 rfl rfl)
theorem dX5_init_2_17 : decode cX5_init_2 17 = .ok (.if_icmp .ne 7, 3) := dk_160 0 7 (dk_at dksX5_init_2_0 17 rfl rfl)
theorem dX5_init_2_20 : decode cX5_init_2 20 = .ok (.iconst 2, 1) := dk_5 (dk_at dksX5_init_2_0 20 rfl rfl)
theorem dX5_init_2_21 : decode cX5_init_2 21 = .ok (.goto 4, 3) := dk_167 0 4 (dk_at dksX5_init_2_0 21 rfl rfl)
theorem dX5_init_2_24 : decode cX5_init_2 24 = .ok (.iconst 0, 1) := dk_3 (dk_at dksX5_init_2_1 0 rfl rfl)
theorem dX5_init_2_25 : decode cX5_init_2 25 = .ok (.putfield 18, 3) := dk_181 0 18 (dk_at dksX5_init_2_1 1 rfl rfl)
theorem dX5_init_2_28 : decode cX5_init_2 28 = .ok (.return_, 1) := dk_177 (dk_at dksX5_init_2_1 4 rfl rfl)
abbrev cX5_livesAt : ByteArray := prog_3_method_3_code
def yX5_livesAt : MethodName := ⟨RX5, "livesAt", "(I)Z"⟩
def dkwX5_livesAt_0 : List UInt8 := [42, 180, 0, 18, 154, 0, 15, 42, 180, 0, 9, 27, 160, 0, 7, 4, 167, 0, 4, 3, 172]
abbrev dktX5_livesAt_0 : List UInt8 := dkwX5_livesAt_0 ++ []
theorem dksX5_livesAt_0 : cX5_livesAt.data.toList.drop 0 = dktX5_livesAt_0 := by decide +kernel
theorem dX5_livesAt_0 : decode cX5_livesAt 0 = .ok (.aload_n 0, 1) := dk_42 (dk_at dksX5_livesAt_0 0 rfl rfl)
theorem dX5_livesAt_1 : decode cX5_livesAt 1 = .ok (.getfield 18, 3) := dk_180 0 18 (dk_at dksX5_livesAt_0 1 rfl rfl)
theorem dX5_livesAt_4 : decode cX5_livesAt 4 = .ok (.ifCond .ne 15, 3) := dk_154 0 15 (dk_at dksX5_livesAt_0 4 rfl rfl)
theorem dX5_livesAt_7 : decode cX5_livesAt 7 = .ok (.aload_n 0, 1) := dk_42 (dk_at dksX5_livesAt_0 7 rfl rfl)
theorem dX5_livesAt_8 : decode cX5_livesAt 8 = .ok (.getfield 9, 3) := dk_180 0 9 (dk_at dksX5_livesAt_0 8 rfl rfl)
theorem dX5_livesAt_11 : decode cX5_livesAt 11 = .ok (.iload_n 1, 1) := dk_27 (dk_at dksX5_livesAt_0 11 rfl rfl)
theorem dX5_livesAt_12 : decode cX5_livesAt 12 = .ok (.if_icmp .ne 7, 3) := dk_160 0 7 (dk_at dksX5_livesAt_0 12 rfl rfl)
theorem dX5_livesAt_15 : decode cX5_livesAt 15 = .ok (.iconst 1, 1) := dk_4 (dk_at dksX5_livesAt_0 15 rfl rfl)
theorem dX5_livesAt_16 : decode cX5_livesAt 16 = .ok (.goto 4, 3) := dk_167 0 4 (dk_at dksX5_livesAt_0 16 rfl rfl)
theorem dX5_livesAt_19 : decode cX5_livesAt 19 = .ok (.iconst 0, 1) := dk_3 (dk_at dksX5_livesAt_0 19 rfl rfl)
theorem dX5_livesAt_20 : decode cX5_livesAt 20 = .ok (.ireturn, 1) := dk_172 (dk_at dksX5_livesAt_0 20 rfl rfl)
theorem q121 : (Jvm.Cond.initialized "OtterTrust$Otter") ∈ lw_all := lw_g (lw_at lw_m1 31 rfl) rfl
theorem q836 : (Jvm.Cond.selects "OtterTrust$Otter" ({ cls := "java/lang/Object", name := "getClass", desc := "()Ljava/lang/Class;" } : Jvm.MethodName) ({ cls := "java/lang/Object", name := "getClass", desc := "()Ljava/lang/Class;" } : Jvm.MethodName)) ∈ lw_all := lw_g (lw_at lw_m4 26 rfl) rfl
theorem q930 : (Jvm.Cond.instantiable "OtterTrust$Otter" (4 : Nat)) ∈ lw_all := lw_g (lw_at lw_m4 120 rfl) rfl
theorem q932 : (Jvm.Cond.instanceMethod ({ cls := "OtterTrust$Otter", name := "<init>", desc := "(LOtterTrust$Otter;)V" } : Jvm.MethodName)) ∈ lw_all := lw_g (lw_at lw_m4 122 rfl) rfl
theorem q933 : (Jvm.Cond.code ({ cls := "OtterTrust$Otter", name := "<init>", desc := "(LOtterTrust$Otter;)V" } : Jvm.MethodName) prog_3_method_2_code (2 : Nat) (Option.none : Option Jvm.ClassFile.FieldType)) ∈ lw_all := lw_g (lw_at lw_m4 123 rfl) rfl
theorem q934 : (Jvm.Cond.methodLink "OtterTrust$Otter" (21 : Nat) ({ cls := "OtterTrust$Otter", name := "<init>", desc := "(II)V" } : Jvm.MethodName)) ∈ lw_all := lw_g (lw_at lw_m4 124 rfl) rfl
theorem q935 : (Jvm.Cond.instanceMethod ({ cls := "OtterTrust$Otter", name := "<init>", desc := "(II)V" } : Jvm.MethodName)) ∈ lw_all := lw_g (lw_at lw_m4 125 rfl) rfl
theorem q936 : (Jvm.Cond.code ({ cls := "OtterTrust$Otter", name := "<init>", desc := "(II)V" } : Jvm.MethodName) prog_3_method_1_code (3 : Nat) (Option.none : Option Jvm.ClassFile.FieldType)) ∈ lw_all := lw_g (lw_at lw_m4 126 rfl) rfl
theorem q937 : (Jvm.Cond.methodLink "OtterTrust$Otter" (3 : Nat) ({ cls := "java/lang/Object", name := "<init>", desc := "()V" } : Jvm.MethodName)) ∈ lw_all := lw_g (lw_at lw_m4 127 rfl) rfl
theorem q938 : (Jvm.Cond.fieldLink "OtterTrust$Otter" (15 : Nat) "OtterTrust$Otter" "cameAt" "I") ∈ lw_all := lw_g (lw_at lw_m4 128 rfl) rfl
theorem q940 : (Jvm.Cond.fieldLink "OtterTrust$Otter" (9 : Nat) "OtterTrust$Otter" "reach" "I") ∈ lw_all := lw_g (lw_at lw_m4 130 rfl) rfl
theorem q943 : (Jvm.Cond.fieldLink "OtterTrust$Otter" (18 : Nat) "OtterTrust$Otter" "state" "I") ∈ lw_all := lw_g (lw_at lw_m4 133 rfl) rfl
theorem q946 : (Jvm.Cond.fieldLink "OtterTrust$Otter" (24 : Nat) "OtterTrust$Otter" "spraints" "I") ∈ lw_all := lw_g (lw_at lw_m4 136 rfl) rfl
theorem q949 : (Jvm.Cond.laysFinal "OtterTrust$Otter" "OtterTrust$Otter" "cameAt" "I") ∈ lw_all := lw_g (lw_at lw_m4 139 rfl) rfl
theorem q950 : (Jvm.Cond.soleField "OtterTrust$Otter" "cameAt") ∈ lw_all := lw_g (lw_at lw_m4 140 rfl) rfl
theorem q951 : (Jvm.Cond.lays "OtterTrust$Otter" "OtterTrust$Otter" "reach" "I") ∈ lw_all := lw_g (lw_at lw_m4 141 rfl) rfl
theorem q952 : (Jvm.Cond.soleField "OtterTrust$Otter" "reach") ∈ lw_all := lw_g (lw_at lw_m4 142 rfl) rfl
theorem q953 : (Jvm.Cond.lays "OtterTrust$Otter" "OtterTrust$Otter" "state" "I") ∈ lw_all := lw_g (lw_at lw_m4 143 rfl) rfl
theorem q954 : (Jvm.Cond.soleField "OtterTrust$Otter" "state") ∈ lw_all := lw_g (lw_at lw_m4 144 rfl) rfl
theorem q955 : (Jvm.Cond.lays "OtterTrust$Otter" "OtterTrust$Otter" "spraints" "I") ∈ lw_all := lw_g (lw_at lw_m4 145 rfl) rfl
theorem q956 : (Jvm.Cond.soleField "OtterTrust$Otter" "spraints") ∈ lw_all := lw_g (lw_at lw_m4 146 rfl) rfl
theorem q957 : (Jvm.Cond.superclass "OtterTrust$Otter" "java/lang/Object") ∈ lw_all := lw_g (lw_at lw_m4 147 rfl) rfl
theorem q1151 : (Jvm.Cond.instanceMethod ({ cls := "OtterTrust$Otter", name := "livesAt", desc := "(I)Z" } : Jvm.MethodName)) ∈ lw_all := lw_g (lw_at lw_m5 101 rfl) rfl
theorem q1152 : (Jvm.Cond.selects "OtterTrust$Otter" ({ cls := "OtterTrust$Otter", name := "livesAt", desc := "(I)Z" } : Jvm.MethodName) ({ cls := "OtterTrust$Otter", name := "livesAt", desc := "(I)Z" } : Jvm.MethodName)) ∈ lw_all := lw_g (lw_at lw_m5 102 rfl) rfl
theorem q1153 : (Jvm.Cond.code ({ cls := "OtterTrust$Otter", name := "livesAt", desc := "(I)Z" } : Jvm.MethodName) prog_3_method_3_code (2 : Nat) (Option.some Jvm.ClassFile.FieldType.boolean)) ∈ lw_all := lw_g (lw_at lw_m5 103 rfl) rfl
theorem q2550 : (Jvm.Cond.castable "OtterTrust$Otter" "java/lang/Object") ∈ lw_tbl := lw_at lw_m11 60 rfl
theorem in_X5 : ∀ w ∈ wsX50, w ∈ lw_all := lw_in wsX50 [949, 951, 953, 955] (by decide +kernel) (by decide +kernel)
/-! OtterTrust$Volunteer -/
set_option maxRecDepth 100000
def RX6 : String := "OtterTrust$Volunteer"
def TX6 : u_T := fun k => match k with
  | 0 => ("OtterTrust$Volunteer", "from", "I", true)
  | 1 => ("OtterTrust$Volunteer", "to", "I", true)
  | 2 => ("OtterTrust$Volunteer", "spraints", "I", false)
  | 3 => ("OtterTrust$Volunteer", "otters", "I", false)
  | _ => ("OtterTrust$Volunteer", "inCensus", "I", false)
def tyX6 : Nat → FieldType := fun k => match k with
  | 0 => .int
  | 1 => .int
  | 2 => .int
  | 3 => .int
  | _ => .int
abbrev wsX60 : List Cond := u_ws RX6 TX6 5
theorem nmX6 : ∀ a, a < 5 → ∀ b, b < 5 → a ≠ b → (TX6 a).2.1 ≠ (TX6 b).2.1 := by decide +kernel
theorem tyX6_ok : ∀ k, k < 5 → parseFieldDescriptor (TX6 k).2.2.1 = some (tyX6 k) := by decide +kernel
abbrev cX6_init : ByteArray := prog_9_method_2_code
def yX6_init : MethodName := ⟨RX6, "<init>", "(LOtterTrust$Volunteer;)V"⟩
def dkwX6_init_1 : List UInt8 := [180, 0, 22, 181, 0, 22, 42, 43, 180, 0, 25, 181, 0, 25, 177]
abbrev dktX6_init_1 : List UInt8 := dkwX6_init_1 ++ []
def dkwX6_init_0 : List UInt8 := [42, 43, 180, 0, 7, 43, 180, 0, 13, 183, 0, 16, 42, 43, 180, 0, 19, 181, 0, 19, 42, 43]
abbrev dktX6_init_0 : List UInt8 := dkwX6_init_0 ++ dktX6_init_1
theorem dksX6_init_0 : cX6_init.data.toList.drop 0 = dktX6_init_0 := by decide +kernel
theorem dksX6_init_1 : cX6_init.data.toList.drop 22 = dktX6_init_1 := dk_seg dksX6_init_0 22 rfl rfl
theorem dX6_init_0 : decode cX6_init 0 = .ok (.aload_n 0, 1) := dk_42 (dk_at dksX6_init_0 0 rfl rfl)
theorem dX6_init_1 : decode cX6_init 1 = .ok (.aload_n 1, 1) := dk_43 (dk_at dksX6_init_0 1 rfl rfl)
theorem dX6_init_2 : decode cX6_init 2 = .ok (.getfield 7, 3) := dk_180 0 7 (dk_at dksX6_init_0 2 rfl rfl)
theorem dX6_init_5 : decode cX6_init 5 = .ok (.aload_n 1, 1) := dk_43 (dk_at dksX6_init_0 5 rfl rfl)
theorem dX6_init_6 : decode cX6_init 6 = .ok (.getfield 13, 3) := dk_180 0 13 (dk_at dksX6_init_0 6 rfl rfl)
theorem dX6_init_9 : decode cX6_init 9 = .ok (.invokespecial 16, 3) := dk_183 0 16 (dk_at dksX6_init_0 9 rfl rfl)
theorem dX6_init_12 : decode cX6_init 12 = .ok (.aload_n 0, 1) := dk_42 (dk_at dksX6_init_0 12 rfl rfl)
theorem dX6_init_13 : decode cX6_init 13 = .ok (.aload_n 1, 1) := dk_43 (dk_at dksX6_init_0 13 rfl rfl)
theorem dX6_init_14 : decode cX6_init 14 = .ok (.getfield 19, 3) := dk_180 0 19 (dk_at dksX6_init_0 14 rfl rfl)
theorem dX6_init_17 : decode cX6_init 17 = .ok (.putfield 19, 3) := dk_181 0 19 (dk_at dksX6_init_0 17 rfl rfl)
theorem dX6_init_20 : decode cX6_init 20 = .ok (.aload_n 0, 1) := dk_42 (dk_at dksX6_init_0 20 rfl rfl)
theorem dX6_init_21 : decode cX6_init 21 = .ok (.aload_n 1, 1) := dk_43 (dk_at dksX6_init_0 21 rfl rfl)
theorem dX6_init_22 : decode cX6_init 22 = .ok (.getfield 22, 3) := dk_180 0 22 (dk_at dksX6_init_1 0 rfl rfl)
theorem dX6_init_25 : decode cX6_init 25 = .ok (.putfield 22, 3) := dk_181 0 22 (dk_at dksX6_init_1 3 rfl rfl)
theorem dX6_init_28 : decode cX6_init 28 = .ok (.aload_n 0, 1) := dk_42 (dk_at dksX6_init_1 6 rfl rfl)
theorem dX6_init_29 : decode cX6_init 29 = .ok (.aload_n 1, 1) := dk_43 (dk_at dksX6_init_1 7 rfl rfl)
theorem dX6_init_30 : decode cX6_init 30 = .ok (.getfield 25, 3) := dk_180 0 25 (dk_at dksX6_init_1 8 rfl rfl)
theorem dX6_init_33 : decode cX6_init 33 = .ok (.putfield 25, 3) := dk_181 0 25 (dk_at dksX6_init_1 11 rfl rfl)
theorem dX6_init_36 : decode cX6_init 36 = .ok (.return_, 1) := dk_177 (dk_at dksX6_init_1 14 rfl rfl)
abbrev cX6_init_2 : ByteArray := prog_9_method_1_code
def yX6_init_2 : MethodName := ⟨RX6, "<init>", "(II)V"⟩
def dkwX6_init_2_0 : List UInt8 := [42, 183, 0, 1, 42, 27, 181, 0, 7, 42, 28, 181, 0, 13, 177]
abbrev dktX6_init_2_0 : List UInt8 := dkwX6_init_2_0 ++ []
theorem dksX6_init_2_0 : cX6_init_2.data.toList.drop 0 = dktX6_init_2_0 := by decide +kernel
theorem dX6_init_2_0 : decode cX6_init_2 0 = .ok (.aload_n 0, 1) := dk_42 (dk_at dksX6_init_2_0 0 rfl rfl)
theorem dX6_init_2_1 : decode cX6_init_2 1 = .ok (.invokespecial 1, 3) := dk_183 0 1 (dk_at dksX6_init_2_0 1 rfl rfl)
theorem dX6_init_2_4 : decode cX6_init_2 4 = .ok (.aload_n 0, 1) := dk_42 (dk_at dksX6_init_2_0 4 rfl rfl)
theorem dX6_init_2_5 : decode cX6_init_2 5 = .ok (.iload_n 1, 1) := dk_27 (dk_at dksX6_init_2_0 5 rfl rfl)
theorem dX6_init_2_6 : decode cX6_init_2 6 = .ok (.putfield 7, 3) := dk_181 0 7 (dk_at dksX6_init_2_0 6 rfl rfl)
theorem dX6_init_2_9 : decode cX6_init_2 9 = .ok (.aload_n 0, 1) := dk_42 (dk_at dksX6_init_2_0 9 rfl rfl)
theorem dX6_init_2_10 : decode cX6_init_2 10 = .ok (.iload_n 2, 1) := dk_28 (dk_at dksX6_init_2_0 10 rfl rfl)
theorem dX6_init_2_11 : decode cX6_init_2 11 = .ok (.putfield 13, 3) := dk_181 0 13 (dk_at dksX6_init_2_0 11 rfl rfl)
theorem dX6_init_2_14 : decode cX6_init_2 14 = .ok (.return_, 1) := dk_177 (dk_at dksX6_init_2_0 14 rfl rfl)
abbrev cX6_reaches : ByteArray := prog_9_method_3_code
def yX6_reaches : MethodName := ⟨RX6, "reaches", "(I)Z"⟩
def dkwX6_reaches_0 : List UInt8 := [27, 42, 180, 0, 7, 42, 180, 0, 13, 184, 0, 28, 172]
abbrev dktX6_reaches_0 : List UInt8 := dkwX6_reaches_0 ++ []
theorem dksX6_reaches_0 : cX6_reaches.data.toList.drop 0 = dktX6_reaches_0 := by decide +kernel
theorem dX6_reaches_0 : decode cX6_reaches 0 = .ok (.iload_n 1, 1) := dk_27 (dk_at dksX6_reaches_0 0 rfl rfl)
theorem dX6_reaches_1 : decode cX6_reaches 1 = .ok (.aload_n 0, 1) := dk_42 (dk_at dksX6_reaches_0 1 rfl rfl)
theorem dX6_reaches_2 : decode cX6_reaches 2 = .ok (.getfield 7, 3) := dk_180 0 7 (dk_at dksX6_reaches_0 2 rfl rfl)
theorem dX6_reaches_5 : decode cX6_reaches 5 = .ok (.aload_n 0, 1) := dk_42 (dk_at dksX6_reaches_0 5 rfl rfl)
theorem dX6_reaches_6 : decode cX6_reaches 6 = .ok (.getfield 13, 3) := dk_180 0 13 (dk_at dksX6_reaches_0 6 rfl rfl)
theorem dX6_reaches_9 : decode cX6_reaches 9 = .ok (.invokestatic 28, 3) := dk_184 0 28 (dk_at dksX6_reaches_0 9 rfl rfl)
theorem dX6_reaches_12 : decode cX6_reaches 12 = .ok (.ireturn, 1) := dk_172 (dk_at dksX6_reaches_0 12 rfl rfl)
theorem q122 : (Jvm.Cond.initialized "OtterTrust$Volunteer") ∈ lw_all := lw_g (lw_at lw_m1 32 rfl) rfl
theorem q842 : (Jvm.Cond.selects "OtterTrust$Volunteer" ({ cls := "java/lang/Object", name := "getClass", desc := "()Ljava/lang/Class;" } : Jvm.MethodName) ({ cls := "java/lang/Object", name := "getClass", desc := "()Ljava/lang/Class;" } : Jvm.MethodName)) ∈ lw_all := lw_g (lw_at lw_m4 32 rfl) rfl
theorem q959 : (Jvm.Cond.instantiable "OtterTrust$Volunteer" (5 : Nat)) ∈ lw_all := lw_g (lw_at lw_m4 149 rfl) rfl
theorem q961 : (Jvm.Cond.instanceMethod ({ cls := "OtterTrust$Volunteer", name := "<init>", desc := "(LOtterTrust$Volunteer;)V" } : Jvm.MethodName)) ∈ lw_all := lw_g (lw_at lw_m4 151 rfl) rfl
theorem q962 : (Jvm.Cond.code ({ cls := "OtterTrust$Volunteer", name := "<init>", desc := "(LOtterTrust$Volunteer;)V" } : Jvm.MethodName) prog_9_method_2_code (2 : Nat) (Option.none : Option Jvm.ClassFile.FieldType)) ∈ lw_all := lw_g (lw_at lw_m4 152 rfl) rfl
theorem q963 : (Jvm.Cond.methodLink "OtterTrust$Volunteer" (16 : Nat) ({ cls := "OtterTrust$Volunteer", name := "<init>", desc := "(II)V" } : Jvm.MethodName)) ∈ lw_all := lw_g (lw_at lw_m4 153 rfl) rfl
theorem q964 : (Jvm.Cond.instanceMethod ({ cls := "OtterTrust$Volunteer", name := "<init>", desc := "(II)V" } : Jvm.MethodName)) ∈ lw_all := lw_g (lw_at lw_m4 154 rfl) rfl
theorem q965 : (Jvm.Cond.code ({ cls := "OtterTrust$Volunteer", name := "<init>", desc := "(II)V" } : Jvm.MethodName) prog_9_method_1_code (3 : Nat) (Option.none : Option Jvm.ClassFile.FieldType)) ∈ lw_all := lw_g (lw_at lw_m4 155 rfl) rfl
theorem q966 : (Jvm.Cond.methodLink "OtterTrust$Volunteer" (1 : Nat) ({ cls := "java/lang/Object", name := "<init>", desc := "()V" } : Jvm.MethodName)) ∈ lw_all := lw_g (lw_at lw_m4 156 rfl) rfl
theorem q967 : (Jvm.Cond.fieldLink "OtterTrust$Volunteer" (7 : Nat) "OtterTrust$Volunteer" "from" "I") ∈ lw_all := lw_g (lw_at lw_m4 157 rfl) rfl
theorem q970 : (Jvm.Cond.fieldLink "OtterTrust$Volunteer" (13 : Nat) "OtterTrust$Volunteer" "to" "I") ∈ lw_all := lw_g (lw_at lw_m4 160 rfl) rfl
theorem q973 : (Jvm.Cond.fieldLink "OtterTrust$Volunteer" (19 : Nat) "OtterTrust$Volunteer" "spraints" "I") ∈ lw_all := lw_g (lw_at lw_m4 163 rfl) rfl
theorem q976 : (Jvm.Cond.fieldLink "OtterTrust$Volunteer" (22 : Nat) "OtterTrust$Volunteer" "otters" "I") ∈ lw_all := lw_g (lw_at lw_m4 166 rfl) rfl
theorem q979 : (Jvm.Cond.fieldLink "OtterTrust$Volunteer" (25 : Nat) "OtterTrust$Volunteer" "inCensus" "I") ∈ lw_all := lw_g (lw_at lw_m4 169 rfl) rfl
theorem q982 : (Jvm.Cond.laysFinal "OtterTrust$Volunteer" "OtterTrust$Volunteer" "from" "I") ∈ lw_all := lw_g (lw_at lw_m4 172 rfl) rfl
theorem q983 : (Jvm.Cond.soleField "OtterTrust$Volunteer" "from") ∈ lw_all := lw_g (lw_at lw_m4 173 rfl) rfl
theorem q984 : (Jvm.Cond.laysFinal "OtterTrust$Volunteer" "OtterTrust$Volunteer" "to" "I") ∈ lw_all := lw_g (lw_at lw_m4 174 rfl) rfl
theorem q985 : (Jvm.Cond.soleField "OtterTrust$Volunteer" "to") ∈ lw_all := lw_g (lw_at lw_m4 175 rfl) rfl
theorem q986 : (Jvm.Cond.lays "OtterTrust$Volunteer" "OtterTrust$Volunteer" "spraints" "I") ∈ lw_all := lw_g (lw_at lw_m4 176 rfl) rfl
theorem q987 : (Jvm.Cond.soleField "OtterTrust$Volunteer" "spraints") ∈ lw_all := lw_g (lw_at lw_m4 177 rfl) rfl
theorem q988 : (Jvm.Cond.lays "OtterTrust$Volunteer" "OtterTrust$Volunteer" "otters" "I") ∈ lw_all := lw_g (lw_at lw_m4 178 rfl) rfl
theorem q989 : (Jvm.Cond.soleField "OtterTrust$Volunteer" "otters") ∈ lw_all := lw_g (lw_at lw_m4 179 rfl) rfl
theorem q990 : (Jvm.Cond.lays "OtterTrust$Volunteer" "OtterTrust$Volunteer" "inCensus" "I") ∈ lw_all := lw_g (lw_at lw_m4 180 rfl) rfl
theorem q991 : (Jvm.Cond.soleField "OtterTrust$Volunteer" "inCensus") ∈ lw_all := lw_g (lw_at lw_m4 181 rfl) rfl
theorem q992 : (Jvm.Cond.superclass "OtterTrust$Volunteer" "java/lang/Object") ∈ lw_all := lw_g (lw_at lw_m4 182 rfl) rfl
theorem q1071 : (Jvm.Cond.instanceMethod ({ cls := "OtterTrust$Volunteer", name := "reaches", desc := "(I)Z" } : Jvm.MethodName)) ∈ lw_all := lw_g (lw_at lw_m5 21 rfl) rfl
theorem q1072 : (Jvm.Cond.selects "OtterTrust$Volunteer" ({ cls := "OtterTrust$Volunteer", name := "reaches", desc := "(I)Z" } : Jvm.MethodName) ({ cls := "OtterTrust$Volunteer", name := "reaches", desc := "(I)Z" } : Jvm.MethodName)) ∈ lw_all := lw_g (lw_at lw_m5 22 rfl) rfl
theorem q1073 : (Jvm.Cond.code ({ cls := "OtterTrust$Volunteer", name := "reaches", desc := "(I)Z" } : Jvm.MethodName) prog_9_method_3_code (2 : Nat) (Option.some Jvm.ClassFile.FieldType.boolean)) ∈ lw_all := lw_g (lw_at lw_m5 23 rfl) rfl
theorem q1074 : (Jvm.Cond.methodLinkNest "OtterTrust$Volunteer" (28 : Nat) ({ cls := "OtterTrust", name := "isBetween", desc := "(III)Z" } : Jvm.MethodName) "OtterTrust") ∈ lw_tbl := lw_at lw_m5 24 rfl
theorem q2551 : (Jvm.Cond.castable "OtterTrust$Volunteer" "java/lang/Object") ∈ lw_tbl := lw_at lw_m11 61 rfl
theorem in_X6 : ∀ w ∈ wsX60, w ∈ lw_all := lw_in wsX60 [982, 984, 986, 988, 990] (by decide +kernel) (by decide +kernel)
/-! OtterTrust$Order -/
set_option maxRecDepth 100000
def RX7 : String := "OtterTrust$Order"
def TX7 : u_T := fun k => match k with
  | 0 => ("OtterTrust$Order", "sort", "I", true)
  | 1 => ("OtterTrust$Order", "number", "I", true)
  | _ => ("OtterTrust$Order", "other", "I", true)
def tyX7 : Nat → FieldType := fun k => match k with
  | 0 => .int
  | 1 => .int
  | _ => .int
abbrev wsX70 : List Cond := u_ws RX7 TX7 3
theorem nmX7 : ∀ a, a < 3 → ∀ b, b < 3 → a ≠ b → (TX7 a).2.1 ≠ (TX7 b).2.1 := by decide +kernel
theorem tyX7_ok : ∀ k, k < 3 → parseFieldDescriptor (TX7 k).2.2.1 = some (tyX7 k) := by decide +kernel
abbrev cX7_init : ByteArray := prog_2_method_1_code
def yX7_init : MethodName := ⟨RX7, "<init>", "(III)V"⟩
def dkwX7_init_0 : List UInt8 := [42, 183, 0, 1, 42, 27, 181, 0, 7, 42, 28, 181, 0, 13, 42, 29, 181, 0, 16, 177]
abbrev dktX7_init_0 : List UInt8 := dkwX7_init_0 ++ []
theorem dksX7_init_0 : cX7_init.data.toList.drop 0 = dktX7_init_0 := by decide +kernel
theorem dX7_init_0 : decode cX7_init 0 = .ok (.aload_n 0, 1) := dk_42 (dk_at dksX7_init_0 0 rfl rfl)
theorem dX7_init_1 : decode cX7_init 1 = .ok (.invokespecial 1, 3) := dk_183 0 1 (dk_at dksX7_init_0 1 rfl rfl)
theorem dX7_init_4 : decode cX7_init 4 = .ok (.aload_n 0, 1) := dk_42 (dk_at dksX7_init_0 4 rfl rfl)
theorem dX7_init_5 : decode cX7_init 5 = .ok (.iload_n 1, 1) := dk_27 (dk_at dksX7_init_0 5 rfl rfl)
theorem dX7_init_6 : decode cX7_init 6 = .ok (.putfield 7, 3) := dk_181 0 7 (dk_at dksX7_init_0 6 rfl rfl)
theorem dX7_init_9 : decode cX7_init 9 = .ok (.aload_n 0, 1) := dk_42 (dk_at dksX7_init_0 9 rfl rfl)
theorem dX7_init_10 : decode cX7_init 10 = .ok (.iload_n 2, 1) := dk_28 (dk_at dksX7_init_0 10 rfl rfl)
theorem dX7_init_11 : decode cX7_init 11 = .ok (.putfield 13, 3) := dk_181 0 13 (dk_at dksX7_init_0 11 rfl rfl)
theorem dX7_init_14 : decode cX7_init 14 = .ok (.aload_n 0, 1) := dk_42 (dk_at dksX7_init_0 14 rfl rfl)
theorem dX7_init_15 : decode cX7_init 15 = .ok (.iload_n 3, 1) := dk_29 (dk_at dksX7_init_0 15 rfl rfl)
theorem dX7_init_16 : decode cX7_init 16 = .ok (.putfield 16, 3) := dk_181 0 16 (dk_at dksX7_init_0 16 rfl rfl)
theorem dX7_init_19 : decode cX7_init 19 = .ok (.return_, 1) := dk_177 (dk_at dksX7_init_0 19 rfl rfl)
abbrev cX7_does : ByteArray := prog_2_method_2_code
def yX7_does : MethodName := ⟨RX7, "does", "(LOtterTrust$River;)I"⟩
def dkwX7_does_6 : List UInt8 := [182, 0, 51, 172]
abbrev dktX7_does_6 : List UInt8 := dkwX7_does_6 ++ []
def dkwX7_does_5 : List UInt8 := [182, 0, 45, 172, 43, 42, 180, 0, 13, 182, 0, 48, 172, 43, 42, 180, 0, 13, 42, 180, 0, 16]
abbrev dktX7_does_5 : List UInt8 := dkwX7_does_5 ++ dktX7_does_6
def dkwX7_does_4 : List UInt8 := [182, 0, 37, 172, 43, 42, 180, 0, 13, 42, 180, 0, 16, 182, 0, 41, 172, 43, 42, 180, 0, 13]
abbrev dktX7_does_4 : List UInt8 := dkwX7_does_4 ++ dktX7_does_5
def dkwX7_does_3 : List UInt8 := [182, 0, 28, 172, 43, 42, 180, 0, 13, 182, 0, 31, 172, 43, 42, 180, 0, 13, 182, 0, 34, 172, 43]
abbrev dktX7_does_3 : List UInt8 := dkwX7_does_3 ++ dktX7_does_4
def dkwX7_does_2 : List UInt8 := [43, 42, 180, 0, 13, 182, 0, 19, 172, 43, 42, 180, 0, 13, 182, 0, 25, 172, 43, 42, 180, 0, 13]
abbrev dktX7_does_2 : List UInt8 := dkwX7_does_2 ++ dktX7_does_3
def dkwX7_does_1 : List UInt8 := [170, 0, 0, 0, 0, 0, 0, 133, 0, 0, 0, 0, 0, 0, 0, 8, 0, 0, 0, 52, 0, 0, 0, 61, 0, 0, 0, 70, 0, 0, 0, 79, 0, 0, 0, 88, 0, 0, 0, 97, 0, 0, 0, 102, 0, 0, 0, 115, 0, 0, 0, 124]
abbrev dktX7_does_1 : List UInt8 := dkwX7_does_1 ++ dktX7_does_2
def dkwX7_does_0 : List UInt8 := [42, 180, 0, 7]
abbrev dktX7_does_0 : List UInt8 := dkwX7_does_0 ++ dktX7_does_1
theorem dksX7_does_0 : cX7_does.data.toList.drop 0 = dktX7_does_0 := by decide +kernel
theorem dksX7_does_1 : cX7_does.data.toList.drop 4 = dktX7_does_1 := dk_seg dksX7_does_0 4 rfl rfl
theorem dksX7_does_2 : cX7_does.data.toList.drop 56 = dktX7_does_2 := dk_seg dksX7_does_1 52 rfl rfl
theorem dksX7_does_3 : cX7_does.data.toList.drop 79 = dktX7_does_3 := dk_seg dksX7_does_2 23 rfl rfl
theorem dksX7_does_4 : cX7_does.data.toList.drop 102 = dktX7_does_4 := dk_seg dksX7_does_3 23 rfl rfl
theorem dksX7_does_5 : cX7_does.data.toList.drop 124 = dktX7_does_5 := dk_seg dksX7_does_4 22 rfl rfl
theorem dksX7_does_6 : cX7_does.data.toList.drop 146 = dktX7_does_6 := dk_seg dksX7_does_5 22 rfl rfl
theorem dX7_does_0 : decode cX7_does 0 = .ok (.aload_n 0, 1) := dk_42 (dk_at dksX7_does_0 0 rfl rfl)
theorem dX7_does_1 : decode cX7_does 1 = .ok (.getfield 7, 3) := dk_180 0 7 (dk_at dksX7_does_0 1 rfl rfl)
theorem dX7_does_4 : decode cX7_does 4 = .ok (.tableswitch 133 0 8 #[52, 61, 70, 79, 88, 97, 102, 115, 124], 52) := by decide +kernel
theorem dX7_does_56 : decode cX7_does 56 = .ok (.aload_n 1, 1) := dk_43 (dk_at dksX7_does_2 0 rfl rfl)
theorem dX7_does_57 : decode cX7_does 57 = .ok (.aload_n 0, 1) := dk_42 (dk_at dksX7_does_2 1 rfl rfl)
theorem dX7_does_58 : decode cX7_does 58 = .ok (.getfield 13, 3) := dk_180 0 13 (dk_at dksX7_does_2 2 rfl rfl)
theorem dX7_does_61 : decode cX7_does 61 = .ok (.invokevirtual 19, 3) := dk_182 0 19 (dk_at dksX7_does_2 5 rfl rfl)
theorem dX7_does_64 : decode cX7_does 64 = .ok (.ireturn, 1) := dk_172 (dk_at dksX7_does_2 8 rfl rfl)
theorem dX7_does_65 : decode cX7_does 65 = .ok (.aload_n 1, 1) := dk_43 (dk_at dksX7_does_2 9 rfl rfl)
theorem dX7_does_66 : decode cX7_does 66 = .ok (.aload_n 0, 1) := dk_42 (dk_at dksX7_does_2 10 rfl rfl)
theorem dX7_does_67 : decode cX7_does 67 = .ok (.getfield 13, 3) := dk_180 0 13 (dk_at dksX7_does_2 11 rfl rfl)
theorem dX7_does_70 : decode cX7_does 70 = .ok (.invokevirtual 25, 3) := dk_182 0 25 (dk_at dksX7_does_2 14 rfl rfl)
theorem dX7_does_73 : decode cX7_does 73 = .ok (.ireturn, 1) := dk_172 (dk_at dksX7_does_2 17 rfl rfl)
theorem dX7_does_74 : decode cX7_does 74 = .ok (.aload_n 1, 1) := dk_43 (dk_at dksX7_does_2 18 rfl rfl)
theorem dX7_does_75 : decode cX7_does 75 = .ok (.aload_n 0, 1) := dk_42 (dk_at dksX7_does_2 19 rfl rfl)
theorem dX7_does_76 : decode cX7_does 76 = .ok (.getfield 13, 3) := dk_180 0 13 (dk_at dksX7_does_2 20 rfl rfl)
theorem dX7_does_79 : decode cX7_does 79 = .ok (.invokevirtual 28, 3) := dk_182 0 28 (dk_at dksX7_does_3 0 rfl rfl)
theorem dX7_does_82 : decode cX7_does 82 = .ok (.ireturn, 1) := dk_172 (dk_at dksX7_does_3 3 rfl rfl)
theorem dX7_does_83 : decode cX7_does 83 = .ok (.aload_n 1, 1) := dk_43 (dk_at dksX7_does_3 4 rfl rfl)
theorem dX7_does_84 : decode cX7_does 84 = .ok (.aload_n 0, 1) := dk_42 (dk_at dksX7_does_3 5 rfl rfl)
theorem dX7_does_85 : decode cX7_does 85 = .ok (.getfield 13, 3) := dk_180 0 13 (dk_at dksX7_does_3 6 rfl rfl)
theorem dX7_does_88 : decode cX7_does 88 = .ok (.invokevirtual 31, 3) := dk_182 0 31 (dk_at dksX7_does_3 9 rfl rfl)
theorem dX7_does_91 : decode cX7_does 91 = .ok (.ireturn, 1) := dk_172 (dk_at dksX7_does_3 12 rfl rfl)
theorem dX7_does_92 : decode cX7_does 92 = .ok (.aload_n 1, 1) := dk_43 (dk_at dksX7_does_3 13 rfl rfl)
theorem dX7_does_93 : decode cX7_does 93 = .ok (.aload_n 0, 1) := dk_42 (dk_at dksX7_does_3 14 rfl rfl)
theorem dX7_does_94 : decode cX7_does 94 = .ok (.getfield 13, 3) := dk_180 0 13 (dk_at dksX7_does_3 15 rfl rfl)
theorem dX7_does_97 : decode cX7_does 97 = .ok (.invokevirtual 34, 3) := dk_182 0 34 (dk_at dksX7_does_3 18 rfl rfl)
theorem dX7_does_100 : decode cX7_does 100 = .ok (.ireturn, 1) := dk_172 (dk_at dksX7_does_3 21 rfl rfl)
theorem dX7_does_101 : decode cX7_does 101 = .ok (.aload_n 1, 1) := dk_43 (dk_at dksX7_does_3 22 rfl rfl)
theorem dX7_does_102 : decode cX7_does 102 = .ok (.invokevirtual 37, 3) := dk_182 0 37 (dk_at dksX7_does_4 0 rfl rfl)
theorem dX7_does_105 : decode cX7_does 105 = .ok (.ireturn, 1) := dk_172 (dk_at dksX7_does_4 3 rfl rfl)
theorem dX7_does_106 : decode cX7_does 106 = .ok (.aload_n 1, 1) := dk_43 (dk_at dksX7_does_4 4 rfl rfl)
theorem dX7_does_107 : decode cX7_does 107 = .ok (.aload_n 0, 1) := dk_42 (dk_at dksX7_does_4 5 rfl rfl)
theorem dX7_does_108 : decode cX7_does 108 = .ok (.getfield 13, 3) := dk_180 0 13 (dk_at dksX7_does_4 6 rfl rfl)
theorem dX7_does_111 : decode cX7_does 111 = .ok (.aload_n 0, 1) := dk_42 (dk_at dksX7_does_4 9 rfl rfl)
theorem dX7_does_112 : decode cX7_does 112 = .ok (.getfield 16, 3) := dk_180 0 16 (dk_at dksX7_does_4 10 rfl rfl)
theorem dX7_does_115 : decode cX7_does 115 = .ok (.invokevirtual 41, 3) := dk_182 0 41 (dk_at dksX7_does_4 13 rfl rfl)
theorem dX7_does_118 : decode cX7_does 118 = .ok (.ireturn, 1) := dk_172 (dk_at dksX7_does_4 16 rfl rfl)
theorem dX7_does_119 : decode cX7_does 119 = .ok (.aload_n 1, 1) := dk_43 (dk_at dksX7_does_4 17 rfl rfl)
theorem dX7_does_120 : decode cX7_does 120 = .ok (.aload_n 0, 1) := dk_42 (dk_at dksX7_does_4 18 rfl rfl)
theorem dX7_does_121 : decode cX7_does 121 = .ok (.getfield 13, 3) := dk_180 0 13 (dk_at dksX7_does_4 19 rfl rfl)
theorem dX7_does_124 : decode cX7_does 124 = .ok (.invokevirtual 45, 3) := dk_182 0 45 (dk_at dksX7_does_5 0 rfl rfl)
theorem dX7_does_127 : decode cX7_does 127 = .ok (.ireturn, 1) := dk_172 (dk_at dksX7_does_5 3 rfl rfl)
theorem dX7_does_128 : decode cX7_does 128 = .ok (.aload_n 1, 1) := dk_43 (dk_at dksX7_does_5 4 rfl rfl)
theorem dX7_does_129 : decode cX7_does 129 = .ok (.aload_n 0, 1) := dk_42 (dk_at dksX7_does_5 5 rfl rfl)
theorem dX7_does_130 : decode cX7_does 130 = .ok (.getfield 13, 3) := dk_180 0 13 (dk_at dksX7_does_5 6 rfl rfl)
theorem dX7_does_133 : decode cX7_does 133 = .ok (.invokevirtual 48, 3) := dk_182 0 48 (dk_at dksX7_does_5 9 rfl rfl)
theorem dX7_does_136 : decode cX7_does 136 = .ok (.ireturn, 1) := dk_172 (dk_at dksX7_does_5 12 rfl rfl)
theorem dX7_does_137 : decode cX7_does 137 = .ok (.aload_n 1, 1) := dk_43 (dk_at dksX7_does_5 13 rfl rfl)
theorem dX7_does_138 : decode cX7_does 138 = .ok (.aload_n 0, 1) := dk_42 (dk_at dksX7_does_5 14 rfl rfl)
theorem dX7_does_139 : decode cX7_does 139 = .ok (.getfield 13, 3) := dk_180 0 13 (dk_at dksX7_does_5 15 rfl rfl)
theorem dX7_does_142 : decode cX7_does 142 = .ok (.aload_n 0, 1) := dk_42 (dk_at dksX7_does_5 18 rfl rfl)
theorem dX7_does_143 : decode cX7_does 143 = .ok (.getfield 16, 3) := dk_180 0 16 (dk_at dksX7_does_5 19 rfl rfl)
theorem dX7_does_146 : decode cX7_does 146 = .ok (.invokevirtual 51, 3) := dk_182 0 51 (dk_at dksX7_does_6 0 rfl rfl)
theorem dX7_does_149 : decode cX7_does 149 = .ok (.ireturn, 1) := dk_172 (dk_at dksX7_does_6 3 rfl rfl)
theorem q123 : (Jvm.Cond.initialized "OtterTrust$Order") ∈ lw_all := lw_g (lw_at lw_m1 33 rfl) rfl
theorem q835 : (Jvm.Cond.selects "OtterTrust$Order" ({ cls := "java/lang/Object", name := "getClass", desc := "()Ljava/lang/Class;" } : Jvm.MethodName) ({ cls := "java/lang/Object", name := "getClass", desc := "()Ljava/lang/Class;" } : Jvm.MethodName)) ∈ lw_all := lw_g (lw_at lw_m4 25 rfl) rfl
theorem q1019 : (Jvm.Cond.instantiable "OtterTrust$Order" (3 : Nat)) ∈ lw_all := lw_g (lw_at lw_m4 209 rfl) rfl
theorem q1021 : (Jvm.Cond.instanceMethod ({ cls := "OtterTrust$Order", name := "<init>", desc := "(III)V" } : Jvm.MethodName)) ∈ lw_all := lw_g (lw_at lw_m4 211 rfl) rfl
theorem q1022 : (Jvm.Cond.code ({ cls := "OtterTrust$Order", name := "<init>", desc := "(III)V" } : Jvm.MethodName) prog_2_method_1_code (4 : Nat) (Option.none : Option Jvm.ClassFile.FieldType)) ∈ lw_all := lw_g (lw_at lw_m4 212 rfl) rfl
theorem q1023 : (Jvm.Cond.methodLink "OtterTrust$Order" (1 : Nat) ({ cls := "java/lang/Object", name := "<init>", desc := "()V" } : Jvm.MethodName)) ∈ lw_all := lw_g (lw_at lw_m4 213 rfl) rfl
theorem q1024 : (Jvm.Cond.fieldLink "OtterTrust$Order" (7 : Nat) "OtterTrust$Order" "sort" "I") ∈ lw_all := lw_g (lw_at lw_m4 214 rfl) rfl
theorem q1025 : (Jvm.Cond.fieldLink "OtterTrust$Order" (13 : Nat) "OtterTrust$Order" "number" "I") ∈ lw_all := lw_g (lw_at lw_m4 215 rfl) rfl
theorem q1026 : (Jvm.Cond.fieldLink "OtterTrust$Order" (16 : Nat) "OtterTrust$Order" "other" "I") ∈ lw_all := lw_g (lw_at lw_m4 216 rfl) rfl
theorem q1027 : (Jvm.Cond.laysFinal "OtterTrust$Order" "OtterTrust$Order" "sort" "I") ∈ lw_all := lw_g (lw_at lw_m4 217 rfl) rfl
theorem q1028 : (Jvm.Cond.soleField "OtterTrust$Order" "sort") ∈ lw_all := lw_g (lw_at lw_m4 218 rfl) rfl
theorem q1029 : (Jvm.Cond.laysFinal "OtterTrust$Order" "OtterTrust$Order" "number" "I") ∈ lw_all := lw_g (lw_at lw_m4 219 rfl) rfl
theorem q1030 : (Jvm.Cond.soleField "OtterTrust$Order" "number") ∈ lw_all := lw_g (lw_at lw_m4 220 rfl) rfl
theorem q1031 : (Jvm.Cond.laysFinal "OtterTrust$Order" "OtterTrust$Order" "other" "I") ∈ lw_all := lw_g (lw_at lw_m4 221 rfl) rfl
theorem q1032 : (Jvm.Cond.soleField "OtterTrust$Order" "other") ∈ lw_all := lw_g (lw_at lw_m4 222 rfl) rfl
theorem q1033 : (Jvm.Cond.superclass "OtterTrust$Order" "java/lang/Object") ∈ lw_all := lw_g (lw_at lw_m4 223 rfl) rfl
theorem q1035 : (Jvm.Cond.instanceMethod ({ cls := "OtterTrust$Order", name := "does", desc := "(LOtterTrust$River;)I" } : Jvm.MethodName)) ∈ lw_all := lw_g (lw_at lw_m4 225 rfl) rfl
theorem q1036 : (Jvm.Cond.selects "OtterTrust$Order" ({ cls := "OtterTrust$Order", name := "does", desc := "(LOtterTrust$River;)I" } : Jvm.MethodName) ({ cls := "OtterTrust$Order", name := "does", desc := "(LOtterTrust$River;)I" } : Jvm.MethodName)) ∈ lw_all := lw_g (lw_at lw_m4 226 rfl) rfl
theorem q1037 : (Jvm.Cond.code ({ cls := "OtterTrust$Order", name := "does", desc := "(LOtterTrust$River;)I" } : Jvm.MethodName) prog_2_method_2_code (2 : Nat) (Option.some Jvm.ClassFile.FieldType.int)) ∈ lw_all := lw_g (lw_at lw_m4 227 rfl) rfl
theorem q1038 : (Jvm.Cond.methodLink "OtterTrust$Order" (19 : Nat) ({ cls := "OtterTrust$River", name := "walks", desc := "(I)I" } : Jvm.MethodName)) ∈ lw_all := lw_g (lw_at lw_m4 228 rfl) rfl
theorem q1095 : (Jvm.Cond.methodLink "OtterTrust$Order" (25 : Nat) ({ cls := "OtterTrust$River", name := "passes", desc := "(I)I" } : Jvm.MethodName)) ∈ lw_all := lw_g (lw_at lw_m5 45 rfl) rfl
theorem q1190 : (Jvm.Cond.methodLink "OtterTrust$Order" (28 : Nat) ({ cls := "OtterTrust$River", name := "shuts", desc := "(I)I" } : Jvm.MethodName)) ∈ lw_all := lw_g (lw_at lw_m5 140 rfl) rfl
theorem q1207 : (Jvm.Cond.methodLink "OtterTrust$Order" (31 : Nat) ({ cls := "OtterTrust$River", name := "rises", desc := "(I)I" } : Jvm.MethodName)) ∈ lw_all := lw_g (lw_at lw_m5 157 rfl) rfl
theorem q1211 : (Jvm.Cond.methodLink "OtterTrust$Order" (34 : Nat) ({ cls := "OtterTrust$River", name := "gets", desc := "(I)I" } : Jvm.MethodName)) ∈ lw_all := lw_g (lw_at lw_m5 161 rfl) rfl
theorem q1215 : (Jvm.Cond.methodLink "OtterTrust$Order" (37 : Nat) ({ cls := "OtterTrust$River", name := "ends", desc := "()I" } : Jvm.MethodName)) ∈ lw_all := lw_g (lw_at lw_m5 165 rfl) rfl
theorem q1227 : (Jvm.Cond.methodLink "OtterTrust$Order" (41 : Nat) ({ cls := "OtterTrust$River", name := "flowsOn", desc := "(II)I" } : Jvm.MethodName)) ∈ lw_all := lw_g (lw_at lw_m5 177 rfl) rfl
theorem q1232 : (Jvm.Cond.methodLink "OtterTrust$Order" (45 : Nat) ({ cls := "OtterTrust$River", name := "isDug", desc := "(I)I" } : Jvm.MethodName)) ∈ lw_all := lw_g (lw_at lw_m5 182 rfl) rfl
theorem q1236 : (Jvm.Cond.methodLink "OtterTrust$Order" (48 : Nat) ({ cls := "OtterTrust$River", name := "comes", desc := "(I)I" } : Jvm.MethodName)) ∈ lw_all := lw_g (lw_at lw_m5 186 rfl) rfl
theorem q1246 : (Jvm.Cond.methodLink "OtterTrust$Order" (51 : Nat) ({ cls := "OtterTrust$River", name := "helps", desc := "(II)I" } : Jvm.MethodName)) ∈ lw_all := lw_g (lw_at lw_m5 196 rfl) rfl
theorem q2552 : (Jvm.Cond.castable "OtterTrust$Order" "java/lang/Object") ∈ lw_tbl := lw_at lw_m11 62 rfl
theorem in_X7 : ∀ w ∈ wsX70, w ∈ lw_all := lw_in wsX70 [1027, 1029, 1031] (by decide +kernel) (by decide +kernel)
/-! OtterTrust$Refused -/
set_option maxRecDepth 100000
def RX8 : String := "OtterTrust$Refused"
def TX8 : u_T := fun k => match k with
  | 0 => ("java/lang/Throwable", "cause", "Ljava/lang/Throwable;", false)
  | 1 => ("java/lang/Throwable", "stackTrace", "[Ljava/lang/StackTraceElement;", false)
  | 2 => ("java/lang/Throwable", "suppressedExceptions", "Ljava/util/List;", false)
  | 3 => ("java/lang/Throwable", "detailMessage", "Ljava/lang/String;", false)
  | 4 => ("java/lang/Throwable", "backtrace", "Ljava/lang/Object;", false)
  | 5 => ("java/lang/Throwable", "depth", "I", false)
  | 6 => ("OtterTrust$Refused", "reason", "I", true)
  | _ => ("OtterTrust$Refused", "detail", "I", true)
def tyX8 : Nat → FieldType := fun k => match k with
  | 0 => .object "java/lang/Throwable"
  | 1 => .array (.object "java/lang/StackTraceElement")
  | 2 => .object "java/util/List"
  | 3 => .object "java/lang/String"
  | 4 => .object "java/lang/Object"
  | 5 => .int
  | 6 => .int
  | _ => .int
abbrev wsX80 : List Cond := u_ws RX8 TX8 8
theorem nmX8 : ∀ a, a < 8 → ∀ b, b < 8 → a ≠ b → (TX8 a).2.1 ≠ (TX8 b).2.1 := by decide +kernel
theorem tyX8_ok : ∀ k, k < 8 → parseFieldDescriptor (TX8 k).2.2.1 = some (tyX8 k) := by decide +kernel
abbrev cX8_init : ByteArray := prog_6_method_1_code
def yX8_init : MethodName := ⟨RX8, "<init>", "(II)V"⟩
def dkwX8_init_0 : List UInt8 := [42, 183, 0, 1, 42, 27, 181, 0, 7, 42, 28, 181, 0, 13, 177]
abbrev dktX8_init_0 : List UInt8 := dkwX8_init_0 ++ []
theorem dksX8_init_0 : cX8_init.data.toList.drop 0 = dktX8_init_0 := by decide +kernel
theorem dX8_init_0 : decode cX8_init 0 = .ok (.aload_n 0, 1) := dk_42 (dk_at dksX8_init_0 0 rfl rfl)
theorem dX8_init_1 : decode cX8_init 1 = .ok (.invokespecial 1, 3) := dk_183 0 1 (dk_at dksX8_init_0 1 rfl rfl)
theorem dX8_init_4 : decode cX8_init 4 = .ok (.aload_n 0, 1) := dk_42 (dk_at dksX8_init_0 4 rfl rfl)
theorem dX8_init_5 : decode cX8_init 5 = .ok (.iload_n 1, 1) := dk_27 (dk_at dksX8_init_0 5 rfl rfl)
theorem dX8_init_6 : decode cX8_init 6 = .ok (.putfield 7, 3) := dk_181 0 7 (dk_at dksX8_init_0 6 rfl rfl)
theorem dX8_init_9 : decode cX8_init 9 = .ok (.aload_n 0, 1) := dk_42 (dk_at dksX8_init_0 9 rfl rfl)
theorem dX8_init_10 : decode cX8_init 10 = .ok (.iload_n 2, 1) := dk_28 (dk_at dksX8_init_0 10 rfl rfl)
theorem dX8_init_11 : decode cX8_init 11 = .ok (.putfield 13, 3) := dk_181 0 13 (dk_at dksX8_init_0 11 rfl rfl)
theorem dX8_init_14 : decode cX8_init 14 = .ok (.return_, 1) := dk_177 (dk_at dksX8_init_0 14 rfl rfl)
theorem q124 : (Jvm.Cond.initialized "OtterTrust$Refused") ∈ lw_all := lw_g (lw_at lw_m1 34 rfl) rfl
theorem q440 : (Jvm.Cond.selects "OtterTrust$Refused" ({ cls := "java/lang/Throwable", name := "fillInStackTrace", desc := "()Ljava/lang/Throwable;" } : Jvm.MethodName) ({ cls := "java/lang/Throwable", name := "fillInStackTrace", desc := "()Ljava/lang/Throwable;" } : Jvm.MethodName)) ∈ lw_all := lw_g (lw_at lw_m2 110 rfl) rfl
theorem q839 : (Jvm.Cond.selects "OtterTrust$Refused" ({ cls := "java/lang/Object", name := "getClass", desc := "()Ljava/lang/Class;" } : Jvm.MethodName) ({ cls := "java/lang/Object", name := "getClass", desc := "()Ljava/lang/Class;" } : Jvm.MethodName)) ∈ lw_all := lw_g (lw_at lw_m4 29 rfl) rfl
theorem q1048 : (Jvm.Cond.instantiable "OtterTrust$Refused" (8 : Nat)) ∈ lw_all := lw_g (lw_at lw_m4 238 rfl) rfl
theorem q1049 : (Jvm.Cond.castable "OtterTrust$Refused" "OtterTrust$Refused") ∈ lw_tbl := lw_at lw_m4 239 rfl
theorem q1050 : (Jvm.Cond.selects "OtterTrust$Refused" ({ cls := "java/lang/Throwable", name := "fillInStackTrace", desc := "(I)Ljava/lang/Throwable;" } : Jvm.MethodName) ({ cls := "java/lang/Throwable", name := "fillInStackTrace", desc := "(I)Ljava/lang/Throwable;" } : Jvm.MethodName)) ∈ lw_all := lw_g (lw_at lw_m5 0 rfl) rfl
theorem q1051 : (Jvm.Cond.lays "OtterTrust$Refused" "java/lang/Throwable" "cause" "Ljava/lang/Throwable;") ∈ lw_all := lw_g (lw_at lw_m5 1 rfl) rfl
theorem q1052 : (Jvm.Cond.lays "OtterTrust$Refused" "java/lang/Throwable" "stackTrace" "[Ljava/lang/StackTraceElement;") ∈ lw_all := lw_g (lw_at lw_m5 2 rfl) rfl
theorem q1053 : (Jvm.Cond.lays "OtterTrust$Refused" "java/lang/Throwable" "suppressedExceptions" "Ljava/util/List;") ∈ lw_all := lw_g (lw_at lw_m5 3 rfl) rfl
theorem q1054 : (Jvm.Cond.lays "OtterTrust$Refused" "java/lang/Throwable" "detailMessage" "Ljava/lang/String;") ∈ lw_all := lw_g (lw_at lw_m5 4 rfl) rfl
theorem q1055 : (Jvm.Cond.lays "OtterTrust$Refused" "java/lang/Throwable" "backtrace" "Ljava/lang/Object;") ∈ lw_all := lw_g (lw_at lw_m5 5 rfl) rfl
theorem q1057 : (Jvm.Cond.instanceMethod ({ cls := "OtterTrust$Refused", name := "<init>", desc := "(II)V" } : Jvm.MethodName)) ∈ lw_all := lw_g (lw_at lw_m5 7 rfl) rfl
theorem q1058 : (Jvm.Cond.code ({ cls := "OtterTrust$Refused", name := "<init>", desc := "(II)V" } : Jvm.MethodName) prog_6_method_1_code (3 : Nat) (Option.none : Option Jvm.ClassFile.FieldType)) ∈ lw_all := lw_g (lw_at lw_m5 8 rfl) rfl
theorem q1059 : (Jvm.Cond.methodLink "OtterTrust$Refused" (1 : Nat) ({ cls := "java/lang/Exception", name := "<init>", desc := "()V" } : Jvm.MethodName)) ∈ lw_all := lw_g (lw_at lw_m5 9 rfl) rfl
theorem q1060 : (Jvm.Cond.fieldLink "OtterTrust$Refused" (7 : Nat) "OtterTrust$Refused" "reason" "I") ∈ lw_all := lw_g (lw_at lw_m5 10 rfl) rfl
theorem q1062 : (Jvm.Cond.fieldLink "OtterTrust$Refused" (13 : Nat) "OtterTrust$Refused" "detail" "I") ∈ lw_all := lw_g (lw_at lw_m5 12 rfl) rfl
theorem q1064 : (Jvm.Cond.laysFinal "OtterTrust$Refused" "OtterTrust$Refused" "reason" "I") ∈ lw_all := lw_g (lw_at lw_m5 14 rfl) rfl
theorem q1065 : (Jvm.Cond.soleField "OtterTrust$Refused" "reason") ∈ lw_all := lw_g (lw_at lw_m5 15 rfl) rfl
theorem q1066 : (Jvm.Cond.laysFinal "OtterTrust$Refused" "OtterTrust$Refused" "detail" "I") ∈ lw_all := lw_g (lw_at lw_m5 16 rfl) rfl
theorem q1067 : (Jvm.Cond.soleField "OtterTrust$Refused" "detail") ∈ lw_all := lw_g (lw_at lw_m5 17 rfl) rfl
theorem q1068 : (Jvm.Cond.lays "OtterTrust$Refused" "java/lang/Throwable" "depth" "I") ∈ lw_all := lw_g (lw_at lw_m5 18 rfl) rfl
theorem q1069 : (Jvm.Cond.superclass "OtterTrust$Refused" "java/lang/Exception") ∈ lw_all := lw_g (lw_at lw_m5 19 rfl) rfl
theorem q2553 : (Jvm.Cond.castable "OtterTrust$Refused" "java/lang/Object") ∈ lw_tbl := lw_at lw_m11 63 rfl
theorem in_X8 : ∀ w ∈ wsX80, w ∈ lw_all := lw_in wsX80 [1051, 1052, 1053, 1054, 1055, 1068, 1064, 1066] (by decide +kernel) (by decide +kernel)
/-! OtterTrust$Reader -/
set_option maxRecDepth 100000
def RX9 : String := "OtterTrust$Reader"
def TX9 : u_T := fun k => match k with
  | 0 => ("OtterTrust$Reader", "text", "Ljava/lang/String;", true)
  | _ => ("OtterTrust$Reader", "at", "I", false)
def tyX9 : Nat → FieldType := fun k => match k with
  | 0 => .object "java/lang/String"
  | _ => .int
abbrev wsX90 : List Cond := u_ws RX9 TX9 2
theorem nmX9 : ∀ a, a < 2 → ∀ b, b < 2 → a ≠ b → (TX9 a).2.1 ≠ (TX9 b).2.1 := by decide +kernel
theorem tyX9_ok : ∀ k, k < 2 → parseFieldDescriptor (TX9 k).2.2.1 = some (tyX9 k) := by decide +kernel
abbrev cX9_init : ByteArray := prog_5_method_1_code
def yX9_init : MethodName := ⟨RX9, "<init>", "(Ljava/lang/String;)V"⟩
def dkwX9_init_0 : List UInt8 := [42, 183, 0, 1, 42, 43, 181, 0, 7, 177]
abbrev dktX9_init_0 : List UInt8 := dkwX9_init_0 ++ []
theorem dksX9_init_0 : cX9_init.data.toList.drop 0 = dktX9_init_0 := by decide +kernel
theorem dX9_init_0 : decode cX9_init 0 = .ok (.aload_n 0, 1) := dk_42 (dk_at dksX9_init_0 0 rfl rfl)
theorem dX9_init_1 : decode cX9_init 1 = .ok (.invokespecial 1, 3) := dk_183 0 1 (dk_at dksX9_init_0 1 rfl rfl)
theorem dX9_init_4 : decode cX9_init 4 = .ok (.aload_n 0, 1) := dk_42 (dk_at dksX9_init_0 4 rfl rfl)
theorem dX9_init_5 : decode cX9_init 5 = .ok (.aload_n 1, 1) := dk_43 (dk_at dksX9_init_0 5 rfl rfl)
theorem dX9_init_6 : decode cX9_init 6 = .ok (.putfield 7, 3) := dk_181 0 7 (dk_at dksX9_init_0 6 rfl rfl)
theorem dX9_init_9 : decode cX9_init 9 = .ok (.return_, 1) := dk_177 (dk_at dksX9_init_0 9 rfl rfl)
abbrev cX9_whole : ByteArray := prog_5_method_9_code
def yX9_whole : MethodName := ⟨RX9, "whole", "()Ljava/util/LinkedList;"⟩
def dkwX9_whole_2 : List UInt8 := [182, 0, 40, 43, 176]
abbrev dktX9_whole_2 : List UInt8 := dkwX9_whole_2 ++ []
def dkwX9_whole_1 : List UInt8 := [154, 255, 242, 42, 42, 180, 0, 13, 42, 180, 0, 7, 182, 0, 17, 160, 0, 7, 4, 167, 0, 4, 3]
abbrev dktX9_whole_1 : List UInt8 := dkwX9_whole_1 ++ dktX9_whole_2
def dkwX9_whole_0 : List UInt8 := [187, 0, 71, 89, 183, 0, 73, 76, 43, 42, 182, 0, 74, 182, 0, 78, 42, 16, 44, 182, 0, 36]
abbrev dktX9_whole_0 : List UInt8 := dkwX9_whole_0 ++ dktX9_whole_1
theorem dksX9_whole_0 : cX9_whole.data.toList.drop 0 = dktX9_whole_0 := by decide +kernel
theorem dksX9_whole_1 : cX9_whole.data.toList.drop 22 = dktX9_whole_1 := dk_seg dksX9_whole_0 22 rfl rfl
theorem dksX9_whole_2 : cX9_whole.data.toList.drop 45 = dktX9_whole_2 := dk_seg dksX9_whole_1 23 rfl rfl
theorem dX9_whole_0 : decode cX9_whole 0 = .ok (.new 71, 3) := dk_187 0 71 (dk_at dksX9_whole_0 0 rfl rfl)
theorem dX9_whole_3 : decode cX9_whole 3 = .ok (.dup, 1) := dk_89 (dk_at dksX9_whole_0 3 rfl rfl)
theorem dX9_whole_4 : decode cX9_whole 4 = .ok (.invokespecial 73, 3) := dk_183 0 73 (dk_at dksX9_whole_0 4 rfl rfl)
theorem dX9_whole_7 : decode cX9_whole 7 = .ok (.astore_n 1, 1) := dk_76 (dk_at dksX9_whole_0 7 rfl rfl)
theorem dX9_whole_8 : decode cX9_whole 8 = .ok (.aload_n 1, 1) := dk_43 (dk_at dksX9_whole_0 8 rfl rfl)
theorem dX9_whole_9 : decode cX9_whole 9 = .ok (.aload_n 0, 1) := dk_42 (dk_at dksX9_whole_0 9 rfl rfl)
theorem dX9_whole_10 : decode cX9_whole 10 = .ok (.invokevirtual 74, 3) := dk_182 0 74 (dk_at dksX9_whole_0 10 rfl rfl)
theorem dX9_whole_13 : decode cX9_whole 13 = .ok (.invokevirtual 78, 3) := dk_182 0 78 (dk_at dksX9_whole_0 13 rfl rfl)
theorem dX9_whole_16 : decode cX9_whole 16 = .ok (.aload_n 0, 1) := dk_42 (dk_at dksX9_whole_0 16 rfl rfl)
theorem dX9_whole_17 : decode cX9_whole 17 = .ok (.bipush 44, 2) := dk_16 44 (dk_at dksX9_whole_0 17 rfl rfl)
theorem dX9_whole_19 : decode cX9_whole 19 = .ok (.invokevirtual 36, 3) := dk_182 0 36 (dk_at dksX9_whole_0 19 rfl rfl)
theorem dX9_whole_22 : decode cX9_whole 22 = .ok (.ifCond .ne (-14), 3) := dk_154 255 242 (dk_at dksX9_whole_1 0 rfl rfl)
theorem dX9_whole_25 : decode cX9_whole 25 = .ok (.aload_n 0, 1) := dk_42 (dk_at dksX9_whole_1 3 rfl rfl)
theorem dX9_whole_26 : decode cX9_whole 26 = .ok (.aload_n 0, 1) := dk_42 (dk_at dksX9_whole_1 4 rfl rfl)
theorem dX9_whole_27 : decode cX9_whole 27 = .ok (.getfield 13, 3) := dk_180 0 13 (dk_at dksX9_whole_1 5 rfl rfl)
theorem dX9_whole_30 : decode cX9_whole 30 = .ok (.aload_n 0, 1) := dk_42 (dk_at dksX9_whole_1 8 rfl rfl)
theorem dX9_whole_31 : decode cX9_whole 31 = .ok (.getfield 7, 3) := dk_180 0 7 (dk_at dksX9_whole_1 9 rfl rfl)
theorem dX9_whole_34 : decode cX9_whole 34 = .ok (.invokevirtual 17, 3) := dk_182 0 17 (dk_at dksX9_whole_1 12 rfl rfl)
theorem dX9_whole_37 : decode cX9_whole 37 = .ok (.if_icmp .ne 7, 3) := dk_160 0 7 (dk_at dksX9_whole_1 15 rfl rfl)
theorem dX9_whole_40 : decode cX9_whole 40 = .ok (.iconst 1, 1) := dk_4 (dk_at dksX9_whole_1 18 rfl rfl)
theorem dX9_whole_41 : decode cX9_whole 41 = .ok (.goto 4, 3) := dk_167 0 4 (dk_at dksX9_whole_1 19 rfl rfl)
theorem dX9_whole_44 : decode cX9_whole 44 = .ok (.iconst 0, 1) := dk_3 (dk_at dksX9_whole_1 22 rfl rfl)
theorem dX9_whole_45 : decode cX9_whole 45 = .ok (.invokevirtual 40, 3) := dk_182 0 40 (dk_at dksX9_whole_2 0 rfl rfl)
theorem dX9_whole_48 : decode cX9_whole 48 = .ok (.aload_n 1, 1) := dk_43 (dk_at dksX9_whole_2 3 rfl rfl)
theorem dX9_whole_49 : decode cX9_whole 49 = .ok (.areturn, 1) := dk_176 (dk_at dksX9_whole_2 4 rfl rfl)
abbrev cX9_order : ByteArray := prog_5_method_8_code
def yX9_order : MethodName := ⟨RX9, "order", "()LOtterTrust$Order;"⟩
def dkwX9_order_6 : List UInt8 := [183, 0, 55, 176, 42, 18, 69, 182, 0, 49, 187, 0, 53, 89, 8, 3, 3, 183, 0, 55, 176]
abbrev dktX9_order_6 : List UInt8 := dkwX9_order_6 ++ []
def dkwX9_order_5 : List UInt8 := [16, 103, 182, 0, 36, 153, 0, 23, 42, 18, 67, 182, 0, 49, 187, 0, 53, 89, 7, 42, 182, 0, 60, 3]
abbrev dktX9_order_5 : List UInt8 := dkwX9_order_5 ++ dktX9_order_6
def dkwX9_order_4 : List UInt8 := [153, 0, 23, 42, 18, 65, 182, 0, 49, 187, 0, 53, 89, 6, 42, 182, 0, 44, 3, 183, 0, 55, 176, 42]
abbrev dktX9_order_4 : List UInt8 := dkwX9_order_4 ++ dktX9_order_5
def dkwX9_order_3 : List UInt8 := [182, 0, 49, 187, 0, 53, 89, 5, 42, 182, 0, 60, 3, 183, 0, 55, 176, 42, 16, 108, 182, 0, 36]
abbrev dktX9_order_3 : List UInt8 := dkwX9_order_3 ++ dktX9_order_4
def dkwX9_order_2 : List UInt8 := [4, 42, 182, 0, 60, 3, 183, 0, 55, 176, 42, 16, 115, 182, 0, 36, 153, 0, 23, 42, 18, 63]
abbrev dktX9_order_2 : List UInt8 := dkwX9_order_2 ++ dktX9_order_3
def dkwX9_order_1 : List UInt8 := [3, 183, 0, 55, 176, 42, 16, 110, 182, 0, 36, 153, 0, 23, 42, 18, 58, 182, 0, 49, 187, 0, 53, 89]
abbrev dktX9_order_1 : List UInt8 := dkwX9_order_1 ++ dktX9_order_2
def dkwX9_order_0 : List UInt8 := [42, 16, 119, 182, 0, 36, 153, 0, 23, 42, 18, 47, 182, 0, 49, 187, 0, 53, 89, 3, 42, 182, 0, 44]
abbrev dktX9_order_0 : List UInt8 := dkwX9_order_0 ++ dktX9_order_1
theorem dksX9_order_0 : cX9_order.data.toList.drop 0 = dktX9_order_0 := by decide +kernel
theorem dksX9_order_1 : cX9_order.data.toList.drop 24 = dktX9_order_1 := dk_seg dksX9_order_0 24 rfl rfl
theorem dksX9_order_2 : cX9_order.data.toList.drop 48 = dktX9_order_2 := dk_seg dksX9_order_1 24 rfl rfl
theorem dksX9_order_3 : cX9_order.data.toList.drop 70 = dktX9_order_3 := dk_seg dksX9_order_2 22 rfl rfl
theorem dksX9_order_4 : cX9_order.data.toList.drop 93 = dktX9_order_4 := dk_seg dksX9_order_3 23 rfl rfl
theorem dksX9_order_5 : cX9_order.data.toList.drop 117 = dktX9_order_5 := dk_seg dksX9_order_4 24 rfl rfl
theorem dksX9_order_6 : cX9_order.data.toList.drop 141 = dktX9_order_6 := dk_seg dksX9_order_5 24 rfl rfl
theorem dX9_order_0 : decode cX9_order 0 = .ok (.aload_n 0, 1) := dk_42 (dk_at dksX9_order_0 0 rfl rfl)
theorem dX9_order_1 : decode cX9_order 1 = .ok (.bipush 119, 2) := dk_16 119 (dk_at dksX9_order_0 1 rfl rfl)
theorem dX9_order_3 : decode cX9_order 3 = .ok (.invokevirtual 36, 3) := dk_182 0 36 (dk_at dksX9_order_0 3 rfl rfl)
theorem dX9_order_6 : decode cX9_order 6 = .ok (.ifCond .eq 23, 3) := dk_153 0 23 (dk_at dksX9_order_0 6 rfl rfl)
theorem dX9_order_9 : decode cX9_order 9 = .ok (.aload_n 0, 1) := dk_42 (dk_at dksX9_order_0 9 rfl rfl)
theorem dX9_order_10 : decode cX9_order 10 = .ok (.ldc 47, 2) := dk_18 47 (dk_at dksX9_order_0 10 rfl rfl)
theorem dX9_order_12 : decode cX9_order 12 = .ok (.invokevirtual 49, 3) := dk_182 0 49 (dk_at dksX9_order_0 12 rfl rfl)
theorem dX9_order_15 : decode cX9_order 15 = .ok (.new 53, 3) := dk_187 0 53 (dk_at dksX9_order_0 15 rfl rfl)
theorem dX9_order_18 : decode cX9_order 18 = .ok (.dup, 1) := dk_89 (dk_at dksX9_order_0 18 rfl rfl)
theorem dX9_order_19 : decode cX9_order 19 = .ok (.iconst 0, 1) := dk_3 (dk_at dksX9_order_0 19 rfl rfl)
theorem dX9_order_20 : decode cX9_order 20 = .ok (.aload_n 0, 1) := dk_42 (dk_at dksX9_order_0 20 rfl rfl)
theorem dX9_order_21 : decode cX9_order 21 = .ok (.invokevirtual 44, 3) := dk_182 0 44 (dk_at dksX9_order_0 21 rfl rfl)
theorem dX9_order_24 : decode cX9_order 24 = .ok (.iconst 0, 1) := dk_3 (dk_at dksX9_order_1 0 rfl rfl)
theorem dX9_order_25 : decode cX9_order 25 = .ok (.invokespecial 55, 3) := dk_183 0 55 (dk_at dksX9_order_1 1 rfl rfl)
theorem dX9_order_28 : decode cX9_order 28 = .ok (.areturn, 1) := dk_176 (dk_at dksX9_order_1 4 rfl rfl)
theorem dX9_order_29 : decode cX9_order 29 = .ok (.aload_n 0, 1) := dk_42 (dk_at dksX9_order_1 5 rfl rfl)
theorem dX9_order_30 : decode cX9_order 30 = .ok (.bipush 110, 2) := dk_16 110 (dk_at dksX9_order_1 6 rfl rfl)
theorem dX9_order_32 : decode cX9_order 32 = .ok (.invokevirtual 36, 3) := dk_182 0 36 (dk_at dksX9_order_1 8 rfl rfl)
theorem dX9_order_35 : decode cX9_order 35 = .ok (.ifCond .eq 23, 3) := dk_153 0 23 (dk_at dksX9_order_1 11 rfl rfl)
theorem dX9_order_38 : decode cX9_order 38 = .ok (.aload_n 0, 1) := dk_42 (dk_at dksX9_order_1 14 rfl rfl)
theorem dX9_order_39 : decode cX9_order 39 = .ok (.ldc 58, 2) := dk_18 58 (dk_at dksX9_order_1 15 rfl rfl)
theorem dX9_order_41 : decode cX9_order 41 = .ok (.invokevirtual 49, 3) := dk_182 0 49 (dk_at dksX9_order_1 17 rfl rfl)
theorem dX9_order_44 : decode cX9_order 44 = .ok (.new 53, 3) := dk_187 0 53 (dk_at dksX9_order_1 20 rfl rfl)
theorem dX9_order_47 : decode cX9_order 47 = .ok (.dup, 1) := dk_89 (dk_at dksX9_order_1 23 rfl rfl)
theorem dX9_order_48 : decode cX9_order 48 = .ok (.iconst 1, 1) := dk_4 (dk_at dksX9_order_2 0 rfl rfl)
theorem dX9_order_49 : decode cX9_order 49 = .ok (.aload_n 0, 1) := dk_42 (dk_at dksX9_order_2 1 rfl rfl)
theorem dX9_order_50 : decode cX9_order 50 = .ok (.invokevirtual 60, 3) := dk_182 0 60 (dk_at dksX9_order_2 2 rfl rfl)
theorem dX9_order_53 : decode cX9_order 53 = .ok (.iconst 0, 1) := dk_3 (dk_at dksX9_order_2 5 rfl rfl)
theorem dX9_order_54 : decode cX9_order 54 = .ok (.invokespecial 55, 3) := dk_183 0 55 (dk_at dksX9_order_2 6 rfl rfl)
theorem dX9_order_57 : decode cX9_order 57 = .ok (.areturn, 1) := dk_176 (dk_at dksX9_order_2 9 rfl rfl)
theorem dX9_order_58 : decode cX9_order 58 = .ok (.aload_n 0, 1) := dk_42 (dk_at dksX9_order_2 10 rfl rfl)
theorem dX9_order_59 : decode cX9_order 59 = .ok (.bipush 115, 2) := dk_16 115 (dk_at dksX9_order_2 11 rfl rfl)
theorem dX9_order_61 : decode cX9_order 61 = .ok (.invokevirtual 36, 3) := dk_182 0 36 (dk_at dksX9_order_2 13 rfl rfl)
theorem dX9_order_64 : decode cX9_order 64 = .ok (.ifCond .eq 23, 3) := dk_153 0 23 (dk_at dksX9_order_2 16 rfl rfl)
theorem dX9_order_67 : decode cX9_order 67 = .ok (.aload_n 0, 1) := dk_42 (dk_at dksX9_order_2 19 rfl rfl)
theorem dX9_order_68 : decode cX9_order 68 = .ok (.ldc 63, 2) := dk_18 63 (dk_at dksX9_order_2 20 rfl rfl)
theorem dX9_order_70 : decode cX9_order 70 = .ok (.invokevirtual 49, 3) := dk_182 0 49 (dk_at dksX9_order_3 0 rfl rfl)
theorem dX9_order_73 : decode cX9_order 73 = .ok (.new 53, 3) := dk_187 0 53 (dk_at dksX9_order_3 3 rfl rfl)
theorem dX9_order_76 : decode cX9_order 76 = .ok (.dup, 1) := dk_89 (dk_at dksX9_order_3 6 rfl rfl)
theorem dX9_order_77 : decode cX9_order 77 = .ok (.iconst 2, 1) := dk_5 (dk_at dksX9_order_3 7 rfl rfl)
theorem dX9_order_78 : decode cX9_order 78 = .ok (.aload_n 0, 1) := dk_42 (dk_at dksX9_order_3 8 rfl rfl)
theorem dX9_order_79 : decode cX9_order 79 = .ok (.invokevirtual 60, 3) := dk_182 0 60 (dk_at dksX9_order_3 9 rfl rfl)
theorem dX9_order_82 : decode cX9_order 82 = .ok (.iconst 0, 1) := dk_3 (dk_at dksX9_order_3 12 rfl rfl)
theorem dX9_order_83 : decode cX9_order 83 = .ok (.invokespecial 55, 3) := dk_183 0 55 (dk_at dksX9_order_3 13 rfl rfl)
theorem dX9_order_86 : decode cX9_order 86 = .ok (.areturn, 1) := dk_176 (dk_at dksX9_order_3 16 rfl rfl)
theorem dX9_order_87 : decode cX9_order 87 = .ok (.aload_n 0, 1) := dk_42 (dk_at dksX9_order_3 17 rfl rfl)
theorem dX9_order_88 : decode cX9_order 88 = .ok (.bipush 108, 2) := dk_16 108 (dk_at dksX9_order_3 18 rfl rfl)
theorem dX9_order_90 : decode cX9_order 90 = .ok (.invokevirtual 36, 3) := dk_182 0 36 (dk_at dksX9_order_3 20 rfl rfl)
theorem dX9_order_93 : decode cX9_order 93 = .ok (.ifCond .eq 23, 3) := dk_153 0 23 (dk_at dksX9_order_4 0 rfl rfl)
theorem dX9_order_96 : decode cX9_order 96 = .ok (.aload_n 0, 1) := dk_42 (dk_at dksX9_order_4 3 rfl rfl)
theorem dX9_order_97 : decode cX9_order 97 = .ok (.ldc 65, 2) := dk_18 65 (dk_at dksX9_order_4 4 rfl rfl)
theorem dX9_order_99 : decode cX9_order 99 = .ok (.invokevirtual 49, 3) := dk_182 0 49 (dk_at dksX9_order_4 6 rfl rfl)
theorem dX9_order_102 : decode cX9_order 102 = .ok (.new 53, 3) := dk_187 0 53 (dk_at dksX9_order_4 9 rfl rfl)
theorem dX9_order_105 : decode cX9_order 105 = .ok (.dup, 1) := dk_89 (dk_at dksX9_order_4 12 rfl rfl)
theorem dX9_order_106 : decode cX9_order 106 = .ok (.iconst 3, 1) := dk_6 (dk_at dksX9_order_4 13 rfl rfl)
theorem dX9_order_107 : decode cX9_order 107 = .ok (.aload_n 0, 1) := dk_42 (dk_at dksX9_order_4 14 rfl rfl)
theorem dX9_order_108 : decode cX9_order 108 = .ok (.invokevirtual 44, 3) := dk_182 0 44 (dk_at dksX9_order_4 15 rfl rfl)
theorem dX9_order_111 : decode cX9_order 111 = .ok (.iconst 0, 1) := dk_3 (dk_at dksX9_order_4 18 rfl rfl)
theorem dX9_order_112 : decode cX9_order 112 = .ok (.invokespecial 55, 3) := dk_183 0 55 (dk_at dksX9_order_4 19 rfl rfl)
theorem dX9_order_115 : decode cX9_order 115 = .ok (.areturn, 1) := dk_176 (dk_at dksX9_order_4 22 rfl rfl)
theorem dX9_order_116 : decode cX9_order 116 = .ok (.aload_n 0, 1) := dk_42 (dk_at dksX9_order_4 23 rfl rfl)
theorem dX9_order_117 : decode cX9_order 117 = .ok (.bipush 103, 2) := dk_16 103 (dk_at dksX9_order_5 0 rfl rfl)
theorem dX9_order_119 : decode cX9_order 119 = .ok (.invokevirtual 36, 3) := dk_182 0 36 (dk_at dksX9_order_5 2 rfl rfl)
theorem dX9_order_122 : decode cX9_order 122 = .ok (.ifCond .eq 23, 3) := dk_153 0 23 (dk_at dksX9_order_5 5 rfl rfl)
theorem dX9_order_125 : decode cX9_order 125 = .ok (.aload_n 0, 1) := dk_42 (dk_at dksX9_order_5 8 rfl rfl)
theorem dX9_order_126 : decode cX9_order 126 = .ok (.ldc 67, 2) := dk_18 67 (dk_at dksX9_order_5 9 rfl rfl)
theorem dX9_order_128 : decode cX9_order 128 = .ok (.invokevirtual 49, 3) := dk_182 0 49 (dk_at dksX9_order_5 11 rfl rfl)
theorem dX9_order_131 : decode cX9_order 131 = .ok (.new 53, 3) := dk_187 0 53 (dk_at dksX9_order_5 14 rfl rfl)
theorem dX9_order_134 : decode cX9_order 134 = .ok (.dup, 1) := dk_89 (dk_at dksX9_order_5 17 rfl rfl)
theorem dX9_order_135 : decode cX9_order 135 = .ok (.iconst 4, 1) := dk_7 (dk_at dksX9_order_5 18 rfl rfl)
theorem dX9_order_136 : decode cX9_order 136 = .ok (.aload_n 0, 1) := dk_42 (dk_at dksX9_order_5 19 rfl rfl)
theorem dX9_order_137 : decode cX9_order 137 = .ok (.invokevirtual 60, 3) := dk_182 0 60 (dk_at dksX9_order_5 20 rfl rfl)
theorem dX9_order_140 : decode cX9_order 140 = .ok (.iconst 0, 1) := dk_3 (dk_at dksX9_order_5 23 rfl rfl)
theorem dX9_order_141 : decode cX9_order 141 = .ok (.invokespecial 55, 3) := dk_183 0 55 (dk_at dksX9_order_6 0 rfl rfl)
theorem dX9_order_144 : decode cX9_order 144 = .ok (.areturn, 1) := dk_176 (dk_at dksX9_order_6 3 rfl rfl)
theorem dX9_order_145 : decode cX9_order 145 = .ok (.aload_n 0, 1) := dk_42 (dk_at dksX9_order_6 4 rfl rfl)
theorem dX9_order_146 : decode cX9_order 146 = .ok (.ldc 69, 2) := dk_18 69 (dk_at dksX9_order_6 5 rfl rfl)
theorem dX9_order_148 : decode cX9_order 148 = .ok (.invokevirtual 49, 3) := dk_182 0 49 (dk_at dksX9_order_6 7 rfl rfl)
theorem dX9_order_151 : decode cX9_order 151 = .ok (.new 53, 3) := dk_187 0 53 (dk_at dksX9_order_6 10 rfl rfl)
theorem dX9_order_154 : decode cX9_order 154 = .ok (.dup, 1) := dk_89 (dk_at dksX9_order_6 13 rfl rfl)
theorem dX9_order_155 : decode cX9_order 155 = .ok (.iconst 5, 1) := dk_8 (dk_at dksX9_order_6 14 rfl rfl)
theorem dX9_order_156 : decode cX9_order 156 = .ok (.iconst 0, 1) := dk_3 (dk_at dksX9_order_6 15 rfl rfl)
theorem dX9_order_157 : decode cX9_order 157 = .ok (.iconst 0, 1) := dk_3 (dk_at dksX9_order_6 16 rfl rfl)
theorem dX9_order_158 : decode cX9_order 158 = .ok (.invokespecial 55, 3) := dk_183 0 55 (dk_at dksX9_order_6 17 rfl rfl)
theorem dX9_order_161 : decode cX9_order 161 = .ok (.areturn, 1) := dk_176 (dk_at dksX9_order_6 20 rfl rfl)
abbrev cX9_passes : ByteArray := prog_5_method_3_code
def yX9_passes : MethodName := ⟨RX9, "passes", "(C)Z"⟩
def dkwX9_passes_1 : List UInt8 := [181, 0, 13, 28, 172]
abbrev dktX9_passes_1 : List UInt8 := dkwX9_passes_1 ++ []
def dkwX9_passes_0 : List UInt8 := [42, 27, 27, 182, 0, 27, 61, 42, 89, 180, 0, 13, 28, 153, 0, 7, 4, 167, 0, 4, 3, 96]
abbrev dktX9_passes_0 : List UInt8 := dkwX9_passes_0 ++ dktX9_passes_1
theorem dksX9_passes_0 : cX9_passes.data.toList.drop 0 = dktX9_passes_0 := by decide +kernel
theorem dksX9_passes_1 : cX9_passes.data.toList.drop 22 = dktX9_passes_1 := dk_seg dksX9_passes_0 22 rfl rfl
theorem dX9_passes_0 : decode cX9_passes 0 = .ok (.aload_n 0, 1) := dk_42 (dk_at dksX9_passes_0 0 rfl rfl)
theorem dX9_passes_1 : decode cX9_passes 1 = .ok (.iload_n 1, 1) := dk_27 (dk_at dksX9_passes_0 1 rfl rfl)
theorem dX9_passes_2 : decode cX9_passes 2 = .ok (.iload_n 1, 1) := dk_27 (dk_at dksX9_passes_0 2 rfl rfl)
theorem dX9_passes_3 : decode cX9_passes 3 = .ok (.invokevirtual 27, 3) := dk_182 0 27 (dk_at dksX9_passes_0 3 rfl rfl)
theorem dX9_passes_6 : decode cX9_passes 6 = .ok (.istore_n 2, 1) := dk_61 (dk_at dksX9_passes_0 6 rfl rfl)
theorem dX9_passes_7 : decode cX9_passes 7 = .ok (.aload_n 0, 1) := dk_42 (dk_at dksX9_passes_0 7 rfl rfl)
theorem dX9_passes_8 : decode cX9_passes 8 = .ok (.dup, 1) := dk_89 (dk_at dksX9_passes_0 8 rfl rfl)
theorem dX9_passes_9 : decode cX9_passes 9 = .ok (.getfield 13, 3) := dk_180 0 13 (dk_at dksX9_passes_0 9 rfl rfl)
theorem dX9_passes_12 : decode cX9_passes 12 = .ok (.iload_n 2, 1) := dk_28 (dk_at dksX9_passes_0 12 rfl rfl)
theorem dX9_passes_13 : decode cX9_passes 13 = .ok (.ifCond .eq 7, 3) := dk_153 0 7 (dk_at dksX9_passes_0 13 rfl rfl)
theorem dX9_passes_16 : decode cX9_passes 16 = .ok (.iconst 1, 1) := dk_4 (dk_at dksX9_passes_0 16 rfl rfl)
theorem dX9_passes_17 : decode cX9_passes 17 = .ok (.goto 4, 3) := dk_167 0 4 (dk_at dksX9_passes_0 17 rfl rfl)
theorem dX9_passes_20 : decode cX9_passes 20 = .ok (.iconst 0, 1) := dk_3 (dk_at dksX9_passes_0 20 rfl rfl)
theorem dX9_passes_21 : decode cX9_passes 21 = .ok (.iadd, 1) := dk_96 (dk_at dksX9_passes_0 21 rfl rfl)
theorem dX9_passes_22 : decode cX9_passes 22 = .ok (.putfield 13, 3) := dk_181 0 13 (dk_at dksX9_passes_1 0 rfl rfl)
theorem dX9_passes_25 : decode cX9_passes 25 = .ok (.iload_n 2, 1) := dk_28 (dk_at dksX9_passes_1 3 rfl rfl)
theorem dX9_passes_26 : decode cX9_passes 26 = .ok (.ireturn, 1) := dk_172 (dk_at dksX9_passes_1 4 rfl rfl)
abbrev cX9_isNext : ByteArray := prog_5_method_2_code
def yX9_isNext : MethodName := ⟨RX9, "isNext", "(CC)Z"⟩
def dkwX9_isNext_2 : List UInt8 := [167, 0, 4, 3, 172]
abbrev dktX9_isNext_2 : List UInt8 := dkwX9_isNext_2 ++ []
def dkwX9_isNext_1 : List UInt8 := [182, 0, 23, 163, 0, 22, 42, 180, 0, 7, 42, 180, 0, 13, 182, 0, 23, 28, 163, 0, 7, 4]
abbrev dktX9_isNext_1 : List UInt8 := dkwX9_isNext_1 ++ dktX9_isNext_2
def dkwX9_isNext_0 : List UInt8 := [42, 180, 0, 13, 42, 180, 0, 7, 182, 0, 17, 162, 0, 37, 27, 42, 180, 0, 7, 42, 180, 0, 13]
abbrev dktX9_isNext_0 : List UInt8 := dkwX9_isNext_0 ++ dktX9_isNext_1
theorem dksX9_isNext_0 : cX9_isNext.data.toList.drop 0 = dktX9_isNext_0 := by decide +kernel
theorem dksX9_isNext_1 : cX9_isNext.data.toList.drop 23 = dktX9_isNext_1 := dk_seg dksX9_isNext_0 23 rfl rfl
theorem dksX9_isNext_2 : cX9_isNext.data.toList.drop 45 = dktX9_isNext_2 := dk_seg dksX9_isNext_1 22 rfl rfl
theorem dX9_isNext_0 : decode cX9_isNext 0 = .ok (.aload_n 0, 1) := dk_42 (dk_at dksX9_isNext_0 0 rfl rfl)
theorem dX9_isNext_1 : decode cX9_isNext 1 = .ok (.getfield 13, 3) := dk_180 0 13 (dk_at dksX9_isNext_0 1 rfl rfl)
theorem dX9_isNext_4 : decode cX9_isNext 4 = .ok (.aload_n 0, 1) := dk_42 (dk_at dksX9_isNext_0 4 rfl rfl)
theorem dX9_isNext_5 : decode cX9_isNext 5 = .ok (.getfield 7, 3) := dk_180 0 7 (dk_at dksX9_isNext_0 5 rfl rfl)
theorem dX9_isNext_8 : decode cX9_isNext 8 = .ok (.invokevirtual 17, 3) := dk_182 0 17 (dk_at dksX9_isNext_0 8 rfl rfl)
theorem dX9_isNext_11 : decode cX9_isNext 11 = .ok (.if_icmp .ge 37, 3) := dk_162 0 37 (dk_at dksX9_isNext_0 11 rfl rfl)
theorem dX9_isNext_14 : decode cX9_isNext 14 = .ok (.iload_n 1, 1) := dk_27 (dk_at dksX9_isNext_0 14 rfl rfl)
theorem dX9_isNext_15 : decode cX9_isNext 15 = .ok (.aload_n 0, 1) := dk_42 (dk_at dksX9_isNext_0 15 rfl rfl)
theorem dX9_isNext_16 : decode cX9_isNext 16 = .ok (.getfield 7, 3) := dk_180 0 7 (dk_at dksX9_isNext_0 16 rfl rfl)
theorem dX9_isNext_19 : decode cX9_isNext 19 = .ok (.aload_n 0, 1) := dk_42 (dk_at dksX9_isNext_0 19 rfl rfl)
theorem dX9_isNext_20 : decode cX9_isNext 20 = .ok (.getfield 13, 3) := dk_180 0 13 (dk_at dksX9_isNext_0 20 rfl rfl)
theorem dX9_isNext_23 : decode cX9_isNext 23 = .ok (.invokevirtual 23, 3) := dk_182 0 23 (dk_at dksX9_isNext_1 0 rfl rfl)
theorem dX9_isNext_26 : decode cX9_isNext 26 = .ok (.if_icmp .gt 22, 3) := dk_163 0 22 (dk_at dksX9_isNext_1 3 rfl rfl)
theorem dX9_isNext_29 : decode cX9_isNext 29 = .ok (.aload_n 0, 1) := dk_42 (dk_at dksX9_isNext_1 6 rfl rfl)
theorem dX9_isNext_30 : decode cX9_isNext 30 = .ok (.getfield 7, 3) := dk_180 0 7 (dk_at dksX9_isNext_1 7 rfl rfl)
theorem dX9_isNext_33 : decode cX9_isNext 33 = .ok (.aload_n 0, 1) := dk_42 (dk_at dksX9_isNext_1 10 rfl rfl)
theorem dX9_isNext_34 : decode cX9_isNext 34 = .ok (.getfield 13, 3) := dk_180 0 13 (dk_at dksX9_isNext_1 11 rfl rfl)
theorem dX9_isNext_37 : decode cX9_isNext 37 = .ok (.invokevirtual 23, 3) := dk_182 0 23 (dk_at dksX9_isNext_1 14 rfl rfl)
theorem dX9_isNext_40 : decode cX9_isNext 40 = .ok (.iload_n 2, 1) := dk_28 (dk_at dksX9_isNext_1 17 rfl rfl)
theorem dX9_isNext_41 : decode cX9_isNext 41 = .ok (.if_icmp .gt 7, 3) := dk_163 0 7 (dk_at dksX9_isNext_1 18 rfl rfl)
theorem dX9_isNext_44 : decode cX9_isNext 44 = .ok (.iconst 1, 1) := dk_4 (dk_at dksX9_isNext_1 21 rfl rfl)
theorem dX9_isNext_45 : decode cX9_isNext 45 = .ok (.goto 4, 3) := dk_167 0 4 (dk_at dksX9_isNext_2 0 rfl rfl)
theorem dX9_isNext_48 : decode cX9_isNext 48 = .ok (.iconst 0, 1) := dk_3 (dk_at dksX9_isNext_2 3 rfl rfl)
theorem dX9_isNext_49 : decode cX9_isNext 49 = .ok (.ireturn, 1) := dk_172 (dk_at dksX9_isNext_2 4 rfl rfl)
abbrev cX9_word : ByteArray := prog_5_method_5_code
def yX9_word : MethodName := ⟨RX9, "word", "(Ljava/lang/String;)V"⟩
def dkwX9_word_1 : List UInt8 := [132, 2, 1, 167, 255, 232, 177]
abbrev dktX9_word_1 : List UInt8 := dkwX9_word_1 ++ []
def dkwX9_word_0 : List UInt8 := [3, 61, 28, 43, 182, 0, 17, 162, 0, 22, 42, 42, 43, 28, 182, 0, 23, 182, 0, 36, 182, 0, 40]
abbrev dktX9_word_0 : List UInt8 := dkwX9_word_0 ++ dktX9_word_1
theorem dksX9_word_0 : cX9_word.data.toList.drop 0 = dktX9_word_0 := by decide +kernel
theorem dksX9_word_1 : cX9_word.data.toList.drop 23 = dktX9_word_1 := dk_seg dksX9_word_0 23 rfl rfl
theorem dX9_word_0 : decode cX9_word 0 = .ok (.iconst 0, 1) := dk_3 (dk_at dksX9_word_0 0 rfl rfl)
theorem dX9_word_1 : decode cX9_word 1 = .ok (.istore_n 2, 1) := dk_61 (dk_at dksX9_word_0 1 rfl rfl)
theorem dX9_word_2 : decode cX9_word 2 = .ok (.iload_n 2, 1) := dk_28 (dk_at dksX9_word_0 2 rfl rfl)
theorem dX9_word_3 : decode cX9_word 3 = .ok (.aload_n 1, 1) := dk_43 (dk_at dksX9_word_0 3 rfl rfl)
theorem dX9_word_4 : decode cX9_word 4 = .ok (.invokevirtual 17, 3) := dk_182 0 17 (dk_at dksX9_word_0 4 rfl rfl)
theorem dX9_word_7 : decode cX9_word 7 = .ok (.if_icmp .ge 22, 3) := dk_162 0 22 (dk_at dksX9_word_0 7 rfl rfl)
theorem dX9_word_10 : decode cX9_word 10 = .ok (.aload_n 0, 1) := dk_42 (dk_at dksX9_word_0 10 rfl rfl)
theorem dX9_word_11 : decode cX9_word 11 = .ok (.aload_n 0, 1) := dk_42 (dk_at dksX9_word_0 11 rfl rfl)
theorem dX9_word_12 : decode cX9_word 12 = .ok (.aload_n 1, 1) := dk_43 (dk_at dksX9_word_0 12 rfl rfl)
theorem dX9_word_13 : decode cX9_word 13 = .ok (.iload_n 2, 1) := dk_28 (dk_at dksX9_word_0 13 rfl rfl)
theorem dX9_word_14 : decode cX9_word 14 = .ok (.invokevirtual 23, 3) := dk_182 0 23 (dk_at dksX9_word_0 14 rfl rfl)
theorem dX9_word_17 : decode cX9_word 17 = .ok (.invokevirtual 36, 3) := dk_182 0 36 (dk_at dksX9_word_0 17 rfl rfl)
theorem dX9_word_20 : decode cX9_word 20 = .ok (.invokevirtual 40, 3) := dk_182 0 40 (dk_at dksX9_word_0 20 rfl rfl)
theorem dX9_word_23 : decode cX9_word 23 = .ok (.iinc 2 1, 3) := dk_132 2 1 (dk_at dksX9_word_1 0 rfl rfl)
theorem dX9_word_26 : decode cX9_word 26 = .ok (.goto (-24), 3) := dk_167 255 232 (dk_at dksX9_word_1 3 rfl rfl)
theorem dX9_word_29 : decode cX9_word 29 = .ok (.return_, 1) := dk_177 (dk_at dksX9_word_1 6 rfl rfl)
abbrev cX9_expect : ByteArray := prog_5_method_4_code
def yX9_expect : MethodName := ⟨RX9, "expect", "(Z)V"⟩
def dkwX9_expect_0 : List UInt8 := [27, 154, 0, 15, 187, 0, 31, 89, 42, 180, 0, 13, 183, 0, 33, 191, 177]
abbrev dktX9_expect_0 : List UInt8 := dkwX9_expect_0 ++ []
theorem dksX9_expect_0 : cX9_expect.data.toList.drop 0 = dktX9_expect_0 := by decide +kernel
theorem dX9_expect_0 : decode cX9_expect 0 = .ok (.iload_n 1, 1) := dk_27 (dk_at dksX9_expect_0 0 rfl rfl)
theorem dX9_expect_1 : decode cX9_expect 1 = .ok (.ifCond .ne 15, 3) := dk_154 0 15 (dk_at dksX9_expect_0 1 rfl rfl)
theorem dX9_expect_4 : decode cX9_expect 4 = .ok (.new 31, 3) := dk_187 0 31 (dk_at dksX9_expect_0 4 rfl rfl)
theorem dX9_expect_7 : decode cX9_expect 7 = .ok (.dup, 1) := dk_89 (dk_at dksX9_expect_0 7 rfl rfl)
theorem dX9_expect_8 : decode cX9_expect 8 = .ok (.aload_n 0, 1) := dk_42 (dk_at dksX9_expect_0 8 rfl rfl)
theorem dX9_expect_9 : decode cX9_expect 9 = .ok (.getfield 13, 3) := dk_180 0 13 (dk_at dksX9_expect_0 9 rfl rfl)
theorem dX9_expect_12 : decode cX9_expect 12 = .ok (.invokespecial 33, 3) := dk_183 0 33 (dk_at dksX9_expect_0 12 rfl rfl)
theorem dX9_expect_15 : decode cX9_expect 15 = .ok (.athrow, 1) := dk_191 (dk_at dksX9_expect_0 15 rfl rfl)
theorem dX9_expect_16 : decode cX9_expect 16 = .ok (.return_, 1) := dk_177 (dk_at dksX9_expect_0 16 rfl rfl)
abbrev cX9_digit : ByteArray := prog_5_method_6_code
def yX9_digit : MethodName := ⟨RX9, "digit", "()I"⟩
def dkwX9_digit_1 : List UInt8 := [180, 0, 7, 42, 180, 0, 13, 4, 100, 182, 0, 23, 16, 48, 100, 172]
abbrev dktX9_digit_1 : List UInt8 := dkwX9_digit_1 ++ []
def dkwX9_digit_0 : List UInt8 := [42, 42, 16, 48, 16, 57, 182, 0, 27, 182, 0, 40, 42, 89, 180, 0, 13, 4, 96, 181, 0, 13, 42]
abbrev dktX9_digit_0 : List UInt8 := dkwX9_digit_0 ++ dktX9_digit_1
theorem dksX9_digit_0 : cX9_digit.data.toList.drop 0 = dktX9_digit_0 := by decide +kernel
theorem dksX9_digit_1 : cX9_digit.data.toList.drop 23 = dktX9_digit_1 := dk_seg dksX9_digit_0 23 rfl rfl
theorem dX9_digit_0 : decode cX9_digit 0 = .ok (.aload_n 0, 1) := dk_42 (dk_at dksX9_digit_0 0 rfl rfl)
theorem dX9_digit_1 : decode cX9_digit 1 = .ok (.aload_n 0, 1) := dk_42 (dk_at dksX9_digit_0 1 rfl rfl)
theorem dX9_digit_2 : decode cX9_digit 2 = .ok (.bipush 48, 2) := dk_16 48 (dk_at dksX9_digit_0 2 rfl rfl)
theorem dX9_digit_4 : decode cX9_digit 4 = .ok (.bipush 57, 2) := dk_16 57 (dk_at dksX9_digit_0 4 rfl rfl)
theorem dX9_digit_6 : decode cX9_digit 6 = .ok (.invokevirtual 27, 3) := dk_182 0 27 (dk_at dksX9_digit_0 6 rfl rfl)
theorem dX9_digit_9 : decode cX9_digit 9 = .ok (.invokevirtual 40, 3) := dk_182 0 40 (dk_at dksX9_digit_0 9 rfl rfl)
theorem dX9_digit_12 : decode cX9_digit 12 = .ok (.aload_n 0, 1) := dk_42 (dk_at dksX9_digit_0 12 rfl rfl)
theorem dX9_digit_13 : decode cX9_digit 13 = .ok (.dup, 1) := dk_89 (dk_at dksX9_digit_0 13 rfl rfl)
theorem dX9_digit_14 : decode cX9_digit 14 = .ok (.getfield 13, 3) := dk_180 0 13 (dk_at dksX9_digit_0 14 rfl rfl)
theorem dX9_digit_17 : decode cX9_digit 17 = .ok (.iconst 1, 1) := dk_4 (dk_at dksX9_digit_0 17 rfl rfl)
theorem dX9_digit_18 : decode cX9_digit 18 = .ok (.iadd, 1) := dk_96 (dk_at dksX9_digit_0 18 rfl rfl)
theorem dX9_digit_19 : decode cX9_digit 19 = .ok (.putfield 13, 3) := dk_181 0 13 (dk_at dksX9_digit_0 19 rfl rfl)
theorem dX9_digit_22 : decode cX9_digit 22 = .ok (.aload_n 0, 1) := dk_42 (dk_at dksX9_digit_0 22 rfl rfl)
theorem dX9_digit_23 : decode cX9_digit 23 = .ok (.getfield 7, 3) := dk_180 0 7 (dk_at dksX9_digit_1 0 rfl rfl)
theorem dX9_digit_26 : decode cX9_digit 26 = .ok (.aload_n 0, 1) := dk_42 (dk_at dksX9_digit_1 3 rfl rfl)
theorem dX9_digit_27 : decode cX9_digit 27 = .ok (.getfield 13, 3) := dk_180 0 13 (dk_at dksX9_digit_1 4 rfl rfl)
theorem dX9_digit_30 : decode cX9_digit 30 = .ok (.iconst 1, 1) := dk_4 (dk_at dksX9_digit_1 7 rfl rfl)
theorem dX9_digit_31 : decode cX9_digit 31 = .ok (.isub, 1) := dk_100 (dk_at dksX9_digit_1 8 rfl rfl)
theorem dX9_digit_32 : decode cX9_digit 32 = .ok (.invokevirtual 23, 3) := dk_182 0 23 (dk_at dksX9_digit_1 9 rfl rfl)
theorem dX9_digit_35 : decode cX9_digit 35 = .ok (.bipush 48, 2) := dk_16 48 (dk_at dksX9_digit_1 12 rfl rfl)
theorem dX9_digit_37 : decode cX9_digit 37 = .ok (.isub, 1) := dk_100 (dk_at dksX9_digit_1 14 rfl rfl)
theorem dX9_digit_38 : decode cX9_digit 38 = .ok (.ireturn, 1) := dk_172 (dk_at dksX9_digit_1 15 rfl rfl)
abbrev cX9_number : ByteArray := prog_5_method_7_code
def yX9_number : MethodName := ⟨RX9, "number", "()I"⟩
def dkwX9_number_1 : List UInt8 := [96, 167, 0, 4, 27, 172]
abbrev dktX9_number_1 : List UInt8 := dkwX9_number_1 ++ []
def dkwX9_number_0 : List UInt8 := [42, 182, 0, 44, 60, 42, 16, 48, 16, 57, 182, 0, 27, 153, 0, 15, 16, 10, 27, 104, 42, 182, 0, 44]
abbrev dktX9_number_0 : List UInt8 := dkwX9_number_0 ++ dktX9_number_1
theorem dksX9_number_0 : cX9_number.data.toList.drop 0 = dktX9_number_0 := by decide +kernel
theorem dksX9_number_1 : cX9_number.data.toList.drop 24 = dktX9_number_1 := dk_seg dksX9_number_0 24 rfl rfl
theorem dX9_number_0 : decode cX9_number 0 = .ok (.aload_n 0, 1) := dk_42 (dk_at dksX9_number_0 0 rfl rfl)
theorem dX9_number_1 : decode cX9_number 1 = .ok (.invokevirtual 44, 3) := dk_182 0 44 (dk_at dksX9_number_0 1 rfl rfl)
theorem dX9_number_4 : decode cX9_number 4 = .ok (.istore_n 1, 1) := dk_60 (dk_at dksX9_number_0 4 rfl rfl)
theorem dX9_number_5 : decode cX9_number 5 = .ok (.aload_n 0, 1) := dk_42 (dk_at dksX9_number_0 5 rfl rfl)
theorem dX9_number_6 : decode cX9_number 6 = .ok (.bipush 48, 2) := dk_16 48 (dk_at dksX9_number_0 6 rfl rfl)
theorem dX9_number_8 : decode cX9_number 8 = .ok (.bipush 57, 2) := dk_16 57 (dk_at dksX9_number_0 8 rfl rfl)
theorem dX9_number_10 : decode cX9_number 10 = .ok (.invokevirtual 27, 3) := dk_182 0 27 (dk_at dksX9_number_0 10 rfl rfl)
theorem dX9_number_13 : decode cX9_number 13 = .ok (.ifCond .eq 15, 3) := dk_153 0 15 (dk_at dksX9_number_0 13 rfl rfl)
theorem dX9_number_16 : decode cX9_number 16 = .ok (.bipush 10, 2) := dk_16 10 (dk_at dksX9_number_0 16 rfl rfl)
theorem dX9_number_18 : decode cX9_number 18 = .ok (.iload_n 1, 1) := dk_27 (dk_at dksX9_number_0 18 rfl rfl)
theorem dX9_number_19 : decode cX9_number 19 = .ok (.imul, 1) := dk_104 (dk_at dksX9_number_0 19 rfl rfl)
theorem dX9_number_20 : decode cX9_number 20 = .ok (.aload_n 0, 1) := dk_42 (dk_at dksX9_number_0 20 rfl rfl)
theorem dX9_number_21 : decode cX9_number 21 = .ok (.invokevirtual 44, 3) := dk_182 0 44 (dk_at dksX9_number_0 21 rfl rfl)
theorem dX9_number_24 : decode cX9_number 24 = .ok (.iadd, 1) := dk_96 (dk_at dksX9_number_1 0 rfl rfl)
theorem dX9_number_25 : decode cX9_number 25 = .ok (.goto 4, 3) := dk_167 0 4 (dk_at dksX9_number_1 1 rfl rfl)
theorem dX9_number_28 : decode cX9_number 28 = .ok (.iload_n 1, 1) := dk_27 (dk_at dksX9_number_1 4 rfl rfl)
theorem dX9_number_29 : decode cX9_number 29 = .ok (.ireturn, 1) := dk_172 (dk_at dksX9_number_1 5 rfl rfl)
theorem q128 : (Jvm.Cond.initialized "OtterTrust$Reader") ∈ lw_all := lw_g (lw_at lw_m1 38 rfl) rfl
theorem q838 : (Jvm.Cond.selects "OtterTrust$Reader" ({ cls := "java/lang/Object", name := "getClass", desc := "()Ljava/lang/Class;" } : Jvm.MethodName) ({ cls := "java/lang/Object", name := "getClass", desc := "()Ljava/lang/Class;" } : Jvm.MethodName)) ∈ lw_all := lw_g (lw_at lw_m4 28 rfl) rfl
theorem q1680 : (Jvm.Cond.instantiable "OtterTrust$Reader" (2 : Nat)) ∈ lw_all := lw_g (lw_at lw_m7 150 rfl) rfl
theorem q1682 : (Jvm.Cond.instanceMethod ({ cls := "OtterTrust$Reader", name := "<init>", desc := "(Ljava/lang/String;)V" } : Jvm.MethodName)) ∈ lw_all := lw_g (lw_at lw_m7 152 rfl) rfl
theorem q1683 : (Jvm.Cond.code ({ cls := "OtterTrust$Reader", name := "<init>", desc := "(Ljava/lang/String;)V" } : Jvm.MethodName) prog_5_method_1_code (2 : Nat) (Option.none : Option Jvm.ClassFile.FieldType)) ∈ lw_all := lw_g (lw_at lw_m7 153 rfl) rfl
theorem q1684 : (Jvm.Cond.methodLink "OtterTrust$Reader" (1 : Nat) ({ cls := "java/lang/Object", name := "<init>", desc := "()V" } : Jvm.MethodName)) ∈ lw_all := lw_g (lw_at lw_m7 154 rfl) rfl
theorem q1685 : (Jvm.Cond.fieldLink "OtterTrust$Reader" (7 : Nat) "OtterTrust$Reader" "text" "Ljava/lang/String;") ∈ lw_all := lw_g (lw_at lw_m7 155 rfl) rfl
theorem q1686 : (Jvm.Cond.fieldLink "OtterTrust$Reader" (13 : Nat) "OtterTrust$Reader" "at" "I") ∈ lw_all := lw_g (lw_at lw_m7 156 rfl) rfl
theorem q1687 : (Jvm.Cond.laysFinal "OtterTrust$Reader" "OtterTrust$Reader" "text" "Ljava/lang/String;") ∈ lw_all := lw_g (lw_at lw_m7 157 rfl) rfl
theorem q1688 : (Jvm.Cond.soleField "OtterTrust$Reader" "text") ∈ lw_all := lw_g (lw_at lw_m7 158 rfl) rfl
theorem q1689 : (Jvm.Cond.lays "OtterTrust$Reader" "OtterTrust$Reader" "at" "I") ∈ lw_all := lw_g (lw_at lw_m7 159 rfl) rfl
theorem q1690 : (Jvm.Cond.soleField "OtterTrust$Reader" "at") ∈ lw_all := lw_g (lw_at lw_m7 160 rfl) rfl
theorem q1691 : (Jvm.Cond.superclass "OtterTrust$Reader" "java/lang/Object") ∈ lw_all := lw_g (lw_at lw_m7 161 rfl) rfl
theorem q1745 : (Jvm.Cond.instanceMethod ({ cls := "OtterTrust$Reader", name := "whole", desc := "()Ljava/util/LinkedList;" } : Jvm.MethodName)) ∈ lw_all := lw_g (lw_at lw_m7 215 rfl) rfl
theorem q1746 : (Jvm.Cond.selects "OtterTrust$Reader" ({ cls := "OtterTrust$Reader", name := "whole", desc := "()Ljava/util/LinkedList;" } : Jvm.MethodName) ({ cls := "OtterTrust$Reader", name := "whole", desc := "()Ljava/util/LinkedList;" } : Jvm.MethodName)) ∈ lw_all := lw_g (lw_at lw_m7 216 rfl) rfl
theorem q1747 : (Jvm.Cond.code ({ cls := "OtterTrust$Reader", name := "whole", desc := "()Ljava/util/LinkedList;" } : Jvm.MethodName) prog_5_method_9_code (2 : Nat) (Option.some (Jvm.ClassFile.FieldType.object "java/util/LinkedList"))) ∈ lw_all := lw_g (lw_at lw_m7 217 rfl) rfl
theorem q1748 : (Jvm.Cond.classLink "OtterTrust$Reader" (71 : Nat) "java/util/LinkedList") ∈ lw_all := lw_g (lw_at lw_m7 218 rfl) rfl
theorem q1749 : (Jvm.Cond.methodLink "OtterTrust$Reader" (73 : Nat) ({ cls := "java/util/LinkedList", name := "<init>", desc := "()V" } : Jvm.MethodName)) ∈ lw_all := lw_g (lw_at lw_m7 219 rfl) rfl
theorem q1767 : (Jvm.Cond.methodLink "OtterTrust$Reader" (74 : Nat) ({ cls := "OtterTrust$Reader", name := "order", desc := "()LOtterTrust$Order;" } : Jvm.MethodName)) ∈ lw_all := lw_g (lw_at lw_m7 237 rfl) rfl
theorem q1768 : (Jvm.Cond.privateMethod ({ cls := "OtterTrust$Reader", name := "order", desc := "()LOtterTrust$Order;" } : Jvm.MethodName)) ∈ lw_tbl := lw_at lw_m7 238 rfl
theorem q1769 : (Jvm.Cond.instanceMethod ({ cls := "OtterTrust$Reader", name := "order", desc := "()LOtterTrust$Order;" } : Jvm.MethodName)) ∈ lw_all := lw_g (lw_at lw_m7 239 rfl) rfl
theorem q1770 : (Jvm.Cond.code ({ cls := "OtterTrust$Reader", name := "order", desc := "()LOtterTrust$Order;" } : Jvm.MethodName) prog_5_method_8_code (1 : Nat) (Option.some (Jvm.ClassFile.FieldType.object "OtterTrust$Order"))) ∈ lw_all := lw_g (lw_at lw_m8 0 rfl) rfl
theorem q1771 : (Jvm.Cond.methodLink "OtterTrust$Reader" (36 : Nat) ({ cls := "OtterTrust$Reader", name := "passes", desc := "(C)Z" } : Jvm.MethodName)) ∈ lw_all := lw_g (lw_at lw_m8 1 rfl) rfl
theorem q1772 : (Jvm.Cond.privateMethod ({ cls := "OtterTrust$Reader", name := "passes", desc := "(C)Z" } : Jvm.MethodName)) ∈ lw_tbl := lw_at lw_m8 2 rfl
theorem q1773 : (Jvm.Cond.instanceMethod ({ cls := "OtterTrust$Reader", name := "passes", desc := "(C)Z" } : Jvm.MethodName)) ∈ lw_all := lw_g (lw_at lw_m8 3 rfl) rfl
theorem q1774 : (Jvm.Cond.code ({ cls := "OtterTrust$Reader", name := "passes", desc := "(C)Z" } : Jvm.MethodName) prog_5_method_3_code (3 : Nat) (Option.some Jvm.ClassFile.FieldType.boolean)) ∈ lw_all := lw_g (lw_at lw_m8 4 rfl) rfl
theorem q1775 : (Jvm.Cond.methodLink "OtterTrust$Reader" (27 : Nat) ({ cls := "OtterTrust$Reader", name := "isNext", desc := "(CC)Z" } : Jvm.MethodName)) ∈ lw_all := lw_g (lw_at lw_m8 5 rfl) rfl
theorem q1776 : (Jvm.Cond.privateMethod ({ cls := "OtterTrust$Reader", name := "isNext", desc := "(CC)Z" } : Jvm.MethodName)) ∈ lw_tbl := lw_at lw_m8 6 rfl
theorem q1777 : (Jvm.Cond.instanceMethod ({ cls := "OtterTrust$Reader", name := "isNext", desc := "(CC)Z" } : Jvm.MethodName)) ∈ lw_all := lw_g (lw_at lw_m8 7 rfl) rfl
theorem q1778 : (Jvm.Cond.code ({ cls := "OtterTrust$Reader", name := "isNext", desc := "(CC)Z" } : Jvm.MethodName) prog_5_method_2_code (3 : Nat) (Option.some Jvm.ClassFile.FieldType.boolean)) ∈ lw_all := lw_g (lw_at lw_m8 8 rfl) rfl
theorem q1779 : (Jvm.Cond.methodLink "OtterTrust$Reader" (17 : Nat) ({ cls := "java/lang/String", name := "length", desc := "()I" } : Jvm.MethodName)) ∈ lw_all := lw_g (lw_at lw_m8 9 rfl) rfl
theorem q1780 : (Jvm.Cond.methodLink "OtterTrust$Reader" (23 : Nat) ({ cls := "java/lang/String", name := "charAt", desc := "(I)C" } : Jvm.MethodName)) ∈ lw_all := lw_g (lw_at lw_m8 10 rfl) rfl
theorem q1795 : (Jvm.Cond.stringRef "OtterTrust$Reader" (47 : Nat) "alk") ∈ lw_tbl := lw_at lw_m8 25 rfl
theorem q1796 : (Jvm.Cond.methodLink "OtterTrust$Reader" (49 : Nat) ({ cls := "OtterTrust$Reader", name := "word", desc := "(Ljava/lang/String;)V" } : Jvm.MethodName)) ∈ lw_all := lw_g (lw_at lw_m8 26 rfl) rfl
theorem q1797 : (Jvm.Cond.privateMethod ({ cls := "OtterTrust$Reader", name := "word", desc := "(Ljava/lang/String;)V" } : Jvm.MethodName)) ∈ lw_tbl := lw_at lw_m8 27 rfl
theorem q1798 : (Jvm.Cond.instanceMethod ({ cls := "OtterTrust$Reader", name := "word", desc := "(Ljava/lang/String;)V" } : Jvm.MethodName)) ∈ lw_all := lw_g (lw_at lw_m8 28 rfl) rfl
theorem q1799 : (Jvm.Cond.code ({ cls := "OtterTrust$Reader", name := "word", desc := "(Ljava/lang/String;)V" } : Jvm.MethodName) prog_5_method_5_code (3 : Nat) (Option.none : Option Jvm.ClassFile.FieldType)) ∈ lw_all := lw_g (lw_at lw_m8 29 rfl) rfl
theorem q1800 : (Jvm.Cond.methodLink "OtterTrust$Reader" (40 : Nat) ({ cls := "OtterTrust$Reader", name := "expect", desc := "(Z)V" } : Jvm.MethodName)) ∈ lw_all := lw_g (lw_at lw_m8 30 rfl) rfl
theorem q1801 : (Jvm.Cond.privateMethod ({ cls := "OtterTrust$Reader", name := "expect", desc := "(Z)V" } : Jvm.MethodName)) ∈ lw_tbl := lw_at lw_m8 31 rfl
theorem q1802 : (Jvm.Cond.instanceMethod ({ cls := "OtterTrust$Reader", name := "expect", desc := "(Z)V" } : Jvm.MethodName)) ∈ lw_all := lw_g (lw_at lw_m8 32 rfl) rfl
theorem q1803 : (Jvm.Cond.code ({ cls := "OtterTrust$Reader", name := "expect", desc := "(Z)V" } : Jvm.MethodName) prog_5_method_4_code (2 : Nat) (Option.none : Option Jvm.ClassFile.FieldType)) ∈ lw_all := lw_g (lw_at lw_m8 33 rfl) rfl
theorem q1804 : (Jvm.Cond.classLink "OtterTrust$Reader" (31 : Nat) "OtterTrust$TextException") ∈ lw_all := lw_g (lw_at lw_m8 34 rfl) rfl
theorem q1813 : (Jvm.Cond.methodLink "OtterTrust$Reader" (33 : Nat) ({ cls := "OtterTrust$TextException", name := "<init>", desc := "(I)V" } : Jvm.MethodName)) ∈ lw_all := lw_g (lw_at lw_m8 43 rfl) rfl
theorem q1823 : (Jvm.Cond.classLink "OtterTrust$Reader" (53 : Nat) "OtterTrust$Order") ∈ lw_all := lw_g (lw_at lw_m8 53 rfl) rfl
theorem q1824 : (Jvm.Cond.methodLink "OtterTrust$Reader" (44 : Nat) ({ cls := "OtterTrust$Reader", name := "digit", desc := "()I" } : Jvm.MethodName)) ∈ lw_all := lw_g (lw_at lw_m8 54 rfl) rfl
theorem q1825 : (Jvm.Cond.privateMethod ({ cls := "OtterTrust$Reader", name := "digit", desc := "()I" } : Jvm.MethodName)) ∈ lw_tbl := lw_at lw_m8 55 rfl
theorem q1826 : (Jvm.Cond.instanceMethod ({ cls := "OtterTrust$Reader", name := "digit", desc := "()I" } : Jvm.MethodName)) ∈ lw_all := lw_g (lw_at lw_m8 56 rfl) rfl
theorem q1827 : (Jvm.Cond.code ({ cls := "OtterTrust$Reader", name := "digit", desc := "()I" } : Jvm.MethodName) prog_5_method_6_code (1 : Nat) (Option.some Jvm.ClassFile.FieldType.int)) ∈ lw_all := lw_g (lw_at lw_m8 57 rfl) rfl
theorem q1828 : (Jvm.Cond.methodLink "OtterTrust$Reader" (55 : Nat) ({ cls := "OtterTrust$Order", name := "<init>", desc := "(III)V" } : Jvm.MethodName)) ∈ lw_all := lw_g (lw_at lw_m8 58 rfl) rfl
theorem q1829 : (Jvm.Cond.stringRef "OtterTrust$Reader" (58 : Nat) "ight") ∈ lw_tbl := lw_at lw_m8 59 rfl
theorem q1830 : (Jvm.Cond.methodLink "OtterTrust$Reader" (60 : Nat) ({ cls := "OtterTrust$Reader", name := "number", desc := "()I" } : Jvm.MethodName)) ∈ lw_all := lw_g (lw_at lw_m8 60 rfl) rfl
theorem q1831 : (Jvm.Cond.privateMethod ({ cls := "OtterTrust$Reader", name := "number", desc := "()I" } : Jvm.MethodName)) ∈ lw_tbl := lw_at lw_m8 61 rfl
theorem q1832 : (Jvm.Cond.instanceMethod ({ cls := "OtterTrust$Reader", name := "number", desc := "()I" } : Jvm.MethodName)) ∈ lw_all := lw_g (lw_at lw_m8 62 rfl) rfl
theorem q1833 : (Jvm.Cond.code ({ cls := "OtterTrust$Reader", name := "number", desc := "()I" } : Jvm.MethodName) prog_5_method_7_code (2 : Nat) (Option.some Jvm.ClassFile.FieldType.int)) ∈ lw_all := lw_g (lw_at lw_m8 63 rfl) rfl
theorem q1834 : (Jvm.Cond.stringRef "OtterTrust$Reader" (63 : Nat) "hut") ∈ lw_tbl := lw_at lw_m8 64 rfl
theorem q1835 : (Jvm.Cond.stringRef "OtterTrust$Reader" (65 : Nat) "evel") ∈ lw_tbl := lw_at lw_m8 65 rfl
theorem q1836 : (Jvm.Cond.stringRef "OtterTrust$Reader" (67 : Nat) "ive") ∈ lw_tbl := lw_at lw_m8 66 rfl
theorem q1837 : (Jvm.Cond.stringRef "OtterTrust$Reader" (69 : Nat) "census") ∈ lw_tbl := lw_at lw_m8 67 rfl
theorem q1838 : (Jvm.Cond.methodLink "OtterTrust$Reader" (78 : Nat) ({ cls := "java/util/LinkedList", name := "addLast", desc := "(Ljava/lang/Object;)V" } : Jvm.MethodName)) ∈ lw_all := lw_g (lw_at lw_m8 68 rfl) rfl
theorem q2561 : (Jvm.Cond.castable "OtterTrust$Reader" "java/lang/Object") ∈ lw_tbl := lw_at lw_m11 71 rfl
theorem in_X9 : ∀ w ∈ wsX90, w ∈ lw_all := lw_in wsX90 [1687, 1689] (by decide +kernel) (by decide +kernel)
/-! OtterTrust$TextException -/
set_option maxRecDepth 100000
def RX10 : String := "OtterTrust$TextException"
def TX10 : u_T := fun k => match k with
  | 0 => ("java/lang/Throwable", "cause", "Ljava/lang/Throwable;", false)
  | 1 => ("java/lang/Throwable", "stackTrace", "[Ljava/lang/StackTraceElement;", false)
  | 2 => ("java/lang/Throwable", "suppressedExceptions", "Ljava/util/List;", false)
  | 3 => ("java/lang/Throwable", "detailMessage", "Ljava/lang/String;", false)
  | 4 => ("java/lang/Throwable", "backtrace", "Ljava/lang/Object;", false)
  | 5 => ("java/lang/Throwable", "depth", "I", false)
  | _ => ("OtterTrust$TextException", "position", "I", true)
def tyX10 : Nat → FieldType := fun k => match k with
  | 0 => .object "java/lang/Throwable"
  | 1 => .array (.object "java/lang/StackTraceElement")
  | 2 => .object "java/util/List"
  | 3 => .object "java/lang/String"
  | 4 => .object "java/lang/Object"
  | 5 => .int
  | _ => .int
abbrev wsX100 : List Cond := u_ws RX10 TX10 7
theorem nmX10 : ∀ a, a < 7 → ∀ b, b < 7 → a ≠ b → (TX10 a).2.1 ≠ (TX10 b).2.1 := by decide +kernel
theorem tyX10_ok : ∀ k, k < 7 → parseFieldDescriptor (TX10 k).2.2.1 = some (tyX10 k) := by decide +kernel
abbrev cX10_init : ByteArray := prog_8_method_1_code
def yX10_init : MethodName := ⟨RX10, "<init>", "(I)V"⟩
def dkwX10_init_0 : List UInt8 := [42, 183, 0, 1, 42, 27, 181, 0, 7, 177]
abbrev dktX10_init_0 : List UInt8 := dkwX10_init_0 ++ []
theorem dksX10_init_0 : cX10_init.data.toList.drop 0 = dktX10_init_0 := by decide +kernel
theorem dX10_init_0 : decode cX10_init 0 = .ok (.aload_n 0, 1) := dk_42 (dk_at dksX10_init_0 0 rfl rfl)
theorem dX10_init_1 : decode cX10_init 1 = .ok (.invokespecial 1, 3) := dk_183 0 1 (dk_at dksX10_init_0 1 rfl rfl)
theorem dX10_init_4 : decode cX10_init 4 = .ok (.aload_n 0, 1) := dk_42 (dk_at dksX10_init_0 4 rfl rfl)
theorem dX10_init_5 : decode cX10_init 5 = .ok (.iload_n 1, 1) := dk_27 (dk_at dksX10_init_0 5 rfl rfl)
theorem dX10_init_6 : decode cX10_init 6 = .ok (.putfield 7, 3) := dk_181 0 7 (dk_at dksX10_init_0 6 rfl rfl)
theorem dX10_init_9 : decode cX10_init 9 = .ok (.return_, 1) := dk_177 (dk_at dksX10_init_0 9 rfl rfl)
theorem q132 : (Jvm.Cond.initialized "OtterTrust$TextException") ∈ lw_all := lw_g (lw_at lw_m1 42 rfl) rfl
theorem q441 : (Jvm.Cond.selects "OtterTrust$TextException" ({ cls := "java/lang/Throwable", name := "fillInStackTrace", desc := "()Ljava/lang/Throwable;" } : Jvm.MethodName) ({ cls := "java/lang/Throwable", name := "fillInStackTrace", desc := "()Ljava/lang/Throwable;" } : Jvm.MethodName)) ∈ lw_all := lw_g (lw_at lw_m2 111 rfl) rfl
theorem q841 : (Jvm.Cond.selects "OtterTrust$TextException" ({ cls := "java/lang/Object", name := "getClass", desc := "()Ljava/lang/Class;" } : Jvm.MethodName) ({ cls := "java/lang/Object", name := "getClass", desc := "()Ljava/lang/Class;" } : Jvm.MethodName)) ∈ lw_all := lw_g (lw_at lw_m4 31 rfl) rfl
theorem q1805 : (Jvm.Cond.instantiable "OtterTrust$TextException" (7 : Nat)) ∈ lw_all := lw_g (lw_at lw_m8 35 rfl) rfl
theorem q1806 : (Jvm.Cond.castable "OtterTrust$TextException" "OtterTrust$TextException") ∈ lw_tbl := lw_at lw_m8 36 rfl
theorem q1807 : (Jvm.Cond.selects "OtterTrust$TextException" ({ cls := "java/lang/Throwable", name := "fillInStackTrace", desc := "(I)Ljava/lang/Throwable;" } : Jvm.MethodName) ({ cls := "java/lang/Throwable", name := "fillInStackTrace", desc := "(I)Ljava/lang/Throwable;" } : Jvm.MethodName)) ∈ lw_all := lw_g (lw_at lw_m8 37 rfl) rfl
theorem q1808 : (Jvm.Cond.lays "OtterTrust$TextException" "java/lang/Throwable" "cause" "Ljava/lang/Throwable;") ∈ lw_all := lw_g (lw_at lw_m8 38 rfl) rfl
theorem q1809 : (Jvm.Cond.lays "OtterTrust$TextException" "java/lang/Throwable" "stackTrace" "[Ljava/lang/StackTraceElement;") ∈ lw_all := lw_g (lw_at lw_m8 39 rfl) rfl
theorem q1810 : (Jvm.Cond.lays "OtterTrust$TextException" "java/lang/Throwable" "suppressedExceptions" "Ljava/util/List;") ∈ lw_all := lw_g (lw_at lw_m8 40 rfl) rfl
theorem q1811 : (Jvm.Cond.lays "OtterTrust$TextException" "java/lang/Throwable" "detailMessage" "Ljava/lang/String;") ∈ lw_all := lw_g (lw_at lw_m8 41 rfl) rfl
theorem q1812 : (Jvm.Cond.lays "OtterTrust$TextException" "java/lang/Throwable" "backtrace" "Ljava/lang/Object;") ∈ lw_all := lw_g (lw_at lw_m8 42 rfl) rfl
theorem q1814 : (Jvm.Cond.instanceMethod ({ cls := "OtterTrust$TextException", name := "<init>", desc := "(I)V" } : Jvm.MethodName)) ∈ lw_all := lw_g (lw_at lw_m8 44 rfl) rfl
theorem q1815 : (Jvm.Cond.code ({ cls := "OtterTrust$TextException", name := "<init>", desc := "(I)V" } : Jvm.MethodName) prog_8_method_1_code (2 : Nat) (Option.none : Option Jvm.ClassFile.FieldType)) ∈ lw_all := lw_g (lw_at lw_m8 45 rfl) rfl
theorem q1816 : (Jvm.Cond.methodLink "OtterTrust$TextException" (1 : Nat) ({ cls := "java/lang/Exception", name := "<init>", desc := "()V" } : Jvm.MethodName)) ∈ lw_all := lw_g (lw_at lw_m8 46 rfl) rfl
theorem q1817 : (Jvm.Cond.fieldLink "OtterTrust$TextException" (7 : Nat) "OtterTrust$TextException" "position" "I") ∈ lw_all := lw_g (lw_at lw_m8 47 rfl) rfl
theorem q1819 : (Jvm.Cond.laysFinal "OtterTrust$TextException" "OtterTrust$TextException" "position" "I") ∈ lw_all := lw_g (lw_at lw_m8 49 rfl) rfl
theorem q1820 : (Jvm.Cond.soleField "OtterTrust$TextException" "position") ∈ lw_all := lw_g (lw_at lw_m8 50 rfl) rfl
theorem q1821 : (Jvm.Cond.lays "OtterTrust$TextException" "java/lang/Throwable" "depth" "I") ∈ lw_all := lw_g (lw_at lw_m8 51 rfl) rfl
theorem q1822 : (Jvm.Cond.superclass "OtterTrust$TextException" "java/lang/Exception") ∈ lw_all := lw_g (lw_at lw_m8 52 rfl) rfl
theorem q2564 : (Jvm.Cond.castable "OtterTrust$TextException" "java/lang/Object") ∈ lw_tbl := lw_at lw_m11 74 rfl
theorem in_X10 : ∀ w ∈ wsX100, w ∈ lw_all := lw_in wsX100 [1808, 1809, 1810, 1811, 1812, 1821, 1819] (by decide +kernel) (by decide +kernel)
/-! OtterTrustLaw -/
set_option maxRecDepth 100000
def RX0 : String := "OtterTrustLaw"
abbrev cX0_reach : ByteArray := method_3_code
def yX0_reach : MethodName := ⟨RX0, "reach", "(LOtterTrust;II[J)I"⟩
def dkwX0_reach_0 : List UInt8 := [45, 3, 42, 27, 28, 182, 0, 7, 133, 80, 167, 0, 7, 58, 4, 4, 172, 3, 172]
abbrev dktX0_reach_0 : List UInt8 := dkwX0_reach_0 ++ []
theorem dksX0_reach_0 : cX0_reach.data.toList.drop 0 = dktX0_reach_0 := by decide +kernel
theorem dX0_reach_0 : decode cX0_reach 0 = .ok (.aload_n 3, 1) := dk_45 (dk_at dksX0_reach_0 0 rfl rfl)
theorem dX0_reach_1 : decode cX0_reach 1 = .ok (.iconst 0, 1) := dk_3 (dk_at dksX0_reach_0 1 rfl rfl)
theorem dX0_reach_2 : decode cX0_reach 2 = .ok (.aload_n 0, 1) := dk_42 (dk_at dksX0_reach_0 2 rfl rfl)
theorem dX0_reach_3 : decode cX0_reach 3 = .ok (.iload_n 1, 1) := dk_27 (dk_at dksX0_reach_0 3 rfl rfl)
theorem dX0_reach_4 : decode cX0_reach 4 = .ok (.iload_n 2, 1) := dk_28 (dk_at dksX0_reach_0 4 rfl rfl)
theorem dX0_reach_5 : decode cX0_reach 5 = .ok (.invokevirtual 7, 3) := dk_182 0 7 (dk_at dksX0_reach_0 5 rfl rfl)
theorem dX0_reach_8 : decode cX0_reach 8 = .ok (.i2l, 1) := dk_133 (dk_at dksX0_reach_0 8 rfl rfl)
theorem dX0_reach_9 : decode cX0_reach 9 = .ok (.lastore, 1) := dk_80 (dk_at dksX0_reach_0 9 rfl rfl)
theorem dX0_reach_10 : decode cX0_reach 10 = .ok (.goto 7, 3) := dk_167 0 7 (dk_at dksX0_reach_0 10 rfl rfl)
theorem dX0_reach_13 : decode cX0_reach 13 = .ok (.astore 4, 2) := dk_58 4 (dk_at dksX0_reach_0 13 rfl rfl)
theorem dX0_reach_15 : decode cX0_reach 15 = .ok (.iconst 1, 1) := dk_4 (dk_at dksX0_reach_0 15 rfl rfl)
theorem dX0_reach_16 : decode cX0_reach 16 = .ok (.ireturn, 1) := dk_172 (dk_at dksX0_reach_0 16 rfl rfl)
theorem dX0_reach_17 : decode cX0_reach 17 = .ok (.iconst 0, 1) := dk_3 (dk_at dksX0_reach_0 17 rfl rfl)
theorem dX0_reach_18 : decode cX0_reach 18 = .ok (.ireturn, 1) := dk_172 (dk_at dksX0_reach_0 18 rfl rfl)
abbrev cX0_holt : ByteArray := method_4_code
def yX0_holt : MethodName := ⟨RX0, "holt", "(LOtterTrust;I[J)I"⟩
def dkwX0_holt_0 : List UInt8 := [44, 3, 42, 27, 182, 0, 15, 133, 80, 167, 0, 6, 78, 4, 172, 3, 172]
abbrev dktX0_holt_0 : List UInt8 := dkwX0_holt_0 ++ []
theorem dksX0_holt_0 : cX0_holt.data.toList.drop 0 = dktX0_holt_0 := by decide +kernel
theorem dX0_holt_0 : decode cX0_holt 0 = .ok (.aload_n 2, 1) := dk_44 (dk_at dksX0_holt_0 0 rfl rfl)
theorem dX0_holt_1 : decode cX0_holt 1 = .ok (.iconst 0, 1) := dk_3 (dk_at dksX0_holt_0 1 rfl rfl)
theorem dX0_holt_2 : decode cX0_holt 2 = .ok (.aload_n 0, 1) := dk_42 (dk_at dksX0_holt_0 2 rfl rfl)
theorem dX0_holt_3 : decode cX0_holt 3 = .ok (.iload_n 1, 1) := dk_27 (dk_at dksX0_holt_0 3 rfl rfl)
theorem dX0_holt_4 : decode cX0_holt 4 = .ok (.invokevirtual 15, 3) := dk_182 0 15 (dk_at dksX0_holt_0 4 rfl rfl)
theorem dX0_holt_7 : decode cX0_holt 7 = .ok (.i2l, 1) := dk_133 (dk_at dksX0_holt_0 7 rfl rfl)
theorem dX0_holt_8 : decode cX0_holt 8 = .ok (.lastore, 1) := dk_80 (dk_at dksX0_holt_0 8 rfl rfl)
theorem dX0_holt_9 : decode cX0_holt 9 = .ok (.goto 6, 3) := dk_167 0 6 (dk_at dksX0_holt_0 9 rfl rfl)
theorem dX0_holt_12 : decode cX0_holt 12 = .ok (.astore_n 3, 1) := dk_78 (dk_at dksX0_holt_0 12 rfl rfl)
theorem dX0_holt_13 : decode cX0_holt 13 = .ok (.iconst 1, 1) := dk_4 (dk_at dksX0_holt_0 13 rfl rfl)
theorem dX0_holt_14 : decode cX0_holt 14 = .ok (.ireturn, 1) := dk_172 (dk_at dksX0_holt_0 14 rfl rfl)
theorem dX0_holt_15 : decode cX0_holt 15 = .ok (.iconst 0, 1) := dk_3 (dk_at dksX0_holt_0 15 rfl rfl)
theorem dX0_holt_16 : decode cX0_holt 16 = .ok (.ireturn, 1) := dk_172 (dk_at dksX0_holt_0 16 rfl rfl)
abbrev cX0_otter : ByteArray := method_5_code
def yX0_otter : MethodName := ⟨RX0, "otter", "(LOtterTrust;I[J)I"⟩
def dkwX0_otter_0 : List UInt8 := [44, 3, 42, 27, 182, 0, 19, 133, 80, 167, 0, 6, 78, 4, 172, 3, 172]
abbrev dktX0_otter_0 : List UInt8 := dkwX0_otter_0 ++ []
theorem dksX0_otter_0 : cX0_otter.data.toList.drop 0 = dktX0_otter_0 := by decide +kernel
theorem dX0_otter_0 : decode cX0_otter 0 = .ok (.aload_n 2, 1) := dk_44 (dk_at dksX0_otter_0 0 rfl rfl)
theorem dX0_otter_1 : decode cX0_otter 1 = .ok (.iconst 0, 1) := dk_3 (dk_at dksX0_otter_0 1 rfl rfl)
theorem dX0_otter_2 : decode cX0_otter 2 = .ok (.aload_n 0, 1) := dk_42 (dk_at dksX0_otter_0 2 rfl rfl)
theorem dX0_otter_3 : decode cX0_otter 3 = .ok (.iload_n 1, 1) := dk_27 (dk_at dksX0_otter_0 3 rfl rfl)
theorem dX0_otter_4 : decode cX0_otter 4 = .ok (.invokevirtual 19, 3) := dk_182 0 19 (dk_at dksX0_otter_0 4 rfl rfl)
theorem dX0_otter_7 : decode cX0_otter 7 = .ok (.i2l, 1) := dk_133 (dk_at dksX0_otter_0 7 rfl rfl)
theorem dX0_otter_8 : decode cX0_otter 8 = .ok (.lastore, 1) := dk_80 (dk_at dksX0_otter_0 8 rfl rfl)
theorem dX0_otter_9 : decode cX0_otter 9 = .ok (.goto 6, 3) := dk_167 0 6 (dk_at dksX0_otter_0 9 rfl rfl)
theorem dX0_otter_12 : decode cX0_otter 12 = .ok (.astore_n 3, 1) := dk_78 (dk_at dksX0_otter_0 12 rfl rfl)
theorem dX0_otter_13 : decode cX0_otter 13 = .ok (.iconst 1, 1) := dk_4 (dk_at dksX0_otter_0 13 rfl rfl)
theorem dX0_otter_14 : decode cX0_otter 14 = .ok (.ireturn, 1) := dk_172 (dk_at dksX0_otter_0 14 rfl rfl)
theorem dX0_otter_15 : decode cX0_otter 15 = .ok (.iconst 0, 1) := dk_3 (dk_at dksX0_otter_0 15 rfl rfl)
theorem dX0_otter_16 : decode cX0_otter 16 = .ok (.ireturn, 1) := dk_172 (dk_at dksX0_otter_0 16 rfl rfl)
abbrev cX0_volunteer : ByteArray := method_6_code
def yX0_volunteer : MethodName := ⟨RX0, "volunteer", "(LOtterTrust;II[J)I"⟩
def dkwX0_volunteer_0 : List UInt8 := [45, 3, 42, 27, 28, 182, 0, 22, 133, 80, 167, 0, 7, 58, 4, 4, 172, 3, 172]
abbrev dktX0_volunteer_0 : List UInt8 := dkwX0_volunteer_0 ++ []
theorem dksX0_volunteer_0 : cX0_volunteer.data.toList.drop 0 = dktX0_volunteer_0 := by decide +kernel
theorem dX0_volunteer_0 : decode cX0_volunteer 0 = .ok (.aload_n 3, 1) := dk_45 (dk_at dksX0_volunteer_0 0 rfl rfl)
theorem dX0_volunteer_1 : decode cX0_volunteer 1 = .ok (.iconst 0, 1) := dk_3 (dk_at dksX0_volunteer_0 1 rfl rfl)
theorem dX0_volunteer_2 : decode cX0_volunteer 2 = .ok (.aload_n 0, 1) := dk_42 (dk_at dksX0_volunteer_0 2 rfl rfl)
theorem dX0_volunteer_3 : decode cX0_volunteer 3 = .ok (.iload_n 1, 1) := dk_27 (dk_at dksX0_volunteer_0 3 rfl rfl)
theorem dX0_volunteer_4 : decode cX0_volunteer 4 = .ok (.iload_n 2, 1) := dk_28 (dk_at dksX0_volunteer_0 4 rfl rfl)
theorem dX0_volunteer_5 : decode cX0_volunteer 5 = .ok (.invokevirtual 22, 3) := dk_182 0 22 (dk_at dksX0_volunteer_0 5 rfl rfl)
theorem dX0_volunteer_8 : decode cX0_volunteer 8 = .ok (.i2l, 1) := dk_133 (dk_at dksX0_volunteer_0 8 rfl rfl)
theorem dX0_volunteer_9 : decode cX0_volunteer 9 = .ok (.lastore, 1) := dk_80 (dk_at dksX0_volunteer_0 9 rfl rfl)
theorem dX0_volunteer_10 : decode cX0_volunteer 10 = .ok (.goto 7, 3) := dk_167 0 7 (dk_at dksX0_volunteer_0 10 rfl rfl)
theorem dX0_volunteer_13 : decode cX0_volunteer 13 = .ok (.astore 4, 2) := dk_58 4 (dk_at dksX0_volunteer_0 13 rfl rfl)
theorem dX0_volunteer_15 : decode cX0_volunteer 15 = .ok (.iconst 1, 1) := dk_4 (dk_at dksX0_volunteer_0 15 rfl rfl)
theorem dX0_volunteer_16 : decode cX0_volunteer 16 = .ok (.ireturn, 1) := dk_172 (dk_at dksX0_volunteer_0 16 rfl rfl)
theorem dX0_volunteer_17 : decode cX0_volunteer 17 = .ok (.iconst 0, 1) := dk_3 (dk_at dksX0_volunteer_0 17 rfl rfl)
theorem dX0_volunteer_18 : decode cX0_volunteer 18 = .ok (.ireturn, 1) := dk_172 (dk_at dksX0_volunteer_0 18 rfl rfl)
abbrev cX0_level : ByteArray := method_7_code
def yX0_level : MethodName := ⟨RX0, "level", "(LOtterTrust;I[J)I"⟩
def dkwX0_level_0 : List UInt8 := [44, 3, 42, 27, 182, 0, 25, 133, 80, 167, 0, 6, 78, 4, 172, 3, 172]
abbrev dktX0_level_0 : List UInt8 := dkwX0_level_0 ++ []
theorem dksX0_level_0 : cX0_level.data.toList.drop 0 = dktX0_level_0 := by decide +kernel
theorem dX0_level_0 : decode cX0_level 0 = .ok (.aload_n 2, 1) := dk_44 (dk_at dksX0_level_0 0 rfl rfl)
theorem dX0_level_1 : decode cX0_level 1 = .ok (.iconst 0, 1) := dk_3 (dk_at dksX0_level_0 1 rfl rfl)
theorem dX0_level_2 : decode cX0_level 2 = .ok (.aload_n 0, 1) := dk_42 (dk_at dksX0_level_0 2 rfl rfl)
theorem dX0_level_3 : decode cX0_level 3 = .ok (.iload_n 1, 1) := dk_27 (dk_at dksX0_level_0 3 rfl rfl)
theorem dX0_level_4 : decode cX0_level 4 = .ok (.invokevirtual 25, 3) := dk_182 0 25 (dk_at dksX0_level_0 4 rfl rfl)
theorem dX0_level_7 : decode cX0_level 7 = .ok (.i2l, 1) := dk_133 (dk_at dksX0_level_0 7 rfl rfl)
theorem dX0_level_8 : decode cX0_level 8 = .ok (.lastore, 1) := dk_80 (dk_at dksX0_level_0 8 rfl rfl)
theorem dX0_level_9 : decode cX0_level 9 = .ok (.goto 6, 3) := dk_167 0 6 (dk_at dksX0_level_0 9 rfl rfl)
theorem dX0_level_12 : decode cX0_level 12 = .ok (.astore_n 3, 1) := dk_78 (dk_at dksX0_level_0 12 rfl rfl)
theorem dX0_level_13 : decode cX0_level 13 = .ok (.iconst 1, 1) := dk_4 (dk_at dksX0_level_0 13 rfl rfl)
theorem dX0_level_14 : decode cX0_level 14 = .ok (.ireturn, 1) := dk_172 (dk_at dksX0_level_0 14 rfl rfl)
theorem dX0_level_15 : decode cX0_level 15 = .ok (.iconst 0, 1) := dk_3 (dk_at dksX0_level_0 15 rfl rfl)
theorem dX0_level_16 : decode cX0_level 16 = .ok (.ireturn, 1) := dk_172 (dk_at dksX0_level_0 16 rfl rfl)
abbrev cX0_give : ByteArray := method_8_code
def yX0_give : MethodName := ⟨RX0, "give", "(LOtterTrust;I[J)I"⟩
def dkwX0_give_0 : List UInt8 := [44, 3, 42, 27, 182, 0, 28, 133, 80, 167, 0, 6, 78, 4, 172, 3, 172]
abbrev dktX0_give_0 : List UInt8 := dkwX0_give_0 ++ []
theorem dksX0_give_0 : cX0_give.data.toList.drop 0 = dktX0_give_0 := by decide +kernel
theorem dX0_give_0 : decode cX0_give 0 = .ok (.aload_n 2, 1) := dk_44 (dk_at dksX0_give_0 0 rfl rfl)
theorem dX0_give_1 : decode cX0_give 1 = .ok (.iconst 0, 1) := dk_3 (dk_at dksX0_give_0 1 rfl rfl)
theorem dX0_give_2 : decode cX0_give 2 = .ok (.aload_n 0, 1) := dk_42 (dk_at dksX0_give_0 2 rfl rfl)
theorem dX0_give_3 : decode cX0_give 3 = .ok (.iload_n 1, 1) := dk_27 (dk_at dksX0_give_0 3 rfl rfl)
theorem dX0_give_4 : decode cX0_give 4 = .ok (.invokevirtual 28, 3) := dk_182 0 28 (dk_at dksX0_give_0 4 rfl rfl)
theorem dX0_give_7 : decode cX0_give 7 = .ok (.i2l, 1) := dk_133 (dk_at dksX0_give_0 7 rfl rfl)
theorem dX0_give_8 : decode cX0_give 8 = .ok (.lastore, 1) := dk_80 (dk_at dksX0_give_0 8 rfl rfl)
theorem dX0_give_9 : decode cX0_give 9 = .ok (.goto 6, 3) := dk_167 0 6 (dk_at dksX0_give_0 9 rfl rfl)
theorem dX0_give_12 : decode cX0_give 12 = .ok (.astore_n 3, 1) := dk_78 (dk_at dksX0_give_0 12 rfl rfl)
theorem dX0_give_13 : decode cX0_give 13 = .ok (.iconst 1, 1) := dk_4 (dk_at dksX0_give_0 13 rfl rfl)
theorem dX0_give_14 : decode cX0_give 14 = .ok (.ireturn, 1) := dk_172 (dk_at dksX0_give_0 14 rfl rfl)
theorem dX0_give_15 : decode cX0_give 15 = .ok (.iconst 0, 1) := dk_3 (dk_at dksX0_give_0 15 rfl rfl)
theorem dX0_give_16 : decode cX0_give 16 = .ok (.ireturn, 1) := dk_172 (dk_at dksX0_give_0 16 rfl rfl)
abbrev cX0_shut : ByteArray := method_9_code
def yX0_shut : MethodName := ⟨RX0, "shut", "(LOtterTrust;I[J)I"⟩
def dkwX0_shut_0 : List UInt8 := [44, 3, 42, 27, 182, 0, 31, 133, 80, 167, 0, 6, 78, 4, 172, 3, 172]
abbrev dktX0_shut_0 : List UInt8 := dkwX0_shut_0 ++ []
theorem dksX0_shut_0 : cX0_shut.data.toList.drop 0 = dktX0_shut_0 := by decide +kernel
theorem dX0_shut_0 : decode cX0_shut 0 = .ok (.aload_n 2, 1) := dk_44 (dk_at dksX0_shut_0 0 rfl rfl)
theorem dX0_shut_1 : decode cX0_shut 1 = .ok (.iconst 0, 1) := dk_3 (dk_at dksX0_shut_0 1 rfl rfl)
theorem dX0_shut_2 : decode cX0_shut 2 = .ok (.aload_n 0, 1) := dk_42 (dk_at dksX0_shut_0 2 rfl rfl)
theorem dX0_shut_3 : decode cX0_shut 3 = .ok (.iload_n 1, 1) := dk_27 (dk_at dksX0_shut_0 3 rfl rfl)
theorem dX0_shut_4 : decode cX0_shut 4 = .ok (.invokevirtual 31, 3) := dk_182 0 31 (dk_at dksX0_shut_0 4 rfl rfl)
theorem dX0_shut_7 : decode cX0_shut 7 = .ok (.i2l, 1) := dk_133 (dk_at dksX0_shut_0 7 rfl rfl)
theorem dX0_shut_8 : decode cX0_shut 8 = .ok (.lastore, 1) := dk_80 (dk_at dksX0_shut_0 8 rfl rfl)
theorem dX0_shut_9 : decode cX0_shut 9 = .ok (.goto 6, 3) := dk_167 0 6 (dk_at dksX0_shut_0 9 rfl rfl)
theorem dX0_shut_12 : decode cX0_shut 12 = .ok (.astore_n 3, 1) := dk_78 (dk_at dksX0_shut_0 12 rfl rfl)
theorem dX0_shut_13 : decode cX0_shut 13 = .ok (.iconst 1, 1) := dk_4 (dk_at dksX0_shut_0 13 rfl rfl)
theorem dX0_shut_14 : decode cX0_shut 14 = .ok (.ireturn, 1) := dk_172 (dk_at dksX0_shut_0 14 rfl rfl)
theorem dX0_shut_15 : decode cX0_shut 15 = .ok (.iconst 0, 1) := dk_3 (dk_at dksX0_shut_0 15 rfl rfl)
theorem dX0_shut_16 : decode cX0_shut 16 = .ok (.ireturn, 1) := dk_172 (dk_at dksX0_shut_0 16 rfl rfl)
abbrev cX0_pass : ByteArray := method_10_code
def yX0_pass : MethodName := ⟨RX0, "pass", "(LOtterTrust;I[J)I"⟩
def dkwX0_pass_0 : List UInt8 := [44, 3, 42, 27, 182, 0, 34, 133, 80, 167, 0, 6, 78, 4, 172, 3, 172]
abbrev dktX0_pass_0 : List UInt8 := dkwX0_pass_0 ++ []
theorem dksX0_pass_0 : cX0_pass.data.toList.drop 0 = dktX0_pass_0 := by decide +kernel
theorem dX0_pass_0 : decode cX0_pass 0 = .ok (.aload_n 2, 1) := dk_44 (dk_at dksX0_pass_0 0 rfl rfl)
theorem dX0_pass_1 : decode cX0_pass 1 = .ok (.iconst 0, 1) := dk_3 (dk_at dksX0_pass_0 1 rfl rfl)
theorem dX0_pass_2 : decode cX0_pass 2 = .ok (.aload_n 0, 1) := dk_42 (dk_at dksX0_pass_0 2 rfl rfl)
theorem dX0_pass_3 : decode cX0_pass 3 = .ok (.iload_n 1, 1) := dk_27 (dk_at dksX0_pass_0 3 rfl rfl)
theorem dX0_pass_4 : decode cX0_pass 4 = .ok (.invokevirtual 34, 3) := dk_182 0 34 (dk_at dksX0_pass_0 4 rfl rfl)
theorem dX0_pass_7 : decode cX0_pass 7 = .ok (.i2l, 1) := dk_133 (dk_at dksX0_pass_0 7 rfl rfl)
theorem dX0_pass_8 : decode cX0_pass 8 = .ok (.lastore, 1) := dk_80 (dk_at dksX0_pass_0 8 rfl rfl)
theorem dX0_pass_9 : decode cX0_pass 9 = .ok (.goto 6, 3) := dk_167 0 6 (dk_at dksX0_pass_0 9 rfl rfl)
theorem dX0_pass_12 : decode cX0_pass 12 = .ok (.astore_n 3, 1) := dk_78 (dk_at dksX0_pass_0 12 rfl rfl)
theorem dX0_pass_13 : decode cX0_pass 13 = .ok (.iconst 1, 1) := dk_4 (dk_at dksX0_pass_0 13 rfl rfl)
theorem dX0_pass_14 : decode cX0_pass 14 = .ok (.ireturn, 1) := dk_172 (dk_at dksX0_pass_0 14 rfl rfl)
theorem dX0_pass_15 : decode cX0_pass 15 = .ok (.iconst 0, 1) := dk_3 (dk_at dksX0_pass_0 15 rfl rfl)
theorem dX0_pass_16 : decode cX0_pass 16 = .ok (.ireturn, 1) := dk_172 (dk_at dksX0_pass_0 16 rfl rfl)
abbrev cX0_walk : ByteArray := method_11_code
def yX0_walk : MethodName := ⟨RX0, "walk", "(LOtterTrust;I[J)I"⟩
def dkwX0_walk_0 : List UInt8 := [44, 3, 42, 27, 182, 0, 37, 133, 80, 167, 0, 6, 78, 4, 172, 3, 172]
abbrev dktX0_walk_0 : List UInt8 := dkwX0_walk_0 ++ []
theorem dksX0_walk_0 : cX0_walk.data.toList.drop 0 = dktX0_walk_0 := by decide +kernel
theorem dX0_walk_0 : decode cX0_walk 0 = .ok (.aload_n 2, 1) := dk_44 (dk_at dksX0_walk_0 0 rfl rfl)
theorem dX0_walk_1 : decode cX0_walk 1 = .ok (.iconst 0, 1) := dk_3 (dk_at dksX0_walk_0 1 rfl rfl)
theorem dX0_walk_2 : decode cX0_walk 2 = .ok (.aload_n 0, 1) := dk_42 (dk_at dksX0_walk_0 2 rfl rfl)
theorem dX0_walk_3 : decode cX0_walk 3 = .ok (.iload_n 1, 1) := dk_27 (dk_at dksX0_walk_0 3 rfl rfl)
theorem dX0_walk_4 : decode cX0_walk 4 = .ok (.invokevirtual 37, 3) := dk_182 0 37 (dk_at dksX0_walk_0 4 rfl rfl)
theorem dX0_walk_7 : decode cX0_walk 7 = .ok (.i2l, 1) := dk_133 (dk_at dksX0_walk_0 7 rfl rfl)
theorem dX0_walk_8 : decode cX0_walk 8 = .ok (.lastore, 1) := dk_80 (dk_at dksX0_walk_0 8 rfl rfl)
theorem dX0_walk_9 : decode cX0_walk 9 = .ok (.goto 6, 3) := dk_167 0 6 (dk_at dksX0_walk_0 9 rfl rfl)
theorem dX0_walk_12 : decode cX0_walk 12 = .ok (.astore_n 3, 1) := dk_78 (dk_at dksX0_walk_0 12 rfl rfl)
theorem dX0_walk_13 : decode cX0_walk 13 = .ok (.iconst 1, 1) := dk_4 (dk_at dksX0_walk_0 13 rfl rfl)
theorem dX0_walk_14 : decode cX0_walk 14 = .ok (.ireturn, 1) := dk_172 (dk_at dksX0_walk_0 14 rfl rfl)
theorem dX0_walk_15 : decode cX0_walk 15 = .ok (.iconst 0, 1) := dk_3 (dk_at dksX0_walk_0 15 rfl rfl)
theorem dX0_walk_16 : decode cX0_walk 16 = .ok (.ireturn, 1) := dk_172 (dk_at dksX0_walk_0 16 rfl rfl)
abbrev cX0_reachOf : ByteArray := method_12_code
def yX0_reachOf : MethodName := ⟨RX0, "reachOf", "(LOtterTrust;II[J)I"⟩
def dkwX0_reachOf_0 : List UInt8 := [45, 3, 42, 27, 28, 182, 0, 40, 133, 80, 167, 0, 11, 58, 4, 4, 172, 58, 4, 5, 172, 3, 172]
abbrev dktX0_reachOf_0 : List UInt8 := dkwX0_reachOf_0 ++ []
theorem dksX0_reachOf_0 : cX0_reachOf.data.toList.drop 0 = dktX0_reachOf_0 := by decide +kernel
theorem dX0_reachOf_0 : decode cX0_reachOf 0 = .ok (.aload_n 3, 1) := dk_45 (dk_at dksX0_reachOf_0 0 rfl rfl)
theorem dX0_reachOf_1 : decode cX0_reachOf 1 = .ok (.iconst 0, 1) := dk_3 (dk_at dksX0_reachOf_0 1 rfl rfl)
theorem dX0_reachOf_2 : decode cX0_reachOf 2 = .ok (.aload_n 0, 1) := dk_42 (dk_at dksX0_reachOf_0 2 rfl rfl)
theorem dX0_reachOf_3 : decode cX0_reachOf 3 = .ok (.iload_n 1, 1) := dk_27 (dk_at dksX0_reachOf_0 3 rfl rfl)
theorem dX0_reachOf_4 : decode cX0_reachOf 4 = .ok (.iload_n 2, 1) := dk_28 (dk_at dksX0_reachOf_0 4 rfl rfl)
theorem dX0_reachOf_5 : decode cX0_reachOf 5 = .ok (.invokevirtual 40, 3) := dk_182 0 40 (dk_at dksX0_reachOf_0 5 rfl rfl)
theorem dX0_reachOf_8 : decode cX0_reachOf 8 = .ok (.i2l, 1) := dk_133 (dk_at dksX0_reachOf_0 8 rfl rfl)
theorem dX0_reachOf_9 : decode cX0_reachOf 9 = .ok (.lastore, 1) := dk_80 (dk_at dksX0_reachOf_0 9 rfl rfl)
theorem dX0_reachOf_10 : decode cX0_reachOf 10 = .ok (.goto 11, 3) := dk_167 0 11 (dk_at dksX0_reachOf_0 10 rfl rfl)
theorem dX0_reachOf_13 : decode cX0_reachOf 13 = .ok (.astore 4, 2) := dk_58 4 (dk_at dksX0_reachOf_0 13 rfl rfl)
theorem dX0_reachOf_15 : decode cX0_reachOf 15 = .ok (.iconst 1, 1) := dk_4 (dk_at dksX0_reachOf_0 15 rfl rfl)
theorem dX0_reachOf_16 : decode cX0_reachOf 16 = .ok (.ireturn, 1) := dk_172 (dk_at dksX0_reachOf_0 16 rfl rfl)
theorem dX0_reachOf_17 : decode cX0_reachOf 17 = .ok (.astore 4, 2) := dk_58 4 (dk_at dksX0_reachOf_0 17 rfl rfl)
theorem dX0_reachOf_19 : decode cX0_reachOf 19 = .ok (.iconst 2, 1) := dk_5 (dk_at dksX0_reachOf_0 19 rfl rfl)
theorem dX0_reachOf_20 : decode cX0_reachOf 20 = .ok (.ireturn, 1) := dk_172 (dk_at dksX0_reachOf_0 20 rfl rfl)
theorem dX0_reachOf_21 : decode cX0_reachOf 21 = .ok (.iconst 0, 1) := dk_3 (dk_at dksX0_reachOf_0 21 rfl rfl)
theorem dX0_reachOf_22 : decode cX0_reachOf 22 = .ok (.ireturn, 1) := dk_172 (dk_at dksX0_reachOf_0 22 rfl rfl)
abbrev cX0_otterOf : ByteArray := method_13_code
def yX0_otterOf : MethodName := ⟨RX0, "otterOf", "(LOtterTrust;II[J)I"⟩
def dkwX0_otterOf_0 : List UInt8 := [45, 3, 42, 27, 28, 182, 0, 47, 133, 80, 167, 0, 11, 58, 4, 4, 172, 58, 4, 5, 172, 3, 172]
abbrev dktX0_otterOf_0 : List UInt8 := dkwX0_otterOf_0 ++ []
theorem dksX0_otterOf_0 : cX0_otterOf.data.toList.drop 0 = dktX0_otterOf_0 := by decide +kernel
theorem dX0_otterOf_0 : decode cX0_otterOf 0 = .ok (.aload_n 3, 1) := dk_45 (dk_at dksX0_otterOf_0 0 rfl rfl)
theorem dX0_otterOf_1 : decode cX0_otterOf 1 = .ok (.iconst 0, 1) := dk_3 (dk_at dksX0_otterOf_0 1 rfl rfl)
theorem dX0_otterOf_2 : decode cX0_otterOf 2 = .ok (.aload_n 0, 1) := dk_42 (dk_at dksX0_otterOf_0 2 rfl rfl)
theorem dX0_otterOf_3 : decode cX0_otterOf 3 = .ok (.iload_n 1, 1) := dk_27 (dk_at dksX0_otterOf_0 3 rfl rfl)
theorem dX0_otterOf_4 : decode cX0_otterOf 4 = .ok (.iload_n 2, 1) := dk_28 (dk_at dksX0_otterOf_0 4 rfl rfl)
theorem dX0_otterOf_5 : decode cX0_otterOf 5 = .ok (.invokevirtual 47, 3) := dk_182 0 47 (dk_at dksX0_otterOf_0 5 rfl rfl)
theorem dX0_otterOf_8 : decode cX0_otterOf 8 = .ok (.i2l, 1) := dk_133 (dk_at dksX0_otterOf_0 8 rfl rfl)
theorem dX0_otterOf_9 : decode cX0_otterOf 9 = .ok (.lastore, 1) := dk_80 (dk_at dksX0_otterOf_0 9 rfl rfl)
theorem dX0_otterOf_10 : decode cX0_otterOf 10 = .ok (.goto 11, 3) := dk_167 0 11 (dk_at dksX0_otterOf_0 10 rfl rfl)
theorem dX0_otterOf_13 : decode cX0_otterOf 13 = .ok (.astore 4, 2) := dk_58 4 (dk_at dksX0_otterOf_0 13 rfl rfl)
theorem dX0_otterOf_15 : decode cX0_otterOf 15 = .ok (.iconst 1, 1) := dk_4 (dk_at dksX0_otterOf_0 15 rfl rfl)
theorem dX0_otterOf_16 : decode cX0_otterOf 16 = .ok (.ireturn, 1) := dk_172 (dk_at dksX0_otterOf_0 16 rfl rfl)
theorem dX0_otterOf_17 : decode cX0_otterOf 17 = .ok (.astore 4, 2) := dk_58 4 (dk_at dksX0_otterOf_0 17 rfl rfl)
theorem dX0_otterOf_19 : decode cX0_otterOf 19 = .ok (.iconst 2, 1) := dk_5 (dk_at dksX0_otterOf_0 19 rfl rfl)
theorem dX0_otterOf_20 : decode cX0_otterOf 20 = .ok (.ireturn, 1) := dk_172 (dk_at dksX0_otterOf_0 20 rfl rfl)
theorem dX0_otterOf_21 : decode cX0_otterOf 21 = .ok (.iconst 0, 1) := dk_3 (dk_at dksX0_otterOf_0 21 rfl rfl)
theorem dX0_otterOf_22 : decode cX0_otterOf 22 = .ok (.ireturn, 1) := dk_172 (dk_at dksX0_otterOf_0 22 rfl rfl)
abbrev cX0_volunteerOf : ByteArray := method_14_code
def yX0_volunteerOf : MethodName := ⟨RX0, "volunteerOf", "(LOtterTrust;II[J)I"⟩
def dkwX0_volunteerOf_0 : List UInt8 := [45, 3, 42, 27, 28, 182, 0, 50, 133, 80, 167, 0, 11, 58, 4, 4, 172, 58, 4, 5, 172, 3, 172]
abbrev dktX0_volunteerOf_0 : List UInt8 := dkwX0_volunteerOf_0 ++ []
theorem dksX0_volunteerOf_0 : cX0_volunteerOf.data.toList.drop 0 = dktX0_volunteerOf_0 := by decide +kernel
theorem dX0_volunteerOf_0 : decode cX0_volunteerOf 0 = .ok (.aload_n 3, 1) := dk_45 (dk_at dksX0_volunteerOf_0 0 rfl rfl)
theorem dX0_volunteerOf_1 : decode cX0_volunteerOf 1 = .ok (.iconst 0, 1) := dk_3 (dk_at dksX0_volunteerOf_0 1 rfl rfl)
theorem dX0_volunteerOf_2 : decode cX0_volunteerOf 2 = .ok (.aload_n 0, 1) := dk_42 (dk_at dksX0_volunteerOf_0 2 rfl rfl)
theorem dX0_volunteerOf_3 : decode cX0_volunteerOf 3 = .ok (.iload_n 1, 1) := dk_27 (dk_at dksX0_volunteerOf_0 3 rfl rfl)
theorem dX0_volunteerOf_4 : decode cX0_volunteerOf 4 = .ok (.iload_n 2, 1) := dk_28 (dk_at dksX0_volunteerOf_0 4 rfl rfl)
theorem dX0_volunteerOf_5 : decode cX0_volunteerOf 5 = .ok (.invokevirtual 50, 3) := dk_182 0 50 (dk_at dksX0_volunteerOf_0 5 rfl rfl)
theorem dX0_volunteerOf_8 : decode cX0_volunteerOf 8 = .ok (.i2l, 1) := dk_133 (dk_at dksX0_volunteerOf_0 8 rfl rfl)
theorem dX0_volunteerOf_9 : decode cX0_volunteerOf 9 = .ok (.lastore, 1) := dk_80 (dk_at dksX0_volunteerOf_0 9 rfl rfl)
theorem dX0_volunteerOf_10 : decode cX0_volunteerOf 10 = .ok (.goto 11, 3) := dk_167 0 11 (dk_at dksX0_volunteerOf_0 10 rfl rfl)
theorem dX0_volunteerOf_13 : decode cX0_volunteerOf 13 = .ok (.astore 4, 2) := dk_58 4 (dk_at dksX0_volunteerOf_0 13 rfl rfl)
theorem dX0_volunteerOf_15 : decode cX0_volunteerOf 15 = .ok (.iconst 1, 1) := dk_4 (dk_at dksX0_volunteerOf_0 15 rfl rfl)
theorem dX0_volunteerOf_16 : decode cX0_volunteerOf 16 = .ok (.ireturn, 1) := dk_172 (dk_at dksX0_volunteerOf_0 16 rfl rfl)
theorem dX0_volunteerOf_17 : decode cX0_volunteerOf 17 = .ok (.astore 4, 2) := dk_58 4 (dk_at dksX0_volunteerOf_0 17 rfl rfl)
theorem dX0_volunteerOf_19 : decode cX0_volunteerOf 19 = .ok (.iconst 2, 1) := dk_5 (dk_at dksX0_volunteerOf_0 19 rfl rfl)
theorem dX0_volunteerOf_20 : decode cX0_volunteerOf 20 = .ok (.ireturn, 1) := dk_172 (dk_at dksX0_volunteerOf_0 20 rfl rfl)
theorem dX0_volunteerOf_21 : decode cX0_volunteerOf 21 = .ok (.iconst 0, 1) := dk_3 (dk_at dksX0_volunteerOf_0 21 rfl rfl)
theorem dX0_volunteerOf_22 : decode cX0_volunteerOf 22 = .ok (.ireturn, 1) := dk_172 (dk_at dksX0_volunteerOf_0 22 rfl rfl)
abbrev cX0_refuge : ByteArray := method_15_code
def yX0_refuge : MethodName := ⟨RX0, "refuge", "(LOtterTrust;I[J)I"⟩
def dkwX0_refuge_0 : List UInt8 := [44, 3, 42, 27, 182, 0, 53, 133, 80, 167, 0, 9, 78, 4, 172, 78, 5, 172, 3, 172]
abbrev dktX0_refuge_0 : List UInt8 := dkwX0_refuge_0 ++ []
theorem dksX0_refuge_0 : cX0_refuge.data.toList.drop 0 = dktX0_refuge_0 := by decide +kernel
theorem dX0_refuge_0 : decode cX0_refuge 0 = .ok (.aload_n 2, 1) := dk_44 (dk_at dksX0_refuge_0 0 rfl rfl)
theorem dX0_refuge_1 : decode cX0_refuge 1 = .ok (.iconst 0, 1) := dk_3 (dk_at dksX0_refuge_0 1 rfl rfl)
theorem dX0_refuge_2 : decode cX0_refuge 2 = .ok (.aload_n 0, 1) := dk_42 (dk_at dksX0_refuge_0 2 rfl rfl)
theorem dX0_refuge_3 : decode cX0_refuge 3 = .ok (.iload_n 1, 1) := dk_27 (dk_at dksX0_refuge_0 3 rfl rfl)
theorem dX0_refuge_4 : decode cX0_refuge 4 = .ok (.invokevirtual 53, 3) := dk_182 0 53 (dk_at dksX0_refuge_0 4 rfl rfl)
theorem dX0_refuge_7 : decode cX0_refuge 7 = .ok (.i2l, 1) := dk_133 (dk_at dksX0_refuge_0 7 rfl rfl)
theorem dX0_refuge_8 : decode cX0_refuge 8 = .ok (.lastore, 1) := dk_80 (dk_at dksX0_refuge_0 8 rfl rfl)
theorem dX0_refuge_9 : decode cX0_refuge 9 = .ok (.goto 9, 3) := dk_167 0 9 (dk_at dksX0_refuge_0 9 rfl rfl)
theorem dX0_refuge_12 : decode cX0_refuge 12 = .ok (.astore_n 3, 1) := dk_78 (dk_at dksX0_refuge_0 12 rfl rfl)
theorem dX0_refuge_13 : decode cX0_refuge 13 = .ok (.iconst 1, 1) := dk_4 (dk_at dksX0_refuge_0 13 rfl rfl)
theorem dX0_refuge_14 : decode cX0_refuge 14 = .ok (.ireturn, 1) := dk_172 (dk_at dksX0_refuge_0 14 rfl rfl)
theorem dX0_refuge_15 : decode cX0_refuge 15 = .ok (.astore_n 3, 1) := dk_78 (dk_at dksX0_refuge_0 15 rfl rfl)
theorem dX0_refuge_16 : decode cX0_refuge 16 = .ok (.iconst 2, 1) := dk_5 (dk_at dksX0_refuge_0 16 rfl rfl)
theorem dX0_refuge_17 : decode cX0_refuge 17 = .ok (.ireturn, 1) := dk_172 (dk_at dksX0_refuge_0 17 rfl rfl)
theorem dX0_refuge_18 : decode cX0_refuge 18 = .ok (.iconst 0, 1) := dk_3 (dk_at dksX0_refuge_0 18 rfl rfl)
theorem dX0_refuge_19 : decode cX0_refuge 19 = .ok (.ireturn, 1) := dk_172 (dk_at dksX0_refuge_0 19 rfl rfl)
abbrev cX0_refugeAgain : ByteArray := method_16_code
def yX0_refugeAgain : MethodName := ⟨RX0, "refugeAgain", "(LOtterTrust;I[J)I"⟩
def dkwX0_refugeAgain_0 : List UInt8 := [44, 3, 42, 27, 182, 0, 58, 133, 80, 167, 0, 9, 78, 4, 172, 78, 5, 172, 3, 172]
abbrev dktX0_refugeAgain_0 : List UInt8 := dkwX0_refugeAgain_0 ++ []
theorem dksX0_refugeAgain_0 : cX0_refugeAgain.data.toList.drop 0 = dktX0_refugeAgain_0 := by decide +kernel
theorem dX0_refugeAgain_0 : decode cX0_refugeAgain 0 = .ok (.aload_n 2, 1) := dk_44 (dk_at dksX0_refugeAgain_0 0 rfl rfl)
theorem dX0_refugeAgain_1 : decode cX0_refugeAgain 1 = .ok (.iconst 0, 1) := dk_3 (dk_at dksX0_refugeAgain_0 1 rfl rfl)
theorem dX0_refugeAgain_2 : decode cX0_refugeAgain 2 = .ok (.aload_n 0, 1) := dk_42 (dk_at dksX0_refugeAgain_0 2 rfl rfl)
theorem dX0_refugeAgain_3 : decode cX0_refugeAgain 3 = .ok (.iload_n 1, 1) := dk_27 (dk_at dksX0_refugeAgain_0 3 rfl rfl)
theorem dX0_refugeAgain_4 : decode cX0_refugeAgain 4 = .ok (.invokevirtual 58, 3) := dk_182 0 58 (dk_at dksX0_refugeAgain_0 4 rfl rfl)
theorem dX0_refugeAgain_7 : decode cX0_refugeAgain 7 = .ok (.i2l, 1) := dk_133 (dk_at dksX0_refugeAgain_0 7 rfl rfl)
theorem dX0_refugeAgain_8 : decode cX0_refugeAgain 8 = .ok (.lastore, 1) := dk_80 (dk_at dksX0_refugeAgain_0 8 rfl rfl)
theorem dX0_refugeAgain_9 : decode cX0_refugeAgain 9 = .ok (.goto 9, 3) := dk_167 0 9 (dk_at dksX0_refugeAgain_0 9 rfl rfl)
theorem dX0_refugeAgain_12 : decode cX0_refugeAgain 12 = .ok (.astore_n 3, 1) := dk_78 (dk_at dksX0_refugeAgain_0 12 rfl rfl)
theorem dX0_refugeAgain_13 : decode cX0_refugeAgain 13 = .ok (.iconst 1, 1) := dk_4 (dk_at dksX0_refugeAgain_0 13 rfl rfl)
theorem dX0_refugeAgain_14 : decode cX0_refugeAgain 14 = .ok (.ireturn, 1) := dk_172 (dk_at dksX0_refugeAgain_0 14 rfl rfl)
theorem dX0_refugeAgain_15 : decode cX0_refugeAgain 15 = .ok (.astore_n 3, 1) := dk_78 (dk_at dksX0_refugeAgain_0 15 rfl rfl)
theorem dX0_refugeAgain_16 : decode cX0_refugeAgain 16 = .ok (.iconst 2, 1) := dk_5 (dk_at dksX0_refugeAgain_0 16 rfl rfl)
theorem dX0_refugeAgain_17 : decode cX0_refugeAgain 17 = .ok (.ireturn, 1) := dk_172 (dk_at dksX0_refugeAgain_0 17 rfl rfl)
theorem dX0_refugeAgain_18 : decode cX0_refugeAgain 18 = .ok (.iconst 0, 1) := dk_3 (dk_at dksX0_refugeAgain_0 18 rfl rfl)
theorem dX0_refugeAgain_19 : decode cX0_refugeAgain 19 = .ok (.ireturn, 1) := dk_172 (dk_at dksX0_refugeAgain_0 19 rfl rfl)
abbrev cX0_goal : ByteArray := method_17_code
def yX0_goal : MethodName := ⟨RX0, "goal", "(LOtterTrust;I[J)I"⟩
def dkwX0_goal_0 : List UInt8 := [44, 3, 42, 27, 182, 0, 61, 133, 80, 167, 0, 9, 78, 4, 172, 78, 5, 172, 3, 172]
abbrev dktX0_goal_0 : List UInt8 := dkwX0_goal_0 ++ []
theorem dksX0_goal_0 : cX0_goal.data.toList.drop 0 = dktX0_goal_0 := by decide +kernel
theorem dX0_goal_0 : decode cX0_goal 0 = .ok (.aload_n 2, 1) := dk_44 (dk_at dksX0_goal_0 0 rfl rfl)
theorem dX0_goal_1 : decode cX0_goal 1 = .ok (.iconst 0, 1) := dk_3 (dk_at dksX0_goal_0 1 rfl rfl)
theorem dX0_goal_2 : decode cX0_goal 2 = .ok (.aload_n 0, 1) := dk_42 (dk_at dksX0_goal_0 2 rfl rfl)
theorem dX0_goal_3 : decode cX0_goal 3 = .ok (.iload_n 1, 1) := dk_27 (dk_at dksX0_goal_0 3 rfl rfl)
theorem dX0_goal_4 : decode cX0_goal 4 = .ok (.invokevirtual 61, 3) := dk_182 0 61 (dk_at dksX0_goal_0 4 rfl rfl)
theorem dX0_goal_7 : decode cX0_goal 7 = .ok (.i2l, 1) := dk_133 (dk_at dksX0_goal_0 7 rfl rfl)
theorem dX0_goal_8 : decode cX0_goal 8 = .ok (.lastore, 1) := dk_80 (dk_at dksX0_goal_0 8 rfl rfl)
theorem dX0_goal_9 : decode cX0_goal 9 = .ok (.goto 9, 3) := dk_167 0 9 (dk_at dksX0_goal_0 9 rfl rfl)
theorem dX0_goal_12 : decode cX0_goal 12 = .ok (.astore_n 3, 1) := dk_78 (dk_at dksX0_goal_0 12 rfl rfl)
theorem dX0_goal_13 : decode cX0_goal 13 = .ok (.iconst 1, 1) := dk_4 (dk_at dksX0_goal_0 13 rfl rfl)
theorem dX0_goal_14 : decode cX0_goal 14 = .ok (.ireturn, 1) := dk_172 (dk_at dksX0_goal_0 14 rfl rfl)
theorem dX0_goal_15 : decode cX0_goal 15 = .ok (.astore_n 3, 1) := dk_78 (dk_at dksX0_goal_0 15 rfl rfl)
theorem dX0_goal_16 : decode cX0_goal 16 = .ok (.iconst 2, 1) := dk_5 (dk_at dksX0_goal_0 16 rfl rfl)
theorem dX0_goal_17 : decode cX0_goal 17 = .ok (.ireturn, 1) := dk_172 (dk_at dksX0_goal_0 17 rfl rfl)
theorem dX0_goal_18 : decode cX0_goal 18 = .ok (.iconst 0, 1) := dk_3 (dk_at dksX0_goal_0 18 rfl rfl)
theorem dX0_goal_19 : decode cX0_goal 19 = .ok (.ireturn, 1) := dk_172 (dk_at dksX0_goal_0 19 rfl rfl)
abbrev cX0_killedIn : ByteArray := method_18_code
def yX0_killedIn : MethodName := ⟨RX0, "killedIn", "(LOtterTrust;I[J)I"⟩
def dkwX0_killedIn_0 : List UInt8 := [44, 3, 42, 27, 182, 0, 66, 133, 80, 167, 0, 12, 78, 4, 172, 78, 5, 172, 78, 6, 172, 3, 172]
abbrev dktX0_killedIn_0 : List UInt8 := dkwX0_killedIn_0 ++ []
theorem dksX0_killedIn_0 : cX0_killedIn.data.toList.drop 0 = dktX0_killedIn_0 := by decide +kernel
theorem dX0_killedIn_0 : decode cX0_killedIn 0 = .ok (.aload_n 2, 1) := dk_44 (dk_at dksX0_killedIn_0 0 rfl rfl)
theorem dX0_killedIn_1 : decode cX0_killedIn 1 = .ok (.iconst 0, 1) := dk_3 (dk_at dksX0_killedIn_0 1 rfl rfl)
theorem dX0_killedIn_2 : decode cX0_killedIn 2 = .ok (.aload_n 0, 1) := dk_42 (dk_at dksX0_killedIn_0 2 rfl rfl)
theorem dX0_killedIn_3 : decode cX0_killedIn 3 = .ok (.iload_n 1, 1) := dk_27 (dk_at dksX0_killedIn_0 3 rfl rfl)
theorem dX0_killedIn_4 : decode cX0_killedIn 4 = .ok (.invokevirtual 66, 3) := dk_182 0 66 (dk_at dksX0_killedIn_0 4 rfl rfl)
theorem dX0_killedIn_7 : decode cX0_killedIn 7 = .ok (.i2l, 1) := dk_133 (dk_at dksX0_killedIn_0 7 rfl rfl)
theorem dX0_killedIn_8 : decode cX0_killedIn 8 = .ok (.lastore, 1) := dk_80 (dk_at dksX0_killedIn_0 8 rfl rfl)
theorem dX0_killedIn_9 : decode cX0_killedIn 9 = .ok (.goto 12, 3) := dk_167 0 12 (dk_at dksX0_killedIn_0 9 rfl rfl)
theorem dX0_killedIn_12 : decode cX0_killedIn 12 = .ok (.astore_n 3, 1) := dk_78 (dk_at dksX0_killedIn_0 12 rfl rfl)
theorem dX0_killedIn_13 : decode cX0_killedIn 13 = .ok (.iconst 1, 1) := dk_4 (dk_at dksX0_killedIn_0 13 rfl rfl)
theorem dX0_killedIn_14 : decode cX0_killedIn 14 = .ok (.ireturn, 1) := dk_172 (dk_at dksX0_killedIn_0 14 rfl rfl)
theorem dX0_killedIn_15 : decode cX0_killedIn 15 = .ok (.astore_n 3, 1) := dk_78 (dk_at dksX0_killedIn_0 15 rfl rfl)
theorem dX0_killedIn_16 : decode cX0_killedIn 16 = .ok (.iconst 2, 1) := dk_5 (dk_at dksX0_killedIn_0 16 rfl rfl)
theorem dX0_killedIn_17 : decode cX0_killedIn 17 = .ok (.ireturn, 1) := dk_172 (dk_at dksX0_killedIn_0 17 rfl rfl)
theorem dX0_killedIn_18 : decode cX0_killedIn 18 = .ok (.astore_n 3, 1) := dk_78 (dk_at dksX0_killedIn_0 18 rfl rfl)
theorem dX0_killedIn_19 : decode cX0_killedIn 19 = .ok (.iconst 3, 1) := dk_6 (dk_at dksX0_killedIn_0 19 rfl rfl)
theorem dX0_killedIn_20 : decode cX0_killedIn 20 = .ok (.ireturn, 1) := dk_172 (dk_at dksX0_killedIn_0 20 rfl rfl)
theorem dX0_killedIn_21 : decode cX0_killedIn 21 = .ok (.iconst 0, 1) := dk_3 (dk_at dksX0_killedIn_0 21 rfl rfl)
theorem dX0_killedIn_22 : decode cX0_killedIn 22 = .ok (.ireturn, 1) := dk_172 (dk_at dksX0_killedIn_0 22 rfl rfl)
abbrev cX0_cubsIn : ByteArray := method_19_code
def yX0_cubsIn : MethodName := ⟨RX0, "cubsIn", "(LOtterTrust;I[J)I"⟩
def dkwX0_cubsIn_0 : List UInt8 := [44, 3, 42, 27, 182, 0, 69, 133, 80, 167, 0, 12, 78, 4, 172, 78, 5, 172, 78, 6, 172, 3, 172]
abbrev dktX0_cubsIn_0 : List UInt8 := dkwX0_cubsIn_0 ++ []
theorem dksX0_cubsIn_0 : cX0_cubsIn.data.toList.drop 0 = dktX0_cubsIn_0 := by decide +kernel
theorem dX0_cubsIn_0 : decode cX0_cubsIn 0 = .ok (.aload_n 2, 1) := dk_44 (dk_at dksX0_cubsIn_0 0 rfl rfl)
theorem dX0_cubsIn_1 : decode cX0_cubsIn 1 = .ok (.iconst 0, 1) := dk_3 (dk_at dksX0_cubsIn_0 1 rfl rfl)
theorem dX0_cubsIn_2 : decode cX0_cubsIn 2 = .ok (.aload_n 0, 1) := dk_42 (dk_at dksX0_cubsIn_0 2 rfl rfl)
theorem dX0_cubsIn_3 : decode cX0_cubsIn 3 = .ok (.iload_n 1, 1) := dk_27 (dk_at dksX0_cubsIn_0 3 rfl rfl)
theorem dX0_cubsIn_4 : decode cX0_cubsIn 4 = .ok (.invokevirtual 69, 3) := dk_182 0 69 (dk_at dksX0_cubsIn_0 4 rfl rfl)
theorem dX0_cubsIn_7 : decode cX0_cubsIn 7 = .ok (.i2l, 1) := dk_133 (dk_at dksX0_cubsIn_0 7 rfl rfl)
theorem dX0_cubsIn_8 : decode cX0_cubsIn 8 = .ok (.lastore, 1) := dk_80 (dk_at dksX0_cubsIn_0 8 rfl rfl)
theorem dX0_cubsIn_9 : decode cX0_cubsIn 9 = .ok (.goto 12, 3) := dk_167 0 12 (dk_at dksX0_cubsIn_0 9 rfl rfl)
theorem dX0_cubsIn_12 : decode cX0_cubsIn 12 = .ok (.astore_n 3, 1) := dk_78 (dk_at dksX0_cubsIn_0 12 rfl rfl)
theorem dX0_cubsIn_13 : decode cX0_cubsIn 13 = .ok (.iconst 1, 1) := dk_4 (dk_at dksX0_cubsIn_0 13 rfl rfl)
theorem dX0_cubsIn_14 : decode cX0_cubsIn 14 = .ok (.ireturn, 1) := dk_172 (dk_at dksX0_cubsIn_0 14 rfl rfl)
theorem dX0_cubsIn_15 : decode cX0_cubsIn 15 = .ok (.astore_n 3, 1) := dk_78 (dk_at dksX0_cubsIn_0 15 rfl rfl)
theorem dX0_cubsIn_16 : decode cX0_cubsIn 16 = .ok (.iconst 2, 1) := dk_5 (dk_at dksX0_cubsIn_0 16 rfl rfl)
theorem dX0_cubsIn_17 : decode cX0_cubsIn 17 = .ok (.ireturn, 1) := dk_172 (dk_at dksX0_cubsIn_0 17 rfl rfl)
theorem dX0_cubsIn_18 : decode cX0_cubsIn 18 = .ok (.astore_n 3, 1) := dk_78 (dk_at dksX0_cubsIn_0 18 rfl rfl)
theorem dX0_cubsIn_19 : decode cX0_cubsIn 19 = .ok (.iconst 3, 1) := dk_6 (dk_at dksX0_cubsIn_0 19 rfl rfl)
theorem dX0_cubsIn_20 : decode cX0_cubsIn 20 = .ok (.ireturn, 1) := dk_172 (dk_at dksX0_cubsIn_0 20 rfl rfl)
theorem dX0_cubsIn_21 : decode cX0_cubsIn 21 = .ok (.iconst 0, 1) := dk_3 (dk_at dksX0_cubsIn_0 21 rfl rfl)
theorem dX0_cubsIn_22 : decode cX0_cubsIn 22 = .ok (.ireturn, 1) := dk_172 (dk_at dksX0_cubsIn_0 22 rfl rfl)
abbrev cX0_worstDip : ByteArray := method_20_code
def yX0_worstDip : MethodName := ⟨RX0, "worstDip", "(LOtterTrust;[J)I"⟩
def dkwX0_worstDip_0 : List UInt8 := [43, 3, 42, 182, 0, 72, 133, 80, 167, 0, 6, 77, 4, 172, 3, 172]
abbrev dktX0_worstDip_0 : List UInt8 := dkwX0_worstDip_0 ++ []
theorem dksX0_worstDip_0 : cX0_worstDip.data.toList.drop 0 = dktX0_worstDip_0 := by decide +kernel
theorem dX0_worstDip_0 : decode cX0_worstDip 0 = .ok (.aload_n 1, 1) := dk_43 (dk_at dksX0_worstDip_0 0 rfl rfl)
theorem dX0_worstDip_1 : decode cX0_worstDip 1 = .ok (.iconst 0, 1) := dk_3 (dk_at dksX0_worstDip_0 1 rfl rfl)
theorem dX0_worstDip_2 : decode cX0_worstDip 2 = .ok (.aload_n 0, 1) := dk_42 (dk_at dksX0_worstDip_0 2 rfl rfl)
theorem dX0_worstDip_3 : decode cX0_worstDip 3 = .ok (.invokevirtual 72, 3) := dk_182 0 72 (dk_at dksX0_worstDip_0 3 rfl rfl)
theorem dX0_worstDip_6 : decode cX0_worstDip 6 = .ok (.i2l, 1) := dk_133 (dk_at dksX0_worstDip_0 6 rfl rfl)
theorem dX0_worstDip_7 : decode cX0_worstDip 7 = .ok (.lastore, 1) := dk_80 (dk_at dksX0_worstDip_0 7 rfl rfl)
theorem dX0_worstDip_8 : decode cX0_worstDip 8 = .ok (.goto 6, 3) := dk_167 0 6 (dk_at dksX0_worstDip_0 8 rfl rfl)
theorem dX0_worstDip_11 : decode cX0_worstDip 11 = .ok (.astore_n 2, 1) := dk_77 (dk_at dksX0_worstDip_0 11 rfl rfl)
theorem dX0_worstDip_12 : decode cX0_worstDip 12 = .ok (.iconst 1, 1) := dk_4 (dk_at dksX0_worstDip_0 12 rfl rfl)
theorem dX0_worstDip_13 : decode cX0_worstDip 13 = .ok (.ireturn, 1) := dk_172 (dk_at dksX0_worstDip_0 13 rfl rfl)
theorem dX0_worstDip_14 : decode cX0_worstDip 14 = .ok (.iconst 0, 1) := dk_3 (dk_at dksX0_worstDip_0 14 rfl rfl)
theorem dX0_worstDip_15 : decode cX0_worstDip 15 = .ok (.ireturn, 1) := dk_172 (dk_at dksX0_worstDip_0 15 rfl rfl)
abbrev cX0_seenBy : ByteArray := method_21_code
def yX0_seenBy : MethodName := ⟨RX0, "seenBy", "(LOtterTrust;I[J)I"⟩
def dkwX0_seenBy_0 : List UInt8 := [44, 3, 42, 27, 182, 0, 76, 133, 80, 167, 0, 12, 78, 4, 172, 78, 5, 172, 78, 6, 172, 3, 172]
abbrev dktX0_seenBy_0 : List UInt8 := dkwX0_seenBy_0 ++ []
theorem dksX0_seenBy_0 : cX0_seenBy.data.toList.drop 0 = dktX0_seenBy_0 := by decide +kernel
theorem dX0_seenBy_0 : decode cX0_seenBy 0 = .ok (.aload_n 2, 1) := dk_44 (dk_at dksX0_seenBy_0 0 rfl rfl)
theorem dX0_seenBy_1 : decode cX0_seenBy 1 = .ok (.iconst 0, 1) := dk_3 (dk_at dksX0_seenBy_0 1 rfl rfl)
theorem dX0_seenBy_2 : decode cX0_seenBy 2 = .ok (.aload_n 0, 1) := dk_42 (dk_at dksX0_seenBy_0 2 rfl rfl)
theorem dX0_seenBy_3 : decode cX0_seenBy 3 = .ok (.iload_n 1, 1) := dk_27 (dk_at dksX0_seenBy_0 3 rfl rfl)
theorem dX0_seenBy_4 : decode cX0_seenBy 4 = .ok (.invokevirtual 76, 3) := dk_182 0 76 (dk_at dksX0_seenBy_0 4 rfl rfl)
theorem dX0_seenBy_7 : decode cX0_seenBy 7 = .ok (.i2l, 1) := dk_133 (dk_at dksX0_seenBy_0 7 rfl rfl)
theorem dX0_seenBy_8 : decode cX0_seenBy 8 = .ok (.lastore, 1) := dk_80 (dk_at dksX0_seenBy_0 8 rfl rfl)
theorem dX0_seenBy_9 : decode cX0_seenBy 9 = .ok (.goto 12, 3) := dk_167 0 12 (dk_at dksX0_seenBy_0 9 rfl rfl)
theorem dX0_seenBy_12 : decode cX0_seenBy 12 = .ok (.astore_n 3, 1) := dk_78 (dk_at dksX0_seenBy_0 12 rfl rfl)
theorem dX0_seenBy_13 : decode cX0_seenBy 13 = .ok (.iconst 1, 1) := dk_4 (dk_at dksX0_seenBy_0 13 rfl rfl)
theorem dX0_seenBy_14 : decode cX0_seenBy 14 = .ok (.ireturn, 1) := dk_172 (dk_at dksX0_seenBy_0 14 rfl rfl)
theorem dX0_seenBy_15 : decode cX0_seenBy 15 = .ok (.astore_n 3, 1) := dk_78 (dk_at dksX0_seenBy_0 15 rfl rfl)
theorem dX0_seenBy_16 : decode cX0_seenBy 16 = .ok (.iconst 2, 1) := dk_5 (dk_at dksX0_seenBy_0 16 rfl rfl)
theorem dX0_seenBy_17 : decode cX0_seenBy 17 = .ok (.ireturn, 1) := dk_172 (dk_at dksX0_seenBy_0 17 rfl rfl)
theorem dX0_seenBy_18 : decode cX0_seenBy 18 = .ok (.astore_n 3, 1) := dk_78 (dk_at dksX0_seenBy_0 18 rfl rfl)
theorem dX0_seenBy_19 : decode cX0_seenBy 19 = .ok (.iconst 3, 1) := dk_6 (dk_at dksX0_seenBy_0 19 rfl rfl)
theorem dX0_seenBy_20 : decode cX0_seenBy 20 = .ok (.ireturn, 1) := dk_172 (dk_at dksX0_seenBy_0 20 rfl rfl)
theorem dX0_seenBy_21 : decode cX0_seenBy 21 = .ok (.iconst 0, 1) := dk_3 (dk_at dksX0_seenBy_0 21 rfl rfl)
theorem dX0_seenBy_22 : decode cX0_seenBy 22 = .ok (.ireturn, 1) := dk_172 (dk_at dksX0_seenBy_0 22 rfl rfl)
abbrev cX0_busiest : ByteArray := method_22_code
def yX0_busiest : MethodName := ⟨RX0, "busiest", "(LOtterTrust;[J)I"⟩
def dkwX0_busiest_0 : List UInt8 := [43, 3, 42, 182, 0, 79, 133, 80, 167, 0, 6, 77, 4, 172, 3, 172]
abbrev dktX0_busiest_0 : List UInt8 := dkwX0_busiest_0 ++ []
theorem dksX0_busiest_0 : cX0_busiest.data.toList.drop 0 = dktX0_busiest_0 := by decide +kernel
theorem dX0_busiest_0 : decode cX0_busiest 0 = .ok (.aload_n 1, 1) := dk_43 (dk_at dksX0_busiest_0 0 rfl rfl)
theorem dX0_busiest_1 : decode cX0_busiest 1 = .ok (.iconst 0, 1) := dk_3 (dk_at dksX0_busiest_0 1 rfl rfl)
theorem dX0_busiest_2 : decode cX0_busiest 2 = .ok (.aload_n 0, 1) := dk_42 (dk_at dksX0_busiest_0 2 rfl rfl)
theorem dX0_busiest_3 : decode cX0_busiest 3 = .ok (.invokevirtual 79, 3) := dk_182 0 79 (dk_at dksX0_busiest_0 3 rfl rfl)
theorem dX0_busiest_6 : decode cX0_busiest 6 = .ok (.i2l, 1) := dk_133 (dk_at dksX0_busiest_0 6 rfl rfl)
theorem dX0_busiest_7 : decode cX0_busiest 7 = .ok (.lastore, 1) := dk_80 (dk_at dksX0_busiest_0 7 rfl rfl)
theorem dX0_busiest_8 : decode cX0_busiest 8 = .ok (.goto 6, 3) := dk_167 0 6 (dk_at dksX0_busiest_0 8 rfl rfl)
theorem dX0_busiest_11 : decode cX0_busiest 11 = .ok (.astore_n 2, 1) := dk_77 (dk_at dksX0_busiest_0 11 rfl rfl)
theorem dX0_busiest_12 : decode cX0_busiest 12 = .ok (.iconst 1, 1) := dk_4 (dk_at dksX0_busiest_0 12 rfl rfl)
theorem dX0_busiest_13 : decode cX0_busiest 13 = .ok (.ireturn, 1) := dk_172 (dk_at dksX0_busiest_0 13 rfl rfl)
theorem dX0_busiest_14 : decode cX0_busiest 14 = .ok (.iconst 0, 1) := dk_3 (dk_at dksX0_busiest_0 14 rfl rfl)
theorem dX0_busiest_15 : decode cX0_busiest 15 = .ok (.ireturn, 1) := dk_172 (dk_at dksX0_busiest_0 15 rfl rfl)
abbrev cX0_ranked : ByteArray := method_23_code
def yX0_ranked : MethodName := ⟨RX0, "ranked", "(LOtterTrust;I[J)I"⟩
def dkwX0_ranked_0 : List UInt8 := [44, 3, 42, 27, 182, 0, 82, 133, 80, 167, 0, 6, 78, 4, 172, 3, 172]
abbrev dktX0_ranked_0 : List UInt8 := dkwX0_ranked_0 ++ []
theorem dksX0_ranked_0 : cX0_ranked.data.toList.drop 0 = dktX0_ranked_0 := by decide +kernel
theorem dX0_ranked_0 : decode cX0_ranked 0 = .ok (.aload_n 2, 1) := dk_44 (dk_at dksX0_ranked_0 0 rfl rfl)
theorem dX0_ranked_1 : decode cX0_ranked 1 = .ok (.iconst 0, 1) := dk_3 (dk_at dksX0_ranked_0 1 rfl rfl)
theorem dX0_ranked_2 : decode cX0_ranked 2 = .ok (.aload_n 0, 1) := dk_42 (dk_at dksX0_ranked_0 2 rfl rfl)
theorem dX0_ranked_3 : decode cX0_ranked 3 = .ok (.iload_n 1, 1) := dk_27 (dk_at dksX0_ranked_0 3 rfl rfl)
theorem dX0_ranked_4 : decode cX0_ranked 4 = .ok (.invokevirtual 82, 3) := dk_182 0 82 (dk_at dksX0_ranked_0 4 rfl rfl)
theorem dX0_ranked_7 : decode cX0_ranked 7 = .ok (.i2l, 1) := dk_133 (dk_at dksX0_ranked_0 7 rfl rfl)
theorem dX0_ranked_8 : decode cX0_ranked 8 = .ok (.lastore, 1) := dk_80 (dk_at dksX0_ranked_0 8 rfl rfl)
theorem dX0_ranked_9 : decode cX0_ranked 9 = .ok (.goto 6, 3) := dk_167 0 6 (dk_at dksX0_ranked_0 9 rfl rfl)
theorem dX0_ranked_12 : decode cX0_ranked 12 = .ok (.astore_n 3, 1) := dk_78 (dk_at dksX0_ranked_0 12 rfl rfl)
theorem dX0_ranked_13 : decode cX0_ranked 13 = .ok (.iconst 1, 1) := dk_4 (dk_at dksX0_ranked_0 13 rfl rfl)
theorem dX0_ranked_14 : decode cX0_ranked 14 = .ok (.ireturn, 1) := dk_172 (dk_at dksX0_ranked_0 14 rfl rfl)
theorem dX0_ranked_15 : decode cX0_ranked 15 = .ok (.iconst 0, 1) := dk_3 (dk_at dksX0_ranked_0 15 rfl rfl)
theorem dX0_ranked_16 : decode cX0_ranked 16 = .ok (.ireturn, 1) := dk_172 (dk_at dksX0_ranked_0 16 rfl rfl)
abbrev cX0_feed : ByteArray := method_24_code
def yX0_feed : MethodName := ⟨RX0, "feed", "(LOtterTrust;C[J)I"⟩
def dkwX0_feed_0 : List UInt8 := [44, 3, 42, 27, 182, 0, 85, 133, 80, 167, 0, 6, 78, 4, 172, 3, 172]
abbrev dktX0_feed_0 : List UInt8 := dkwX0_feed_0 ++ []
theorem dksX0_feed_0 : cX0_feed.data.toList.drop 0 = dktX0_feed_0 := by decide +kernel
theorem dX0_feed_0 : decode cX0_feed 0 = .ok (.aload_n 2, 1) := dk_44 (dk_at dksX0_feed_0 0 rfl rfl)
theorem dX0_feed_1 : decode cX0_feed 1 = .ok (.iconst 0, 1) := dk_3 (dk_at dksX0_feed_0 1 rfl rfl)
theorem dX0_feed_2 : decode cX0_feed 2 = .ok (.aload_n 0, 1) := dk_42 (dk_at dksX0_feed_0 2 rfl rfl)
theorem dX0_feed_3 : decode cX0_feed 3 = .ok (.iload_n 1, 1) := dk_27 (dk_at dksX0_feed_0 3 rfl rfl)
theorem dX0_feed_4 : decode cX0_feed 4 = .ok (.invokevirtual 85, 3) := dk_182 0 85 (dk_at dksX0_feed_0 4 rfl rfl)
theorem dX0_feed_7 : decode cX0_feed 7 = .ok (.i2l, 1) := dk_133 (dk_at dksX0_feed_0 7 rfl rfl)
theorem dX0_feed_8 : decode cX0_feed 8 = .ok (.lastore, 1) := dk_80 (dk_at dksX0_feed_0 8 rfl rfl)
theorem dX0_feed_9 : decode cX0_feed 9 = .ok (.goto 6, 3) := dk_167 0 6 (dk_at dksX0_feed_0 9 rfl rfl)
theorem dX0_feed_12 : decode cX0_feed 12 = .ok (.astore_n 3, 1) := dk_78 (dk_at dksX0_feed_0 12 rfl rfl)
theorem dX0_feed_13 : decode cX0_feed 13 = .ok (.iconst 1, 1) := dk_4 (dk_at dksX0_feed_0 13 rfl rfl)
theorem dX0_feed_14 : decode cX0_feed 14 = .ok (.ireturn, 1) := dk_172 (dk_at dksX0_feed_0 14 rfl rfl)
theorem dX0_feed_15 : decode cX0_feed 15 = .ok (.iconst 0, 1) := dk_3 (dk_at dksX0_feed_0 15 rfl rfl)
theorem dX0_feed_16 : decode cX0_feed 16 = .ok (.ireturn, 1) := dk_172 (dk_at dksX0_feed_0 16 rfl rfl)
abbrev cX0_run : ByteArray := method_25_code
def yX0_run : MethodName := ⟨RX0, "run", "(LOtterTrust;[J)I"⟩
def dkwX0_run_0 : List UInt8 := [43, 3, 42, 182, 0, 89, 133, 80, 167, 0, 9, 77, 4, 172, 77, 5, 172, 3, 172]
abbrev dktX0_run_0 : List UInt8 := dkwX0_run_0 ++ []
theorem dksX0_run_0 : cX0_run.data.toList.drop 0 = dktX0_run_0 := by decide +kernel
theorem dX0_run_0 : decode cX0_run 0 = .ok (.aload_n 1, 1) := dk_43 (dk_at dksX0_run_0 0 rfl rfl)
theorem dX0_run_1 : decode cX0_run 1 = .ok (.iconst 0, 1) := dk_3 (dk_at dksX0_run_0 1 rfl rfl)
theorem dX0_run_2 : decode cX0_run 2 = .ok (.aload_n 0, 1) := dk_42 (dk_at dksX0_run_0 2 rfl rfl)
theorem dX0_run_3 : decode cX0_run 3 = .ok (.invokevirtual 89, 3) := dk_182 0 89 (dk_at dksX0_run_0 3 rfl rfl)
theorem dX0_run_6 : decode cX0_run 6 = .ok (.i2l, 1) := dk_133 (dk_at dksX0_run_0 6 rfl rfl)
theorem dX0_run_7 : decode cX0_run 7 = .ok (.lastore, 1) := dk_80 (dk_at dksX0_run_0 7 rfl rfl)
theorem dX0_run_8 : decode cX0_run 8 = .ok (.goto 9, 3) := dk_167 0 9 (dk_at dksX0_run_0 8 rfl rfl)
theorem dX0_run_11 : decode cX0_run 11 = .ok (.astore_n 2, 1) := dk_77 (dk_at dksX0_run_0 11 rfl rfl)
theorem dX0_run_12 : decode cX0_run 12 = .ok (.iconst 1, 1) := dk_4 (dk_at dksX0_run_0 12 rfl rfl)
theorem dX0_run_13 : decode cX0_run 13 = .ok (.ireturn, 1) := dk_172 (dk_at dksX0_run_0 13 rfl rfl)
theorem dX0_run_14 : decode cX0_run 14 = .ok (.astore_n 2, 1) := dk_77 (dk_at dksX0_run_0 14 rfl rfl)
theorem dX0_run_15 : decode cX0_run 15 = .ok (.iconst 2, 1) := dk_5 (dk_at dksX0_run_0 15 rfl rfl)
theorem dX0_run_16 : decode cX0_run 16 = .ok (.ireturn, 1) := dk_172 (dk_at dksX0_run_0 16 rfl rfl)
theorem dX0_run_17 : decode cX0_run 17 = .ok (.iconst 0, 1) := dk_3 (dk_at dksX0_run_0 17 rfl rfl)
theorem dX0_run_18 : decode cX0_run 18 = .ok (.ireturn, 1) := dk_172 (dk_at dksX0_run_0 18 rfl rfl)
abbrev cX0_faultPosition : ByteArray := method_26_code
def yX0_faultPosition : MethodName := ⟨RX0, "faultPosition", "(LOtterTrust;[J)I"⟩
def dkwX0_faultPosition_0 : List UInt8 := [43, 3, 42, 182, 0, 92, 133, 80, 167, 0, 6, 77, 4, 172, 3, 172]
abbrev dktX0_faultPosition_0 : List UInt8 := dkwX0_faultPosition_0 ++ []
theorem dksX0_faultPosition_0 : cX0_faultPosition.data.toList.drop 0 = dktX0_faultPosition_0 := by decide +kernel
theorem dX0_faultPosition_0 : decode cX0_faultPosition 0 = .ok (.aload_n 1, 1) := dk_43 (dk_at dksX0_faultPosition_0 0 rfl rfl)
theorem dX0_faultPosition_1 : decode cX0_faultPosition 1 = .ok (.iconst 0, 1) := dk_3 (dk_at dksX0_faultPosition_0 1 rfl rfl)
theorem dX0_faultPosition_2 : decode cX0_faultPosition 2 = .ok (.aload_n 0, 1) := dk_42 (dk_at dksX0_faultPosition_0 2 rfl rfl)
theorem dX0_faultPosition_3 : decode cX0_faultPosition 3 = .ok (.invokevirtual 92, 3) := dk_182 0 92 (dk_at dksX0_faultPosition_0 3 rfl rfl)
theorem dX0_faultPosition_6 : decode cX0_faultPosition 6 = .ok (.i2l, 1) := dk_133 (dk_at dksX0_faultPosition_0 6 rfl rfl)
theorem dX0_faultPosition_7 : decode cX0_faultPosition 7 = .ok (.lastore, 1) := dk_80 (dk_at dksX0_faultPosition_0 7 rfl rfl)
theorem dX0_faultPosition_8 : decode cX0_faultPosition 8 = .ok (.goto 6, 3) := dk_167 0 6 (dk_at dksX0_faultPosition_0 8 rfl rfl)
theorem dX0_faultPosition_11 : decode cX0_faultPosition 11 = .ok (.astore_n 2, 1) := dk_77 (dk_at dksX0_faultPosition_0 11 rfl rfl)
theorem dX0_faultPosition_12 : decode cX0_faultPosition 12 = .ok (.iconst 1, 1) := dk_4 (dk_at dksX0_faultPosition_0 12 rfl rfl)
theorem dX0_faultPosition_13 : decode cX0_faultPosition 13 = .ok (.ireturn, 1) := dk_172 (dk_at dksX0_faultPosition_0 13 rfl rfl)
theorem dX0_faultPosition_14 : decode cX0_faultPosition 14 = .ok (.iconst 0, 1) := dk_3 (dk_at dksX0_faultPosition_0 14 rfl rfl)
theorem dX0_faultPosition_15 : decode cX0_faultPosition 15 = .ok (.ireturn, 1) := dk_172 (dk_at dksX0_faultPosition_0 15 rfl rfl)
abbrev cX0_reason : ByteArray := method_27_code
def yX0_reason : MethodName := ⟨RX0, "reason", "(LOtterTrust;I[J)I"⟩
def dkwX0_reason_0 : List UInt8 := [44, 3, 42, 27, 182, 0, 95, 133, 80, 167, 0, 9, 78, 4, 172, 78, 5, 172, 3, 172]
abbrev dktX0_reason_0 : List UInt8 := dkwX0_reason_0 ++ []
theorem dksX0_reason_0 : cX0_reason.data.toList.drop 0 = dktX0_reason_0 := by decide +kernel
theorem dX0_reason_0 : decode cX0_reason 0 = .ok (.aload_n 2, 1) := dk_44 (dk_at dksX0_reason_0 0 rfl rfl)
theorem dX0_reason_1 : decode cX0_reason 1 = .ok (.iconst 0, 1) := dk_3 (dk_at dksX0_reason_0 1 rfl rfl)
theorem dX0_reason_2 : decode cX0_reason 2 = .ok (.aload_n 0, 1) := dk_42 (dk_at dksX0_reason_0 2 rfl rfl)
theorem dX0_reason_3 : decode cX0_reason 3 = .ok (.iload_n 1, 1) := dk_27 (dk_at dksX0_reason_0 3 rfl rfl)
theorem dX0_reason_4 : decode cX0_reason 4 = .ok (.invokevirtual 95, 3) := dk_182 0 95 (dk_at dksX0_reason_0 4 rfl rfl)
theorem dX0_reason_7 : decode cX0_reason 7 = .ok (.i2l, 1) := dk_133 (dk_at dksX0_reason_0 7 rfl rfl)
theorem dX0_reason_8 : decode cX0_reason 8 = .ok (.lastore, 1) := dk_80 (dk_at dksX0_reason_0 8 rfl rfl)
theorem dX0_reason_9 : decode cX0_reason 9 = .ok (.goto 9, 3) := dk_167 0 9 (dk_at dksX0_reason_0 9 rfl rfl)
theorem dX0_reason_12 : decode cX0_reason 12 = .ok (.astore_n 3, 1) := dk_78 (dk_at dksX0_reason_0 12 rfl rfl)
theorem dX0_reason_13 : decode cX0_reason 13 = .ok (.iconst 1, 1) := dk_4 (dk_at dksX0_reason_0 13 rfl rfl)
theorem dX0_reason_14 : decode cX0_reason 14 = .ok (.ireturn, 1) := dk_172 (dk_at dksX0_reason_0 14 rfl rfl)
theorem dX0_reason_15 : decode cX0_reason 15 = .ok (.astore_n 3, 1) := dk_78 (dk_at dksX0_reason_0 15 rfl rfl)
theorem dX0_reason_16 : decode cX0_reason 16 = .ok (.iconst 2, 1) := dk_5 (dk_at dksX0_reason_0 16 rfl rfl)
theorem dX0_reason_17 : decode cX0_reason 17 = .ok (.ireturn, 1) := dk_172 (dk_at dksX0_reason_0 17 rfl rfl)
theorem dX0_reason_18 : decode cX0_reason 18 = .ok (.iconst 0, 1) := dk_3 (dk_at dksX0_reason_0 18 rfl rfl)
theorem dX0_reason_19 : decode cX0_reason 19 = .ok (.ireturn, 1) := dk_172 (dk_at dksX0_reason_0 19 rfl rfl)
abbrev cX0_character : ByteArray := method_28_code
def yX0_character : MethodName := ⟨RX0, "character", "(LOtterTrust;I[J)I"⟩
def dkwX0_character_0 : List UInt8 := [44, 3, 42, 27, 182, 0, 98, 133, 80, 167, 0, 6, 78, 4, 172, 3, 172]
abbrev dktX0_character_0 : List UInt8 := dkwX0_character_0 ++ []
theorem dksX0_character_0 : cX0_character.data.toList.drop 0 = dktX0_character_0 := by decide +kernel
theorem dX0_character_0 : decode cX0_character 0 = .ok (.aload_n 2, 1) := dk_44 (dk_at dksX0_character_0 0 rfl rfl)
theorem dX0_character_1 : decode cX0_character 1 = .ok (.iconst 0, 1) := dk_3 (dk_at dksX0_character_0 1 rfl rfl)
theorem dX0_character_2 : decode cX0_character 2 = .ok (.aload_n 0, 1) := dk_42 (dk_at dksX0_character_0 2 rfl rfl)
theorem dX0_character_3 : decode cX0_character 3 = .ok (.iload_n 1, 1) := dk_27 (dk_at dksX0_character_0 3 rfl rfl)
theorem dX0_character_4 : decode cX0_character 4 = .ok (.invokevirtual 98, 3) := dk_182 0 98 (dk_at dksX0_character_0 4 rfl rfl)
theorem dX0_character_7 : decode cX0_character 7 = .ok (.i2l, 1) := dk_133 (dk_at dksX0_character_0 7 rfl rfl)
theorem dX0_character_8 : decode cX0_character 8 = .ok (.lastore, 1) := dk_80 (dk_at dksX0_character_0 8 rfl rfl)
theorem dX0_character_9 : decode cX0_character 9 = .ok (.goto 6, 3) := dk_167 0 6 (dk_at dksX0_character_0 9 rfl rfl)
theorem dX0_character_12 : decode cX0_character 12 = .ok (.astore_n 3, 1) := dk_78 (dk_at dksX0_character_0 12 rfl rfl)
theorem dX0_character_13 : decode cX0_character 13 = .ok (.iconst 1, 1) := dk_4 (dk_at dksX0_character_0 13 rfl rfl)
theorem dX0_character_14 : decode cX0_character 14 = .ok (.ireturn, 1) := dk_172 (dk_at dksX0_character_0 14 rfl rfl)
theorem dX0_character_15 : decode cX0_character 15 = .ok (.iconst 0, 1) := dk_3 (dk_at dksX0_character_0 15 rfl rfl)
theorem dX0_character_16 : decode cX0_character 16 = .ok (.ireturn, 1) := dk_172 (dk_at dksX0_character_0 16 rfl rfl)
abbrev cX0_meanQuality : ByteArray := method_29_code
def yX0_meanQuality : MethodName := ⟨RX0, "meanQuality", "(LOtterTrust;[D)I"⟩
def dkwX0_meanQuality_0 : List UInt8 := [43, 3, 42, 182, 0, 102, 82, 167, 0, 6, 77, 4, 172, 3, 172]
abbrev dktX0_meanQuality_0 : List UInt8 := dkwX0_meanQuality_0 ++ []
theorem dksX0_meanQuality_0 : cX0_meanQuality.data.toList.drop 0 = dktX0_meanQuality_0 := by decide +kernel
theorem dX0_meanQuality_0 : decode cX0_meanQuality 0 = .ok (.aload_n 1, 1) := dk_43 (dk_at dksX0_meanQuality_0 0 rfl rfl)
theorem dX0_meanQuality_1 : decode cX0_meanQuality 1 = .ok (.iconst 0, 1) := dk_3 (dk_at dksX0_meanQuality_0 1 rfl rfl)
theorem dX0_meanQuality_2 : decode cX0_meanQuality 2 = .ok (.aload_n 0, 1) := dk_42 (dk_at dksX0_meanQuality_0 2 rfl rfl)
theorem dX0_meanQuality_3 : decode cX0_meanQuality 3 = .ok (.invokevirtual 102, 3) := dk_182 0 102 (dk_at dksX0_meanQuality_0 3 rfl rfl)
theorem dX0_meanQuality_6 : decode cX0_meanQuality 6 = .ok (.dastore, 1) := dk_82 (dk_at dksX0_meanQuality_0 6 rfl rfl)
theorem dX0_meanQuality_7 : decode cX0_meanQuality 7 = .ok (.goto 6, 3) := dk_167 0 6 (dk_at dksX0_meanQuality_0 7 rfl rfl)
theorem dX0_meanQuality_10 : decode cX0_meanQuality 10 = .ok (.astore_n 2, 1) := dk_77 (dk_at dksX0_meanQuality_0 10 rfl rfl)
theorem dX0_meanQuality_11 : decode cX0_meanQuality 11 = .ok (.iconst 1, 1) := dk_4 (dk_at dksX0_meanQuality_0 11 rfl rfl)
theorem dX0_meanQuality_12 : decode cX0_meanQuality 12 = .ok (.ireturn, 1) := dk_172 (dk_at dksX0_meanQuality_0 12 rfl rfl)
theorem dX0_meanQuality_13 : decode cX0_meanQuality 13 = .ok (.iconst 0, 1) := dk_3 (dk_at dksX0_meanQuality_0 13 rfl rfl)
theorem dX0_meanQuality_14 : decode cX0_meanQuality 14 = .ok (.ireturn, 1) := dk_172 (dk_at dksX0_meanQuality_0 14 rfl rfl)
abbrev cX0_countedShare : ByteArray := method_30_code
def yX0_countedShare : MethodName := ⟨RX0, "countedShare", "(LOtterTrust;[D)I"⟩
def dkwX0_countedShare_0 : List UInt8 := [43, 3, 42, 182, 0, 108, 141, 82, 167, 0, 6, 77, 4, 172, 3, 172]
abbrev dktX0_countedShare_0 : List UInt8 := dkwX0_countedShare_0 ++ []
theorem dksX0_countedShare_0 : cX0_countedShare.data.toList.drop 0 = dktX0_countedShare_0 := by decide +kernel
theorem dX0_countedShare_0 : decode cX0_countedShare 0 = .ok (.aload_n 1, 1) := dk_43 (dk_at dksX0_countedShare_0 0 rfl rfl)
theorem dX0_countedShare_1 : decode cX0_countedShare 1 = .ok (.iconst 0, 1) := dk_3 (dk_at dksX0_countedShare_0 1 rfl rfl)
theorem dX0_countedShare_2 : decode cX0_countedShare 2 = .ok (.aload_n 0, 1) := dk_42 (dk_at dksX0_countedShare_0 2 rfl rfl)
theorem dX0_countedShare_3 : decode cX0_countedShare 3 = .ok (.invokevirtual 108, 3) := dk_182 0 108 (dk_at dksX0_countedShare_0 3 rfl rfl)
theorem dX0_countedShare_6 : decode cX0_countedShare 6 = .ok (.f2d, 1) := dk_141 (dk_at dksX0_countedShare_0 6 rfl rfl)
theorem dX0_countedShare_7 : decode cX0_countedShare 7 = .ok (.dastore, 1) := dk_82 (dk_at dksX0_countedShare_0 7 rfl rfl)
theorem dX0_countedShare_8 : decode cX0_countedShare 8 = .ok (.goto 6, 3) := dk_167 0 6 (dk_at dksX0_countedShare_0 8 rfl rfl)
theorem dX0_countedShare_11 : decode cX0_countedShare 11 = .ok (.astore_n 2, 1) := dk_77 (dk_at dksX0_countedShare_0 11 rfl rfl)
theorem dX0_countedShare_12 : decode cX0_countedShare 12 = .ok (.iconst 1, 1) := dk_4 (dk_at dksX0_countedShare_0 12 rfl rfl)
theorem dX0_countedShare_13 : decode cX0_countedShare 13 = .ok (.ireturn, 1) := dk_172 (dk_at dksX0_countedShare_0 13 rfl rfl)
theorem dX0_countedShare_14 : decode cX0_countedShare 14 = .ok (.iconst 0, 1) := dk_3 (dk_at dksX0_countedShare_0 14 rfl rfl)
theorem dX0_countedShare_15 : decode cX0_countedShare 15 = .ok (.ireturn, 1) := dk_172 (dk_at dksX0_countedShare_0 15 rfl rfl)
abbrev cX0_account : ByteArray := method_31_code
def yX0_account : MethodName := ⟨RX0, "account", "(LOtterTrust;I[J)I"⟩
def dkwX0_account_0 : List UInt8 := [44, 3, 42, 27, 182, 0, 112, 133, 80, 167, 0, 6, 78, 4, 172, 3, 172]
abbrev dktX0_account_0 : List UInt8 := dkwX0_account_0 ++ []
theorem dksX0_account_0 : cX0_account.data.toList.drop 0 = dktX0_account_0 := by decide +kernel
theorem dX0_account_0 : decode cX0_account 0 = .ok (.aload_n 2, 1) := dk_44 (dk_at dksX0_account_0 0 rfl rfl)
theorem dX0_account_1 : decode cX0_account 1 = .ok (.iconst 0, 1) := dk_3 (dk_at dksX0_account_0 1 rfl rfl)
theorem dX0_account_2 : decode cX0_account 2 = .ok (.aload_n 0, 1) := dk_42 (dk_at dksX0_account_0 2 rfl rfl)
theorem dX0_account_3 : decode cX0_account 3 = .ok (.iload_n 1, 1) := dk_27 (dk_at dksX0_account_0 3 rfl rfl)
theorem dX0_account_4 : decode cX0_account 4 = .ok (.invokevirtual 112, 3) := dk_182 0 112 (dk_at dksX0_account_0 4 rfl rfl)
theorem dX0_account_7 : decode cX0_account 7 = .ok (.i2l, 1) := dk_133 (dk_at dksX0_account_0 7 rfl rfl)
theorem dX0_account_8 : decode cX0_account 8 = .ok (.lastore, 1) := dk_80 (dk_at dksX0_account_0 8 rfl rfl)
theorem dX0_account_9 : decode cX0_account 9 = .ok (.goto 6, 3) := dk_167 0 6 (dk_at dksX0_account_0 9 rfl rfl)
theorem dX0_account_12 : decode cX0_account 12 = .ok (.astore_n 3, 1) := dk_78 (dk_at dksX0_account_0 12 rfl rfl)
theorem dX0_account_13 : decode cX0_account 13 = .ok (.iconst 1, 1) := dk_4 (dk_at dksX0_account_0 13 rfl rfl)
theorem dX0_account_14 : decode cX0_account 14 = .ok (.ireturn, 1) := dk_172 (dk_at dksX0_account_0 14 rfl rfl)
theorem dX0_account_15 : decode cX0_account 15 = .ok (.iconst 0, 1) := dk_3 (dk_at dksX0_account_0 15 rfl rfl)
theorem dX0_account_16 : decode cX0_account 16 = .ok (.ireturn, 1) := dk_172 (dk_at dksX0_account_0 16 rfl rfl)
abbrev cX0_undo : ByteArray := method_32_code
def yX0_undo : MethodName := ⟨RX0, "undo", "(LOtterTrust;[J)I"⟩
def dkwX0_undo_0 : List UInt8 := [43, 3, 42, 182, 0, 115, 133, 80, 167, 0, 6, 77, 4, 172, 3, 172]
abbrev dktX0_undo_0 : List UInt8 := dkwX0_undo_0 ++ []
theorem dksX0_undo_0 : cX0_undo.data.toList.drop 0 = dktX0_undo_0 := by decide +kernel
theorem dX0_undo_0 : decode cX0_undo 0 = .ok (.aload_n 1, 1) := dk_43 (dk_at dksX0_undo_0 0 rfl rfl)
theorem dX0_undo_1 : decode cX0_undo 1 = .ok (.iconst 0, 1) := dk_3 (dk_at dksX0_undo_0 1 rfl rfl)
theorem dX0_undo_2 : decode cX0_undo 2 = .ok (.aload_n 0, 1) := dk_42 (dk_at dksX0_undo_0 2 rfl rfl)
theorem dX0_undo_3 : decode cX0_undo 3 = .ok (.invokevirtual 115, 3) := dk_182 0 115 (dk_at dksX0_undo_0 3 rfl rfl)
theorem dX0_undo_6 : decode cX0_undo 6 = .ok (.i2l, 1) := dk_133 (dk_at dksX0_undo_0 6 rfl rfl)
theorem dX0_undo_7 : decode cX0_undo 7 = .ok (.lastore, 1) := dk_80 (dk_at dksX0_undo_0 7 rfl rfl)
theorem dX0_undo_8 : decode cX0_undo 8 = .ok (.goto 6, 3) := dk_167 0 6 (dk_at dksX0_undo_0 8 rfl rfl)
theorem dX0_undo_11 : decode cX0_undo 11 = .ok (.astore_n 2, 1) := dk_77 (dk_at dksX0_undo_0 11 rfl rfl)
theorem dX0_undo_12 : decode cX0_undo 12 = .ok (.iconst 1, 1) := dk_4 (dk_at dksX0_undo_0 12 rfl rfl)
theorem dX0_undo_13 : decode cX0_undo 13 = .ok (.ireturn, 1) := dk_172 (dk_at dksX0_undo_0 13 rfl rfl)
theorem dX0_undo_14 : decode cX0_undo 14 = .ok (.iconst 0, 1) := dk_3 (dk_at dksX0_undo_0 14 rfl rfl)
theorem dX0_undo_15 : decode cX0_undo 15 = .ok (.ireturn, 1) := dk_172 (dk_at dksX0_undo_0 15 rfl rfl)
abbrev cX0_restore : ByteArray := method_33_code
def yX0_restore : MethodName := ⟨RX0, "restore", "(LOtterTrust;[J)I"⟩
def dkwX0_restore_0 : List UInt8 := [43, 3, 42, 182, 0, 118, 133, 80, 167, 0, 6, 77, 4, 172, 3, 172]
abbrev dktX0_restore_0 : List UInt8 := dkwX0_restore_0 ++ []
theorem dksX0_restore_0 : cX0_restore.data.toList.drop 0 = dktX0_restore_0 := by decide +kernel
theorem dX0_restore_0 : decode cX0_restore 0 = .ok (.aload_n 1, 1) := dk_43 (dk_at dksX0_restore_0 0 rfl rfl)
theorem dX0_restore_1 : decode cX0_restore 1 = .ok (.iconst 0, 1) := dk_3 (dk_at dksX0_restore_0 1 rfl rfl)
theorem dX0_restore_2 : decode cX0_restore 2 = .ok (.aload_n 0, 1) := dk_42 (dk_at dksX0_restore_0 2 rfl rfl)
theorem dX0_restore_3 : decode cX0_restore 3 = .ok (.invokevirtual 118, 3) := dk_182 0 118 (dk_at dksX0_restore_0 3 rfl rfl)
theorem dX0_restore_6 : decode cX0_restore 6 = .ok (.i2l, 1) := dk_133 (dk_at dksX0_restore_0 6 rfl rfl)
theorem dX0_restore_7 : decode cX0_restore 7 = .ok (.lastore, 1) := dk_80 (dk_at dksX0_restore_0 7 rfl rfl)
theorem dX0_restore_8 : decode cX0_restore 8 = .ok (.goto 6, 3) := dk_167 0 6 (dk_at dksX0_restore_0 8 rfl rfl)
theorem dX0_restore_11 : decode cX0_restore 11 = .ok (.astore_n 2, 1) := dk_77 (dk_at dksX0_restore_0 11 rfl rfl)
theorem dX0_restore_12 : decode cX0_restore 12 = .ok (.iconst 1, 1) := dk_4 (dk_at dksX0_restore_0 12 rfl rfl)
theorem dX0_restore_13 : decode cX0_restore 13 = .ok (.ireturn, 1) := dk_172 (dk_at dksX0_restore_0 13 rfl rfl)
theorem dX0_restore_14 : decode cX0_restore 14 = .ok (.iconst 0, 1) := dk_3 (dk_at dksX0_restore_0 14 rfl rfl)
theorem dX0_restore_15 : decode cX0_restore 15 = .ok (.ireturn, 1) := dk_172 (dk_at dksX0_restore_0 15 rfl rfl)
theorem q90 : (Jvm.Cond.initialized "OtterTrustLaw") ∈ lw_all := lw_g (lw_at lw_m1 0 rfl) rfl
theorem q141 : (Jvm.Cond.classLink "OtterTrustLaw" (8 : Nat) "OtterTrust") ∈ lw_all := lw_g (lw_at lw_m1 51 rfl) rfl
theorem q143 : (Jvm.Cond.methodLink "OtterTrustLaw" (121 : Nat) ({ cls := "OtterTrust", name := "<init>", desc := "()V" } : Jvm.MethodName)) ∈ lw_all := lw_g (lw_at lw_m1 53 rfl) rfl
theorem q333 : (Jvm.Cond.methodLink "OtterTrustLaw" (159 : Nat) ({ cls := "OtterTrust", name := "census", desc := "()I" } : Jvm.MethodName)) ∈ lw_all := lw_g (lw_at lw_m2 3 rfl) rfl
theorem q1363 : (Jvm.Cond.methodLink "OtterTrustLaw" (191 : Nat) ({ cls := "OtterTrust", name := "unseen", desc := "()I" } : Jvm.MethodName)) ∈ lw_all := lw_g (lw_at lw_m6 73 rfl) rfl
theorem q1371 : (Jvm.Cond.methodLink "OtterTrustLaw" (195 : Nat) ({ cls := "OtterTrust", name := "lonely", desc := "()I" } : Jvm.MethodName)) ∈ lw_all := lw_g (lw_at lw_m6 81 rfl) rfl
theorem q1381 : (Jvm.Cond.methodLink "OtterTrustLaw" (199 : Nat) ({ cls := "OtterTrust", name := "safeLevel", desc := "()I" } : Jvm.MethodName)) ∈ lw_all := lw_g (lw_at lw_m6 91 rfl) rfl
theorem q1387 : (Jvm.Cond.methodLink "OtterTrustLaw" (225 : Nat) ({ cls := "OtterTrust", name := "line", desc := "()I" } : Jvm.MethodName)) ∈ lw_all := lw_g (lw_at lw_m6 97 rfl) rfl
theorem q1417 : (Jvm.Cond.methodLink "OtterTrustLaw" (242 : Nat) ({ cls := "OtterTrust", name := "countedAgain", desc := "()I" } : Jvm.MethodName)) ∈ lw_all := lw_g (lw_at lw_m6 127 rfl) rfl
theorem q1431 : (Jvm.Cond.methodLink "OtterTrustLaw" (249 : Nat) ({ cls := "OtterTrust", name := "save", desc := "()I" } : Jvm.MethodName)) ∈ lw_all := lw_g (lw_at lw_m6 141 rfl) rfl
theorem q1435 : (Jvm.Cond.methodLink "OtterTrustLaw" (125 : Nat) ({ cls := "OtterTrustLaw", name := "reach", desc := "(LOtterTrust;II[J)I" } : Jvm.MethodName)) ∈ lw_all := lw_g (lw_at lw_m6 145 rfl) rfl
theorem q1436 : (Jvm.Cond.static ({ cls := "OtterTrustLaw", name := "reach", desc := "(LOtterTrust;II[J)I" } : Jvm.MethodName)) ∈ lw_all := lw_g (lw_at lw_m6 146 rfl) rfl
theorem q1437 : (Jvm.Cond.codeWith ({ cls := "OtterTrustLaw", name := "reach", desc := "(LOtterTrust;II[J)I" } : Jvm.MethodName) method_3_code (5 : Nat) (Option.some Jvm.ClassFile.FieldType.int) [((0 : Nat), (10 : Nat), (13 : Nat), (13 : Nat))]) ∈ lw_all := lw_g (lw_at lw_m6 147 rfl) rfl
theorem q1438 : (Jvm.Cond.classLink "OtterTrustLaw" (13 : Nat) "java/lang/UnsupportedOperationException") ∈ lw_all := lw_g (lw_at lw_m6 148 rfl) rfl
theorem q1439 : (Jvm.Cond.methodLink "OtterTrustLaw" (7 : Nat) ({ cls := "OtterTrust", name := "reach", desc := "(II)I" } : Jvm.MethodName)) ∈ lw_all := lw_g (lw_at lw_m6 149 rfl) rfl
theorem q1443 : (Jvm.Cond.methodLink "OtterTrustLaw" (134 : Nat) ({ cls := "OtterTrustLaw", name := "holt", desc := "(LOtterTrust;I[J)I" } : Jvm.MethodName)) ∈ lw_all := lw_g (lw_at lw_m6 153 rfl) rfl
theorem q1444 : (Jvm.Cond.static ({ cls := "OtterTrustLaw", name := "holt", desc := "(LOtterTrust;I[J)I" } : Jvm.MethodName)) ∈ lw_all := lw_g (lw_at lw_m6 154 rfl) rfl
theorem q1445 : (Jvm.Cond.codeWith ({ cls := "OtterTrustLaw", name := "holt", desc := "(LOtterTrust;I[J)I" } : Jvm.MethodName) method_4_code (4 : Nat) (Option.some Jvm.ClassFile.FieldType.int) [((0 : Nat), (9 : Nat), (12 : Nat), (13 : Nat))]) ∈ lw_all := lw_g (lw_at lw_m6 155 rfl) rfl
theorem q1446 : (Jvm.Cond.methodLink "OtterTrustLaw" (15 : Nat) ({ cls := "OtterTrust", name := "holt", desc := "(I)I" } : Jvm.MethodName)) ∈ lw_all := lw_g (lw_at lw_m6 156 rfl) rfl
theorem q1450 : (Jvm.Cond.methodLink "OtterTrustLaw" (138 : Nat) ({ cls := "OtterTrustLaw", name := "otter", desc := "(LOtterTrust;I[J)I" } : Jvm.MethodName)) ∈ lw_all := lw_g (lw_at lw_m6 160 rfl) rfl
theorem q1451 : (Jvm.Cond.static ({ cls := "OtterTrustLaw", name := "otter", desc := "(LOtterTrust;I[J)I" } : Jvm.MethodName)) ∈ lw_all := lw_g (lw_at lw_m6 161 rfl) rfl
theorem q1452 : (Jvm.Cond.codeWith ({ cls := "OtterTrustLaw", name := "otter", desc := "(LOtterTrust;I[J)I" } : Jvm.MethodName) method_5_code (4 : Nat) (Option.some Jvm.ClassFile.FieldType.int) [((0 : Nat), (9 : Nat), (12 : Nat), (13 : Nat))]) ∈ lw_all := lw_g (lw_at lw_m6 162 rfl) rfl
theorem q1453 : (Jvm.Cond.methodLink "OtterTrustLaw" (19 : Nat) ({ cls := "OtterTrust", name := "otter", desc := "(I)I" } : Jvm.MethodName)) ∈ lw_all := lw_g (lw_at lw_m6 163 rfl) rfl
theorem q1457 : (Jvm.Cond.methodLink "OtterTrustLaw" (141 : Nat) ({ cls := "OtterTrustLaw", name := "volunteer", desc := "(LOtterTrust;II[J)I" } : Jvm.MethodName)) ∈ lw_all := lw_g (lw_at lw_m6 167 rfl) rfl
theorem q1458 : (Jvm.Cond.static ({ cls := "OtterTrustLaw", name := "volunteer", desc := "(LOtterTrust;II[J)I" } : Jvm.MethodName)) ∈ lw_all := lw_g (lw_at lw_m6 168 rfl) rfl
theorem q1459 : (Jvm.Cond.codeWith ({ cls := "OtterTrustLaw", name := "volunteer", desc := "(LOtterTrust;II[J)I" } : Jvm.MethodName) method_6_code (5 : Nat) (Option.some Jvm.ClassFile.FieldType.int) [((0 : Nat), (10 : Nat), (13 : Nat), (13 : Nat))]) ∈ lw_all := lw_g (lw_at lw_m6 169 rfl) rfl
theorem q1460 : (Jvm.Cond.methodLink "OtterTrustLaw" (22 : Nat) ({ cls := "OtterTrust", name := "volunteer", desc := "(II)I" } : Jvm.MethodName)) ∈ lw_all := lw_g (lw_at lw_m6 170 rfl) rfl
theorem q1464 : (Jvm.Cond.methodLink "OtterTrustLaw" (144 : Nat) ({ cls := "OtterTrustLaw", name := "level", desc := "(LOtterTrust;I[J)I" } : Jvm.MethodName)) ∈ lw_all := lw_g (lw_at lw_m6 174 rfl) rfl
theorem q1465 : (Jvm.Cond.static ({ cls := "OtterTrustLaw", name := "level", desc := "(LOtterTrust;I[J)I" } : Jvm.MethodName)) ∈ lw_all := lw_g (lw_at lw_m6 175 rfl) rfl
theorem q1466 : (Jvm.Cond.codeWith ({ cls := "OtterTrustLaw", name := "level", desc := "(LOtterTrust;I[J)I" } : Jvm.MethodName) method_7_code (4 : Nat) (Option.some Jvm.ClassFile.FieldType.int) [((0 : Nat), (9 : Nat), (12 : Nat), (13 : Nat))]) ∈ lw_all := lw_g (lw_at lw_m6 176 rfl) rfl
theorem q1467 : (Jvm.Cond.methodLink "OtterTrustLaw" (25 : Nat) ({ cls := "OtterTrust", name := "level", desc := "(I)I" } : Jvm.MethodName)) ∈ lw_all := lw_g (lw_at lw_m6 177 rfl) rfl
theorem q1471 : (Jvm.Cond.methodLink "OtterTrustLaw" (147 : Nat) ({ cls := "OtterTrustLaw", name := "give", desc := "(LOtterTrust;I[J)I" } : Jvm.MethodName)) ∈ lw_all := lw_g (lw_at lw_m6 181 rfl) rfl
theorem q1472 : (Jvm.Cond.static ({ cls := "OtterTrustLaw", name := "give", desc := "(LOtterTrust;I[J)I" } : Jvm.MethodName)) ∈ lw_all := lw_g (lw_at lw_m6 182 rfl) rfl
theorem q1473 : (Jvm.Cond.codeWith ({ cls := "OtterTrustLaw", name := "give", desc := "(LOtterTrust;I[J)I" } : Jvm.MethodName) method_8_code (4 : Nat) (Option.some Jvm.ClassFile.FieldType.int) [((0 : Nat), (9 : Nat), (12 : Nat), (13 : Nat))]) ∈ lw_all := lw_g (lw_at lw_m6 183 rfl) rfl
theorem q1474 : (Jvm.Cond.methodLink "OtterTrustLaw" (28 : Nat) ({ cls := "OtterTrust", name := "give", desc := "(I)I" } : Jvm.MethodName)) ∈ lw_all := lw_g (lw_at lw_m6 184 rfl) rfl
theorem q1478 : (Jvm.Cond.methodLink "OtterTrustLaw" (150 : Nat) ({ cls := "OtterTrustLaw", name := "shut", desc := "(LOtterTrust;I[J)I" } : Jvm.MethodName)) ∈ lw_all := lw_g (lw_at lw_m6 188 rfl) rfl
theorem q1479 : (Jvm.Cond.static ({ cls := "OtterTrustLaw", name := "shut", desc := "(LOtterTrust;I[J)I" } : Jvm.MethodName)) ∈ lw_all := lw_g (lw_at lw_m6 189 rfl) rfl
theorem q1480 : (Jvm.Cond.codeWith ({ cls := "OtterTrustLaw", name := "shut", desc := "(LOtterTrust;I[J)I" } : Jvm.MethodName) method_9_code (4 : Nat) (Option.some Jvm.ClassFile.FieldType.int) [((0 : Nat), (9 : Nat), (12 : Nat), (13 : Nat))]) ∈ lw_all := lw_g (lw_at lw_m6 190 rfl) rfl
theorem q1481 : (Jvm.Cond.methodLink "OtterTrustLaw" (31 : Nat) ({ cls := "OtterTrust", name := "shut", desc := "(I)I" } : Jvm.MethodName)) ∈ lw_all := lw_g (lw_at lw_m6 191 rfl) rfl
theorem q1485 : (Jvm.Cond.methodLink "OtterTrustLaw" (153 : Nat) ({ cls := "OtterTrustLaw", name := "pass", desc := "(LOtterTrust;I[J)I" } : Jvm.MethodName)) ∈ lw_all := lw_g (lw_at lw_m6 195 rfl) rfl
theorem q1486 : (Jvm.Cond.static ({ cls := "OtterTrustLaw", name := "pass", desc := "(LOtterTrust;I[J)I" } : Jvm.MethodName)) ∈ lw_all := lw_g (lw_at lw_m6 196 rfl) rfl
theorem q1487 : (Jvm.Cond.codeWith ({ cls := "OtterTrustLaw", name := "pass", desc := "(LOtterTrust;I[J)I" } : Jvm.MethodName) method_10_code (4 : Nat) (Option.some Jvm.ClassFile.FieldType.int) [((0 : Nat), (9 : Nat), (12 : Nat), (13 : Nat))]) ∈ lw_all := lw_g (lw_at lw_m6 197 rfl) rfl
theorem q1488 : (Jvm.Cond.methodLink "OtterTrustLaw" (34 : Nat) ({ cls := "OtterTrust", name := "pass", desc := "(I)I" } : Jvm.MethodName)) ∈ lw_all := lw_g (lw_at lw_m6 198 rfl) rfl
theorem q1492 : (Jvm.Cond.methodLink "OtterTrustLaw" (156 : Nat) ({ cls := "OtterTrustLaw", name := "walk", desc := "(LOtterTrust;I[J)I" } : Jvm.MethodName)) ∈ lw_all := lw_g (lw_at lw_m6 202 rfl) rfl
theorem q1493 : (Jvm.Cond.static ({ cls := "OtterTrustLaw", name := "walk", desc := "(LOtterTrust;I[J)I" } : Jvm.MethodName)) ∈ lw_all := lw_g (lw_at lw_m6 203 rfl) rfl
theorem q1494 : (Jvm.Cond.codeWith ({ cls := "OtterTrustLaw", name := "walk", desc := "(LOtterTrust;I[J)I" } : Jvm.MethodName) method_11_code (4 : Nat) (Option.some Jvm.ClassFile.FieldType.int) [((0 : Nat), (9 : Nat), (12 : Nat), (13 : Nat))]) ∈ lw_all := lw_g (lw_at lw_m6 204 rfl) rfl
theorem q1495 : (Jvm.Cond.methodLink "OtterTrustLaw" (37 : Nat) ({ cls := "OtterTrust", name := "walk", desc := "(I)I" } : Jvm.MethodName)) ∈ lw_all := lw_g (lw_at lw_m6 205 rfl) rfl
theorem q1499 : (Jvm.Cond.methodLink "OtterTrustLaw" (163 : Nat) ({ cls := "OtterTrustLaw", name := "reachOf", desc := "(LOtterTrust;II[J)I" } : Jvm.MethodName)) ∈ lw_all := lw_g (lw_at lw_m6 209 rfl) rfl
theorem q1500 : (Jvm.Cond.static ({ cls := "OtterTrustLaw", name := "reachOf", desc := "(LOtterTrust;II[J)I" } : Jvm.MethodName)) ∈ lw_all := lw_g (lw_at lw_m6 210 rfl) rfl
theorem q1501 : (Jvm.Cond.codeWith ({ cls := "OtterTrustLaw", name := "reachOf", desc := "(LOtterTrust;II[J)I" } : Jvm.MethodName) method_12_code (5 : Nat) (Option.some Jvm.ClassFile.FieldType.int) [((0 : Nat), (10 : Nat), (13 : Nat), (43 : Nat)), ((0 : Nat), (10 : Nat), (17 : Nat), (45 : Nat))]) ∈ lw_all := lw_g (lw_at lw_m6 211 rfl) rfl
theorem q1502 : (Jvm.Cond.classLink "OtterTrustLaw" (43 : Nat) "java/lang/IndexOutOfBoundsException") ∈ lw_all := lw_g (lw_at lw_m6 212 rfl) rfl
theorem q1518 : (Jvm.Cond.classLink "OtterTrustLaw" (45 : Nat) "java/lang/IllegalArgumentException") ∈ lw_all := lw_g (lw_at lw_m6 228 rfl) rfl
theorem q1519 : (Jvm.Cond.methodLink "OtterTrustLaw" (40 : Nat) ({ cls := "OtterTrust", name := "reachOf", desc := "(II)I" } : Jvm.MethodName)) ∈ lw_all := lw_g (lw_at lw_m6 229 rfl) rfl
theorem q1541 : (Jvm.Cond.methodLink "OtterTrustLaw" (166 : Nat) ({ cls := "OtterTrustLaw", name := "otterOf", desc := "(LOtterTrust;II[J)I" } : Jvm.MethodName)) ∈ lw_all := lw_g (lw_at lw_m7 11 rfl) rfl
theorem q1542 : (Jvm.Cond.static ({ cls := "OtterTrustLaw", name := "otterOf", desc := "(LOtterTrust;II[J)I" } : Jvm.MethodName)) ∈ lw_all := lw_g (lw_at lw_m7 12 rfl) rfl
theorem q1543 : (Jvm.Cond.codeWith ({ cls := "OtterTrustLaw", name := "otterOf", desc := "(LOtterTrust;II[J)I" } : Jvm.MethodName) method_13_code (5 : Nat) (Option.some Jvm.ClassFile.FieldType.int) [((0 : Nat), (10 : Nat), (13 : Nat), (43 : Nat)), ((0 : Nat), (10 : Nat), (17 : Nat), (45 : Nat))]) ∈ lw_all := lw_g (lw_at lw_m7 13 rfl) rfl
theorem q1544 : (Jvm.Cond.methodLink "OtterTrustLaw" (47 : Nat) ({ cls := "OtterTrust", name := "otterOf", desc := "(II)I" } : Jvm.MethodName)) ∈ lw_all := lw_g (lw_at lw_m7 14 rfl) rfl
theorem q1554 : (Jvm.Cond.methodLink "OtterTrustLaw" (169 : Nat) ({ cls := "OtterTrustLaw", name := "volunteerOf", desc := "(LOtterTrust;II[J)I" } : Jvm.MethodName)) ∈ lw_all := lw_g (lw_at lw_m7 24 rfl) rfl
theorem q1555 : (Jvm.Cond.static ({ cls := "OtterTrustLaw", name := "volunteerOf", desc := "(LOtterTrust;II[J)I" } : Jvm.MethodName)) ∈ lw_all := lw_g (lw_at lw_m7 25 rfl) rfl
theorem q1556 : (Jvm.Cond.codeWith ({ cls := "OtterTrustLaw", name := "volunteerOf", desc := "(LOtterTrust;II[J)I" } : Jvm.MethodName) method_14_code (5 : Nat) (Option.some Jvm.ClassFile.FieldType.int) [((0 : Nat), (10 : Nat), (13 : Nat), (43 : Nat)), ((0 : Nat), (10 : Nat), (17 : Nat), (45 : Nat))]) ∈ lw_all := lw_g (lw_at lw_m7 26 rfl) rfl
theorem q1557 : (Jvm.Cond.methodLink "OtterTrustLaw" (50 : Nat) ({ cls := "OtterTrust", name := "volunteerOf", desc := "(II)I" } : Jvm.MethodName)) ∈ lw_all := lw_g (lw_at lw_m7 27 rfl) rfl
theorem q1562 : (Jvm.Cond.methodLink "OtterTrustLaw" (172 : Nat) ({ cls := "OtterTrustLaw", name := "refuge", desc := "(LOtterTrust;I[J)I" } : Jvm.MethodName)) ∈ lw_all := lw_g (lw_at lw_m7 32 rfl) rfl
theorem q1563 : (Jvm.Cond.static ({ cls := "OtterTrustLaw", name := "refuge", desc := "(LOtterTrust;I[J)I" } : Jvm.MethodName)) ∈ lw_all := lw_g (lw_at lw_m7 33 rfl) rfl
theorem q1564 : (Jvm.Cond.codeWith ({ cls := "OtterTrustLaw", name := "refuge", desc := "(LOtterTrust;I[J)I" } : Jvm.MethodName) method_15_code (4 : Nat) (Option.some Jvm.ClassFile.FieldType.int) [((0 : Nat), (9 : Nat), (12 : Nat), (43 : Nat)), ((0 : Nat), (9 : Nat), (15 : Nat), (56 : Nat))]) ∈ lw_all := lw_g (lw_at lw_m7 34 rfl) rfl
theorem q1565 : (Jvm.Cond.classLink "OtterTrustLaw" (56 : Nat) "java/util/NoSuchElementException") ∈ lw_all := lw_g (lw_at lw_m7 35 rfl) rfl
theorem q1566 : (Jvm.Cond.methodLink "OtterTrustLaw" (53 : Nat) ({ cls := "OtterTrust", name := "refuge", desc := "(I)I" } : Jvm.MethodName)) ∈ lw_all := lw_g (lw_at lw_m7 36 rfl) rfl
theorem q1576 : (Jvm.Cond.methodLink "OtterTrustLaw" (175 : Nat) ({ cls := "OtterTrustLaw", name := "refugeAgain", desc := "(LOtterTrust;I[J)I" } : Jvm.MethodName)) ∈ lw_all := lw_g (lw_at lw_m7 46 rfl) rfl
theorem q1577 : (Jvm.Cond.static ({ cls := "OtterTrustLaw", name := "refugeAgain", desc := "(LOtterTrust;I[J)I" } : Jvm.MethodName)) ∈ lw_all := lw_g (lw_at lw_m7 47 rfl) rfl
theorem q1578 : (Jvm.Cond.codeWith ({ cls := "OtterTrustLaw", name := "refugeAgain", desc := "(LOtterTrust;I[J)I" } : Jvm.MethodName) method_16_code (4 : Nat) (Option.some Jvm.ClassFile.FieldType.int) [((0 : Nat), (9 : Nat), (12 : Nat), (43 : Nat)), ((0 : Nat), (9 : Nat), (15 : Nat), (56 : Nat))]) ∈ lw_all := lw_g (lw_at lw_m7 48 rfl) rfl
theorem q1579 : (Jvm.Cond.methodLink "OtterTrustLaw" (58 : Nat) ({ cls := "OtterTrust", name := "refugeAgain", desc := "(I)I" } : Jvm.MethodName)) ∈ lw_all := lw_g (lw_at lw_m7 49 rfl) rfl
theorem q1591 : (Jvm.Cond.methodLink "OtterTrustLaw" (178 : Nat) ({ cls := "OtterTrustLaw", name := "goal", desc := "(LOtterTrust;I[J)I" } : Jvm.MethodName)) ∈ lw_all := lw_g (lw_at lw_m7 61 rfl) rfl
theorem q1592 : (Jvm.Cond.static ({ cls := "OtterTrustLaw", name := "goal", desc := "(LOtterTrust;I[J)I" } : Jvm.MethodName)) ∈ lw_all := lw_g (lw_at lw_m7 62 rfl) rfl
theorem q1593 : (Jvm.Cond.codeWith ({ cls := "OtterTrustLaw", name := "goal", desc := "(LOtterTrust;I[J)I" } : Jvm.MethodName) method_17_code (4 : Nat) (Option.some Jvm.ClassFile.FieldType.int) [((0 : Nat), (9 : Nat), (12 : Nat), (43 : Nat)), ((0 : Nat), (9 : Nat), (15 : Nat), (64 : Nat))]) ∈ lw_all := lw_g (lw_at lw_m7 63 rfl) rfl
theorem q1594 : (Jvm.Cond.classLink "OtterTrustLaw" (64 : Nat) "java/lang/IllegalStateException") ∈ lw_all := lw_g (lw_at lw_m7 64 rfl) rfl
theorem q1595 : (Jvm.Cond.methodLink "OtterTrustLaw" (61 : Nat) ({ cls := "OtterTrust", name := "goal", desc := "(I)I" } : Jvm.MethodName)) ∈ lw_all := lw_g (lw_at lw_m7 65 rfl) rfl
theorem q1608 : (Jvm.Cond.methodLink "OtterTrustLaw" (181 : Nat) ({ cls := "OtterTrustLaw", name := "killedIn", desc := "(LOtterTrust;I[J)I" } : Jvm.MethodName)) ∈ lw_all := lw_g (lw_at lw_m7 78 rfl) rfl
theorem q1609 : (Jvm.Cond.static ({ cls := "OtterTrustLaw", name := "killedIn", desc := "(LOtterTrust;I[J)I" } : Jvm.MethodName)) ∈ lw_all := lw_g (lw_at lw_m7 79 rfl) rfl
theorem q1610 : (Jvm.Cond.codeWith ({ cls := "OtterTrustLaw", name := "killedIn", desc := "(LOtterTrust;I[J)I" } : Jvm.MethodName) method_18_code (4 : Nat) (Option.some Jvm.ClassFile.FieldType.int) [((0 : Nat), (9 : Nat), (12 : Nat), (43 : Nat)), ((0 : Nat), (9 : Nat), (15 : Nat), (64 : Nat)), ((0 : Nat), (9 : Nat), (18 : Nat), (56 : Nat))]) ∈ lw_all := lw_g (lw_at lw_m7 80 rfl) rfl
theorem q1611 : (Jvm.Cond.methodLink "OtterTrustLaw" (66 : Nat) ({ cls := "OtterTrust", name := "killedIn", desc := "(I)I" } : Jvm.MethodName)) ∈ lw_all := lw_g (lw_at lw_m7 81 rfl) rfl
theorem q1616 : (Jvm.Cond.methodLink "OtterTrustLaw" (184 : Nat) ({ cls := "OtterTrustLaw", name := "cubsIn", desc := "(LOtterTrust;I[J)I" } : Jvm.MethodName)) ∈ lw_all := lw_g (lw_at lw_m7 86 rfl) rfl
theorem q1617 : (Jvm.Cond.static ({ cls := "OtterTrustLaw", name := "cubsIn", desc := "(LOtterTrust;I[J)I" } : Jvm.MethodName)) ∈ lw_all := lw_g (lw_at lw_m7 87 rfl) rfl
theorem q1618 : (Jvm.Cond.codeWith ({ cls := "OtterTrustLaw", name := "cubsIn", desc := "(LOtterTrust;I[J)I" } : Jvm.MethodName) method_19_code (4 : Nat) (Option.some Jvm.ClassFile.FieldType.int) [((0 : Nat), (9 : Nat), (12 : Nat), (43 : Nat)), ((0 : Nat), (9 : Nat), (15 : Nat), (64 : Nat)), ((0 : Nat), (9 : Nat), (18 : Nat), (56 : Nat))]) ∈ lw_all := lw_g (lw_at lw_m7 88 rfl) rfl
theorem q1619 : (Jvm.Cond.methodLink "OtterTrustLaw" (69 : Nat) ({ cls := "OtterTrust", name := "cubsIn", desc := "(I)I" } : Jvm.MethodName)) ∈ lw_all := lw_g (lw_at lw_m7 89 rfl) rfl
theorem q1626 : (Jvm.Cond.methodLink "OtterTrustLaw" (187 : Nat) ({ cls := "OtterTrustLaw", name := "worstDip", desc := "(LOtterTrust;[J)I" } : Jvm.MethodName)) ∈ lw_all := lw_g (lw_at lw_m7 96 rfl) rfl
theorem q1627 : (Jvm.Cond.static ({ cls := "OtterTrustLaw", name := "worstDip", desc := "(LOtterTrust;[J)I" } : Jvm.MethodName)) ∈ lw_all := lw_g (lw_at lw_m7 97 rfl) rfl
theorem q1628 : (Jvm.Cond.codeWith ({ cls := "OtterTrustLaw", name := "worstDip", desc := "(LOtterTrust;[J)I" } : Jvm.MethodName) method_20_code (3 : Nat) (Option.some Jvm.ClassFile.FieldType.int) [((0 : Nat), (8 : Nat), (11 : Nat), (56 : Nat))]) ∈ lw_all := lw_g (lw_at lw_m7 98 rfl) rfl
theorem q1629 : (Jvm.Cond.methodLink "OtterTrustLaw" (72 : Nat) ({ cls := "OtterTrust", name := "worstDip", desc := "()I" } : Jvm.MethodName)) ∈ lw_all := lw_g (lw_at lw_m7 99 rfl) rfl
theorem q1633 : (Jvm.Cond.methodLink "OtterTrustLaw" (203 : Nat) ({ cls := "OtterTrustLaw", name := "seenBy", desc := "(LOtterTrust;I[J)I" } : Jvm.MethodName)) ∈ lw_all := lw_g (lw_at lw_m7 103 rfl) rfl
theorem q1634 : (Jvm.Cond.static ({ cls := "OtterTrustLaw", name := "seenBy", desc := "(LOtterTrust;I[J)I" } : Jvm.MethodName)) ∈ lw_all := lw_g (lw_at lw_m7 104 rfl) rfl
theorem q1635 : (Jvm.Cond.codeWith ({ cls := "OtterTrustLaw", name := "seenBy", desc := "(LOtterTrust;I[J)I" } : Jvm.MethodName) method_21_code (4 : Nat) (Option.some Jvm.ClassFile.FieldType.int) [((0 : Nat), (9 : Nat), (12 : Nat), (43 : Nat)), ((0 : Nat), (9 : Nat), (15 : Nat), (64 : Nat)), ((0 : Nat), (9 : Nat), (18 : Nat), (56 : Nat))]) ∈ lw_all := lw_g (lw_at lw_m7 105 rfl) rfl
theorem q1636 : (Jvm.Cond.methodLink "OtterTrustLaw" (76 : Nat) ({ cls := "OtterTrust", name := "seenBy", desc := "(I)I" } : Jvm.MethodName)) ∈ lw_all := lw_g (lw_at lw_m7 106 rfl) rfl
theorem q1641 : (Jvm.Cond.methodLink "OtterTrustLaw" (206 : Nat) ({ cls := "OtterTrustLaw", name := "busiest", desc := "(LOtterTrust;[J)I" } : Jvm.MethodName)) ∈ lw_all := lw_g (lw_at lw_m7 111 rfl) rfl
theorem q1642 : (Jvm.Cond.static ({ cls := "OtterTrustLaw", name := "busiest", desc := "(LOtterTrust;[J)I" } : Jvm.MethodName)) ∈ lw_all := lw_g (lw_at lw_m7 112 rfl) rfl
theorem q1643 : (Jvm.Cond.codeWith ({ cls := "OtterTrustLaw", name := "busiest", desc := "(LOtterTrust;[J)I" } : Jvm.MethodName) method_22_code (3 : Nat) (Option.some Jvm.ClassFile.FieldType.int) [((0 : Nat), (8 : Nat), (11 : Nat), (56 : Nat))]) ∈ lw_all := lw_g (lw_at lw_m7 113 rfl) rfl
theorem q1644 : (Jvm.Cond.methodLink "OtterTrustLaw" (79 : Nat) ({ cls := "OtterTrust", name := "busiest", desc := "()I" } : Jvm.MethodName)) ∈ lw_all := lw_g (lw_at lw_m7 114 rfl) rfl
theorem q1648 : (Jvm.Cond.methodLink "OtterTrustLaw" (209 : Nat) ({ cls := "OtterTrustLaw", name := "ranked", desc := "(LOtterTrust;I[J)I" } : Jvm.MethodName)) ∈ lw_all := lw_g (lw_at lw_m7 118 rfl) rfl
theorem q1649 : (Jvm.Cond.static ({ cls := "OtterTrustLaw", name := "ranked", desc := "(LOtterTrust;I[J)I" } : Jvm.MethodName)) ∈ lw_all := lw_g (lw_at lw_m7 119 rfl) rfl
theorem q1650 : (Jvm.Cond.codeWith ({ cls := "OtterTrustLaw", name := "ranked", desc := "(LOtterTrust;I[J)I" } : Jvm.MethodName) method_23_code (4 : Nat) (Option.some Jvm.ClassFile.FieldType.int) [((0 : Nat), (9 : Nat), (12 : Nat), (56 : Nat))]) ∈ lw_all := lw_g (lw_at lw_m7 120 rfl) rfl
theorem q1651 : (Jvm.Cond.methodLink "OtterTrustLaw" (82 : Nat) ({ cls := "OtterTrust", name := "ranked", desc := "(I)I" } : Jvm.MethodName)) ∈ lw_all := lw_g (lw_at lw_m7 121 rfl) rfl
theorem q1659 : (Jvm.Cond.methodLink "OtterTrustLaw" (212 : Nat) ({ cls := "OtterTrustLaw", name := "feed", desc := "(LOtterTrust;C[J)I" } : Jvm.MethodName)) ∈ lw_all := lw_g (lw_at lw_m7 129 rfl) rfl
theorem q1660 : (Jvm.Cond.static ({ cls := "OtterTrustLaw", name := "feed", desc := "(LOtterTrust;C[J)I" } : Jvm.MethodName)) ∈ lw_all := lw_g (lw_at lw_m7 130 rfl) rfl
theorem q1661 : (Jvm.Cond.codeWith ({ cls := "OtterTrustLaw", name := "feed", desc := "(LOtterTrust;C[J)I" } : Jvm.MethodName) method_24_code (4 : Nat) (Option.some Jvm.ClassFile.FieldType.int) [((0 : Nat), (9 : Nat), (12 : Nat), (64 : Nat))]) ∈ lw_all := lw_g (lw_at lw_m7 131 rfl) rfl
theorem q1662 : (Jvm.Cond.methodLink "OtterTrustLaw" (85 : Nat) ({ cls := "OtterTrust", name := "feed", desc := "(C)I" } : Jvm.MethodName)) ∈ lw_all := lw_g (lw_at lw_m7 132 rfl) rfl
theorem q1667 : (Jvm.Cond.methodLink "OtterTrustLaw" (216 : Nat) ({ cls := "OtterTrustLaw", name := "run", desc := "(LOtterTrust;[J)I" } : Jvm.MethodName)) ∈ lw_all := lw_g (lw_at lw_m7 137 rfl) rfl
theorem q1668 : (Jvm.Cond.static ({ cls := "OtterTrustLaw", name := "run", desc := "(LOtterTrust;[J)I" } : Jvm.MethodName)) ∈ lw_all := lw_g (lw_at lw_m7 138 rfl) rfl
theorem q1669 : (Jvm.Cond.codeWith ({ cls := "OtterTrustLaw", name := "run", desc := "(LOtterTrust;[J)I" } : Jvm.MethodName) method_25_code (3 : Nat) (Option.some Jvm.ClassFile.FieldType.int) [((0 : Nat), (8 : Nat), (11 : Nat), (45 : Nat)), ((0 : Nat), (8 : Nat), (14 : Nat), (13 : Nat))]) ∈ lw_all := lw_g (lw_at lw_m7 139 rfl) rfl
theorem q1670 : (Jvm.Cond.methodLink "OtterTrustLaw" (89 : Nat) ({ cls := "OtterTrust", name := "run", desc := "()I" } : Jvm.MethodName)) ∈ lw_all := lw_g (lw_at lw_m7 140 rfl) rfl
theorem q1847 : (Jvm.Cond.methodLink "OtterTrustLaw" (219 : Nat) ({ cls := "OtterTrustLaw", name := "faultPosition", desc := "(LOtterTrust;[J)I" } : Jvm.MethodName)) ∈ lw_all := lw_g (lw_at lw_m8 77 rfl) rfl
theorem q1848 : (Jvm.Cond.static ({ cls := "OtterTrustLaw", name := "faultPosition", desc := "(LOtterTrust;[J)I" } : Jvm.MethodName)) ∈ lw_all := lw_g (lw_at lw_m8 78 rfl) rfl
theorem q1849 : (Jvm.Cond.codeWith ({ cls := "OtterTrustLaw", name := "faultPosition", desc := "(LOtterTrust;[J)I" } : Jvm.MethodName) method_26_code (3 : Nat) (Option.some Jvm.ClassFile.FieldType.int) [((0 : Nat), (8 : Nat), (11 : Nat), (56 : Nat))]) ∈ lw_all := lw_g (lw_at lw_m8 79 rfl) rfl
theorem q1850 : (Jvm.Cond.methodLink "OtterTrustLaw" (92 : Nat) ({ cls := "OtterTrust", name := "faultPosition", desc := "()I" } : Jvm.MethodName)) ∈ lw_all := lw_g (lw_at lw_m8 80 rfl) rfl
theorem q1854 : (Jvm.Cond.methodLink "OtterTrustLaw" (222 : Nat) ({ cls := "OtterTrustLaw", name := "reason", desc := "(LOtterTrust;I[J)I" } : Jvm.MethodName)) ∈ lw_all := lw_g (lw_at lw_m8 84 rfl) rfl
theorem q1855 : (Jvm.Cond.static ({ cls := "OtterTrustLaw", name := "reason", desc := "(LOtterTrust;I[J)I" } : Jvm.MethodName)) ∈ lw_all := lw_g (lw_at lw_m8 85 rfl) rfl
theorem q1856 : (Jvm.Cond.codeWith ({ cls := "OtterTrustLaw", name := "reason", desc := "(LOtterTrust;I[J)I" } : Jvm.MethodName) method_27_code (4 : Nat) (Option.some Jvm.ClassFile.FieldType.int) [((0 : Nat), (9 : Nat), (12 : Nat), (45 : Nat)), ((0 : Nat), (9 : Nat), (15 : Nat), (56 : Nat))]) ∈ lw_all := lw_g (lw_at lw_m8 86 rfl) rfl
theorem q1857 : (Jvm.Cond.methodLink "OtterTrustLaw" (95 : Nat) ({ cls := "OtterTrust", name := "reason", desc := "(I)I" } : Jvm.MethodName)) ∈ lw_all := lw_g (lw_at lw_m8 87 rfl) rfl
theorem q1938 : (Jvm.Cond.methodLink "OtterTrustLaw" (229 : Nat) ({ cls := "OtterTrustLaw", name := "character", desc := "(LOtterTrust;I[J)I" } : Jvm.MethodName)) ∈ lw_all := lw_g (lw_at lw_m8 168 rfl) rfl
theorem q1939 : (Jvm.Cond.static ({ cls := "OtterTrustLaw", name := "character", desc := "(LOtterTrust;I[J)I" } : Jvm.MethodName)) ∈ lw_all := lw_g (lw_at lw_m8 169 rfl) rfl
theorem q1940 : (Jvm.Cond.codeWith ({ cls := "OtterTrustLaw", name := "character", desc := "(LOtterTrust;I[J)I" } : Jvm.MethodName) method_28_code (4 : Nat) (Option.some Jvm.ClassFile.FieldType.int) [((0 : Nat), (9 : Nat), (12 : Nat), (43 : Nat))]) ∈ lw_all := lw_g (lw_at lw_m8 170 rfl) rfl
theorem q1941 : (Jvm.Cond.methodLink "OtterTrustLaw" (98 : Nat) ({ cls := "OtterTrust", name := "character", desc := "(I)C" } : Jvm.MethodName)) ∈ lw_all := lw_g (lw_at lw_m8 171 rfl) rfl
theorem q1946 : (Jvm.Cond.methodLink "OtterTrustLaw" (232 : Nat) ({ cls := "OtterTrustLaw", name := "meanQuality", desc := "(LOtterTrust;[D)I" } : Jvm.MethodName)) ∈ lw_all := lw_g (lw_at lw_m8 176 rfl) rfl
theorem q1947 : (Jvm.Cond.static ({ cls := "OtterTrustLaw", name := "meanQuality", desc := "(LOtterTrust;[D)I" } : Jvm.MethodName)) ∈ lw_all := lw_g (lw_at lw_m8 177 rfl) rfl
theorem q1948 : (Jvm.Cond.codeWith ({ cls := "OtterTrustLaw", name := "meanQuality", desc := "(LOtterTrust;[D)I" } : Jvm.MethodName) method_29_code (3 : Nat) (Option.some Jvm.ClassFile.FieldType.int) [((0 : Nat), (7 : Nat), (10 : Nat), (106 : Nat))]) ∈ lw_all := lw_g (lw_at lw_m8 178 rfl) rfl
theorem q1949 : (Jvm.Cond.classLink "OtterTrustLaw" (106 : Nat) "java/lang/ArithmeticException") ∈ lw_all := lw_g (lw_at lw_m8 179 rfl) rfl
theorem q1963 : (Jvm.Cond.methodLink "OtterTrustLaw" (102 : Nat) ({ cls := "OtterTrust", name := "meanQuality", desc := "()D" } : Jvm.MethodName)) ∈ lw_all := lw_g (lw_at lw_m8 193 rfl) rfl
theorem q1973 : (Jvm.Cond.methodLink "OtterTrustLaw" (236 : Nat) ({ cls := "OtterTrustLaw", name := "countedShare", desc := "(LOtterTrust;[D)I" } : Jvm.MethodName)) ∈ lw_all := lw_g (lw_at lw_m8 203 rfl) rfl
theorem q1974 : (Jvm.Cond.static ({ cls := "OtterTrustLaw", name := "countedShare", desc := "(LOtterTrust;[D)I" } : Jvm.MethodName)) ∈ lw_all := lw_g (lw_at lw_m8 204 rfl) rfl
theorem q1975 : (Jvm.Cond.codeWith ({ cls := "OtterTrustLaw", name := "countedShare", desc := "(LOtterTrust;[D)I" } : Jvm.MethodName) method_30_code (3 : Nat) (Option.some Jvm.ClassFile.FieldType.int) [((0 : Nat), (8 : Nat), (11 : Nat), (106 : Nat))]) ∈ lw_all := lw_g (lw_at lw_m8 205 rfl) rfl
theorem q1976 : (Jvm.Cond.methodLink "OtterTrustLaw" (108 : Nat) ({ cls := "OtterTrust", name := "countedShare", desc := "()F" } : Jvm.MethodName)) ∈ lw_all := lw_g (lw_at lw_m8 206 rfl) rfl
theorem q1980 : (Jvm.Cond.methodLink "OtterTrustLaw" (239 : Nat) ({ cls := "OtterTrustLaw", name := "account", desc := "(LOtterTrust;I[J)I" } : Jvm.MethodName)) ∈ lw_all := lw_g (lw_at lw_m8 210 rfl) rfl
theorem q1981 : (Jvm.Cond.static ({ cls := "OtterTrustLaw", name := "account", desc := "(LOtterTrust;I[J)I" } : Jvm.MethodName)) ∈ lw_all := lw_g (lw_at lw_m8 211 rfl) rfl
theorem q1982 : (Jvm.Cond.codeWith ({ cls := "OtterTrustLaw", name := "account", desc := "(LOtterTrust;I[J)I" } : Jvm.MethodName) method_31_code (4 : Nat) (Option.some Jvm.ClassFile.FieldType.int) [((0 : Nat), (9 : Nat), (12 : Nat), (45 : Nat))]) ∈ lw_all := lw_g (lw_at lw_m8 212 rfl) rfl
theorem q1983 : (Jvm.Cond.methodLink "OtterTrustLaw" (112 : Nat) ({ cls := "OtterTrust", name := "account", desc := "(I)I" } : Jvm.MethodName)) ∈ lw_all := lw_g (lw_at lw_m8 213 rfl) rfl
theorem q1990 : (Jvm.Cond.methodLink "OtterTrustLaw" (246 : Nat) ({ cls := "OtterTrustLaw", name := "undo", desc := "(LOtterTrust;[J)I" } : Jvm.MethodName)) ∈ lw_all := lw_g (lw_at lw_m8 220 rfl) rfl
theorem q1991 : (Jvm.Cond.static ({ cls := "OtterTrustLaw", name := "undo", desc := "(LOtterTrust;[J)I" } : Jvm.MethodName)) ∈ lw_all := lw_g (lw_at lw_m8 221 rfl) rfl
theorem q1992 : (Jvm.Cond.codeWith ({ cls := "OtterTrustLaw", name := "undo", desc := "(LOtterTrust;[J)I" } : Jvm.MethodName) method_32_code (3 : Nat) (Option.some Jvm.ClassFile.FieldType.int) [((0 : Nat), (8 : Nat), (11 : Nat), (64 : Nat))]) ∈ lw_all := lw_g (lw_at lw_m8 222 rfl) rfl
theorem q1993 : (Jvm.Cond.methodLink "OtterTrustLaw" (115 : Nat) ({ cls := "OtterTrust", name := "undo", desc := "()I" } : Jvm.MethodName)) ∈ lw_all := lw_g (lw_at lw_m8 223 rfl) rfl
theorem q2033 : (Jvm.Cond.methodLink "OtterTrustLaw" (253 : Nat) ({ cls := "OtterTrustLaw", name := "restore", desc := "(LOtterTrust;[J)I" } : Jvm.MethodName)) ∈ lw_all := lw_g (lw_at lw_m9 23 rfl) rfl
theorem q2034 : (Jvm.Cond.static ({ cls := "OtterTrustLaw", name := "restore", desc := "(LOtterTrust;[J)I" } : Jvm.MethodName)) ∈ lw_all := lw_g (lw_at lw_m9 24 rfl) rfl
theorem q2035 : (Jvm.Cond.codeWith ({ cls := "OtterTrustLaw", name := "restore", desc := "(LOtterTrust;[J)I" } : Jvm.MethodName) method_33_code (3 : Nat) (Option.some Jvm.ClassFile.FieldType.int) [((0 : Nat), (8 : Nat), (11 : Nat), (64 : Nat))]) ∈ lw_all := lw_g (lw_at lw_m9 25 rfl) rfl
theorem q2036 : (Jvm.Cond.methodLink "OtterTrustLaw" (118 : Nat) ({ cls := "OtterTrust", name := "restore", desc := "()I" } : Jvm.MethodName)) ∈ lw_all := lw_g (lw_at lw_m9 26 rfl) rfl
theorem q2056 : (Jvm.Cond.classLink "OtterTrustLaw" (122 : Nat) "OtterTrustModel") ∈ lw_all := lw_g (lw_at lw_m9 46 rfl) rfl
theorem q2058 : (Jvm.Cond.methodLink "OtterTrustLaw" (124 : Nat) ({ cls := "OtterTrustModel", name := "<init>", desc := "()V" } : Jvm.MethodName)) ∈ lw_all := lw_g (lw_at lw_m9 48 rfl) rfl
theorem q2141 : (Jvm.Cond.methodLink "OtterTrustLaw" (131 : Nat) ({ cls := "OtterTrustModel", name := "thrown", desc := "()I" } : Jvm.MethodName)) ∈ lw_all := lw_g (lw_at lw_m9 131 rfl) rfl
theorem q2145 : (Jvm.Cond.methodLink "OtterTrustLaw" (130 : Nat) ({ cls := "OtterTrustModel", name := "reach", desc := "(II)I" } : Jvm.MethodName)) ∈ lw_all := lw_g (lw_at lw_m9 135 rfl) rfl
theorem q2173 : (Jvm.Cond.methodLink "OtterTrustLaw" (137 : Nat) ({ cls := "OtterTrustModel", name := "holt", desc := "(I)I" } : Jvm.MethodName)) ∈ lw_all := lw_g (lw_at lw_m9 163 rfl) rfl
theorem q2204 : (Jvm.Cond.methodLink "OtterTrustLaw" (140 : Nat) ({ cls := "OtterTrustModel", name := "otter", desc := "(I)I" } : Jvm.MethodName)) ∈ lw_all := lw_g (lw_at lw_m9 194 rfl) rfl
theorem q2216 : (Jvm.Cond.methodLink "OtterTrustLaw" (143 : Nat) ({ cls := "OtterTrustModel", name := "volunteer", desc := "(II)I" } : Jvm.MethodName)) ∈ lw_all := lw_g (lw_at lw_m9 206 rfl) rfl
theorem q2223 : (Jvm.Cond.methodLink "OtterTrustLaw" (146 : Nat) ({ cls := "OtterTrustModel", name := "level", desc := "(I)I" } : Jvm.MethodName)) ∈ lw_all := lw_g (lw_at lw_m9 213 rfl) rfl
theorem q2231 : (Jvm.Cond.methodLink "OtterTrustLaw" (149 : Nat) ({ cls := "OtterTrustModel", name := "give", desc := "(I)I" } : Jvm.MethodName)) ∈ lw_all := lw_g (lw_at lw_m9 221 rfl) rfl
theorem q2240 : (Jvm.Cond.methodLink "OtterTrustLaw" (152 : Nat) ({ cls := "OtterTrustModel", name := "shut", desc := "(I)I" } : Jvm.MethodName)) ∈ lw_all := lw_g (lw_at lw_m9 230 rfl) rfl
theorem q2256 : (Jvm.Cond.methodLink "OtterTrustLaw" (155 : Nat) ({ cls := "OtterTrustModel", name := "pass", desc := "(I)I" } : Jvm.MethodName)) ∈ lw_all := lw_g (lw_at lw_m10 6 rfl) rfl
theorem q2318 : (Jvm.Cond.methodLink "OtterTrustLaw" (158 : Nat) ({ cls := "OtterTrustModel", name := "walk", desc := "(I)I" } : Jvm.MethodName)) ∈ lw_all := lw_g (lw_at lw_m10 68 rfl) rfl
theorem q2330 : (Jvm.Cond.methodLink "OtterTrustLaw" (162 : Nat) ({ cls := "OtterTrustModel", name := "census", desc := "()I" } : Jvm.MethodName)) ∈ lw_all := lw_g (lw_at lw_m10 80 rfl) rfl
theorem q2338 : (Jvm.Cond.methodLink "OtterTrustLaw" (165 : Nat) ({ cls := "OtterTrustModel", name := "reachOf", desc := "(II)I" } : Jvm.MethodName)) ∈ lw_all := lw_g (lw_at lw_m10 88 rfl) rfl
theorem q2342 : (Jvm.Cond.methodLink "OtterTrustLaw" (168 : Nat) ({ cls := "OtterTrustModel", name := "otterOf", desc := "(II)I" } : Jvm.MethodName)) ∈ lw_all := lw_g (lw_at lw_m10 92 rfl) rfl
theorem q2350 : (Jvm.Cond.methodLink "OtterTrustLaw" (171 : Nat) ({ cls := "OtterTrustModel", name := "volunteerOf", desc := "(II)I" } : Jvm.MethodName)) ∈ lw_all := lw_g (lw_at lw_m10 100 rfl) rfl
theorem q2354 : (Jvm.Cond.methodLink "OtterTrustLaw" (174 : Nat) ({ cls := "OtterTrustModel", name := "refuge", desc := "(I)I" } : Jvm.MethodName)) ∈ lw_all := lw_g (lw_at lw_m10 104 rfl) rfl
theorem q2358 : (Jvm.Cond.methodLink "OtterTrustLaw" (177 : Nat) ({ cls := "OtterTrustModel", name := "refugeAgain", desc := "(I)I" } : Jvm.MethodName)) ∈ lw_all := lw_g (lw_at lw_m10 108 rfl) rfl
theorem q2363 : (Jvm.Cond.methodLink "OtterTrustLaw" (180 : Nat) ({ cls := "OtterTrustModel", name := "goal", desc := "(I)I" } : Jvm.MethodName)) ∈ lw_all := lw_g (lw_at lw_m10 113 rfl) rfl
theorem q2368 : (Jvm.Cond.methodLink "OtterTrustLaw" (183 : Nat) ({ cls := "OtterTrustModel", name := "killedIn", desc := "(I)I" } : Jvm.MethodName)) ∈ lw_all := lw_g (lw_at lw_m10 118 rfl) rfl
theorem q2380 : (Jvm.Cond.methodLink "OtterTrustLaw" (186 : Nat) ({ cls := "OtterTrustModel", name := "cubsIn", desc := "(I)I" } : Jvm.MethodName)) ∈ lw_all := lw_g (lw_at lw_m10 130 rfl) rfl
theorem q2384 : (Jvm.Cond.methodLink "OtterTrustLaw" (190 : Nat) ({ cls := "OtterTrustModel", name := "worstDip", desc := "()I" } : Jvm.MethodName)) ∈ lw_all := lw_g (lw_at lw_m10 134 rfl) rfl
theorem q2388 : (Jvm.Cond.methodLink "OtterTrustLaw" (194 : Nat) ({ cls := "OtterTrustModel", name := "unseen", desc := "()I" } : Jvm.MethodName)) ∈ lw_all := lw_g (lw_at lw_m10 138 rfl) rfl
theorem q2396 : (Jvm.Cond.methodLink "OtterTrustLaw" (198 : Nat) ({ cls := "OtterTrustModel", name := "lonely", desc := "()I" } : Jvm.MethodName)) ∈ lw_all := lw_g (lw_at lw_m10 146 rfl) rfl
theorem q2400 : (Jvm.Cond.methodLink "OtterTrustLaw" (202 : Nat) ({ cls := "OtterTrustModel", name := "safeLevel", desc := "()I" } : Jvm.MethodName)) ∈ lw_all := lw_g (lw_at lw_m10 150 rfl) rfl
theorem q2404 : (Jvm.Cond.methodLink "OtterTrustLaw" (205 : Nat) ({ cls := "OtterTrustModel", name := "seenBy", desc := "(I)I" } : Jvm.MethodName)) ∈ lw_all := lw_g (lw_at lw_m10 154 rfl) rfl
theorem q2408 : (Jvm.Cond.methodLink "OtterTrustLaw" (208 : Nat) ({ cls := "OtterTrustModel", name := "busiest", desc := "()I" } : Jvm.MethodName)) ∈ lw_all := lw_g (lw_at lw_m10 158 rfl) rfl
theorem q2412 : (Jvm.Cond.methodLink "OtterTrustLaw" (211 : Nat) ({ cls := "OtterTrustModel", name := "ranked", desc := "(I)I" } : Jvm.MethodName)) ∈ lw_all := lw_g (lw_at lw_m10 162 rfl) rfl
theorem q2420 : (Jvm.Cond.methodLink "OtterTrustLaw" (215 : Nat) ({ cls := "OtterTrustModel", name := "feed", desc := "(C)I" } : Jvm.MethodName)) ∈ lw_all := lw_g (lw_at lw_m10 170 rfl) rfl
theorem q2424 : (Jvm.Cond.methodLink "OtterTrustLaw" (218 : Nat) ({ cls := "OtterTrustModel", name := "run", desc := "()I" } : Jvm.MethodName)) ∈ lw_all := lw_g (lw_at lw_m10 174 rfl) rfl
theorem q2462 : (Jvm.Cond.methodLink "OtterTrustLaw" (221 : Nat) ({ cls := "OtterTrustModel", name := "faultPosition", desc := "()I" } : Jvm.MethodName)) ∈ lw_all := lw_g (lw_at lw_m10 212 rfl) rfl
theorem q2466 : (Jvm.Cond.methodLink "OtterTrustLaw" (224 : Nat) ({ cls := "OtterTrustModel", name := "reason", desc := "(I)I" } : Jvm.MethodName)) ∈ lw_all := lw_g (lw_at lw_m10 216 rfl) rfl
theorem q2470 : (Jvm.Cond.methodLink "OtterTrustLaw" (228 : Nat) ({ cls := "OtterTrustModel", name := "line", desc := "()I" } : Jvm.MethodName)) ∈ lw_all := lw_g (lw_at lw_m10 220 rfl) rfl
theorem q2478 : (Jvm.Cond.methodLink "OtterTrustLaw" (231 : Nat) ({ cls := "OtterTrustModel", name := "character", desc := "(I)C" } : Jvm.MethodName)) ∈ lw_all := lw_g (lw_at lw_m10 228 rfl) rfl
theorem q2482 : (Jvm.Cond.methodLink "OtterTrustLaw" (235 : Nat) ({ cls := "OtterTrustModel", name := "meanQuality", desc := "()D" } : Jvm.MethodName)) ∈ lw_all := lw_g (lw_at lw_m10 232 rfl) rfl
theorem q2490 : (Jvm.Cond.methodLink "OtterTrustLaw" (238 : Nat) ({ cls := "OtterTrustModel", name := "countedShare", desc := "()F" } : Jvm.MethodName)) ∈ lw_all := lw_g (lw_at lw_m11 0 rfl) rfl
theorem q2494 : (Jvm.Cond.methodLink "OtterTrustLaw" (241 : Nat) ({ cls := "OtterTrustModel", name := "account", desc := "(I)I" } : Jvm.MethodName)) ∈ lw_all := lw_g (lw_at lw_m11 4 rfl) rfl
theorem q2498 : (Jvm.Cond.methodLink "OtterTrustLaw" (245 : Nat) ({ cls := "OtterTrustModel", name := "countedAgain", desc := "()I" } : Jvm.MethodName)) ∈ lw_all := lw_g (lw_at lw_m11 8 rfl) rfl
theorem q2506 : (Jvm.Cond.methodLink "OtterTrustLaw" (248 : Nat) ({ cls := "OtterTrustModel", name := "undo", desc := "()I" } : Jvm.MethodName)) ∈ lw_all := lw_g (lw_at lw_m11 16 rfl) rfl
theorem q2510 : (Jvm.Cond.methodLink "OtterTrustLaw" (252 : Nat) ({ cls := "OtterTrustModel", name := "save", desc := "()I" } : Jvm.MethodName)) ∈ lw_all := lw_g (lw_at lw_m11 20 rfl) rfl
theorem q2514 : (Jvm.Cond.methodLink "OtterTrustLaw" (255 : Nat) ({ cls := "OtterTrustModel", name := "restore", desc := "()I" } : Jvm.MethodName)) ∈ lw_all := lw_g (lw_at lw_m11 24 rfl) rfl
