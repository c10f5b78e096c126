/-! OtterTrust$River -/
set_option maxRecDepth 100000
def RX2 : String := "OtterTrust$River"
def TX2 : u_T := fun k => match k with
  | 0 => ("OtterTrust$River", "reaches", "Ljava/util/List;", true)
  | 1 => ("OtterTrust$River", "otters", "Ljava/util/List;", true)
  | 2 => ("OtterTrust$River", "volunteers", "Ljava/util/List;", true)
  | 3 => ("OtterTrust$River", "marks", "Ljava/util/BitSet;", true)
  | 4 => ("OtterTrust$River", "level", "I", false)
  | 5 => ("OtterTrust$River", "coins", "I", false)
  | 6 => ("OtterTrust$River", "nights", "I", false)
  | 7 => ("OtterTrust$River", "born", "I", false)
  | 8 => ("OtterTrust$River", "lost", "I", false)
  | 9 => ("OtterTrust$River", "left", "I", false)
  | 10 => ("OtterTrust$River", "counted", "I", false)
  | _ => ("OtterTrust$River", "washed", "I", false)
def tyX2 : Nat → FieldType := fun k => match k with
  | 0 => .object "java/util/List"
  | 1 => .object "java/util/List"
  | 2 => .object "java/util/List"
  | 3 => .object "java/util/BitSet"
  | 4 => .int
  | 5 => .int
  | 6 => .int
  | 7 => .int
  | 8 => .int
  | 9 => .int
  | 10 => .int
  | _ => .int
abbrev wsX20 : List Cond := u_ws RX2 TX2 12
theorem nmX2 : ∀ a, a < 12 → ∀ b, b < 12 → a ≠ b → (TX2 a).2.1 ≠ (TX2 b).2.1 := by decide +kernel
theorem tyX2_ok : ∀ k, k < 12 → parseFieldDescriptor (TX2 k).2.2.1 = some (tyX2 k) := by decide +kernel
abbrev cX2_init : ByteArray := prog_7_method_1_code
def yX2_init : MethodName := ⟨RX2, "<init>", "()V"⟩
def dkwX2_init_2 : List UInt8 := [181, 0, 27, 42, 6, 181, 0, 31, 42, 16, 60, 181, 0, 35, 177]
abbrev dktX2_init_2 : List UInt8 := dkwX2_init_2 ++ []
def dkwX2_init_1 : List UInt8 := [181, 0, 18, 42, 187, 0, 9, 89, 183, 0, 11, 181, 0, 21, 42, 187, 0, 24, 89, 183, 0, 26]
abbrev dktX2_init_1 : List UInt8 := dkwX2_init_1 ++ dktX2_init_2
def dkwX2_init_0 : List UInt8 := [42, 183, 0, 3, 42, 187, 0, 9, 89, 183, 0, 11, 181, 0, 12, 42, 187, 0, 9, 89, 183, 0, 11]
abbrev dktX2_init_0 : List UInt8 := dkwX2_init_0 ++ dktX2_init_1
theorem dksX2_init_0 : cX2_init.data.toList.drop 0 = dktX2_init_0 := by decide +kernel
theorem dksX2_init_1 : cX2_init.data.toList.drop 23 = dktX2_init_1 := dk_seg dksX2_init_0 23 rfl rfl
theorem dksX2_init_2 : cX2_init.data.toList.drop 45 = dktX2_init_2 := dk_seg dksX2_init_1 22 rfl rfl
theorem dX2_init_0 : decode cX2_init 0 = .ok (.aload_n 0, 1) := dk_42 (dk_at dksX2_init_0 0 rfl rfl)
theorem dX2_init_1 : decode cX2_init 1 = .ok (.invokespecial 3, 3) := dk_183 0 3 (dk_at dksX2_init_0 1 rfl rfl)
theorem dX2_init_4 : decode cX2_init 4 = .ok (.aload_n 0, 1) := dk_42 (dk_at dksX2_init_0 4 rfl rfl)
theorem dX2_init_5 : decode cX2_init 5 = .ok (.new 9, 3) := dk_187 0 9 (dk_at dksX2_init_0 5 rfl rfl)
theorem dX2_init_8 : decode cX2_init 8 = .ok (.dup, 1) := dk_89 (dk_at dksX2_init_0 8 rfl rfl)
theorem dX2_init_9 : decode cX2_init 9 = .ok (.invokespecial 11, 3) := dk_183 0 11 (dk_at dksX2_init_0 9 rfl rfl)
theorem dX2_init_12 : decode cX2_init 12 = .ok (.putfield 12, 3) := dk_181 0 12 (dk_at dksX2_init_0 12 rfl rfl)
theorem dX2_init_15 : decode cX2_init 15 = .ok (.aload_n 0, 1) := dk_42 (dk_at dksX2_init_0 15 rfl rfl)
theorem dX2_init_16 : decode cX2_init 16 = .ok (.new 9, 3) := dk_187 0 9 (dk_at dksX2_init_0 16 rfl rfl)
theorem dX2_init_19 : decode cX2_init 19 = .ok (.dup, 1) := dk_89 (dk_at dksX2_init_0 19 rfl rfl)
theorem dX2_init_20 : decode cX2_init 20 = .ok (.invokespecial 11, 3) := dk_183 0 11 (dk_at dksX2_init_0 20 rfl rfl)
theorem dX2_init_23 : decode cX2_init 23 = .ok (.putfield 18, 3) := dk_181 0 18 (dk_at dksX2_init_1 0 rfl rfl)
theorem dX2_init_26 : decode cX2_init 26 = .ok (.aload_n 0, 1) := dk_42 (dk_at dksX2_init_1 3 rfl rfl)
theorem dX2_init_27 : decode cX2_init 27 = .ok (.new 9, 3) := dk_187 0 9 (dk_at dksX2_init_1 4 rfl rfl)
theorem dX2_init_30 : decode cX2_init 30 = .ok (.dup, 1) := dk_89 (dk_at dksX2_init_1 7 rfl rfl)
theorem dX2_init_31 : decode cX2_init 31 = .ok (.invokespecial 11, 3) := dk_183 0 11 (dk_at dksX2_init_1 8 rfl rfl)
theorem dX2_init_34 : decode cX2_init 34 = .ok (.putfield 21, 3) := dk_181 0 21 (dk_at dksX2_init_1 11 rfl rfl)
theorem dX2_init_37 : decode cX2_init 37 = .ok (.aload_n 0, 1) := dk_42 (dk_at dksX2_init_1 14 rfl rfl)
theorem dX2_init_38 : decode cX2_init 38 = .ok (.new 24, 3) := dk_187 0 24 (dk_at dksX2_init_1 15 rfl rfl)
theorem dX2_init_41 : decode cX2_init 41 = .ok (.dup, 1) := dk_89 (dk_at dksX2_init_1 18 rfl rfl)
theorem dX2_init_42 : decode cX2_init 42 = .ok (.invokespecial 26, 3) := dk_183 0 26 (dk_at dksX2_init_1 19 rfl rfl)
theorem dX2_init_45 : decode cX2_init 45 = .ok (.putfield 27, 3) := dk_181 0 27 (dk_at dksX2_init_2 0 rfl rfl)
theorem dX2_init_48 : decode cX2_init 48 = .ok (.aload_n 0, 1) := dk_42 (dk_at dksX2_init_2 3 rfl rfl)
theorem dX2_init_49 : decode cX2_init 49 = .ok (.iconst 3, 1) := dk_6 (dk_at dksX2_init_2 4 rfl rfl)
theorem dX2_init_50 : decode cX2_init 50 = .ok (.putfield 31, 3) := dk_181 0 31 (dk_at dksX2_init_2 5 rfl rfl)
theorem dX2_init_53 : decode cX2_init 53 = .ok (.aload_n 0, 1) := dk_42 (dk_at dksX2_init_2 8 rfl rfl)
theorem dX2_init_54 : decode cX2_init 54 = .ok (.bipush 60, 2) := dk_16 60 (dk_at dksX2_init_2 9 rfl rfl)
theorem dX2_init_56 : decode cX2_init 56 = .ok (.putfield 35, 3) := dk_181 0 35 (dk_at dksX2_init_2 11 rfl rfl)
theorem dX2_init_59 : decode cX2_init 59 = .ok (.return_, 1) := dk_177 (dk_at dksX2_init_2 14 rfl rfl)
abbrev cX2_init_2 : ByteArray := prog_7_method_2_code
def yX2_init_2 : MethodName := ⟨RX2, "<init>", "(LOtterTrust$River;)V"⟩
def dkwX2_init_2_12 : List UInt8 := [43, 180, 0, 83, 181, 0, 83, 42, 43, 180, 0, 86, 181, 0, 86, 177]
abbrev dktX2_init_2_12 : List UInt8 := dkwX2_init_2_12 ++ []
def dkwX2_init_2_11 : List UInt8 := [43, 180, 0, 74, 181, 0, 74, 42, 43, 180, 0, 77, 181, 0, 77, 42, 43, 180, 0, 80, 181, 0, 80, 42]
abbrev dktX2_init_2_11 : List UInt8 := dkwX2_init_2_11 ++ dktX2_init_2_12
def dkwX2_init_2_10 : List UInt8 := [43, 180, 0, 31, 181, 0, 31, 42, 43, 180, 0, 35, 181, 0, 35, 42, 43, 180, 0, 71, 181, 0, 71, 42]
abbrev dktX2_init_2_10 : List UInt8 := dkwX2_init_2_10 ++ dktX2_init_2_11
def dkwX2_init_2_9 : List UInt8 := [185, 0, 53, 2, 0, 87, 132, 2, 1, 167, 255, 210, 42, 180, 0, 27, 43, 180, 0, 27, 182, 0, 67, 42]
abbrev dktX2_init_2_9 : List UInt8 := dkwX2_init_2_9 ++ dktX2_init_2_10
def dkwX2_init_2_8 : List UInt8 := [187, 0, 62, 89, 43, 180, 0, 21, 28, 185, 0, 46, 2, 0, 192, 0, 62, 183, 0, 64]
abbrev dktX2_init_2_8 : List UInt8 := dkwX2_init_2_8 ++ dktX2_init_2_9
def dkwX2_init_2_7 : List UInt8 := [167, 255, 210, 3, 61, 28, 43, 180, 0, 21, 185, 0, 38, 1, 0, 162, 0, 39, 42, 180, 0, 21]
abbrev dktX2_init_2_7 : List UInt8 := dkwX2_init_2_7 ++ dktX2_init_2_8
def dkwX2_init_2_6 : List UInt8 := [180, 0, 18, 28, 185, 0, 46, 2, 0, 192, 0, 57, 183, 0, 59, 185, 0, 53, 2, 0, 87, 132, 2, 1]
abbrev dktX2_init_2_6 : List UInt8 := dkwX2_init_2_6 ++ dktX2_init_2_7
def dkwX2_init_2_5 : List UInt8 := [61, 28, 43, 180, 0, 18, 185, 0, 38, 1, 0, 162, 0, 39, 42, 180, 0, 18, 187, 0, 57, 89, 43]
abbrev dktX2_init_2_5 : List UInt8 := dkwX2_init_2_5 ++ dktX2_init_2_6
def dkwX2_init_2_4 : List UInt8 := [185, 0, 46, 2, 0, 192, 0, 44, 183, 0, 50, 185, 0, 53, 2, 0, 87, 132, 2, 1, 167, 255, 210, 3]
abbrev dktX2_init_2_4 : List UInt8 := dkwX2_init_2_4 ++ dktX2_init_2_5
def dkwX2_init_2_3 : List UInt8 := [185, 0, 38, 1, 0, 162, 0, 39, 42, 180, 0, 12, 187, 0, 44, 89, 43, 180, 0, 12, 28]
abbrev dktX2_init_2_3 : List UInt8 := dkwX2_init_2_3 ++ dktX2_init_2_4
def dkwX2_init_2_2 : List UInt8 := [181, 0, 27, 42, 6, 181, 0, 31, 42, 16, 60, 181, 0, 35, 3, 61, 28, 43, 180, 0, 12]
abbrev dktX2_init_2_2 : List UInt8 := dkwX2_init_2_2 ++ dktX2_init_2_3
def dkwX2_init_2_1 : List UInt8 := [181, 0, 18, 42, 187, 0, 9, 89, 183, 0, 11, 181, 0, 21, 42, 187, 0, 24, 89, 183, 0, 26]
abbrev dktX2_init_2_1 : List UInt8 := dkwX2_init_2_1 ++ dktX2_init_2_2
def dkwX2_init_2_0 : List UInt8 := [42, 183, 0, 3, 42, 187, 0, 9, 89, 183, 0, 11, 181, 0, 12, 42, 187, 0, 9, 89, 183, 0, 11]
abbrev dktX2_init_2_0 : List UInt8 := dkwX2_init_2_0 ++ dktX2_init_2_1
theorem dksX2_init_2_0 : cX2_init_2.data.toList.drop 0 = dktX2_init_2_0 := by decide +kernel
theorem dksX2_init_2_1 : cX2_init_2.data.toList.drop 23 = dktX2_init_2_1 := dk_seg dksX2_init_2_0 23 rfl rfl
theorem dksX2_init_2_2 : cX2_init_2.data.toList.drop 45 = dktX2_init_2_2 := dk_seg dksX2_init_2_1 22 rfl rfl
theorem dksX2_init_2_3 : cX2_init_2.data.toList.drop 66 = dktX2_init_2_3 := dk_seg dksX2_init_2_2 21 rfl rfl
theorem dksX2_init_2_4 : cX2_init_2.data.toList.drop 87 = dktX2_init_2_4 := dk_seg dksX2_init_2_3 21 rfl rfl
theorem dksX2_init_2_5 : cX2_init_2.data.toList.drop 111 = dktX2_init_2_5 := dk_seg dksX2_init_2_4 24 rfl rfl
theorem dksX2_init_2_6 : cX2_init_2.data.toList.drop 134 = dktX2_init_2_6 := dk_seg dksX2_init_2_5 23 rfl rfl
theorem dksX2_init_2_7 : cX2_init_2.data.toList.drop 158 = dktX2_init_2_7 := dk_seg dksX2_init_2_6 24 rfl rfl
theorem dksX2_init_2_8 : cX2_init_2.data.toList.drop 180 = dktX2_init_2_8 := dk_seg dksX2_init_2_7 22 rfl rfl
theorem dksX2_init_2_9 : cX2_init_2.data.toList.drop 200 = dktX2_init_2_9 := dk_seg dksX2_init_2_8 20 rfl rfl
theorem dksX2_init_2_10 : cX2_init_2.data.toList.drop 224 = dktX2_init_2_10 := dk_seg dksX2_init_2_9 24 rfl rfl
theorem dksX2_init_2_11 : cX2_init_2.data.toList.drop 248 = dktX2_init_2_11 := dk_seg dksX2_init_2_10 24 rfl rfl
theorem dksX2_init_2_12 : cX2_init_2.data.toList.drop 272 = dktX2_init_2_12 := dk_seg dksX2_init_2_11 24 rfl rfl
theorem dX2_init_2_0 : decode cX2_init_2 0 = .ok (.aload_n 0, 1) := dk_42 (dk_at dksX2_init_2_0 0 rfl rfl)
theorem dX2_init_2_1 : decode cX2_init_2 1 = .ok (.invokespecial 3, 3) := dk_183 0 3 (dk_at dksX2_init_2_0 1 rfl rfl)
theorem dX2_init_2_4 : decode cX2_init_2 4 = .ok (.aload_n 0, 1) := dk_42 (dk_at dksX2_init_2_0 4 rfl rfl)
theorem dX2_init_2_5 : decode cX2_init_2 5 = .ok (.new 9, 3) := dk_187 0 9 (dk_at dksX2_init_2_0 5 rfl rfl)
theorem dX2_init_2_8 : decode cX2_init_2 8 = .ok (.dup, 1) := dk_89 (dk_at dksX2_init_2_0 8 rfl rfl)
theorem dX2_init_2_9 : decode cX2_init_2 9 = .ok (.invokespecial 11, 3) := dk_183 0 11 (dk_at dksX2_init_2_0 9 rfl rfl)
theorem dX2_init_2_12 : decode cX2_init_2 12 = .ok (.putfield 12, 3) := dk_181 0 12 (dk_at dksX2_init_2_0 12 rfl rfl)
theorem dX2_init_2_15 : decode cX2_init_2 15 = .ok (.aload_n 0, 1) := dk_42 (dk_at dksX2_init_2_0 15 rfl rfl)
theorem dX2_init_2_16 : decode cX2_init_2 16 = .ok (.new 9, 3) := dk_187 0 9 (dk_at dksX2_init_2_0 16 rfl rfl)
theorem dX2_init_2_19 : decode cX2_init_2 19 = .ok (.dup, 1) := dk_89 (dk_at dksX2_init_2_0 19 rfl rfl)
theorem dX2_init_2_20 : decode cX2_init_2 20 = .ok (.invokespecial 11, 3) := dk_183 0 11 (dk_at dksX2_init_2_0 20 rfl rfl)
theorem dX2_init_2_23 : decode cX2_init_2 23 = .ok (.putfield 18, 3) := dk_181 0 18 (dk_at dksX2_init_2_1 0 rfl rfl)
theorem dX2_init_2_26 : decode cX2_init_2 26 = .ok (.aload_n 0, 1) := dk_42 (dk_at dksX2_init_2_1 3 rfl rfl)
theorem dX2_init_2_27 : decode cX2_init_2 27 = .ok (.new 9, 3) := dk_187 0 9 (dk_at dksX2_init_2_1 4 rfl rfl)
theorem dX2_init_2_30 : decode cX2_init_2 30 = .ok (.dup, 1) := dk_89 (dk_at dksX2_init_2_1 7 rfl rfl)
theorem dX2_init_2_31 : decode cX2_init_2 31 = .ok (.invokespecial 11, 3) := dk_183 0 11 (dk_at dksX2_init_2_1 8 rfl rfl)
theorem dX2_init_2_34 : decode cX2_init_2 34 = .ok (.putfield 21, 3) := dk_181 0 21 (dk_at dksX2_init_2_1 11 rfl rfl)
theorem dX2_init_2_37 : decode cX2_init_2 37 = .ok (.aload_n 0, 1) := dk_42 (dk_at dksX2_init_2_1 14 rfl rfl)
theorem dX2_init_2_38 : decode cX2_init_2 38 = .ok (.new 24, 3) := dk_187 0 24 (dk_at dksX2_init_2_1 15 rfl rfl)
theorem dX2_init_2_41 : decode cX2_init_2 41 = .ok (.dup, 1) := dk_89 (dk_at dksX2_init_2_1 18 rfl rfl)
theorem dX2_init_2_42 : decode cX2_init_2 42 = .ok (.invokespecial 26, 3) := dk_183 0 26 (dk_at dksX2_init_2_1 19 rfl rfl)
theorem dX2_init_2_45 : decode cX2_init_2 45 = .ok (.putfield 27, 3) := dk_181 0 27 (dk_at dksX2_init_2_2 0 rfl rfl)
theorem dX2_init_2_48 : decode cX2_init_2 48 = .ok (.aload_n 0, 1) := dk_42 (dk_at dksX2_init_2_2 3 rfl rfl)
theorem dX2_init_2_49 : decode cX2_init_2 49 = .ok (.iconst 3, 1) := dk_6 (dk_at dksX2_init_2_2 4 rfl rfl)
theorem dX2_init_2_50 : decode cX2_init_2 50 = .ok (.putfield 31, 3) := dk_181 0 31 (dk_at dksX2_init_2_2 5 rfl rfl)
theorem dX2_init_2_53 : decode cX2_init_2 53 = .ok (.aload_n 0, 1) := dk_42 (dk_at dksX2_init_2_2 8 rfl rfl)
theorem dX2_init_2_54 : decode cX2_init_2 54 = .ok (.bipush 60, 2) := dk_16 60 (dk_at dksX2_init_2_2 9 rfl rfl)
theorem dX2_init_2_56 : decode cX2_init_2 56 = .ok (.putfield 35, 3) := dk_181 0 35 (dk_at dksX2_init_2_2 11 rfl rfl)
theorem dX2_init_2_59 : decode cX2_init_2 59 = .ok (.iconst 0, 1) := dk_3 (dk_at dksX2_init_2_2 14 rfl rfl)
theorem dX2_init_2_60 : decode cX2_init_2 60 = .ok (.istore_n 2, 1) := dk_61 (dk_at dksX2_init_2_2 15 rfl rfl)
theorem dX2_init_2_61 : decode cX2_init_2 61 = .ok (.iload_n 2, 1) := dk_28 (dk_at dksX2_init_2_2 16 rfl rfl)
theorem dX2_init_2_62 : decode cX2_init_2 62 = .ok (.aload_n 1, 1) := dk_43 (dk_at dksX2_init_2_2 17 rfl rfl)
theorem dX2_init_2_63 : decode cX2_init_2 63 = .ok (.getfield 12, 3) := dk_180 0 12 (dk_at dksX2_init_2_2 18 rfl rfl)
theorem dX2_init_2_66 : decode cX2_init_2 66 = .ok (.invokeinterface 38 1, 5) := by decide +kernel
theorem dX2_init_2_71 : decode cX2_init_2 71 = .ok (.if_icmp .ge 39, 3) := dk_162 0 39 (dk_at dksX2_init_2_3 5 rfl rfl)
theorem dX2_init_2_74 : decode cX2_init_2 74 = .ok (.aload_n 0, 1) := dk_42 (dk_at dksX2_init_2_3 8 rfl rfl)
theorem dX2_init_2_75 : decode cX2_init_2 75 = .ok (.getfield 12, 3) := dk_180 0 12 (dk_at dksX2_init_2_3 9 rfl rfl)
theorem dX2_init_2_78 : decode cX2_init_2 78 = .ok (.new 44, 3) := dk_187 0 44 (dk_at dksX2_init_2_3 12 rfl rfl)
theorem dX2_init_2_81 : decode cX2_init_2 81 = .ok (.dup, 1) := dk_89 (dk_at dksX2_init_2_3 15 rfl rfl)
theorem dX2_init_2_82 : decode cX2_init_2 82 = .ok (.aload_n 1, 1) := dk_43 (dk_at dksX2_init_2_3 16 rfl rfl)
theorem dX2_init_2_83 : decode cX2_init_2 83 = .ok (.getfield 12, 3) := dk_180 0 12 (dk_at dksX2_init_2_3 17 rfl rfl)
theorem dX2_init_2_86 : decode cX2_init_2 86 = .ok (.iload_n 2, 1) := dk_28 (dk_at dksX2_init_2_3 20 rfl rfl)
theorem dX2_init_2_87 : decode cX2_init_2 87 = .ok (.invokeinterface 46 2, 5) := by decide +kernel
theorem dX2_init_2_92 : decode cX2_init_2 92 = .ok (.checkcast 44, 3) := dk_192 0 44 (dk_at dksX2_init_2_4 5 rfl rfl)
theorem dX2_init_2_95 : decode cX2_init_2 95 = .ok (.invokespecial 50, 3) := dk_183 0 50 (dk_at dksX2_init_2_4 8 rfl rfl)
theorem dX2_init_2_98 : decode cX2_init_2 98 = .ok (.invokeinterface 53 2, 5) := by decide +kernel
theorem dX2_init_2_103 : decode cX2_init_2 103 = .ok (.pop, 1) := dk_87 (dk_at dksX2_init_2_4 16 rfl rfl)
theorem dX2_init_2_104 : decode cX2_init_2 104 = .ok (.iinc 2 1, 3) := dk_132 2 1 (dk_at dksX2_init_2_4 17 rfl rfl)
theorem dX2_init_2_107 : decode cX2_init_2 107 = .ok (.goto (-46), 3) := dk_167 255 210 (dk_at dksX2_init_2_4 20 rfl rfl)
theorem dX2_init_2_110 : decode cX2_init_2 110 = .ok (.iconst 0, 1) := dk_3 (dk_at dksX2_init_2_4 23 rfl rfl)
theorem dX2_init_2_111 : decode cX2_init_2 111 = .ok (.istore_n 2, 1) := dk_61 (dk_at dksX2_init_2_5 0 rfl rfl)
theorem dX2_init_2_112 : decode cX2_init_2 112 = .ok (.iload_n 2, 1) := dk_28 (dk_at dksX2_init_2_5 1 rfl rfl)
theorem dX2_init_2_113 : decode cX2_init_2 113 = .ok (.aload_n 1, 1) := dk_43 (dk_at dksX2_init_2_5 2 rfl rfl)
theorem dX2_init_2_114 : decode cX2_init_2 114 = .ok (.getfield 18, 3) := dk_180 0 18 (dk_at dksX2_init_2_5 3 rfl rfl)
theorem dX2_init_2_117 : decode cX2_init_2 117 = .ok (.invokeinterface 38 1, 5) := by decide +kernel
theorem dX2_init_2_122 : decode cX2_init_2 122 = .ok (.if_icmp .ge 39, 3) := dk_162 0 39 (dk_at dksX2_init_2_5 11 rfl rfl)
theorem dX2_init_2_125 : decode cX2_init_2 125 = .ok (.aload_n 0, 1) := dk_42 (dk_at dksX2_init_2_5 14 rfl rfl)
theorem dX2_init_2_126 : decode cX2_init_2 126 = .ok (.getfield 18, 3) := dk_180 0 18 (dk_at dksX2_init_2_5 15 rfl rfl)
theorem dX2_init_2_129 : decode cX2_init_2 129 = .ok (.new 57, 3) := dk_187 0 57 (dk_at dksX2_init_2_5 18 rfl rfl)
theorem dX2_init_2_132 : decode cX2_init_2 132 = .ok (.dup, 1) := dk_89 (dk_at dksX2_init_2_5 21 rfl rfl)
theorem dX2_init_2_133 : decode cX2_init_2 133 = .ok (.aload_n 1, 1) := dk_43 (dk_at dksX2_init_2_5 22 rfl rfl)
theorem dX2_init_2_134 : decode cX2_init_2 134 = .ok (.getfield 18, 3) := dk_180 0 18 (dk_at dksX2_init_2_6 0 rfl rfl)
theorem dX2_init_2_137 : decode cX2_init_2 137 = .ok (.iload_n 2, 1) := dk_28 (dk_at dksX2_init_2_6 3 rfl rfl)
theorem dX2_init_2_138 : decode cX2_init_2 138 = .ok (.invokeinterface 46 2, 5) := by decide +kernel
theorem dX2_init_2_143 : decode cX2_init_2 143 = .ok (.checkcast 57, 3) := dk_192 0 57 (dk_at dksX2_init_2_6 9 rfl rfl)
theorem dX2_init_2_146 : decode cX2_init_2 146 = .ok (.invokespecial 59, 3) := dk_183 0 59 (dk_at dksX2_init_2_6 12 rfl rfl)
theorem dX2_init_2_149 : decode cX2_init_2 149 = .ok (.invokeinterface 53 2, 5) := by decide +kernel
theorem dX2_init_2_154 : decode cX2_init_2 154 = .ok (.pop, 1) := dk_87 (dk_at dksX2_init_2_6 20 rfl rfl)
theorem dX2_init_2_155 : decode cX2_init_2 155 = .ok (.iinc 2 1, 3) := dk_132 2 1 (dk_at dksX2_init_2_6 21 rfl rfl)
theorem dX2_init_2_158 : decode cX2_init_2 158 = .ok (.goto (-46), 3) := dk_167 255 210 (dk_at dksX2_init_2_7 0 rfl rfl)
theorem dX2_init_2_161 : decode cX2_init_2 161 = .ok (.iconst 0, 1) := dk_3 (dk_at dksX2_init_2_7 3 rfl rfl)
theorem dX2_init_2_162 : decode cX2_init_2 162 = .ok (.istore_n 2, 1) := dk_61 (dk_at dksX2_init_2_7 4 rfl rfl)
theorem dX2_init_2_163 : decode cX2_init_2 163 = .ok (.iload_n 2, 1) := dk_28 (dk_at dksX2_init_2_7 5 rfl rfl)
theorem dX2_init_2_164 : decode cX2_init_2 164 = .ok (.aload_n 1, 1) := dk_43 (dk_at dksX2_init_2_7 6 rfl rfl)
theorem dX2_init_2_165 : decode cX2_init_2 165 = .ok (.getfield 21, 3) := dk_180 0 21 (dk_at dksX2_init_2_7 7 rfl rfl)
theorem dX2_init_2_168 : decode cX2_init_2 168 = .ok (.invokeinterface 38 1, 5) := by decide +kernel
theorem dX2_init_2_173 : decode cX2_init_2 173 = .ok (.if_icmp .ge 39, 3) := dk_162 0 39 (dk_at dksX2_init_2_7 15 rfl rfl)
theorem dX2_init_2_176 : decode cX2_init_2 176 = .ok (.aload_n 0, 1) := dk_42 (dk_at dksX2_init_2_7 18 rfl rfl)
theorem dX2_init_2_177 : decode cX2_init_2 177 = .ok (.getfield 21, 3) := dk_180 0 21 (dk_at dksX2_init_2_7 19 rfl rfl)
theorem dX2_init_2_180 : decode cX2_init_2 180 = .ok (.new 62, 3) := dk_187 0 62 (dk_at dksX2_init_2_8 0 rfl rfl)
theorem dX2_init_2_183 : decode cX2_init_2 183 = .ok (.dup, 1) := dk_89 (dk_at dksX2_init_2_8 3 rfl rfl)
theorem dX2_init_2_184 : decode cX2_init_2 184 = .ok (.aload_n 1, 1) := dk_43 (dk_at dksX2_init_2_8 4 rfl rfl)
theorem dX2_init_2_185 : decode cX2_init_2 185 = .ok (.getfield 21, 3) := dk_180 0 21 (dk_at dksX2_init_2_8 5 rfl rfl)
theorem dX2_init_2_188 : decode cX2_init_2 188 = .ok (.iload_n 2, 1) := dk_28 (dk_at dksX2_init_2_8 8 rfl rfl)
theorem dX2_init_2_189 : decode cX2_init_2 189 = .ok (.invokeinterface 46 2, 5) := by decide +kernel
theorem dX2_init_2_194 : decode cX2_init_2 194 = .ok (.checkcast 62, 3) := dk_192 0 62 (dk_at dksX2_init_2_8 14 rfl rfl)
theorem dX2_init_2_197 : decode cX2_init_2 197 = .ok (.invokespecial 64, 3) := dk_183 0 64 (dk_at dksX2_init_2_8 17 rfl rfl)
theorem dX2_init_2_200 : decode cX2_init_2 200 = .ok (.invokeinterface 53 2, 5) := by decide +kernel
theorem dX2_init_2_205 : decode cX2_init_2 205 = .ok (.pop, 1) := dk_87 (dk_at dksX2_init_2_9 5 rfl rfl)
theorem dX2_init_2_206 : decode cX2_init_2 206 = .ok (.iinc 2 1, 3) := dk_132 2 1 (dk_at dksX2_init_2_9 6 rfl rfl)
theorem dX2_init_2_209 : decode cX2_init_2 209 = .ok (.goto (-46), 3) := dk_167 255 210 (dk_at dksX2_init_2_9 9 rfl rfl)
theorem dX2_init_2_212 : decode cX2_init_2 212 = .ok (.aload_n 0, 1) := dk_42 (dk_at dksX2_init_2_9 12 rfl rfl)
theorem dX2_init_2_213 : decode cX2_init_2 213 = .ok (.getfield 27, 3) := dk_180 0 27 (dk_at dksX2_init_2_9 13 rfl rfl)
theorem dX2_init_2_216 : decode cX2_init_2 216 = .ok (.aload_n 1, 1) := dk_43 (dk_at dksX2_init_2_9 16 rfl rfl)
theorem dX2_init_2_217 : decode cX2_init_2 217 = .ok (.getfield 27, 3) := dk_180 0 27 (dk_at dksX2_init_2_9 17 rfl rfl)
theorem dX2_init_2_220 : decode cX2_init_2 220 = .ok (.invokevirtual 67, 3) := dk_182 0 67 (dk_at dksX2_init_2_9 20 rfl rfl)
theorem dX2_init_2_223 : decode cX2_init_2 223 = .ok (.aload_n 0, 1) := dk_42 (dk_at dksX2_init_2_9 23 rfl rfl)
theorem dX2_init_2_224 : decode cX2_init_2 224 = .ok (.aload_n 1, 1) := dk_43 (dk_at dksX2_init_2_10 0 rfl rfl)
theorem dX2_init_2_225 : decode cX2_init_2 225 = .ok (.getfield 31, 3) := dk_180 0 31 (dk_at dksX2_init_2_10 1 rfl rfl)
theorem dX2_init_2_228 : decode cX2_init_2 228 = .ok (.putfield 31, 3) := dk_181 0 31 (dk_at dksX2_init_2_10 4 rfl rfl)
theorem dX2_init_2_231 : decode cX2_init_2 231 = .ok (.aload_n 0, 1) := dk_42 (dk_at dksX2_init_2_10 7 rfl rfl)
theorem dX2_init_2_232 : decode cX2_init_2 232 = .ok (.aload_n 1, 1) := dk_43 (dk_at dksX2_init_2_10 8 rfl rfl)
theorem dX2_init_2_233 : decode cX2_init_2 233 = .ok (.getfield 35, 3) := dk_180 0 35 (dk_at dksX2_init_2_10 9 rfl rfl)
theorem dX2_init_2_236 : decode cX2_init_2 236 = .ok (.putfield 35, 3) := dk_181 0 35 (dk_at dksX2_init_2_10 12 rfl rfl)
theorem dX2_init_2_239 : decode cX2_init_2 239 = .ok (.aload_n 0, 1) := dk_42 (dk_at dksX2_init_2_10 15 rfl rfl)
theorem dX2_init_2_240 : decode cX2_init_2 240 = .ok (.aload_n 1, 1) := dk_43 (dk_at dksX2_init_2_10 16 rfl rfl)
theorem dX2_init_2_241 : decode cX2_init_2 241 = .ok (.getfield 71, 3) := dk_180 0 71 (dk_at dksX2_init_2_10 17 rfl rfl)
theorem dX2_init_2_244 : decode cX2_init_2 244 = .ok (.putfield 71, 3) := dk_181 0 71 (dk_at dksX2_init_2_10 20 rfl rfl)
theorem dX2_init_2_247 : decode cX2_init_2 247 = .ok (.aload_n 0, 1) := dk_42 (dk_at dksX2_init_2_10 23 rfl rfl)
theorem dX2_init_2_248 : decode cX2_init_2 248 = .ok (.aload_n 1, 1) := dk_43 (dk_at dksX2_init_2_11 0 rfl rfl)
theorem dX2_init_2_249 : decode cX2_init_2 249 = .ok (.getfield 74, 3) := dk_180 0 74 (dk_at dksX2_init_2_11 1 rfl rfl)
theorem dX2_init_2_252 : decode cX2_init_2 252 = .ok (.putfield 74, 3) := dk_181 0 74 (dk_at dksX2_init_2_11 4 rfl rfl)
theorem dX2_init_2_255 : decode cX2_init_2 255 = .ok (.aload_n 0, 1) := dk_42 (dk_at dksX2_init_2_11 7 rfl rfl)
theorem dX2_init_2_256 : decode cX2_init_2 256 = .ok (.aload_n 1, 1) := dk_43 (dk_at dksX2_init_2_11 8 rfl rfl)
theorem dX2_init_2_257 : decode cX2_init_2 257 = .ok (.getfield 77, 3) := dk_180 0 77 (dk_at dksX2_init_2_11 9 rfl rfl)
theorem dX2_init_2_260 : decode cX2_init_2 260 = .ok (.putfield 77, 3) := dk_181 0 77 (dk_at dksX2_init_2_11 12 rfl rfl)
theorem dX2_init_2_263 : decode cX2_init_2 263 = .ok (.aload_n 0, 1) := dk_42 (dk_at dksX2_init_2_11 15 rfl rfl)
theorem dX2_init_2_264 : decode cX2_init_2 264 = .ok (.aload_n 1, 1) := dk_43 (dk_at dksX2_init_2_11 16 rfl rfl)
theorem dX2_init_2_265 : decode cX2_init_2 265 = .ok (.getfield 80, 3) := dk_180 0 80 (dk_at dksX2_init_2_11 17 rfl rfl)
theorem dX2_init_2_268 : decode cX2_init_2 268 = .ok (.putfield 80, 3) := dk_181 0 80 (dk_at dksX2_init_2_11 20 rfl rfl)
theorem dX2_init_2_271 : decode cX2_init_2 271 = .ok (.aload_n 0, 1) := dk_42 (dk_at dksX2_init_2_11 23 rfl rfl)
theorem dX2_init_2_272 : decode cX2_init_2 272 = .ok (.aload_n 1, 1) := dk_43 (dk_at dksX2_init_2_12 0 rfl rfl)
theorem dX2_init_2_273 : decode cX2_init_2 273 = .ok (.getfield 83, 3) := dk_180 0 83 (dk_at dksX2_init_2_12 1 rfl rfl)
theorem dX2_init_2_276 : decode cX2_init_2 276 = .ok (.putfield 83, 3) := dk_181 0 83 (dk_at dksX2_init_2_12 4 rfl rfl)
theorem dX2_init_2_279 : decode cX2_init_2 279 = .ok (.aload_n 0, 1) := dk_42 (dk_at dksX2_init_2_12 7 rfl rfl)
theorem dX2_init_2_280 : decode cX2_init_2 280 = .ok (.aload_n 1, 1) := dk_43 (dk_at dksX2_init_2_12 8 rfl rfl)
theorem dX2_init_2_281 : decode cX2_init_2 281 = .ok (.getfield 86, 3) := dk_180 0 86 (dk_at dksX2_init_2_12 9 rfl rfl)
theorem dX2_init_2_284 : decode cX2_init_2 284 = .ok (.putfield 86, 3) := dk_181 0 86 (dk_at dksX2_init_2_12 12 rfl rfl)
theorem dX2_init_2_287 : decode cX2_init_2 287 = .ok (.return_, 1) := dk_177 (dk_at dksX2_init_2_12 15 rfl rfl)
abbrev cX2_walks : ByteArray := prog_7_method_33_code
def yX2_walks : MethodName := ⟨RX2, "walks", "(I)I"⟩
def dkwX2_walks_9 : List UInt8 := [180, 0, 251, 29, 96, 181, 0, 251, 44, 89, 180, 0, 253, 29, 96, 181, 0, 253, 29, 172]
abbrev dktX2_walks_9 : List UInt8 := dkwX2_walks_9 ++ []
def dkwX2_walks_8 : List UInt8 := [154, 0, 15, 42, 180, 0, 27, 21, 4, 182, 0, 248, 132, 3, 1, 132, 4, 1, 167, 255, 179, 44, 89]
abbrev dktX2_walks_8 : List UInt8 := dkwX2_walks_8 ++ dktX2_walks_9
def dkwX2_walks_7 : List UInt8 := [154, 0, 39, 44, 25, 5, 180, 0, 133, 182, 0, 244, 153, 0, 27, 42, 180, 0, 27, 21, 4, 182, 0, 246]
abbrev dktX2_walks_7 : List UInt8 := dkwX2_walks_7 ++ dktX2_walks_8
def dkwX2_walks_6 : List UInt8 := [162, 0, 69, 42, 180, 0, 18, 21, 4, 185, 0, 46, 2, 0, 192, 0, 57, 58, 5, 25, 5, 180, 0, 104]
abbrev dktX2_walks_6 : List UInt8 := dkwX2_walks_6 ++ dktX2_walks_7
def dkwX2_walks_5 : List UInt8 := [132, 3, 1, 167, 255, 178, 3, 62, 3, 54, 4, 21, 4, 42, 180, 0, 18, 185, 0, 38, 1, 0]
abbrev dktX2_walks_5 : List UInt8 := dkwX2_walks_5 ++ dktX2_walks_6
def dkwX2_walks_4 : List UInt8 := [180, 0, 156, 96, 181, 0, 83, 42, 180, 0, 12, 29, 185, 0, 46, 2, 0, 192, 0, 44, 3, 181, 0, 156]
abbrev dktX2_walks_4 : List UInt8 := dkwX2_walks_4 ++ dktX2_walks_5
def dkwX2_walks_3 : List UInt8 := [96, 181, 0, 243, 42, 89, 180, 0, 83, 42, 180, 0, 12, 29, 185, 0, 46, 2, 0, 192, 0, 44]
abbrev dktX2_walks_3 : List UInt8 := dkwX2_walks_3 ++ dktX2_walks_4
def dkwX2_walks_2 : List UInt8 := [163, 0, 76, 44, 89, 180, 0, 243, 42, 180, 0, 12, 29, 185, 0, 46, 2, 0, 192, 0, 44, 180, 0, 156]
abbrev dktX2_walks_2 : List UInt8 := dkwX2_walks_2 ++ dktX2_walks_3
def dkwX2_walks_1 : List UInt8 := [180, 0, 21, 27, 185, 0, 46, 2, 0, 192, 0, 62, 77, 44, 180, 0, 237, 62, 29, 44, 180, 0, 240]
abbrev dktX2_walks_1 : List UInt8 := dkwX2_walks_1 ++ dktX2_walks_2
def dkwX2_walks_0 : List UInt8 := [27, 3, 42, 180, 0, 21, 185, 0, 38, 1, 0, 4, 100, 184, 0, 89, 16, 10, 27, 184, 0, 202, 42]
abbrev dktX2_walks_0 : List UInt8 := dkwX2_walks_0 ++ dktX2_walks_1
theorem dksX2_walks_0 : cX2_walks.data.toList.drop 0 = dktX2_walks_0 := by decide +kernel
theorem dksX2_walks_1 : cX2_walks.data.toList.drop 23 = dktX2_walks_1 := dk_seg dksX2_walks_0 23 rfl rfl
theorem dksX2_walks_2 : cX2_walks.data.toList.drop 46 = dktX2_walks_2 := dk_seg dksX2_walks_1 23 rfl rfl
theorem dksX2_walks_3 : cX2_walks.data.toList.drop 70 = dktX2_walks_3 := dk_seg dksX2_walks_2 24 rfl rfl
theorem dksX2_walks_4 : cX2_walks.data.toList.drop 92 = dktX2_walks_4 := dk_seg dksX2_walks_3 22 rfl rfl
theorem dksX2_walks_5 : cX2_walks.data.toList.drop 116 = dktX2_walks_5 := dk_seg dksX2_walks_4 24 rfl rfl
theorem dksX2_walks_6 : cX2_walks.data.toList.drop 138 = dktX2_walks_6 := dk_seg dksX2_walks_5 22 rfl rfl
theorem dksX2_walks_7 : cX2_walks.data.toList.drop 162 = dktX2_walks_7 := dk_seg dksX2_walks_6 24 rfl rfl
theorem dksX2_walks_8 : cX2_walks.data.toList.drop 186 = dktX2_walks_8 := dk_seg dksX2_walks_7 24 rfl rfl
theorem dksX2_walks_9 : cX2_walks.data.toList.drop 209 = dktX2_walks_9 := dk_seg dksX2_walks_8 23 rfl rfl
theorem dX2_walks_0 : decode cX2_walks 0 = .ok (.iload_n 1, 1) := dk_27 (dk_at dksX2_walks_0 0 rfl rfl)
theorem dX2_walks_1 : decode cX2_walks 1 = .ok (.iconst 0, 1) := dk_3 (dk_at dksX2_walks_0 1 rfl rfl)
theorem dX2_walks_2 : decode cX2_walks 2 = .ok (.aload_n 0, 1) := dk_42 (dk_at dksX2_walks_0 2 rfl rfl)
theorem dX2_walks_3 : decode cX2_walks 3 = .ok (.getfield 21, 3) := dk_180 0 21 (dk_at dksX2_walks_0 3 rfl rfl)
theorem dX2_walks_6 : decode cX2_walks 6 = .ok (.invokeinterface 38 1, 5) := by decide +kernel
theorem dX2_walks_11 : decode cX2_walks 11 = .ok (.iconst 1, 1) := dk_4 (dk_at dksX2_walks_0 11 rfl rfl)
theorem dX2_walks_12 : decode cX2_walks 12 = .ok (.isub, 1) := dk_100 (dk_at dksX2_walks_0 12 rfl rfl)
theorem dX2_walks_13 : decode cX2_walks 13 = .ok (.invokestatic 89, 3) := dk_184 0 89 (dk_at dksX2_walks_0 13 rfl rfl)
theorem dX2_walks_16 : decode cX2_walks 16 = .ok (.bipush 10, 2) := dk_16 10 (dk_at dksX2_walks_0 16 rfl rfl)
theorem dX2_walks_18 : decode cX2_walks 18 = .ok (.iload_n 1, 1) := dk_27 (dk_at dksX2_walks_0 18 rfl rfl)
theorem dX2_walks_19 : decode cX2_walks 19 = .ok (.invokestatic 202, 3) := dk_184 0 202 (dk_at dksX2_walks_0 19 rfl rfl)
theorem dX2_walks_22 : decode cX2_walks 22 = .ok (.aload_n 0, 1) := dk_42 (dk_at dksX2_walks_0 22 rfl rfl)
theorem dX2_walks_23 : decode cX2_walks 23 = .ok (.getfield 21, 3) := dk_180 0 21 (dk_at dksX2_walks_1 0 rfl rfl)
theorem dX2_walks_26 : decode cX2_walks 26 = .ok (.iload_n 1, 1) := dk_27 (dk_at dksX2_walks_1 3 rfl rfl)
theorem dX2_walks_27 : decode cX2_walks 27 = .ok (.invokeinterface 46 2, 5) := by decide +kernel
theorem dX2_walks_32 : decode cX2_walks 32 = .ok (.checkcast 62, 3) := dk_192 0 62 (dk_at dksX2_walks_1 9 rfl rfl)
theorem dX2_walks_35 : decode cX2_walks 35 = .ok (.astore_n 2, 1) := dk_77 (dk_at dksX2_walks_1 12 rfl rfl)
theorem dX2_walks_36 : decode cX2_walks 36 = .ok (.aload_n 2, 1) := dk_44 (dk_at dksX2_walks_1 13 rfl rfl)
theorem dX2_walks_37 : decode cX2_walks 37 = .ok (.getfield 237, 3) := dk_180 0 237 (dk_at dksX2_walks_1 14 rfl rfl)
theorem dX2_walks_40 : decode cX2_walks 40 = .ok (.istore_n 3, 1) := dk_62 (dk_at dksX2_walks_1 17 rfl rfl)
theorem dX2_walks_41 : decode cX2_walks 41 = .ok (.iload_n 3, 1) := dk_29 (dk_at dksX2_walks_1 18 rfl rfl)
theorem dX2_walks_42 : decode cX2_walks 42 = .ok (.aload_n 2, 1) := dk_44 (dk_at dksX2_walks_1 19 rfl rfl)
theorem dX2_walks_43 : decode cX2_walks 43 = .ok (.getfield 240, 3) := dk_180 0 240 (dk_at dksX2_walks_1 20 rfl rfl)
theorem dX2_walks_46 : decode cX2_walks 46 = .ok (.if_icmp .gt 76, 3) := dk_163 0 76 (dk_at dksX2_walks_2 0 rfl rfl)
theorem dX2_walks_49 : decode cX2_walks 49 = .ok (.aload_n 2, 1) := dk_44 (dk_at dksX2_walks_2 3 rfl rfl)
theorem dX2_walks_50 : decode cX2_walks 50 = .ok (.dup, 1) := dk_89 (dk_at dksX2_walks_2 4 rfl rfl)
theorem dX2_walks_51 : decode cX2_walks 51 = .ok (.getfield 243, 3) := dk_180 0 243 (dk_at dksX2_walks_2 5 rfl rfl)
theorem dX2_walks_54 : decode cX2_walks 54 = .ok (.aload_n 0, 1) := dk_42 (dk_at dksX2_walks_2 8 rfl rfl)
theorem dX2_walks_55 : decode cX2_walks 55 = .ok (.getfield 12, 3) := dk_180 0 12 (dk_at dksX2_walks_2 9 rfl rfl)
theorem dX2_walks_58 : decode cX2_walks 58 = .ok (.iload_n 3, 1) := dk_29 (dk_at dksX2_walks_2 12 rfl rfl)
theorem dX2_walks_59 : decode cX2_walks 59 = .ok (.invokeinterface 46 2, 5) := by decide +kernel
theorem dX2_walks_64 : decode cX2_walks 64 = .ok (.checkcast 44, 3) := dk_192 0 44 (dk_at dksX2_walks_2 18 rfl rfl)
theorem dX2_walks_67 : decode cX2_walks 67 = .ok (.getfield 156, 3) := dk_180 0 156 (dk_at dksX2_walks_2 21 rfl rfl)
theorem dX2_walks_70 : decode cX2_walks 70 = .ok (.iadd, 1) := dk_96 (dk_at dksX2_walks_3 0 rfl rfl)
theorem dX2_walks_71 : decode cX2_walks 71 = .ok (.putfield 243, 3) := dk_181 0 243 (dk_at dksX2_walks_3 1 rfl rfl)
theorem dX2_walks_74 : decode cX2_walks 74 = .ok (.aload_n 0, 1) := dk_42 (dk_at dksX2_walks_3 4 rfl rfl)
theorem dX2_walks_75 : decode cX2_walks 75 = .ok (.dup, 1) := dk_89 (dk_at dksX2_walks_3 5 rfl rfl)
theorem dX2_walks_76 : decode cX2_walks 76 = .ok (.getfield 83, 3) := dk_180 0 83 (dk_at dksX2_walks_3 6 rfl rfl)
theorem dX2_walks_79 : decode cX2_walks 79 = .ok (.aload_n 0, 1) := dk_42 (dk_at dksX2_walks_3 9 rfl rfl)
theorem dX2_walks_80 : decode cX2_walks 80 = .ok (.getfield 12, 3) := dk_180 0 12 (dk_at dksX2_walks_3 10 rfl rfl)
theorem dX2_walks_83 : decode cX2_walks 83 = .ok (.iload_n 3, 1) := dk_29 (dk_at dksX2_walks_3 13 rfl rfl)
theorem dX2_walks_84 : decode cX2_walks 84 = .ok (.invokeinterface 46 2, 5) := by decide +kernel
theorem dX2_walks_89 : decode cX2_walks 89 = .ok (.checkcast 44, 3) := dk_192 0 44 (dk_at dksX2_walks_3 19 rfl rfl)
theorem dX2_walks_92 : decode cX2_walks 92 = .ok (.getfield 156, 3) := dk_180 0 156 (dk_at dksX2_walks_4 0 rfl rfl)
theorem dX2_walks_95 : decode cX2_walks 95 = .ok (.iadd, 1) := dk_96 (dk_at dksX2_walks_4 3 rfl rfl)
theorem dX2_walks_96 : decode cX2_walks 96 = .ok (.putfield 83, 3) := dk_181 0 83 (dk_at dksX2_walks_4 4 rfl rfl)
theorem dX2_walks_99 : decode cX2_walks 99 = .ok (.aload_n 0, 1) := dk_42 (dk_at dksX2_walks_4 7 rfl rfl)
theorem dX2_walks_100 : decode cX2_walks 100 = .ok (.getfield 12, 3) := dk_180 0 12 (dk_at dksX2_walks_4 8 rfl rfl)
theorem dX2_walks_103 : decode cX2_walks 103 = .ok (.iload_n 3, 1) := dk_29 (dk_at dksX2_walks_4 11 rfl rfl)
theorem dX2_walks_104 : decode cX2_walks 104 = .ok (.invokeinterface 46 2, 5) := by decide +kernel
theorem dX2_walks_109 : decode cX2_walks 109 = .ok (.checkcast 44, 3) := dk_192 0 44 (dk_at dksX2_walks_4 17 rfl rfl)
theorem dX2_walks_112 : decode cX2_walks 112 = .ok (.iconst 0, 1) := dk_3 (dk_at dksX2_walks_4 20 rfl rfl)
theorem dX2_walks_113 : decode cX2_walks 113 = .ok (.putfield 156, 3) := dk_181 0 156 (dk_at dksX2_walks_4 21 rfl rfl)
theorem dX2_walks_116 : decode cX2_walks 116 = .ok (.iinc 3 1, 3) := dk_132 3 1 (dk_at dksX2_walks_5 0 rfl rfl)
theorem dX2_walks_119 : decode cX2_walks 119 = .ok (.goto (-78), 3) := dk_167 255 178 (dk_at dksX2_walks_5 3 rfl rfl)
theorem dX2_walks_122 : decode cX2_walks 122 = .ok (.iconst 0, 1) := dk_3 (dk_at dksX2_walks_5 6 rfl rfl)
theorem dX2_walks_123 : decode cX2_walks 123 = .ok (.istore_n 3, 1) := dk_62 (dk_at dksX2_walks_5 7 rfl rfl)
theorem dX2_walks_124 : decode cX2_walks 124 = .ok (.iconst 0, 1) := dk_3 (dk_at dksX2_walks_5 8 rfl rfl)
theorem dX2_walks_125 : decode cX2_walks 125 = .ok (.istore 4, 2) := dk_54 4 (dk_at dksX2_walks_5 9 rfl rfl)
theorem dX2_walks_127 : decode cX2_walks 127 = .ok (.iload 4, 2) := dk_21 4 (dk_at dksX2_walks_5 11 rfl rfl)
theorem dX2_walks_129 : decode cX2_walks 129 = .ok (.aload_n 0, 1) := dk_42 (dk_at dksX2_walks_5 13 rfl rfl)
theorem dX2_walks_130 : decode cX2_walks 130 = .ok (.getfield 18, 3) := dk_180 0 18 (dk_at dksX2_walks_5 14 rfl rfl)
theorem dX2_walks_133 : decode cX2_walks 133 = .ok (.invokeinterface 38 1, 5) := by decide +kernel
theorem dX2_walks_138 : decode cX2_walks 138 = .ok (.if_icmp .ge 69, 3) := dk_162 0 69 (dk_at dksX2_walks_6 0 rfl rfl)
theorem dX2_walks_141 : decode cX2_walks 141 = .ok (.aload_n 0, 1) := dk_42 (dk_at dksX2_walks_6 3 rfl rfl)
theorem dX2_walks_142 : decode cX2_walks 142 = .ok (.getfield 18, 3) := dk_180 0 18 (dk_at dksX2_walks_6 4 rfl rfl)
theorem dX2_walks_145 : decode cX2_walks 145 = .ok (.iload 4, 2) := dk_21 4 (dk_at dksX2_walks_6 7 rfl rfl)
theorem dX2_walks_147 : decode cX2_walks 147 = .ok (.invokeinterface 46 2, 5) := by decide +kernel
theorem dX2_walks_152 : decode cX2_walks 152 = .ok (.checkcast 57, 3) := dk_192 0 57 (dk_at dksX2_walks_6 14 rfl rfl)
theorem dX2_walks_155 : decode cX2_walks 155 = .ok (.astore 5, 2) := dk_58 5 (dk_at dksX2_walks_6 17 rfl rfl)
theorem dX2_walks_157 : decode cX2_walks 157 = .ok (.aload 5, 2) := dk_25 5 (dk_at dksX2_walks_6 19 rfl rfl)
theorem dX2_walks_159 : decode cX2_walks 159 = .ok (.getfield 104, 3) := dk_180 0 104 (dk_at dksX2_walks_6 21 rfl rfl)
theorem dX2_walks_162 : decode cX2_walks 162 = .ok (.ifCond .ne 39, 3) := dk_154 0 39 (dk_at dksX2_walks_7 0 rfl rfl)
theorem dX2_walks_165 : decode cX2_walks 165 = .ok (.aload_n 2, 1) := dk_44 (dk_at dksX2_walks_7 3 rfl rfl)
theorem dX2_walks_166 : decode cX2_walks 166 = .ok (.aload 5, 2) := dk_25 5 (dk_at dksX2_walks_7 4 rfl rfl)
theorem dX2_walks_168 : decode cX2_walks 168 = .ok (.getfield 133, 3) := dk_180 0 133 (dk_at dksX2_walks_7 6 rfl rfl)
theorem dX2_walks_171 : decode cX2_walks 171 = .ok (.invokevirtual 244, 3) := dk_182 0 244 (dk_at dksX2_walks_7 9 rfl rfl)
theorem dX2_walks_174 : decode cX2_walks 174 = .ok (.ifCond .eq 27, 3) := dk_153 0 27 (dk_at dksX2_walks_7 12 rfl rfl)
theorem dX2_walks_177 : decode cX2_walks 177 = .ok (.aload_n 0, 1) := dk_42 (dk_at dksX2_walks_7 15 rfl rfl)
theorem dX2_walks_178 : decode cX2_walks 178 = .ok (.getfield 27, 3) := dk_180 0 27 (dk_at dksX2_walks_7 16 rfl rfl)
theorem dX2_walks_181 : decode cX2_walks 181 = .ok (.iload 4, 2) := dk_21 4 (dk_at dksX2_walks_7 19 rfl rfl)
theorem dX2_walks_183 : decode cX2_walks 183 = .ok (.invokevirtual 246, 3) := dk_182 0 246 (dk_at dksX2_walks_7 21 rfl rfl)
theorem dX2_walks_186 : decode cX2_walks 186 = .ok (.ifCond .ne 15, 3) := dk_154 0 15 (dk_at dksX2_walks_8 0 rfl rfl)
theorem dX2_walks_189 : decode cX2_walks 189 = .ok (.aload_n 0, 1) := dk_42 (dk_at dksX2_walks_8 3 rfl rfl)
theorem dX2_walks_190 : decode cX2_walks 190 = .ok (.getfield 27, 3) := dk_180 0 27 (dk_at dksX2_walks_8 4 rfl rfl)
theorem dX2_walks_193 : decode cX2_walks 193 = .ok (.iload 4, 2) := dk_21 4 (dk_at dksX2_walks_8 7 rfl rfl)
theorem dX2_walks_195 : decode cX2_walks 195 = .ok (.invokevirtual 248, 3) := dk_182 0 248 (dk_at dksX2_walks_8 9 rfl rfl)
theorem dX2_walks_198 : decode cX2_walks 198 = .ok (.iinc 3 1, 3) := dk_132 3 1 (dk_at dksX2_walks_8 12 rfl rfl)
theorem dX2_walks_201 : decode cX2_walks 201 = .ok (.iinc 4 1, 3) := dk_132 4 1 (dk_at dksX2_walks_8 15 rfl rfl)
theorem dX2_walks_204 : decode cX2_walks 204 = .ok (.goto (-77), 3) := dk_167 255 179 (dk_at dksX2_walks_8 18 rfl rfl)
theorem dX2_walks_207 : decode cX2_walks 207 = .ok (.aload_n 2, 1) := dk_44 (dk_at dksX2_walks_8 21 rfl rfl)
theorem dX2_walks_208 : decode cX2_walks 208 = .ok (.dup, 1) := dk_89 (dk_at dksX2_walks_8 22 rfl rfl)
theorem dX2_walks_209 : decode cX2_walks 209 = .ok (.getfield 251, 3) := dk_180 0 251 (dk_at dksX2_walks_9 0 rfl rfl)
theorem dX2_walks_212 : decode cX2_walks 212 = .ok (.iload_n 3, 1) := dk_29 (dk_at dksX2_walks_9 3 rfl rfl)
theorem dX2_walks_213 : decode cX2_walks 213 = .ok (.iadd, 1) := dk_96 (dk_at dksX2_walks_9 4 rfl rfl)
theorem dX2_walks_214 : decode cX2_walks 214 = .ok (.putfield 251, 3) := dk_181 0 251 (dk_at dksX2_walks_9 5 rfl rfl)
theorem dX2_walks_217 : decode cX2_walks 217 = .ok (.aload_n 2, 1) := dk_44 (dk_at dksX2_walks_9 8 rfl rfl)
theorem dX2_walks_218 : decode cX2_walks 218 = .ok (.dup, 1) := dk_89 (dk_at dksX2_walks_9 9 rfl rfl)
theorem dX2_walks_219 : decode cX2_walks 219 = .ok (.getfield 253, 3) := dk_180 0 253 (dk_at dksX2_walks_9 10 rfl rfl)
theorem dX2_walks_222 : decode cX2_walks 222 = .ok (.iload_n 3, 1) := dk_29 (dk_at dksX2_walks_9 13 rfl rfl)
theorem dX2_walks_223 : decode cX2_walks 223 = .ok (.iadd, 1) := dk_96 (dk_at dksX2_walks_9 14 rfl rfl)
theorem dX2_walks_224 : decode cX2_walks 224 = .ok (.putfield 253, 3) := dk_181 0 253 (dk_at dksX2_walks_9 15 rfl rfl)
theorem dX2_walks_227 : decode cX2_walks 227 = .ok (.iload_n 3, 1) := dk_29 (dk_at dksX2_walks_9 18 rfl rfl)
theorem dX2_walks_228 : decode cX2_walks 228 = .ok (.ireturn, 1) := dk_172 (dk_at dksX2_walks_9 19 rfl rfl)
abbrev cX2_passes : ByteArray := prog_7_method_32_code
def yX2_passes : MethodName := ⟨RX2, "passes", "(I)I"⟩
def dkwX2_passes_1 : List UInt8 := [132, 3, 1, 167, 255, 244, 42, 4, 182, 0, 231, 28, 100, 172]
abbrev dktX2_passes_1 : List UInt8 := dkwX2_passes_1 ++ []
def dkwX2_passes_0 : List UInt8 := [27, 4, 16, 99, 184, 0, 206, 42, 4, 182, 0, 231, 61, 3, 62, 29, 27, 162, 0, 13, 42, 182, 0, 234]
abbrev dktX2_passes_0 : List UInt8 := dkwX2_passes_0 ++ dktX2_passes_1
theorem dksX2_passes_0 : cX2_passes.data.toList.drop 0 = dktX2_passes_0 := by decide +kernel
theorem dksX2_passes_1 : cX2_passes.data.toList.drop 24 = dktX2_passes_1 := dk_seg dksX2_passes_0 24 rfl rfl
theorem dX2_passes_0 : decode cX2_passes 0 = .ok (.iload_n 1, 1) := dk_27 (dk_at dksX2_passes_0 0 rfl rfl)
theorem dX2_passes_1 : decode cX2_passes 1 = .ok (.iconst 1, 1) := dk_4 (dk_at dksX2_passes_0 1 rfl rfl)
theorem dX2_passes_2 : decode cX2_passes 2 = .ok (.bipush 99, 2) := dk_16 99 (dk_at dksX2_passes_0 2 rfl rfl)
theorem dX2_passes_4 : decode cX2_passes 4 = .ok (.invokestatic 206, 3) := dk_184 0 206 (dk_at dksX2_passes_0 4 rfl rfl)
theorem dX2_passes_7 : decode cX2_passes 7 = .ok (.aload_n 0, 1) := dk_42 (dk_at dksX2_passes_0 7 rfl rfl)
theorem dX2_passes_8 : decode cX2_passes 8 = .ok (.iconst 1, 1) := dk_4 (dk_at dksX2_passes_0 8 rfl rfl)
theorem dX2_passes_9 : decode cX2_passes 9 = .ok (.invokevirtual 231, 3) := dk_182 0 231 (dk_at dksX2_passes_0 9 rfl rfl)
theorem dX2_passes_12 : decode cX2_passes 12 = .ok (.istore_n 2, 1) := dk_61 (dk_at dksX2_passes_0 12 rfl rfl)
theorem dX2_passes_13 : decode cX2_passes 13 = .ok (.iconst 0, 1) := dk_3 (dk_at dksX2_passes_0 13 rfl rfl)
theorem dX2_passes_14 : decode cX2_passes 14 = .ok (.istore_n 3, 1) := dk_62 (dk_at dksX2_passes_0 14 rfl rfl)
theorem dX2_passes_15 : decode cX2_passes 15 = .ok (.iload_n 3, 1) := dk_29 (dk_at dksX2_passes_0 15 rfl rfl)
theorem dX2_passes_16 : decode cX2_passes 16 = .ok (.iload_n 1, 1) := dk_27 (dk_at dksX2_passes_0 16 rfl rfl)
theorem dX2_passes_17 : decode cX2_passes 17 = .ok (.if_icmp .ge 13, 3) := dk_162 0 13 (dk_at dksX2_passes_0 17 rfl rfl)
theorem dX2_passes_20 : decode cX2_passes 20 = .ok (.aload_n 0, 1) := dk_42 (dk_at dksX2_passes_0 20 rfl rfl)
theorem dX2_passes_21 : decode cX2_passes 21 = .ok (.invokevirtual 234, 3) := dk_182 0 234 (dk_at dksX2_passes_0 21 rfl rfl)
theorem dX2_passes_24 : decode cX2_passes 24 = .ok (.iinc 3 1, 3) := dk_132 3 1 (dk_at dksX2_passes_1 0 rfl rfl)
theorem dX2_passes_27 : decode cX2_passes 27 = .ok (.goto (-12), 3) := dk_167 255 244 (dk_at dksX2_passes_1 3 rfl rfl)
theorem dX2_passes_30 : decode cX2_passes 30 = .ok (.aload_n 0, 1) := dk_42 (dk_at dksX2_passes_1 6 rfl rfl)
theorem dX2_passes_31 : decode cX2_passes 31 = .ok (.iconst 1, 1) := dk_4 (dk_at dksX2_passes_1 7 rfl rfl)
theorem dX2_passes_32 : decode cX2_passes 32 = .ok (.invokevirtual 231, 3) := dk_182 0 231 (dk_at dksX2_passes_1 8 rfl rfl)
theorem dX2_passes_35 : decode cX2_passes 35 = .ok (.iload_n 2, 1) := dk_28 (dk_at dksX2_passes_1 11 rfl rfl)
theorem dX2_passes_36 : decode cX2_passes 36 = .ok (.isub, 1) := dk_100 (dk_at dksX2_passes_1 12 rfl rfl)
theorem dX2_passes_37 : decode cX2_passes 37 = .ok (.ireturn, 1) := dk_172 (dk_at dksX2_passes_1 13 rfl rfl)
abbrev cX2_countIn : ByteArray := prog_7_method_6_code
def yX2_countIn : MethodName := ⟨RX2, "countIn", "(I)I"⟩
def dkwX2_countIn_2 : List UInt8 := [132, 3, 1, 167, 255, 212, 28, 172]
abbrev dktX2_countIn_2 : List UInt8 := dkwX2_countIn_2 ++ []
def dkwX2_countIn_1 : List UInt8 := [185, 0, 46, 2, 0, 192, 0, 57, 180, 0, 104, 27, 160, 0, 7, 4, 167, 0, 4, 3, 96, 61]
abbrev dktX2_countIn_1 : List UInt8 := dkwX2_countIn_1 ++ dktX2_countIn_2
def dkwX2_countIn_0 : List UInt8 := [3, 61, 3, 62, 29, 42, 180, 0, 18, 185, 0, 38, 1, 0, 162, 0, 37, 28, 42, 180, 0, 18, 29]
abbrev dktX2_countIn_0 : List UInt8 := dkwX2_countIn_0 ++ dktX2_countIn_1
theorem dksX2_countIn_0 : cX2_countIn.data.toList.drop 0 = dktX2_countIn_0 := by decide +kernel
theorem dksX2_countIn_1 : cX2_countIn.data.toList.drop 23 = dktX2_countIn_1 := dk_seg dksX2_countIn_0 23 rfl rfl
theorem dksX2_countIn_2 : cX2_countIn.data.toList.drop 45 = dktX2_countIn_2 := dk_seg dksX2_countIn_1 22 rfl rfl
theorem dX2_countIn_0 : decode cX2_countIn 0 = .ok (.iconst 0, 1) := dk_3 (dk_at dksX2_countIn_0 0 rfl rfl)
theorem dX2_countIn_1 : decode cX2_countIn 1 = .ok (.istore_n 2, 1) := dk_61 (dk_at dksX2_countIn_0 1 rfl rfl)
theorem dX2_countIn_2 : decode cX2_countIn 2 = .ok (.iconst 0, 1) := dk_3 (dk_at dksX2_countIn_0 2 rfl rfl)
theorem dX2_countIn_3 : decode cX2_countIn 3 = .ok (.istore_n 3, 1) := dk_62 (dk_at dksX2_countIn_0 3 rfl rfl)
theorem dX2_countIn_4 : decode cX2_countIn 4 = .ok (.iload_n 3, 1) := dk_29 (dk_at dksX2_countIn_0 4 rfl rfl)
theorem dX2_countIn_5 : decode cX2_countIn 5 = .ok (.aload_n 0, 1) := dk_42 (dk_at dksX2_countIn_0 5 rfl rfl)
theorem dX2_countIn_6 : decode cX2_countIn 6 = .ok (.getfield 18, 3) := dk_180 0 18 (dk_at dksX2_countIn_0 6 rfl rfl)
theorem dX2_countIn_9 : decode cX2_countIn 9 = .ok (.invokeinterface 38 1, 5) := by decide +kernel
theorem dX2_countIn_14 : decode cX2_countIn 14 = .ok (.if_icmp .ge 37, 3) := dk_162 0 37 (dk_at dksX2_countIn_0 14 rfl rfl)
theorem dX2_countIn_17 : decode cX2_countIn 17 = .ok (.iload_n 2, 1) := dk_28 (dk_at dksX2_countIn_0 17 rfl rfl)
theorem dX2_countIn_18 : decode cX2_countIn 18 = .ok (.aload_n 0, 1) := dk_42 (dk_at dksX2_countIn_0 18 rfl rfl)
theorem dX2_countIn_19 : decode cX2_countIn 19 = .ok (.getfield 18, 3) := dk_180 0 18 (dk_at dksX2_countIn_0 19 rfl rfl)
theorem dX2_countIn_22 : decode cX2_countIn 22 = .ok (.iload_n 3, 1) := dk_29 (dk_at dksX2_countIn_0 22 rfl rfl)
theorem dX2_countIn_23 : decode cX2_countIn 23 = .ok (.invokeinterface 46 2, 5) := by decide +kernel
theorem dX2_countIn_28 : decode cX2_countIn 28 = .ok (.checkcast 57, 3) := dk_192 0 57 (dk_at dksX2_countIn_1 5 rfl rfl)
theorem dX2_countIn_31 : decode cX2_countIn 31 = .ok (.getfield 104, 3) := dk_180 0 104 (dk_at dksX2_countIn_1 8 rfl rfl)
theorem dX2_countIn_34 : decode cX2_countIn 34 = .ok (.iload_n 1, 1) := dk_27 (dk_at dksX2_countIn_1 11 rfl rfl)
theorem dX2_countIn_35 : decode cX2_countIn 35 = .ok (.if_icmp .ne 7, 3) := dk_160 0 7 (dk_at dksX2_countIn_1 12 rfl rfl)
theorem dX2_countIn_38 : decode cX2_countIn 38 = .ok (.iconst 1, 1) := dk_4 (dk_at dksX2_countIn_1 15 rfl rfl)
theorem dX2_countIn_39 : decode cX2_countIn 39 = .ok (.goto 4, 3) := dk_167 0 4 (dk_at dksX2_countIn_1 16 rfl rfl)
theorem dX2_countIn_42 : decode cX2_countIn 42 = .ok (.iconst 0, 1) := dk_3 (dk_at dksX2_countIn_1 19 rfl rfl)
theorem dX2_countIn_43 : decode cX2_countIn 43 = .ok (.iadd, 1) := dk_96 (dk_at dksX2_countIn_1 20 rfl rfl)
theorem dX2_countIn_44 : decode cX2_countIn 44 = .ok (.istore_n 2, 1) := dk_61 (dk_at dksX2_countIn_1 21 rfl rfl)
theorem dX2_countIn_45 : decode cX2_countIn 45 = .ok (.iinc 3 1, 3) := dk_132 3 1 (dk_at dksX2_countIn_2 0 rfl rfl)
theorem dX2_countIn_48 : decode cX2_countIn 48 = .ok (.goto (-44), 3) := dk_167 255 212 (dk_at dksX2_countIn_2 3 rfl rfl)
theorem dX2_countIn_51 : decode cX2_countIn 51 = .ok (.iload_n 2, 1) := dk_28 (dk_at dksX2_countIn_2 6 rfl rfl)
theorem dX2_countIn_52 : decode cX2_countIn 52 = .ok (.ireturn, 1) := dk_172 (dk_at dksX2_countIn_2 7 rfl rfl)
abbrev cX2_night : ByteArray := prog_7_method_21_code
def yX2_night : MethodName := ⟨RX2, "night", "()V"⟩
def dkwX2_night_5 : List UInt8 := [162, 0, 14, 42, 27, 182, 0, 196, 132, 1, 1, 167, 255, 235, 177]
abbrev dktX2_night_5 : List UInt8 := dkwX2_night_5 ++ []
def dkwX2_night_4 : List UInt8 := [192, 0, 44, 182, 0, 193, 132, 1, 1, 167, 255, 223, 3, 60, 27, 42, 180, 0, 12, 185, 0, 38, 1, 0]
abbrev dktX2_night_4 : List UInt8 := dkwX2_night_4 ++ dktX2_night_5
def dkwX2_night_3 : List UInt8 := [180, 0, 12, 185, 0, 38, 1, 0, 162, 0, 26, 42, 42, 180, 0, 12, 27, 185, 0, 46, 2, 0]
abbrev dktX2_night_3 : List UInt8 := dkwX2_night_3 ++ dktX2_night_4
def dkwX2_night_2 : List UInt8 := [182, 0, 190, 132, 1, 1, 167, 255, 216, 42, 180, 0, 31, 16, 7, 161, 0, 41, 3, 60, 27, 42]
abbrev dktX2_night_2 : List UInt8 := dkwX2_night_2 ++ dktX2_night_3
def dkwX2_night_1 : List UInt8 := [162, 0, 33, 42, 180, 0, 18, 27, 185, 0, 46, 2, 0, 192, 0, 57, 180, 0, 104, 154, 0, 8, 42, 27]
abbrev dktX2_night_1 : List UInt8 := dkwX2_night_1 ++ dktX2_night_2
def dkwX2_night_0 : List UInt8 := [42, 89, 180, 0, 71, 4, 96, 181, 0, 71, 3, 60, 27, 42, 180, 0, 18, 185, 0, 38, 1, 0]
abbrev dktX2_night_0 : List UInt8 := dkwX2_night_0 ++ dktX2_night_1
theorem dksX2_night_0 : cX2_night.data.toList.drop 0 = dktX2_night_0 := by decide +kernel
theorem dksX2_night_1 : cX2_night.data.toList.drop 22 = dktX2_night_1 := dk_seg dksX2_night_0 22 rfl rfl
theorem dksX2_night_2 : cX2_night.data.toList.drop 46 = dktX2_night_2 := dk_seg dksX2_night_1 24 rfl rfl
theorem dksX2_night_3 : cX2_night.data.toList.drop 68 = dktX2_night_3 := dk_seg dksX2_night_2 22 rfl rfl
theorem dksX2_night_4 : cX2_night.data.toList.drop 90 = dktX2_night_4 := dk_seg dksX2_night_3 22 rfl rfl
theorem dksX2_night_5 : cX2_night.data.toList.drop 114 = dktX2_night_5 := dk_seg dksX2_night_4 24 rfl rfl
theorem dX2_night_0 : decode cX2_night 0 = .ok (.aload_n 0, 1) := dk_42 (dk_at dksX2_night_0 0 rfl rfl)
theorem dX2_night_1 : decode cX2_night 1 = .ok (.dup, 1) := dk_89 (dk_at dksX2_night_0 1 rfl rfl)
theorem dX2_night_2 : decode cX2_night 2 = .ok (.getfield 71, 3) := dk_180 0 71 (dk_at dksX2_night_0 2 rfl rfl)
theorem dX2_night_5 : decode cX2_night 5 = .ok (.iconst 1, 1) := dk_4 (dk_at dksX2_night_0 5 rfl rfl)
theorem dX2_night_6 : decode cX2_night 6 = .ok (.iadd, 1) := dk_96 (dk_at dksX2_night_0 6 rfl rfl)
theorem dX2_night_7 : decode cX2_night 7 = .ok (.putfield 71, 3) := dk_181 0 71 (dk_at dksX2_night_0 7 rfl rfl)
theorem dX2_night_10 : decode cX2_night 10 = .ok (.iconst 0, 1) := dk_3 (dk_at dksX2_night_0 10 rfl rfl)
theorem dX2_night_11 : decode cX2_night 11 = .ok (.istore_n 1, 1) := dk_60 (dk_at dksX2_night_0 11 rfl rfl)
theorem dX2_night_12 : decode cX2_night 12 = .ok (.iload_n 1, 1) := dk_27 (dk_at dksX2_night_0 12 rfl rfl)
theorem dX2_night_13 : decode cX2_night 13 = .ok (.aload_n 0, 1) := dk_42 (dk_at dksX2_night_0 13 rfl rfl)
theorem dX2_night_14 : decode cX2_night 14 = .ok (.getfield 18, 3) := dk_180 0 18 (dk_at dksX2_night_0 14 rfl rfl)
theorem dX2_night_17 : decode cX2_night 17 = .ok (.invokeinterface 38 1, 5) := by decide +kernel
theorem dX2_night_22 : decode cX2_night 22 = .ok (.if_icmp .ge 33, 3) := dk_162 0 33 (dk_at dksX2_night_1 0 rfl rfl)
theorem dX2_night_25 : decode cX2_night 25 = .ok (.aload_n 0, 1) := dk_42 (dk_at dksX2_night_1 3 rfl rfl)
theorem dX2_night_26 : decode cX2_night 26 = .ok (.getfield 18, 3) := dk_180 0 18 (dk_at dksX2_night_1 4 rfl rfl)
theorem dX2_night_29 : decode cX2_night 29 = .ok (.iload_n 1, 1) := dk_27 (dk_at dksX2_night_1 7 rfl rfl)
theorem dX2_night_30 : decode cX2_night 30 = .ok (.invokeinterface 46 2, 5) := by decide +kernel
theorem dX2_night_35 : decode cX2_night 35 = .ok (.checkcast 57, 3) := dk_192 0 57 (dk_at dksX2_night_1 13 rfl rfl)
theorem dX2_night_38 : decode cX2_night 38 = .ok (.getfield 104, 3) := dk_180 0 104 (dk_at dksX2_night_1 16 rfl rfl)
theorem dX2_night_41 : decode cX2_night 41 = .ok (.ifCond .ne 8, 3) := dk_154 0 8 (dk_at dksX2_night_1 19 rfl rfl)
theorem dX2_night_44 : decode cX2_night 44 = .ok (.aload_n 0, 1) := dk_42 (dk_at dksX2_night_1 22 rfl rfl)
theorem dX2_night_45 : decode cX2_night 45 = .ok (.iload_n 1, 1) := dk_27 (dk_at dksX2_night_1 23 rfl rfl)
theorem dX2_night_46 : decode cX2_night 46 = .ok (.invokevirtual 190, 3) := dk_182 0 190 (dk_at dksX2_night_2 0 rfl rfl)
theorem dX2_night_49 : decode cX2_night 49 = .ok (.iinc 1 1, 3) := dk_132 1 1 (dk_at dksX2_night_2 3 rfl rfl)
theorem dX2_night_52 : decode cX2_night 52 = .ok (.goto (-40), 3) := dk_167 255 216 (dk_at dksX2_night_2 6 rfl rfl)
theorem dX2_night_55 : decode cX2_night 55 = .ok (.aload_n 0, 1) := dk_42 (dk_at dksX2_night_2 9 rfl rfl)
theorem dX2_night_56 : decode cX2_night 56 = .ok (.getfield 31, 3) := dk_180 0 31 (dk_at dksX2_night_2 10 rfl rfl)
theorem dX2_night_59 : decode cX2_night 59 = .ok (.bipush 7, 2) := dk_16 7 (dk_at dksX2_night_2 13 rfl rfl)
theorem dX2_night_61 : decode cX2_night 61 = .ok (.if_icmp .lt 41, 3) := dk_161 0 41 (dk_at dksX2_night_2 15 rfl rfl)
theorem dX2_night_64 : decode cX2_night 64 = .ok (.iconst 0, 1) := dk_3 (dk_at dksX2_night_2 18 rfl rfl)
theorem dX2_night_65 : decode cX2_night 65 = .ok (.istore_n 1, 1) := dk_60 (dk_at dksX2_night_2 19 rfl rfl)
theorem dX2_night_66 : decode cX2_night 66 = .ok (.iload_n 1, 1) := dk_27 (dk_at dksX2_night_2 20 rfl rfl)
theorem dX2_night_67 : decode cX2_night 67 = .ok (.aload_n 0, 1) := dk_42 (dk_at dksX2_night_2 21 rfl rfl)
theorem dX2_night_68 : decode cX2_night 68 = .ok (.getfield 12, 3) := dk_180 0 12 (dk_at dksX2_night_3 0 rfl rfl)
theorem dX2_night_71 : decode cX2_night 71 = .ok (.invokeinterface 38 1, 5) := by decide +kernel
theorem dX2_night_76 : decode cX2_night 76 = .ok (.if_icmp .ge 26, 3) := dk_162 0 26 (dk_at dksX2_night_3 8 rfl rfl)
theorem dX2_night_79 : decode cX2_night 79 = .ok (.aload_n 0, 1) := dk_42 (dk_at dksX2_night_3 11 rfl rfl)
theorem dX2_night_80 : decode cX2_night 80 = .ok (.aload_n 0, 1) := dk_42 (dk_at dksX2_night_3 12 rfl rfl)
theorem dX2_night_81 : decode cX2_night 81 = .ok (.getfield 12, 3) := dk_180 0 12 (dk_at dksX2_night_3 13 rfl rfl)
theorem dX2_night_84 : decode cX2_night 84 = .ok (.iload_n 1, 1) := dk_27 (dk_at dksX2_night_3 16 rfl rfl)
theorem dX2_night_85 : decode cX2_night 85 = .ok (.invokeinterface 46 2, 5) := by decide +kernel
theorem dX2_night_90 : decode cX2_night 90 = .ok (.checkcast 44, 3) := dk_192 0 44 (dk_at dksX2_night_4 0 rfl rfl)
theorem dX2_night_93 : decode cX2_night 93 = .ok (.invokevirtual 193, 3) := dk_182 0 193 (dk_at dksX2_night_4 3 rfl rfl)
theorem dX2_night_96 : decode cX2_night 96 = .ok (.iinc 1 1, 3) := dk_132 1 1 (dk_at dksX2_night_4 6 rfl rfl)
theorem dX2_night_99 : decode cX2_night 99 = .ok (.goto (-33), 3) := dk_167 255 223 (dk_at dksX2_night_4 9 rfl rfl)
theorem dX2_night_102 : decode cX2_night 102 = .ok (.iconst 0, 1) := dk_3 (dk_at dksX2_night_4 12 rfl rfl)
theorem dX2_night_103 : decode cX2_night 103 = .ok (.istore_n 1, 1) := dk_60 (dk_at dksX2_night_4 13 rfl rfl)
theorem dX2_night_104 : decode cX2_night 104 = .ok (.iload_n 1, 1) := dk_27 (dk_at dksX2_night_4 14 rfl rfl)
theorem dX2_night_105 : decode cX2_night 105 = .ok (.aload_n 0, 1) := dk_42 (dk_at dksX2_night_4 15 rfl rfl)
theorem dX2_night_106 : decode cX2_night 106 = .ok (.getfield 12, 3) := dk_180 0 12 (dk_at dksX2_night_4 16 rfl rfl)
theorem dX2_night_109 : decode cX2_night 109 = .ok (.invokeinterface 38 1, 5) := by decide +kernel
theorem dX2_night_114 : decode cX2_night 114 = .ok (.if_icmp .ge 14, 3) := dk_162 0 14 (dk_at dksX2_night_5 0 rfl rfl)
theorem dX2_night_117 : decode cX2_night 117 = .ok (.aload_n 0, 1) := dk_42 (dk_at dksX2_night_5 3 rfl rfl)
theorem dX2_night_118 : decode cX2_night 118 = .ok (.iload_n 1, 1) := dk_27 (dk_at dksX2_night_5 4 rfl rfl)
theorem dX2_night_119 : decode cX2_night 119 = .ok (.invokevirtual 196, 3) := dk_182 0 196 (dk_at dksX2_night_5 5 rfl rfl)
theorem dX2_night_122 : decode cX2_night 122 = .ok (.iinc 1 1, 3) := dk_132 1 1 (dk_at dksX2_night_5 8 rfl rfl)
theorem dX2_night_125 : decode cX2_night 125 = .ok (.goto (-21), 3) := dk_167 255 235 (dk_at dksX2_night_5 11 rfl rfl)
theorem dX2_night_128 : decode cX2_night 128 = .ok (.return_, 1) := dk_177 (dk_at dksX2_night_5 14 rfl rfl)
abbrev cX2_goesOut : ByteArray := prog_7_method_16_code
def yX2_goesOut : MethodName := ⟨RX2, "goesOut", "(I)V"⟩
def dkwX2_goesOut_3 : List UInt8 := [182, 0, 163, 54, 6, 167, 255, 229, 177]
abbrev dktX2_goesOut_3 : List UInt8 := dkwX2_goesOut_3 ++ []
def dkwX2_goesOut_2 : List UInt8 := [21, 6, 153, 0, 28, 21, 5, 29, 159, 0, 22, 21, 5, 21, 4, 96, 54, 5, 42, 44, 21, 5]
abbrev dktX2_goesOut_2 : List UInt8 := dkwX2_goesOut_2 ++ dktX2_goesOut_3
def dkwX2_goesOut_1 : List UInt8 := [29, 44, 180, 0, 133, 162, 0, 7, 2, 167, 0, 4, 4, 54, 4, 44, 180, 0, 133, 54, 5, 4, 54, 6]
abbrev dktX2_goesOut_1 : List UInt8 := dkwX2_goesOut_1 ++ dktX2_goesOut_2
def dkwX2_goesOut_0 : List UInt8 := [42, 180, 0, 18, 27, 185, 0, 46, 2, 0, 192, 0, 57, 77, 42, 27, 42, 180, 0, 71, 182, 0, 160, 62]
abbrev dktX2_goesOut_0 : List UInt8 := dkwX2_goesOut_0 ++ dktX2_goesOut_1
theorem dksX2_goesOut_0 : cX2_goesOut.data.toList.drop 0 = dktX2_goesOut_0 := by decide +kernel
theorem dksX2_goesOut_1 : cX2_goesOut.data.toList.drop 24 = dktX2_goesOut_1 := dk_seg dksX2_goesOut_0 24 rfl rfl
theorem dksX2_goesOut_2 : cX2_goesOut.data.toList.drop 48 = dktX2_goesOut_2 := dk_seg dksX2_goesOut_1 24 rfl rfl
theorem dksX2_goesOut_3 : cX2_goesOut.data.toList.drop 70 = dktX2_goesOut_3 := dk_seg dksX2_goesOut_2 22 rfl rfl
theorem dX2_goesOut_0 : decode cX2_goesOut 0 = .ok (.aload_n 0, 1) := dk_42 (dk_at dksX2_goesOut_0 0 rfl rfl)
theorem dX2_goesOut_1 : decode cX2_goesOut 1 = .ok (.getfield 18, 3) := dk_180 0 18 (dk_at dksX2_goesOut_0 1 rfl rfl)
theorem dX2_goesOut_4 : decode cX2_goesOut 4 = .ok (.iload_n 1, 1) := dk_27 (dk_at dksX2_goesOut_0 4 rfl rfl)
theorem dX2_goesOut_5 : decode cX2_goesOut 5 = .ok (.invokeinterface 46 2, 5) := by decide +kernel
theorem dX2_goesOut_10 : decode cX2_goesOut 10 = .ok (.checkcast 57, 3) := dk_192 0 57 (dk_at dksX2_goesOut_0 10 rfl rfl)
theorem dX2_goesOut_13 : decode cX2_goesOut 13 = .ok (.astore_n 2, 1) := dk_77 (dk_at dksX2_goesOut_0 13 rfl rfl)
theorem dX2_goesOut_14 : decode cX2_goesOut 14 = .ok (.aload_n 0, 1) := dk_42 (dk_at dksX2_goesOut_0 14 rfl rfl)
theorem dX2_goesOut_15 : decode cX2_goesOut 15 = .ok (.iload_n 1, 1) := dk_27 (dk_at dksX2_goesOut_0 15 rfl rfl)
theorem dX2_goesOut_16 : decode cX2_goesOut 16 = .ok (.aload_n 0, 1) := dk_42 (dk_at dksX2_goesOut_0 16 rfl rfl)
theorem dX2_goesOut_17 : decode cX2_goesOut 17 = .ok (.getfield 71, 3) := dk_180 0 71 (dk_at dksX2_goesOut_0 17 rfl rfl)
theorem dX2_goesOut_20 : decode cX2_goesOut 20 = .ok (.invokevirtual 160, 3) := dk_182 0 160 (dk_at dksX2_goesOut_0 20 rfl rfl)
theorem dX2_goesOut_23 : decode cX2_goesOut 23 = .ok (.istore_n 3, 1) := dk_62 (dk_at dksX2_goesOut_0 23 rfl rfl)
theorem dX2_goesOut_24 : decode cX2_goesOut 24 = .ok (.iload_n 3, 1) := dk_29 (dk_at dksX2_goesOut_1 0 rfl rfl)
theorem dX2_goesOut_25 : decode cX2_goesOut 25 = .ok (.aload_n 2, 1) := dk_44 (dk_at dksX2_goesOut_1 1 rfl rfl)
theorem dX2_goesOut_26 : decode cX2_goesOut 26 = .ok (.getfield 133, 3) := dk_180 0 133 (dk_at dksX2_goesOut_1 2 rfl rfl)
theorem dX2_goesOut_29 : decode cX2_goesOut 29 = .ok (.if_icmp .ge 7, 3) := dk_162 0 7 (dk_at dksX2_goesOut_1 5 rfl rfl)
theorem dX2_goesOut_32 : decode cX2_goesOut 32 = .ok (.iconst (-1), 1) := dk_2 (dk_at dksX2_goesOut_1 8 rfl rfl)
theorem dX2_goesOut_33 : decode cX2_goesOut 33 = .ok (.goto 4, 3) := dk_167 0 4 (dk_at dksX2_goesOut_1 9 rfl rfl)
theorem dX2_goesOut_36 : decode cX2_goesOut 36 = .ok (.iconst 1, 1) := dk_4 (dk_at dksX2_goesOut_1 12 rfl rfl)
theorem dX2_goesOut_37 : decode cX2_goesOut 37 = .ok (.istore 4, 2) := dk_54 4 (dk_at dksX2_goesOut_1 13 rfl rfl)
theorem dX2_goesOut_39 : decode cX2_goesOut 39 = .ok (.aload_n 2, 1) := dk_44 (dk_at dksX2_goesOut_1 15 rfl rfl)
theorem dX2_goesOut_40 : decode cX2_goesOut 40 = .ok (.getfield 133, 3) := dk_180 0 133 (dk_at dksX2_goesOut_1 16 rfl rfl)
theorem dX2_goesOut_43 : decode cX2_goesOut 43 = .ok (.istore 5, 2) := dk_54 5 (dk_at dksX2_goesOut_1 19 rfl rfl)
theorem dX2_goesOut_45 : decode cX2_goesOut 45 = .ok (.iconst 1, 1) := dk_4 (dk_at dksX2_goesOut_1 21 rfl rfl)
theorem dX2_goesOut_46 : decode cX2_goesOut 46 = .ok (.istore 6, 2) := dk_54 6 (dk_at dksX2_goesOut_1 22 rfl rfl)
theorem dX2_goesOut_48 : decode cX2_goesOut 48 = .ok (.iload 6, 2) := dk_21 6 (dk_at dksX2_goesOut_2 0 rfl rfl)
theorem dX2_goesOut_50 : decode cX2_goesOut 50 = .ok (.ifCond .eq 28, 3) := dk_153 0 28 (dk_at dksX2_goesOut_2 2 rfl rfl)
theorem dX2_goesOut_53 : decode cX2_goesOut 53 = .ok (.iload 5, 2) := dk_21 5 (dk_at dksX2_goesOut_2 5 rfl rfl)
theorem dX2_goesOut_55 : decode cX2_goesOut 55 = .ok (.iload_n 3, 1) := dk_29 (dk_at dksX2_goesOut_2 7 rfl rfl)
theorem dX2_goesOut_56 : decode cX2_goesOut 56 = .ok (.if_icmp .eq 22, 3) := dk_159 0 22 (dk_at dksX2_goesOut_2 8 rfl rfl)
theorem dX2_goesOut_59 : decode cX2_goesOut 59 = .ok (.iload 5, 2) := dk_21 5 (dk_at dksX2_goesOut_2 11 rfl rfl)
theorem dX2_goesOut_61 : decode cX2_goesOut 61 = .ok (.iload 4, 2) := dk_21 4 (dk_at dksX2_goesOut_2 13 rfl rfl)
theorem dX2_goesOut_63 : decode cX2_goesOut 63 = .ok (.iadd, 1) := dk_96 (dk_at dksX2_goesOut_2 15 rfl rfl)
theorem dX2_goesOut_64 : decode cX2_goesOut 64 = .ok (.istore 5, 2) := dk_54 5 (dk_at dksX2_goesOut_2 16 rfl rfl)
theorem dX2_goesOut_66 : decode cX2_goesOut 66 = .ok (.aload_n 0, 1) := dk_42 (dk_at dksX2_goesOut_2 18 rfl rfl)
theorem dX2_goesOut_67 : decode cX2_goesOut 67 = .ok (.aload_n 2, 1) := dk_44 (dk_at dksX2_goesOut_2 19 rfl rfl)
theorem dX2_goesOut_68 : decode cX2_goesOut 68 = .ok (.iload 5, 2) := dk_21 5 (dk_at dksX2_goesOut_2 20 rfl rfl)
theorem dX2_goesOut_70 : decode cX2_goesOut 70 = .ok (.invokevirtual 163, 3) := dk_182 0 163 (dk_at dksX2_goesOut_3 0 rfl rfl)
theorem dX2_goesOut_73 : decode cX2_goesOut 73 = .ok (.istore 6, 2) := dk_54 6 (dk_at dksX2_goesOut_3 3 rfl rfl)
theorem dX2_goesOut_75 : decode cX2_goesOut 75 = .ok (.goto (-27), 3) := dk_167 255 229 (dk_at dksX2_goesOut_3 5 rfl rfl)
theorem dX2_goesOut_78 : decode cX2_goesOut 78 = .ok (.return_, 1) := dk_177 (dk_at dksX2_goesOut_3 8 rfl rfl)
abbrev cX2_goal : ByteArray := prog_7_method_13_code
def yX2_goal : MethodName := ⟨RX2, "goal", "(II)I"⟩
def dkwX2_goal_2 : List UInt8 := [100, 21, 5, 21, 4, 96, 184, 0, 136, 167, 0, 12, 3, 21, 5, 21, 4, 100, 184, 0, 139, 172]
abbrev dktX2_goal_2 : List UInt8 := dkwX2_goal_2 ++ []
def dkwX2_goal_1 : List UInt8 := [192, 0, 57, 180, 0, 133, 54, 5, 29, 5, 112, 154, 0, 25, 42, 180, 0, 12, 185, 0, 38, 1, 0, 4]
abbrev dktX2_goal_1 : List UInt8 := dkwX2_goal_1 ++ dktX2_goal_2
def dkwX2_goal_0 : List UInt8 := [28, 27, 96, 62, 4, 29, 5, 108, 6, 112, 96, 54, 4, 42, 180, 0, 18, 27, 185, 0, 46, 2, 0]
abbrev dktX2_goal_0 : List UInt8 := dkwX2_goal_0 ++ dktX2_goal_1
theorem dksX2_goal_0 : cX2_goal.data.toList.drop 0 = dktX2_goal_0 := by decide +kernel
theorem dksX2_goal_1 : cX2_goal.data.toList.drop 23 = dktX2_goal_1 := dk_seg dksX2_goal_0 23 rfl rfl
theorem dksX2_goal_2 : cX2_goal.data.toList.drop 47 = dktX2_goal_2 := dk_seg dksX2_goal_1 24 rfl rfl
theorem dX2_goal_0 : decode cX2_goal 0 = .ok (.iload_n 2, 1) := dk_28 (dk_at dksX2_goal_0 0 rfl rfl)
theorem dX2_goal_1 : decode cX2_goal 1 = .ok (.iload_n 1, 1) := dk_27 (dk_at dksX2_goal_0 1 rfl rfl)
theorem dX2_goal_2 : decode cX2_goal 2 = .ok (.iadd, 1) := dk_96 (dk_at dksX2_goal_0 2 rfl rfl)
theorem dX2_goal_3 : decode cX2_goal 3 = .ok (.istore_n 3, 1) := dk_62 (dk_at dksX2_goal_0 3 rfl rfl)
theorem dX2_goal_4 : decode cX2_goal 4 = .ok (.iconst 1, 1) := dk_4 (dk_at dksX2_goal_0 4 rfl rfl)
theorem dX2_goal_5 : decode cX2_goal 5 = .ok (.iload_n 3, 1) := dk_29 (dk_at dksX2_goal_0 5 rfl rfl)
theorem dX2_goal_6 : decode cX2_goal 6 = .ok (.iconst 2, 1) := dk_5 (dk_at dksX2_goal_0 6 rfl rfl)
theorem dX2_goal_7 : decode cX2_goal 7 = .ok (.idiv, 1) := dk_108 (dk_at dksX2_goal_0 7 rfl rfl)
theorem dX2_goal_8 : decode cX2_goal 8 = .ok (.iconst 3, 1) := dk_6 (dk_at dksX2_goal_0 8 rfl rfl)
theorem dX2_goal_9 : decode cX2_goal 9 = .ok (.irem, 1) := dk_112 (dk_at dksX2_goal_0 9 rfl rfl)
theorem dX2_goal_10 : decode cX2_goal 10 = .ok (.iadd, 1) := dk_96 (dk_at dksX2_goal_0 10 rfl rfl)
theorem dX2_goal_11 : decode cX2_goal 11 = .ok (.istore 4, 2) := dk_54 4 (dk_at dksX2_goal_0 11 rfl rfl)
theorem dX2_goal_13 : decode cX2_goal 13 = .ok (.aload_n 0, 1) := dk_42 (dk_at dksX2_goal_0 13 rfl rfl)
theorem dX2_goal_14 : decode cX2_goal 14 = .ok (.getfield 18, 3) := dk_180 0 18 (dk_at dksX2_goal_0 14 rfl rfl)
theorem dX2_goal_17 : decode cX2_goal 17 = .ok (.iload_n 1, 1) := dk_27 (dk_at dksX2_goal_0 17 rfl rfl)
theorem dX2_goal_18 : decode cX2_goal 18 = .ok (.invokeinterface 46 2, 5) := by decide +kernel
theorem dX2_goal_23 : decode cX2_goal 23 = .ok (.checkcast 57, 3) := dk_192 0 57 (dk_at dksX2_goal_1 0 rfl rfl)
theorem dX2_goal_26 : decode cX2_goal 26 = .ok (.getfield 133, 3) := dk_180 0 133 (dk_at dksX2_goal_1 3 rfl rfl)
theorem dX2_goal_29 : decode cX2_goal 29 = .ok (.istore 5, 2) := dk_54 5 (dk_at dksX2_goal_1 6 rfl rfl)
theorem dX2_goal_31 : decode cX2_goal 31 = .ok (.iload_n 3, 1) := dk_29 (dk_at dksX2_goal_1 8 rfl rfl)
theorem dX2_goal_32 : decode cX2_goal 32 = .ok (.iconst 2, 1) := dk_5 (dk_at dksX2_goal_1 9 rfl rfl)
theorem dX2_goal_33 : decode cX2_goal 33 = .ok (.irem, 1) := dk_112 (dk_at dksX2_goal_1 10 rfl rfl)
theorem dX2_goal_34 : decode cX2_goal 34 = .ok (.ifCond .ne 25, 3) := dk_154 0 25 (dk_at dksX2_goal_1 11 rfl rfl)
theorem dX2_goal_37 : decode cX2_goal 37 = .ok (.aload_n 0, 1) := dk_42 (dk_at dksX2_goal_1 14 rfl rfl)
theorem dX2_goal_38 : decode cX2_goal 38 = .ok (.getfield 12, 3) := dk_180 0 12 (dk_at dksX2_goal_1 15 rfl rfl)
theorem dX2_goal_41 : decode cX2_goal 41 = .ok (.invokeinterface 38 1, 5) := by decide +kernel
theorem dX2_goal_46 : decode cX2_goal 46 = .ok (.iconst 1, 1) := dk_4 (dk_at dksX2_goal_1 23 rfl rfl)
theorem dX2_goal_47 : decode cX2_goal 47 = .ok (.isub, 1) := dk_100 (dk_at dksX2_goal_2 0 rfl rfl)
theorem dX2_goal_48 : decode cX2_goal 48 = .ok (.iload 5, 2) := dk_21 5 (dk_at dksX2_goal_2 1 rfl rfl)
theorem dX2_goal_50 : decode cX2_goal 50 = .ok (.iload 4, 2) := dk_21 4 (dk_at dksX2_goal_2 3 rfl rfl)
theorem dX2_goal_52 : decode cX2_goal 52 = .ok (.iadd, 1) := dk_96 (dk_at dksX2_goal_2 5 rfl rfl)
theorem dX2_goal_53 : decode cX2_goal 53 = .ok (.invokestatic 136, 3) := dk_184 0 136 (dk_at dksX2_goal_2 6 rfl rfl)
theorem dX2_goal_56 : decode cX2_goal 56 = .ok (.goto 12, 3) := dk_167 0 12 (dk_at dksX2_goal_2 9 rfl rfl)
theorem dX2_goal_59 : decode cX2_goal 59 = .ok (.iconst 0, 1) := dk_3 (dk_at dksX2_goal_2 12 rfl rfl)
theorem dX2_goal_60 : decode cX2_goal 60 = .ok (.iload 5, 2) := dk_21 5 (dk_at dksX2_goal_2 13 rfl rfl)
theorem dX2_goal_62 : decode cX2_goal 62 = .ok (.iload 4, 2) := dk_21 4 (dk_at dksX2_goal_2 15 rfl rfl)
theorem dX2_goal_64 : decode cX2_goal 64 = .ok (.isub, 1) := dk_100 (dk_at dksX2_goal_2 17 rfl rfl)
theorem dX2_goal_65 : decode cX2_goal 65 = .ok (.invokestatic 139, 3) := dk_184 0 139 (dk_at dksX2_goal_2 18 rfl rfl)
theorem dX2_goal_68 : decode cX2_goal 68 = .ok (.ireturn, 1) := dk_172 (dk_at dksX2_goal_2 21 rfl rfl)
abbrev cX2_comesTo : ByteArray := prog_7_method_15_code
def yX2_comesTo : MethodName := ⟨RX2, "comesTo", "(LOtterTrust$Otter;I)Z"⟩
def dkwX2_comesTo_3 : List UInt8 := [89, 180, 0, 80, 4, 96, 181, 0, 80, 4, 172]
abbrev dktX2_comesTo_3 : List UInt8 := dkwX2_comesTo_3 ++ []
def dkwX2_comesTo_2 : List UInt8 := [162, 0, 33, 45, 89, 180, 0, 156, 4, 96, 181, 0, 156, 43, 89, 180, 0, 159, 4, 96, 181, 0, 159, 42]
abbrev dktX2_comesTo_2 : List UInt8 := dkwX2_comesTo_2 ++ dktX2_comesTo_3
def dkwX2_comesTo_1 : List UInt8 := [42, 180, 0, 31, 182, 0, 149, 153, 0, 11, 42, 43, 28, 182, 0, 152, 3, 172, 45, 180, 0, 156, 16, 99]
abbrev dktX2_comesTo_1 : List UInt8 := dkwX2_comesTo_1 ++ dktX2_comesTo_2
def dkwX2_comesTo_0 : List UInt8 := [42, 180, 0, 12, 28, 185, 0, 46, 2, 0, 192, 0, 44, 78, 45, 182, 0, 145, 154, 0, 5, 4, 172, 45]
abbrev dktX2_comesTo_0 : List UInt8 := dkwX2_comesTo_0 ++ dktX2_comesTo_1
theorem dksX2_comesTo_0 : cX2_comesTo.data.toList.drop 0 = dktX2_comesTo_0 := by decide +kernel
theorem dksX2_comesTo_1 : cX2_comesTo.data.toList.drop 24 = dktX2_comesTo_1 := dk_seg dksX2_comesTo_0 24 rfl rfl
theorem dksX2_comesTo_2 : cX2_comesTo.data.toList.drop 48 = dktX2_comesTo_2 := dk_seg dksX2_comesTo_1 24 rfl rfl
theorem dksX2_comesTo_3 : cX2_comesTo.data.toList.drop 72 = dktX2_comesTo_3 := dk_seg dksX2_comesTo_2 24 rfl rfl
theorem dX2_comesTo_0 : decode cX2_comesTo 0 = .ok (.aload_n 0, 1) := dk_42 (dk_at dksX2_comesTo_0 0 rfl rfl)
theorem dX2_comesTo_1 : decode cX2_comesTo 1 = .ok (.getfield 12, 3) := dk_180 0 12 (dk_at dksX2_comesTo_0 1 rfl rfl)
theorem dX2_comesTo_4 : decode cX2_comesTo 4 = .ok (.iload_n 2, 1) := dk_28 (dk_at dksX2_comesTo_0 4 rfl rfl)
theorem dX2_comesTo_5 : decode cX2_comesTo 5 = .ok (.invokeinterface 46 2, 5) := by decide +kernel
theorem dX2_comesTo_10 : decode cX2_comesTo 10 = .ok (.checkcast 44, 3) := dk_192 0 44 (dk_at dksX2_comesTo_0 10 rfl rfl)
theorem dX2_comesTo_13 : decode cX2_comesTo 13 = .ok (.astore_n 3, 1) := dk_78 (dk_at dksX2_comesTo_0 13 rfl rfl)
theorem dX2_comesTo_14 : decode cX2_comesTo 14 = .ok (.aload_n 3, 1) := dk_45 (dk_at dksX2_comesTo_0 14 rfl rfl)
theorem dX2_comesTo_15 : decode cX2_comesTo 15 = .ok (.invokevirtual 145, 3) := dk_182 0 145 (dk_at dksX2_comesTo_0 15 rfl rfl)
theorem dX2_comesTo_18 : decode cX2_comesTo 18 = .ok (.ifCond .ne 5, 3) := dk_154 0 5 (dk_at dksX2_comesTo_0 18 rfl rfl)
theorem dX2_comesTo_21 : decode cX2_comesTo 21 = .ok (.iconst 1, 1) := dk_4 (dk_at dksX2_comesTo_0 21 rfl rfl)
theorem dX2_comesTo_22 : decode cX2_comesTo 22 = .ok (.ireturn, 1) := dk_172 (dk_at dksX2_comesTo_0 22 rfl rfl)
theorem dX2_comesTo_23 : decode cX2_comesTo 23 = .ok (.aload_n 3, 1) := dk_45 (dk_at dksX2_comesTo_0 23 rfl rfl)
theorem dX2_comesTo_24 : decode cX2_comesTo 24 = .ok (.aload_n 0, 1) := dk_42 (dk_at dksX2_comesTo_1 0 rfl rfl)
theorem dX2_comesTo_25 : decode cX2_comesTo 25 = .ok (.getfield 31, 3) := dk_180 0 31 (dk_at dksX2_comesTo_1 1 rfl rfl)
theorem dX2_comesTo_28 : decode cX2_comesTo 28 = .ok (.invokevirtual 149, 3) := dk_182 0 149 (dk_at dksX2_comesTo_1 4 rfl rfl)
theorem dX2_comesTo_31 : decode cX2_comesTo 31 = .ok (.ifCond .eq 11, 3) := dk_153 0 11 (dk_at dksX2_comesTo_1 7 rfl rfl)
theorem dX2_comesTo_34 : decode cX2_comesTo 34 = .ok (.aload_n 0, 1) := dk_42 (dk_at dksX2_comesTo_1 10 rfl rfl)
theorem dX2_comesTo_35 : decode cX2_comesTo 35 = .ok (.aload_n 1, 1) := dk_43 (dk_at dksX2_comesTo_1 11 rfl rfl)
theorem dX2_comesTo_36 : decode cX2_comesTo 36 = .ok (.iload_n 2, 1) := dk_28 (dk_at dksX2_comesTo_1 12 rfl rfl)
theorem dX2_comesTo_37 : decode cX2_comesTo 37 = .ok (.invokevirtual 152, 3) := dk_182 0 152 (dk_at dksX2_comesTo_1 13 rfl rfl)
theorem dX2_comesTo_40 : decode cX2_comesTo 40 = .ok (.iconst 0, 1) := dk_3 (dk_at dksX2_comesTo_1 16 rfl rfl)
theorem dX2_comesTo_41 : decode cX2_comesTo 41 = .ok (.ireturn, 1) := dk_172 (dk_at dksX2_comesTo_1 17 rfl rfl)
theorem dX2_comesTo_42 : decode cX2_comesTo 42 = .ok (.aload_n 3, 1) := dk_45 (dk_at dksX2_comesTo_1 18 rfl rfl)
theorem dX2_comesTo_43 : decode cX2_comesTo 43 = .ok (.getfield 156, 3) := dk_180 0 156 (dk_at dksX2_comesTo_1 19 rfl rfl)
theorem dX2_comesTo_46 : decode cX2_comesTo 46 = .ok (.bipush 99, 2) := dk_16 99 (dk_at dksX2_comesTo_1 22 rfl rfl)
theorem dX2_comesTo_48 : decode cX2_comesTo 48 = .ok (.if_icmp .ge 33, 3) := dk_162 0 33 (dk_at dksX2_comesTo_2 0 rfl rfl)
theorem dX2_comesTo_51 : decode cX2_comesTo 51 = .ok (.aload_n 3, 1) := dk_45 (dk_at dksX2_comesTo_2 3 rfl rfl)
theorem dX2_comesTo_52 : decode cX2_comesTo 52 = .ok (.dup, 1) := dk_89 (dk_at dksX2_comesTo_2 4 rfl rfl)
theorem dX2_comesTo_53 : decode cX2_comesTo 53 = .ok (.getfield 156, 3) := dk_180 0 156 (dk_at dksX2_comesTo_2 5 rfl rfl)
theorem dX2_comesTo_56 : decode cX2_comesTo 56 = .ok (.iconst 1, 1) := dk_4 (dk_at dksX2_comesTo_2 8 rfl rfl)
theorem dX2_comesTo_57 : decode cX2_comesTo 57 = .ok (.iadd, 1) := dk_96 (dk_at dksX2_comesTo_2 9 rfl rfl)
theorem dX2_comesTo_58 : decode cX2_comesTo 58 = .ok (.putfield 156, 3) := dk_181 0 156 (dk_at dksX2_comesTo_2 10 rfl rfl)
theorem dX2_comesTo_61 : decode cX2_comesTo 61 = .ok (.aload_n 1, 1) := dk_43 (dk_at dksX2_comesTo_2 13 rfl rfl)
theorem dX2_comesTo_62 : decode cX2_comesTo 62 = .ok (.dup, 1) := dk_89 (dk_at dksX2_comesTo_2 14 rfl rfl)
theorem dX2_comesTo_63 : decode cX2_comesTo 63 = .ok (.getfield 159, 3) := dk_180 0 159 (dk_at dksX2_comesTo_2 15 rfl rfl)
theorem dX2_comesTo_66 : decode cX2_comesTo 66 = .ok (.iconst 1, 1) := dk_4 (dk_at dksX2_comesTo_2 18 rfl rfl)
theorem dX2_comesTo_67 : decode cX2_comesTo 67 = .ok (.iadd, 1) := dk_96 (dk_at dksX2_comesTo_2 19 rfl rfl)
theorem dX2_comesTo_68 : decode cX2_comesTo 68 = .ok (.putfield 159, 3) := dk_181 0 159 (dk_at dksX2_comesTo_2 20 rfl rfl)
theorem dX2_comesTo_71 : decode cX2_comesTo 71 = .ok (.aload_n 0, 1) := dk_42 (dk_at dksX2_comesTo_2 23 rfl rfl)
theorem dX2_comesTo_72 : decode cX2_comesTo 72 = .ok (.dup, 1) := dk_89 (dk_at dksX2_comesTo_3 0 rfl rfl)
theorem dX2_comesTo_73 : decode cX2_comesTo 73 = .ok (.getfield 80, 3) := dk_180 0 80 (dk_at dksX2_comesTo_3 1 rfl rfl)
theorem dX2_comesTo_76 : decode cX2_comesTo 76 = .ok (.iconst 1, 1) := dk_4 (dk_at dksX2_comesTo_3 4 rfl rfl)
theorem dX2_comesTo_77 : decode cX2_comesTo 77 = .ok (.iadd, 1) := dk_96 (dk_at dksX2_comesTo_3 5 rfl rfl)
theorem dX2_comesTo_78 : decode cX2_comesTo 78 = .ok (.putfield 80, 3) := dk_181 0 80 (dk_at dksX2_comesTo_3 6 rfl rfl)
theorem dX2_comesTo_81 : decode cX2_comesTo 81 = .ok (.iconst 1, 1) := dk_4 (dk_at dksX2_comesTo_3 9 rfl rfl)
theorem dX2_comesTo_82 : decode cX2_comesTo 82 = .ok (.ireturn, 1) := dk_172 (dk_at dksX2_comesTo_3 10 rfl rfl)
abbrev cX2_isKilled : ByteArray := prog_7_method_14_code
def yX2_isKilled : MethodName := ⟨RX2, "isKilled", "(LOtterTrust$Otter;I)V"⟩
def dkwX2_isKilled_1 : List UInt8 := [180, 0, 142, 4, 96, 181, 0, 142, 177]
abbrev dktX2_isKilled_1 : List UInt8 := dkwX2_isKilled_1 ++ []
def dkwX2_isKilled_0 : List UInt8 := [43, 4, 181, 0, 104, 43, 28, 181, 0, 133, 42, 180, 0, 12, 28, 185, 0, 46, 2, 0, 192, 0, 44, 89]
abbrev dktX2_isKilled_0 : List UInt8 := dkwX2_isKilled_0 ++ dktX2_isKilled_1
theorem dksX2_isKilled_0 : cX2_isKilled.data.toList.drop 0 = dktX2_isKilled_0 := by decide +kernel
theorem dksX2_isKilled_1 : cX2_isKilled.data.toList.drop 24 = dktX2_isKilled_1 := dk_seg dksX2_isKilled_0 24 rfl rfl
theorem dX2_isKilled_0 : decode cX2_isKilled 0 = .ok (.aload_n 1, 1) := dk_43 (dk_at dksX2_isKilled_0 0 rfl rfl)
theorem dX2_isKilled_1 : decode cX2_isKilled 1 = .ok (.iconst 1, 1) := dk_4 (dk_at dksX2_isKilled_0 1 rfl rfl)
theorem dX2_isKilled_2 : decode cX2_isKilled 2 = .ok (.putfield 104, 3) := dk_181 0 104 (dk_at dksX2_isKilled_0 2 rfl rfl)
theorem dX2_isKilled_5 : decode cX2_isKilled 5 = .ok (.aload_n 1, 1) := dk_43 (dk_at dksX2_isKilled_0 5 rfl rfl)
theorem dX2_isKilled_6 : decode cX2_isKilled 6 = .ok (.iload_n 2, 1) := dk_28 (dk_at dksX2_isKilled_0 6 rfl rfl)
theorem dX2_isKilled_7 : decode cX2_isKilled 7 = .ok (.putfield 133, 3) := dk_181 0 133 (dk_at dksX2_isKilled_0 7 rfl rfl)
theorem dX2_isKilled_10 : decode cX2_isKilled 10 = .ok (.aload_n 0, 1) := dk_42 (dk_at dksX2_isKilled_0 10 rfl rfl)
theorem dX2_isKilled_11 : decode cX2_isKilled 11 = .ok (.getfield 12, 3) := dk_180 0 12 (dk_at dksX2_isKilled_0 11 rfl rfl)
theorem dX2_isKilled_14 : decode cX2_isKilled 14 = .ok (.iload_n 2, 1) := dk_28 (dk_at dksX2_isKilled_0 14 rfl rfl)
theorem dX2_isKilled_15 : decode cX2_isKilled 15 = .ok (.invokeinterface 46 2, 5) := by decide +kernel
theorem dX2_isKilled_20 : decode cX2_isKilled 20 = .ok (.checkcast 44, 3) := dk_192 0 44 (dk_at dksX2_isKilled_0 20 rfl rfl)
theorem dX2_isKilled_23 : decode cX2_isKilled 23 = .ok (.dup, 1) := dk_89 (dk_at dksX2_isKilled_0 23 rfl rfl)
theorem dX2_isKilled_24 : decode cX2_isKilled 24 = .ok (.getfield 142, 3) := dk_180 0 142 (dk_at dksX2_isKilled_1 0 rfl rfl)
theorem dX2_isKilled_27 : decode cX2_isKilled 27 = .ok (.iconst 1, 1) := dk_4 (dk_at dksX2_isKilled_1 3 rfl rfl)
theorem dX2_isKilled_28 : decode cX2_isKilled 28 = .ok (.iadd, 1) := dk_96 (dk_at dksX2_isKilled_1 4 rfl rfl)
theorem dX2_isKilled_29 : decode cX2_isKilled 29 = .ok (.putfield 142, 3) := dk_181 0 142 (dk_at dksX2_isKilled_1 5 rfl rfl)
theorem dX2_isKilled_32 : decode cX2_isKilled 32 = .ok (.return_, 1) := dk_177 (dk_at dksX2_isKilled_1 8 rfl rfl)
abbrev cX2_washes : ByteArray := prog_7_method_17_code
def yX2_washes : MethodName := ⟨RX2, "washes", "(LOtterTrust$Reach;)V"⟩
def dkwX2_washes_1 : List UInt8 := [180, 0, 156, 5, 108, 181, 0, 156, 177]
abbrev dktX2_washes_1 : List UInt8 := dkwX2_washes_1 ++ []
def dkwX2_washes_0 : List UInt8 := [42, 89, 180, 0, 86, 43, 180, 0, 156, 43, 180, 0, 156, 5, 108, 100, 96, 181, 0, 86, 43, 89]
abbrev dktX2_washes_0 : List UInt8 := dkwX2_washes_0 ++ dktX2_washes_1
theorem dksX2_washes_0 : cX2_washes.data.toList.drop 0 = dktX2_washes_0 := by decide +kernel
theorem dksX2_washes_1 : cX2_washes.data.toList.drop 22 = dktX2_washes_1 := dk_seg dksX2_washes_0 22 rfl rfl
theorem dX2_washes_0 : decode cX2_washes 0 = .ok (.aload_n 0, 1) := dk_42 (dk_at dksX2_washes_0 0 rfl rfl)
theorem dX2_washes_1 : decode cX2_washes 1 = .ok (.dup, 1) := dk_89 (dk_at dksX2_washes_0 1 rfl rfl)
theorem dX2_washes_2 : decode cX2_washes 2 = .ok (.getfield 86, 3) := dk_180 0 86 (dk_at dksX2_washes_0 2 rfl rfl)
theorem dX2_washes_5 : decode cX2_washes 5 = .ok (.aload_n 1, 1) := dk_43 (dk_at dksX2_washes_0 5 rfl rfl)
theorem dX2_washes_6 : decode cX2_washes 6 = .ok (.getfield 156, 3) := dk_180 0 156 (dk_at dksX2_washes_0 6 rfl rfl)
theorem dX2_washes_9 : decode cX2_washes 9 = .ok (.aload_n 1, 1) := dk_43 (dk_at dksX2_washes_0 9 rfl rfl)
theorem dX2_washes_10 : decode cX2_washes 10 = .ok (.getfield 156, 3) := dk_180 0 156 (dk_at dksX2_washes_0 10 rfl rfl)
theorem dX2_washes_13 : decode cX2_washes 13 = .ok (.iconst 2, 1) := dk_5 (dk_at dksX2_washes_0 13 rfl rfl)
theorem dX2_washes_14 : decode cX2_washes 14 = .ok (.idiv, 1) := dk_108 (dk_at dksX2_washes_0 14 rfl rfl)
theorem dX2_washes_15 : decode cX2_washes 15 = .ok (.isub, 1) := dk_100 (dk_at dksX2_washes_0 15 rfl rfl)
theorem dX2_washes_16 : decode cX2_washes 16 = .ok (.iadd, 1) := dk_96 (dk_at dksX2_washes_0 16 rfl rfl)
theorem dX2_washes_17 : decode cX2_washes 17 = .ok (.putfield 86, 3) := dk_181 0 86 (dk_at dksX2_washes_0 17 rfl rfl)
theorem dX2_washes_20 : decode cX2_washes 20 = .ok (.aload_n 1, 1) := dk_43 (dk_at dksX2_washes_0 20 rfl rfl)
theorem dX2_washes_21 : decode cX2_washes 21 = .ok (.dup, 1) := dk_89 (dk_at dksX2_washes_0 21 rfl rfl)
theorem dX2_washes_22 : decode cX2_washes 22 = .ok (.getfield 156, 3) := dk_180 0 156 (dk_at dksX2_washes_1 0 rfl rfl)
theorem dX2_washes_25 : decode cX2_washes 25 = .ok (.iconst 2, 1) := dk_5 (dk_at dksX2_washes_1 3 rfl rfl)
theorem dX2_washes_26 : decode cX2_washes 26 = .ok (.idiv, 1) := dk_108 (dk_at dksX2_washes_1 4 rfl rfl)
theorem dX2_washes_27 : decode cX2_washes 27 = .ok (.putfield 156, 3) := dk_181 0 156 (dk_at dksX2_washes_1 5 rfl rfl)
theorem dX2_washes_30 : decode cX2_washes 30 = .ok (.return_, 1) := dk_177 (dk_at dksX2_washes_1 8 rfl rfl)
abbrev cX2_breeds : ByteArray := prog_7_method_20_code
def yX2_breeds : MethodName := ⟨RX2, "breeds", "(I)V"⟩
def dkwX2_breeds_6 : List UInt8 := [180, 0, 114, 96, 181, 0, 74, 177]
abbrev dktX2_breeds_6 : List UInt8 := dkwX2_breeds_6 ++ []
def dkwX2_breeds_5 : List UInt8 := [180, 0, 71, 181, 0, 182, 44, 42, 180, 0, 71, 17, 1, 104, 108, 181, 0, 176, 42, 89, 180, 0, 74, 44]
abbrev dktX2_breeds_5 : List UInt8 := dkwX2_breeds_5 ++ dktX2_breeds_6
def dkwX2_breeds_4 : List UInt8 := [153, 0, 54, 44, 6, 4, 42, 27, 182, 0, 179, 16, 12, 108, 96, 184, 0, 136, 181, 0, 114, 44, 42]
abbrev dktX2_breeds_4 : List UInt8 := dkwX2_breeds_4 ++ dktX2_breeds_5
def dkwX2_breeds_3 : List UInt8 := [161, 0, 11, 42, 27, 182, 0, 183, 167, 0, 69, 44, 180, 0, 114, 154, 0, 62, 42, 27, 182, 0, 187]
abbrev dktX2_breeds_3 : List UInt8 := dkwX2_breeds_3 ++ dktX2_breeds_4
def dkwX2_breeds_2 : List UInt8 := [167, 0, 99, 44, 180, 0, 114, 158, 0, 26, 42, 180, 0, 71, 44, 180, 0, 182, 100, 17, 0, 200]
abbrev dktX2_breeds_2 : List UInt8 := dkwX2_breeds_2 ++ dktX2_breeds_3
def dkwX2_breeds_1 : List UInt8 := [182, 0, 111, 154, 0, 24, 42, 89, 180, 0, 77, 44, 180, 0, 114, 96, 181, 0, 77, 44, 3, 181, 0, 114]
abbrev dktX2_breeds_1 : List UInt8 := dkwX2_breeds_1 ++ dktX2_breeds_2
def dkwX2_breeds_0 : List UInt8 := [42, 180, 0, 12, 27, 185, 0, 46, 2, 0, 192, 0, 44, 77, 44, 180, 0, 114, 158, 0, 32, 42, 27]
abbrev dktX2_breeds_0 : List UInt8 := dkwX2_breeds_0 ++ dktX2_breeds_1
theorem dksX2_breeds_0 : cX2_breeds.data.toList.drop 0 = dktX2_breeds_0 := by decide +kernel
theorem dksX2_breeds_1 : cX2_breeds.data.toList.drop 23 = dktX2_breeds_1 := dk_seg dksX2_breeds_0 23 rfl rfl
theorem dksX2_breeds_2 : cX2_breeds.data.toList.drop 47 = dktX2_breeds_2 := dk_seg dksX2_breeds_1 24 rfl rfl
theorem dksX2_breeds_3 : cX2_breeds.data.toList.drop 69 = dktX2_breeds_3 := dk_seg dksX2_breeds_2 22 rfl rfl
theorem dksX2_breeds_4 : cX2_breeds.data.toList.drop 92 = dktX2_breeds_4 := dk_seg dksX2_breeds_3 23 rfl rfl
theorem dksX2_breeds_5 : cX2_breeds.data.toList.drop 115 = dktX2_breeds_5 := dk_seg dksX2_breeds_4 23 rfl rfl
theorem dksX2_breeds_6 : cX2_breeds.data.toList.drop 139 = dktX2_breeds_6 := dk_seg dksX2_breeds_5 24 rfl rfl
theorem dX2_breeds_0 : decode cX2_breeds 0 = .ok (.aload_n 0, 1) := dk_42 (dk_at dksX2_breeds_0 0 rfl rfl)
theorem dX2_breeds_1 : decode cX2_breeds 1 = .ok (.getfield 12, 3) := dk_180 0 12 (dk_at dksX2_breeds_0 1 rfl rfl)
theorem dX2_breeds_4 : decode cX2_breeds 4 = .ok (.iload_n 1, 1) := dk_27 (dk_at dksX2_breeds_0 4 rfl rfl)
theorem dX2_breeds_5 : decode cX2_breeds 5 = .ok (.invokeinterface 46 2, 5) := by decide +kernel
theorem dX2_breeds_10 : decode cX2_breeds 10 = .ok (.checkcast 44, 3) := dk_192 0 44 (dk_at dksX2_breeds_0 10 rfl rfl)
theorem dX2_breeds_13 : decode cX2_breeds 13 = .ok (.astore_n 2, 1) := dk_77 (dk_at dksX2_breeds_0 13 rfl rfl)
theorem dX2_breeds_14 : decode cX2_breeds 14 = .ok (.aload_n 2, 1) := dk_44 (dk_at dksX2_breeds_0 14 rfl rfl)
theorem dX2_breeds_15 : decode cX2_breeds 15 = .ok (.getfield 114, 3) := dk_180 0 114 (dk_at dksX2_breeds_0 15 rfl rfl)
theorem dX2_breeds_18 : decode cX2_breeds 18 = .ok (.ifCond .le 32, 3) := dk_158 0 32 (dk_at dksX2_breeds_0 18 rfl rfl)
theorem dX2_breeds_21 : decode cX2_breeds 21 = .ok (.aload_n 0, 1) := dk_42 (dk_at dksX2_breeds_0 21 rfl rfl)
theorem dX2_breeds_22 : decode cX2_breeds 22 = .ok (.iload_n 1, 1) := dk_27 (dk_at dksX2_breeds_0 22 rfl rfl)
theorem dX2_breeds_23 : decode cX2_breeds 23 = .ok (.invokevirtual 111, 3) := dk_182 0 111 (dk_at dksX2_breeds_1 0 rfl rfl)
theorem dX2_breeds_26 : decode cX2_breeds 26 = .ok (.ifCond .ne 24, 3) := dk_154 0 24 (dk_at dksX2_breeds_1 3 rfl rfl)
theorem dX2_breeds_29 : decode cX2_breeds 29 = .ok (.aload_n 0, 1) := dk_42 (dk_at dksX2_breeds_1 6 rfl rfl)
theorem dX2_breeds_30 : decode cX2_breeds 30 = .ok (.dup, 1) := dk_89 (dk_at dksX2_breeds_1 7 rfl rfl)
theorem dX2_breeds_31 : decode cX2_breeds 31 = .ok (.getfield 77, 3) := dk_180 0 77 (dk_at dksX2_breeds_1 8 rfl rfl)
theorem dX2_breeds_34 : decode cX2_breeds 34 = .ok (.aload_n 2, 1) := dk_44 (dk_at dksX2_breeds_1 11 rfl rfl)
theorem dX2_breeds_35 : decode cX2_breeds 35 = .ok (.getfield 114, 3) := dk_180 0 114 (dk_at dksX2_breeds_1 12 rfl rfl)
theorem dX2_breeds_38 : decode cX2_breeds 38 = .ok (.iadd, 1) := dk_96 (dk_at dksX2_breeds_1 15 rfl rfl)
theorem dX2_breeds_39 : decode cX2_breeds 39 = .ok (.putfield 77, 3) := dk_181 0 77 (dk_at dksX2_breeds_1 16 rfl rfl)
theorem dX2_breeds_42 : decode cX2_breeds 42 = .ok (.aload_n 2, 1) := dk_44 (dk_at dksX2_breeds_1 19 rfl rfl)
theorem dX2_breeds_43 : decode cX2_breeds 43 = .ok (.iconst 0, 1) := dk_3 (dk_at dksX2_breeds_1 20 rfl rfl)
theorem dX2_breeds_44 : decode cX2_breeds 44 = .ok (.putfield 114, 3) := dk_181 0 114 (dk_at dksX2_breeds_1 21 rfl rfl)
theorem dX2_breeds_47 : decode cX2_breeds 47 = .ok (.goto 99, 3) := dk_167 0 99 (dk_at dksX2_breeds_2 0 rfl rfl)
theorem dX2_breeds_50 : decode cX2_breeds 50 = .ok (.aload_n 2, 1) := dk_44 (dk_at dksX2_breeds_2 3 rfl rfl)
theorem dX2_breeds_51 : decode cX2_breeds 51 = .ok (.getfield 114, 3) := dk_180 0 114 (dk_at dksX2_breeds_2 4 rfl rfl)
theorem dX2_breeds_54 : decode cX2_breeds 54 = .ok (.ifCond .le 26, 3) := dk_158 0 26 (dk_at dksX2_breeds_2 7 rfl rfl)
theorem dX2_breeds_57 : decode cX2_breeds 57 = .ok (.aload_n 0, 1) := dk_42 (dk_at dksX2_breeds_2 10 rfl rfl)
theorem dX2_breeds_58 : decode cX2_breeds 58 = .ok (.getfield 71, 3) := dk_180 0 71 (dk_at dksX2_breeds_2 11 rfl rfl)
theorem dX2_breeds_61 : decode cX2_breeds 61 = .ok (.aload_n 2, 1) := dk_44 (dk_at dksX2_breeds_2 14 rfl rfl)
theorem dX2_breeds_62 : decode cX2_breeds 62 = .ok (.getfield 182, 3) := dk_180 0 182 (dk_at dksX2_breeds_2 15 rfl rfl)
theorem dX2_breeds_65 : decode cX2_breeds 65 = .ok (.isub, 1) := dk_100 (dk_at dksX2_breeds_2 18 rfl rfl)
theorem dX2_breeds_66 : decode cX2_breeds 66 = .ok (.sipush 200, 3) := dk_17 0 200 (dk_at dksX2_breeds_2 19 rfl rfl)
theorem dX2_breeds_69 : decode cX2_breeds 69 = .ok (.if_icmp .lt 11, 3) := dk_161 0 11 (dk_at dksX2_breeds_3 0 rfl rfl)
theorem dX2_breeds_72 : decode cX2_breeds 72 = .ok (.aload_n 0, 1) := dk_42 (dk_at dksX2_breeds_3 3 rfl rfl)
theorem dX2_breeds_73 : decode cX2_breeds 73 = .ok (.iload_n 1, 1) := dk_27 (dk_at dksX2_breeds_3 4 rfl rfl)
theorem dX2_breeds_74 : decode cX2_breeds 74 = .ok (.invokevirtual 183, 3) := dk_182 0 183 (dk_at dksX2_breeds_3 5 rfl rfl)
theorem dX2_breeds_77 : decode cX2_breeds 77 = .ok (.goto 69, 3) := dk_167 0 69 (dk_at dksX2_breeds_3 8 rfl rfl)
theorem dX2_breeds_80 : decode cX2_breeds 80 = .ok (.aload_n 2, 1) := dk_44 (dk_at dksX2_breeds_3 11 rfl rfl)
theorem dX2_breeds_81 : decode cX2_breeds 81 = .ok (.getfield 114, 3) := dk_180 0 114 (dk_at dksX2_breeds_3 12 rfl rfl)
theorem dX2_breeds_84 : decode cX2_breeds 84 = .ok (.ifCond .ne 62, 3) := dk_154 0 62 (dk_at dksX2_breeds_3 15 rfl rfl)
theorem dX2_breeds_87 : decode cX2_breeds 87 = .ok (.aload_n 0, 1) := dk_42 (dk_at dksX2_breeds_3 18 rfl rfl)
theorem dX2_breeds_88 : decode cX2_breeds 88 = .ok (.iload_n 1, 1) := dk_27 (dk_at dksX2_breeds_3 19 rfl rfl)
theorem dX2_breeds_89 : decode cX2_breeds 89 = .ok (.invokevirtual 187, 3) := dk_182 0 187 (dk_at dksX2_breeds_3 20 rfl rfl)
theorem dX2_breeds_92 : decode cX2_breeds 92 = .ok (.ifCond .eq 54, 3) := dk_153 0 54 (dk_at dksX2_breeds_4 0 rfl rfl)
theorem dX2_breeds_95 : decode cX2_breeds 95 = .ok (.aload_n 2, 1) := dk_44 (dk_at dksX2_breeds_4 3 rfl rfl)
theorem dX2_breeds_96 : decode cX2_breeds 96 = .ok (.iconst 3, 1) := dk_6 (dk_at dksX2_breeds_4 4 rfl rfl)
theorem dX2_breeds_97 : decode cX2_breeds 97 = .ok (.iconst 1, 1) := dk_4 (dk_at dksX2_breeds_4 5 rfl rfl)
theorem dX2_breeds_98 : decode cX2_breeds 98 = .ok (.aload_n 0, 1) := dk_42 (dk_at dksX2_breeds_4 6 rfl rfl)
theorem dX2_breeds_99 : decode cX2_breeds 99 = .ok (.iload_n 1, 1) := dk_27 (dk_at dksX2_breeds_4 7 rfl rfl)
theorem dX2_breeds_100 : decode cX2_breeds 100 = .ok (.invokevirtual 179, 3) := dk_182 0 179 (dk_at dksX2_breeds_4 8 rfl rfl)
theorem dX2_breeds_103 : decode cX2_breeds 103 = .ok (.bipush 12, 2) := dk_16 12 (dk_at dksX2_breeds_4 11 rfl rfl)
theorem dX2_breeds_105 : decode cX2_breeds 105 = .ok (.idiv, 1) := dk_108 (dk_at dksX2_breeds_4 13 rfl rfl)
theorem dX2_breeds_106 : decode cX2_breeds 106 = .ok (.iadd, 1) := dk_96 (dk_at dksX2_breeds_4 14 rfl rfl)
theorem dX2_breeds_107 : decode cX2_breeds 107 = .ok (.invokestatic 136, 3) := dk_184 0 136 (dk_at dksX2_breeds_4 15 rfl rfl)
theorem dX2_breeds_110 : decode cX2_breeds 110 = .ok (.putfield 114, 3) := dk_181 0 114 (dk_at dksX2_breeds_4 18 rfl rfl)
theorem dX2_breeds_113 : decode cX2_breeds 113 = .ok (.aload_n 2, 1) := dk_44 (dk_at dksX2_breeds_4 21 rfl rfl)
theorem dX2_breeds_114 : decode cX2_breeds 114 = .ok (.aload_n 0, 1) := dk_42 (dk_at dksX2_breeds_4 22 rfl rfl)
theorem dX2_breeds_115 : decode cX2_breeds 115 = .ok (.getfield 71, 3) := dk_180 0 71 (dk_at dksX2_breeds_5 0 rfl rfl)
theorem dX2_breeds_118 : decode cX2_breeds 118 = .ok (.putfield 182, 3) := dk_181 0 182 (dk_at dksX2_breeds_5 3 rfl rfl)
theorem dX2_breeds_121 : decode cX2_breeds 121 = .ok (.aload_n 2, 1) := dk_44 (dk_at dksX2_breeds_5 6 rfl rfl)
theorem dX2_breeds_122 : decode cX2_breeds 122 = .ok (.aload_n 0, 1) := dk_42 (dk_at dksX2_breeds_5 7 rfl rfl)
theorem dX2_breeds_123 : decode cX2_breeds 123 = .ok (.getfield 71, 3) := dk_180 0 71 (dk_at dksX2_breeds_5 8 rfl rfl)
theorem dX2_breeds_126 : decode cX2_breeds 126 = .ok (.sipush 360, 3) := dk_17 1 104 (dk_at dksX2_breeds_5 11 rfl rfl)
theorem dX2_breeds_129 : decode cX2_breeds 129 = .ok (.idiv, 1) := dk_108 (dk_at dksX2_breeds_5 14 rfl rfl)
theorem dX2_breeds_130 : decode cX2_breeds 130 = .ok (.putfield 176, 3) := dk_181 0 176 (dk_at dksX2_breeds_5 15 rfl rfl)
theorem dX2_breeds_133 : decode cX2_breeds 133 = .ok (.aload_n 0, 1) := dk_42 (dk_at dksX2_breeds_5 18 rfl rfl)
theorem dX2_breeds_134 : decode cX2_breeds 134 = .ok (.dup, 1) := dk_89 (dk_at dksX2_breeds_5 19 rfl rfl)
theorem dX2_breeds_135 : decode cX2_breeds 135 = .ok (.getfield 74, 3) := dk_180 0 74 (dk_at dksX2_breeds_5 20 rfl rfl)
theorem dX2_breeds_138 : decode cX2_breeds 138 = .ok (.aload_n 2, 1) := dk_44 (dk_at dksX2_breeds_5 23 rfl rfl)
theorem dX2_breeds_139 : decode cX2_breeds 139 = .ok (.getfield 114, 3) := dk_180 0 114 (dk_at dksX2_breeds_6 0 rfl rfl)
theorem dX2_breeds_142 : decode cX2_breeds 142 = .ok (.iadd, 1) := dk_96 (dk_at dksX2_breeds_6 3 rfl rfl)
theorem dX2_breeds_143 : decode cX2_breeds 143 = .ok (.putfield 74, 3) := dk_181 0 74 (dk_at dksX2_breeds_6 4 rfl rfl)
theorem dX2_breeds_146 : decode cX2_breeds 146 = .ok (.return_, 1) := dk_177 (dk_at dksX2_breeds_6 7 rfl rfl)
abbrev cX2_countAt : ByteArray := prog_7_method_5_code
def yX2_countAt : MethodName := ⟨RX2, "countAt", "(I)I"⟩
def dkwX2_countAt_2 : List UInt8 := [132, 3, 1, 167, 255, 212, 28, 172]
abbrev dktX2_countAt_2 : List UInt8 := dkwX2_countAt_2 ++ []
def dkwX2_countAt_1 : List UInt8 := [185, 0, 46, 2, 0, 192, 0, 57, 27, 182, 0, 100, 153, 0, 7, 4, 167, 0, 4, 3, 96, 61]
abbrev dktX2_countAt_1 : List UInt8 := dkwX2_countAt_1 ++ dktX2_countAt_2
def dkwX2_countAt_0 : List UInt8 := [3, 61, 3, 62, 29, 42, 180, 0, 18, 185, 0, 38, 1, 0, 162, 0, 37, 28, 42, 180, 0, 18, 29]
abbrev dktX2_countAt_0 : List UInt8 := dkwX2_countAt_0 ++ dktX2_countAt_1
theorem dksX2_countAt_0 : cX2_countAt.data.toList.drop 0 = dktX2_countAt_0 := by decide +kernel
theorem dksX2_countAt_1 : cX2_countAt.data.toList.drop 23 = dktX2_countAt_1 := dk_seg dksX2_countAt_0 23 rfl rfl
theorem dksX2_countAt_2 : cX2_countAt.data.toList.drop 45 = dktX2_countAt_2 := dk_seg dksX2_countAt_1 22 rfl rfl
theorem dX2_countAt_0 : decode cX2_countAt 0 = .ok (.iconst 0, 1) := dk_3 (dk_at dksX2_countAt_0 0 rfl rfl)
theorem dX2_countAt_1 : decode cX2_countAt 1 = .ok (.istore_n 2, 1) := dk_61 (dk_at dksX2_countAt_0 1 rfl rfl)
theorem dX2_countAt_2 : decode cX2_countAt 2 = .ok (.iconst 0, 1) := dk_3 (dk_at dksX2_countAt_0 2 rfl rfl)
theorem dX2_countAt_3 : decode cX2_countAt 3 = .ok (.istore_n 3, 1) := dk_62 (dk_at dksX2_countAt_0 3 rfl rfl)
theorem dX2_countAt_4 : decode cX2_countAt 4 = .ok (.iload_n 3, 1) := dk_29 (dk_at dksX2_countAt_0 4 rfl rfl)
theorem dX2_countAt_5 : decode cX2_countAt 5 = .ok (.aload_n 0, 1) := dk_42 (dk_at dksX2_countAt_0 5 rfl rfl)
theorem dX2_countAt_6 : decode cX2_countAt 6 = .ok (.getfield 18, 3) := dk_180 0 18 (dk_at dksX2_countAt_0 6 rfl rfl)
theorem dX2_countAt_9 : decode cX2_countAt 9 = .ok (.invokeinterface 38 1, 5) := by decide +kernel
theorem dX2_countAt_14 : decode cX2_countAt 14 = .ok (.if_icmp .ge 37, 3) := dk_162 0 37 (dk_at dksX2_countAt_0 14 rfl rfl)
theorem dX2_countAt_17 : decode cX2_countAt 17 = .ok (.iload_n 2, 1) := dk_28 (dk_at dksX2_countAt_0 17 rfl rfl)
theorem dX2_countAt_18 : decode cX2_countAt 18 = .ok (.aload_n 0, 1) := dk_42 (dk_at dksX2_countAt_0 18 rfl rfl)
theorem dX2_countAt_19 : decode cX2_countAt 19 = .ok (.getfield 18, 3) := dk_180 0 18 (dk_at dksX2_countAt_0 19 rfl rfl)
theorem dX2_countAt_22 : decode cX2_countAt 22 = .ok (.iload_n 3, 1) := dk_29 (dk_at dksX2_countAt_0 22 rfl rfl)
theorem dX2_countAt_23 : decode cX2_countAt 23 = .ok (.invokeinterface 46 2, 5) := by decide +kernel
theorem dX2_countAt_28 : decode cX2_countAt 28 = .ok (.checkcast 57, 3) := dk_192 0 57 (dk_at dksX2_countAt_1 5 rfl rfl)
theorem dX2_countAt_31 : decode cX2_countAt 31 = .ok (.iload_n 1, 1) := dk_27 (dk_at dksX2_countAt_1 8 rfl rfl)
theorem dX2_countAt_32 : decode cX2_countAt 32 = .ok (.invokevirtual 100, 3) := dk_182 0 100 (dk_at dksX2_countAt_1 9 rfl rfl)
theorem dX2_countAt_35 : decode cX2_countAt 35 = .ok (.ifCond .eq 7, 3) := dk_153 0 7 (dk_at dksX2_countAt_1 12 rfl rfl)
theorem dX2_countAt_38 : decode cX2_countAt 38 = .ok (.iconst 1, 1) := dk_4 (dk_at dksX2_countAt_1 15 rfl rfl)
theorem dX2_countAt_39 : decode cX2_countAt 39 = .ok (.goto 4, 3) := dk_167 0 4 (dk_at dksX2_countAt_1 16 rfl rfl)
theorem dX2_countAt_42 : decode cX2_countAt 42 = .ok (.iconst 0, 1) := dk_3 (dk_at dksX2_countAt_1 19 rfl rfl)
theorem dX2_countAt_43 : decode cX2_countAt 43 = .ok (.iadd, 1) := dk_96 (dk_at dksX2_countAt_1 20 rfl rfl)
theorem dX2_countAt_44 : decode cX2_countAt 44 = .ok (.istore_n 2, 1) := dk_61 (dk_at dksX2_countAt_1 21 rfl rfl)
theorem dX2_countAt_45 : decode cX2_countAt 45 = .ok (.iinc 3 1, 3) := dk_132 3 1 (dk_at dksX2_countAt_2 0 rfl rfl)
theorem dX2_countAt_48 : decode cX2_countAt 48 = .ok (.goto (-44), 3) := dk_167 255 212 (dk_at dksX2_countAt_2 3 rfl rfl)
theorem dX2_countAt_51 : decode cX2_countAt 51 = .ok (.iload_n 2, 1) := dk_28 (dk_at dksX2_countAt_2 6 rfl rfl)
theorem dX2_countAt_52 : decode cX2_countAt 52 = .ok (.ireturn, 1) := dk_172 (dk_at dksX2_countAt_2 7 rfl rfl)
abbrev cX2_growUp : ByteArray := prog_7_method_18_code
def yX2_growUp : MethodName := ⟨RX2, "growUp", "(I)V"⟩
def dkwX2_growUp_3 : List UInt8 := [182, 0, 167, 42, 180, 0, 71, 183, 0, 170, 185, 0, 53, 2, 0, 87, 132, 4, 1, 167, 255, 194, 177]
abbrev dktX2_growUp_3 : List UInt8 := dkwX2_growUp_3 ++ []
def dkwX2_growUp_2 : List UInt8 := [89, 180, 0, 77, 4, 96, 181, 0, 77, 167, 0, 29, 42, 180, 0, 18, 187, 0, 57, 89, 42, 27]
abbrev dktX2_growUp_2 : List UInt8 := dkwX2_growUp_2 ++ dktX2_growUp_3
def dkwX2_growUp_1 : List UInt8 := [3, 54, 4, 21, 4, 29, 162, 0, 62, 42, 180, 0, 18, 185, 0, 38, 1, 0, 16, 30, 160, 0, 16, 42]
abbrev dktX2_growUp_1 : List UInt8 := dkwX2_growUp_1 ++ dktX2_growUp_2
def dkwX2_growUp_0 : List UInt8 := [42, 180, 0, 12, 27, 185, 0, 46, 2, 0, 192, 0, 44, 77, 44, 180, 0, 114, 62, 44, 3, 181, 0, 114]
abbrev dktX2_growUp_0 : List UInt8 := dkwX2_growUp_0 ++ dktX2_growUp_1
theorem dksX2_growUp_0 : cX2_growUp.data.toList.drop 0 = dktX2_growUp_0 := by decide +kernel
theorem dksX2_growUp_1 : cX2_growUp.data.toList.drop 24 = dktX2_growUp_1 := dk_seg dksX2_growUp_0 24 rfl rfl
theorem dksX2_growUp_2 : cX2_growUp.data.toList.drop 48 = dktX2_growUp_2 := dk_seg dksX2_growUp_1 24 rfl rfl
theorem dksX2_growUp_3 : cX2_growUp.data.toList.drop 70 = dktX2_growUp_3 := dk_seg dksX2_growUp_2 22 rfl rfl
theorem dX2_growUp_0 : decode cX2_growUp 0 = .ok (.aload_n 0, 1) := dk_42 (dk_at dksX2_growUp_0 0 rfl rfl)
theorem dX2_growUp_1 : decode cX2_growUp 1 = .ok (.getfield 12, 3) := dk_180 0 12 (dk_at dksX2_growUp_0 1 rfl rfl)
theorem dX2_growUp_4 : decode cX2_growUp 4 = .ok (.iload_n 1, 1) := dk_27 (dk_at dksX2_growUp_0 4 rfl rfl)
theorem dX2_growUp_5 : decode cX2_growUp 5 = .ok (.invokeinterface 46 2, 5) := by decide +kernel
theorem dX2_growUp_10 : decode cX2_growUp 10 = .ok (.checkcast 44, 3) := dk_192 0 44 (dk_at dksX2_growUp_0 10 rfl rfl)
theorem dX2_growUp_13 : decode cX2_growUp 13 = .ok (.astore_n 2, 1) := dk_77 (dk_at dksX2_growUp_0 13 rfl rfl)
theorem dX2_growUp_14 : decode cX2_growUp 14 = .ok (.aload_n 2, 1) := dk_44 (dk_at dksX2_growUp_0 14 rfl rfl)
theorem dX2_growUp_15 : decode cX2_growUp 15 = .ok (.getfield 114, 3) := dk_180 0 114 (dk_at dksX2_growUp_0 15 rfl rfl)
theorem dX2_growUp_18 : decode cX2_growUp 18 = .ok (.istore_n 3, 1) := dk_62 (dk_at dksX2_growUp_0 18 rfl rfl)
theorem dX2_growUp_19 : decode cX2_growUp 19 = .ok (.aload_n 2, 1) := dk_44 (dk_at dksX2_growUp_0 19 rfl rfl)
theorem dX2_growUp_20 : decode cX2_growUp 20 = .ok (.iconst 0, 1) := dk_3 (dk_at dksX2_growUp_0 20 rfl rfl)
theorem dX2_growUp_21 : decode cX2_growUp 21 = .ok (.putfield 114, 3) := dk_181 0 114 (dk_at dksX2_growUp_0 21 rfl rfl)
theorem dX2_growUp_24 : decode cX2_growUp 24 = .ok (.iconst 0, 1) := dk_3 (dk_at dksX2_growUp_1 0 rfl rfl)
theorem dX2_growUp_25 : decode cX2_growUp 25 = .ok (.istore 4, 2) := dk_54 4 (dk_at dksX2_growUp_1 1 rfl rfl)
theorem dX2_growUp_27 : decode cX2_growUp 27 = .ok (.iload 4, 2) := dk_21 4 (dk_at dksX2_growUp_1 3 rfl rfl)
theorem dX2_growUp_29 : decode cX2_growUp 29 = .ok (.iload_n 3, 1) := dk_29 (dk_at dksX2_growUp_1 5 rfl rfl)
theorem dX2_growUp_30 : decode cX2_growUp 30 = .ok (.if_icmp .ge 62, 3) := dk_162 0 62 (dk_at dksX2_growUp_1 6 rfl rfl)
theorem dX2_growUp_33 : decode cX2_growUp 33 = .ok (.aload_n 0, 1) := dk_42 (dk_at dksX2_growUp_1 9 rfl rfl)
theorem dX2_growUp_34 : decode cX2_growUp 34 = .ok (.getfield 18, 3) := dk_180 0 18 (dk_at dksX2_growUp_1 10 rfl rfl)
theorem dX2_growUp_37 : decode cX2_growUp 37 = .ok (.invokeinterface 38 1, 5) := by decide +kernel
theorem dX2_growUp_42 : decode cX2_growUp 42 = .ok (.bipush 30, 2) := dk_16 30 (dk_at dksX2_growUp_1 18 rfl rfl)
theorem dX2_growUp_44 : decode cX2_growUp 44 = .ok (.if_icmp .ne 16, 3) := dk_160 0 16 (dk_at dksX2_growUp_1 20 rfl rfl)
theorem dX2_growUp_47 : decode cX2_growUp 47 = .ok (.aload_n 0, 1) := dk_42 (dk_at dksX2_growUp_1 23 rfl rfl)
theorem dX2_growUp_48 : decode cX2_growUp 48 = .ok (.dup, 1) := dk_89 (dk_at dksX2_growUp_2 0 rfl rfl)
theorem dX2_growUp_49 : decode cX2_growUp 49 = .ok (.getfield 77, 3) := dk_180 0 77 (dk_at dksX2_growUp_2 1 rfl rfl)
theorem dX2_growUp_52 : decode cX2_growUp 52 = .ok (.iconst 1, 1) := dk_4 (dk_at dksX2_growUp_2 4 rfl rfl)
theorem dX2_growUp_53 : decode cX2_growUp 53 = .ok (.iadd, 1) := dk_96 (dk_at dksX2_growUp_2 5 rfl rfl)
theorem dX2_growUp_54 : decode cX2_growUp 54 = .ok (.putfield 77, 3) := dk_181 0 77 (dk_at dksX2_growUp_2 6 rfl rfl)
theorem dX2_growUp_57 : decode cX2_growUp 57 = .ok (.goto 29, 3) := dk_167 0 29 (dk_at dksX2_growUp_2 9 rfl rfl)
theorem dX2_growUp_60 : decode cX2_growUp 60 = .ok (.aload_n 0, 1) := dk_42 (dk_at dksX2_growUp_2 12 rfl rfl)
theorem dX2_growUp_61 : decode cX2_growUp 61 = .ok (.getfield 18, 3) := dk_180 0 18 (dk_at dksX2_growUp_2 13 rfl rfl)
theorem dX2_growUp_64 : decode cX2_growUp 64 = .ok (.new 57, 3) := dk_187 0 57 (dk_at dksX2_growUp_2 16 rfl rfl)
theorem dX2_growUp_67 : decode cX2_growUp 67 = .ok (.dup, 1) := dk_89 (dk_at dksX2_growUp_2 19 rfl rfl)
theorem dX2_growUp_68 : decode cX2_growUp 68 = .ok (.aload_n 0, 1) := dk_42 (dk_at dksX2_growUp_2 20 rfl rfl)
theorem dX2_growUp_69 : decode cX2_growUp 69 = .ok (.iload_n 1, 1) := dk_27 (dk_at dksX2_growUp_2 21 rfl rfl)
theorem dX2_growUp_70 : decode cX2_growUp 70 = .ok (.invokevirtual 167, 3) := dk_182 0 167 (dk_at dksX2_growUp_3 0 rfl rfl)
theorem dX2_growUp_73 : decode cX2_growUp 73 = .ok (.aload_n 0, 1) := dk_42 (dk_at dksX2_growUp_3 3 rfl rfl)
theorem dX2_growUp_74 : decode cX2_growUp 74 = .ok (.getfield 71, 3) := dk_180 0 71 (dk_at dksX2_growUp_3 4 rfl rfl)
theorem dX2_growUp_77 : decode cX2_growUp 77 = .ok (.invokespecial 170, 3) := dk_183 0 170 (dk_at dksX2_growUp_3 7 rfl rfl)
theorem dX2_growUp_80 : decode cX2_growUp 80 = .ok (.invokeinterface 53 2, 5) := by decide +kernel
theorem dX2_growUp_85 : decode cX2_growUp 85 = .ok (.pop, 1) := dk_87 (dk_at dksX2_growUp_3 15 rfl rfl)
theorem dX2_growUp_86 : decode cX2_growUp 86 = .ok (.iinc 4 1, 3) := dk_132 4 1 (dk_at dksX2_growUp_3 16 rfl rfl)
theorem dX2_growUp_89 : decode cX2_growUp 89 = .ok (.goto (-62), 3) := dk_167 255 194 (dk_at dksX2_growUp_3 19 rfl rfl)
theorem dX2_growUp_92 : decode cX2_growUp 92 = .ok (.return_, 1) := dk_177 (dk_at dksX2_growUp_3 22 rfl rfl)
abbrev cX2_refuge : ByteArray := prog_7_method_9_code
def yX2_refuge : MethodName := ⟨RX2, "refuge", "(I)I"⟩
def dkwX2_refuge_0 : List UInt8 := [42, 27, 3, 182, 0, 126, 61, 28, 2, 160, 0, 12, 42, 27, 4, 182, 0, 126, 167, 0, 4, 28, 172]
abbrev dktX2_refuge_0 : List UInt8 := dkwX2_refuge_0 ++ []
theorem dksX2_refuge_0 : cX2_refuge.data.toList.drop 0 = dktX2_refuge_0 := by decide +kernel
theorem dX2_refuge_0 : decode cX2_refuge 0 = .ok (.aload_n 0, 1) := dk_42 (dk_at dksX2_refuge_0 0 rfl rfl)
theorem dX2_refuge_1 : decode cX2_refuge 1 = .ok (.iload_n 1, 1) := dk_27 (dk_at dksX2_refuge_0 1 rfl rfl)
theorem dX2_refuge_2 : decode cX2_refuge 2 = .ok (.iconst 0, 1) := dk_3 (dk_at dksX2_refuge_0 2 rfl rfl)
theorem dX2_refuge_3 : decode cX2_refuge 3 = .ok (.invokevirtual 126, 3) := dk_182 0 126 (dk_at dksX2_refuge_0 3 rfl rfl)
theorem dX2_refuge_6 : decode cX2_refuge 6 = .ok (.istore_n 2, 1) := dk_61 (dk_at dksX2_refuge_0 6 rfl rfl)
theorem dX2_refuge_7 : decode cX2_refuge 7 = .ok (.iload_n 2, 1) := dk_28 (dk_at dksX2_refuge_0 7 rfl rfl)
theorem dX2_refuge_8 : decode cX2_refuge 8 = .ok (.iconst (-1), 1) := dk_2 (dk_at dksX2_refuge_0 8 rfl rfl)
theorem dX2_refuge_9 : decode cX2_refuge 9 = .ok (.if_icmp .ne 12, 3) := dk_160 0 12 (dk_at dksX2_refuge_0 9 rfl rfl)
theorem dX2_refuge_12 : decode cX2_refuge 12 = .ok (.aload_n 0, 1) := dk_42 (dk_at dksX2_refuge_0 12 rfl rfl)
theorem dX2_refuge_13 : decode cX2_refuge 13 = .ok (.iload_n 1, 1) := dk_27 (dk_at dksX2_refuge_0 13 rfl rfl)
theorem dX2_refuge_14 : decode cX2_refuge 14 = .ok (.iconst 1, 1) := dk_4 (dk_at dksX2_refuge_0 14 rfl rfl)
theorem dX2_refuge_15 : decode cX2_refuge 15 = .ok (.invokevirtual 126, 3) := dk_182 0 126 (dk_at dksX2_refuge_0 15 rfl rfl)
theorem dX2_refuge_18 : decode cX2_refuge 18 = .ok (.goto 4, 3) := dk_167 0 4 (dk_at dksX2_refuge_0 18 rfl rfl)
theorem dX2_refuge_21 : decode cX2_refuge 21 = .ok (.iload_n 2, 1) := dk_28 (dk_at dksX2_refuge_0 21 rfl rfl)
theorem dX2_refuge_22 : decode cX2_refuge 22 = .ok (.ireturn, 1) := dk_172 (dk_at dksX2_refuge_0 22 rfl rfl)
abbrev cX2_nearest : ByteArray := prog_7_method_8_code
def yX2_nearest : MethodName := ⟨RX2, "nearest", "(II)I"⟩
def dkwX2_nearest_2 : List UInt8 := [162, 0, 6, 21, 4, 62, 132, 4, 1, 167, 255, 205, 29, 172]
abbrev dktX2_nearest_2 : List UInt8 := dkwX2_nearest_2 ++ []
def dkwX2_nearest_1 : List UInt8 := [182, 0, 117, 153, 0, 27, 29, 2, 159, 0, 19, 21, 4, 27, 100, 184, 0, 121, 29, 27, 100, 184, 0, 121]
abbrev dktX2_nearest_1 : List UInt8 := dkwX2_nearest_1 ++ dktX2_nearest_2
def dkwX2_nearest_0 : List UInt8 := [2, 62, 3, 54, 4, 21, 4, 42, 180, 0, 12, 185, 0, 38, 1, 0, 162, 0, 43, 42, 21, 4, 28]
abbrev dktX2_nearest_0 : List UInt8 := dkwX2_nearest_0 ++ dktX2_nearest_1
theorem dksX2_nearest_0 : cX2_nearest.data.toList.drop 0 = dktX2_nearest_0 := by decide +kernel
theorem dksX2_nearest_1 : cX2_nearest.data.toList.drop 23 = dktX2_nearest_1 := dk_seg dksX2_nearest_0 23 rfl rfl
theorem dksX2_nearest_2 : cX2_nearest.data.toList.drop 47 = dktX2_nearest_2 := dk_seg dksX2_nearest_1 24 rfl rfl
theorem dX2_nearest_0 : decode cX2_nearest 0 = .ok (.iconst (-1), 1) := dk_2 (dk_at dksX2_nearest_0 0 rfl rfl)
theorem dX2_nearest_1 : decode cX2_nearest 1 = .ok (.istore_n 3, 1) := dk_62 (dk_at dksX2_nearest_0 1 rfl rfl)
theorem dX2_nearest_2 : decode cX2_nearest 2 = .ok (.iconst 0, 1) := dk_3 (dk_at dksX2_nearest_0 2 rfl rfl)
theorem dX2_nearest_3 : decode cX2_nearest 3 = .ok (.istore 4, 2) := dk_54 4 (dk_at dksX2_nearest_0 3 rfl rfl)
theorem dX2_nearest_5 : decode cX2_nearest 5 = .ok (.iload 4, 2) := dk_21 4 (dk_at dksX2_nearest_0 5 rfl rfl)
theorem dX2_nearest_7 : decode cX2_nearest 7 = .ok (.aload_n 0, 1) := dk_42 (dk_at dksX2_nearest_0 7 rfl rfl)
theorem dX2_nearest_8 : decode cX2_nearest 8 = .ok (.getfield 12, 3) := dk_180 0 12 (dk_at dksX2_nearest_0 8 rfl rfl)
theorem dX2_nearest_11 : decode cX2_nearest 11 = .ok (.invokeinterface 38 1, 5) := by decide +kernel
theorem dX2_nearest_16 : decode cX2_nearest 16 = .ok (.if_icmp .ge 43, 3) := dk_162 0 43 (dk_at dksX2_nearest_0 16 rfl rfl)
theorem dX2_nearest_19 : decode cX2_nearest 19 = .ok (.aload_n 0, 1) := dk_42 (dk_at dksX2_nearest_0 19 rfl rfl)
theorem dX2_nearest_20 : decode cX2_nearest 20 = .ok (.iload 4, 2) := dk_21 4 (dk_at dksX2_nearest_0 20 rfl rfl)
theorem dX2_nearest_22 : decode cX2_nearest 22 = .ok (.iload_n 2, 1) := dk_28 (dk_at dksX2_nearest_0 22 rfl rfl)
theorem dX2_nearest_23 : decode cX2_nearest 23 = .ok (.invokevirtual 117, 3) := dk_182 0 117 (dk_at dksX2_nearest_1 0 rfl rfl)
theorem dX2_nearest_26 : decode cX2_nearest 26 = .ok (.ifCond .eq 27, 3) := dk_153 0 27 (dk_at dksX2_nearest_1 3 rfl rfl)
theorem dX2_nearest_29 : decode cX2_nearest 29 = .ok (.iload_n 3, 1) := dk_29 (dk_at dksX2_nearest_1 6 rfl rfl)
theorem dX2_nearest_30 : decode cX2_nearest 30 = .ok (.iconst (-1), 1) := dk_2 (dk_at dksX2_nearest_1 7 rfl rfl)
theorem dX2_nearest_31 : decode cX2_nearest 31 = .ok (.if_icmp .eq 19, 3) := dk_159 0 19 (dk_at dksX2_nearest_1 8 rfl rfl)
theorem dX2_nearest_34 : decode cX2_nearest 34 = .ok (.iload 4, 2) := dk_21 4 (dk_at dksX2_nearest_1 11 rfl rfl)
theorem dX2_nearest_36 : decode cX2_nearest 36 = .ok (.iload_n 1, 1) := dk_27 (dk_at dksX2_nearest_1 13 rfl rfl)
theorem dX2_nearest_37 : decode cX2_nearest 37 = .ok (.isub, 1) := dk_100 (dk_at dksX2_nearest_1 14 rfl rfl)
theorem dX2_nearest_38 : decode cX2_nearest 38 = .ok (.invokestatic 121, 3) := dk_184 0 121 (dk_at dksX2_nearest_1 15 rfl rfl)
theorem dX2_nearest_41 : decode cX2_nearest 41 = .ok (.iload_n 3, 1) := dk_29 (dk_at dksX2_nearest_1 18 rfl rfl)
theorem dX2_nearest_42 : decode cX2_nearest 42 = .ok (.iload_n 1, 1) := dk_27 (dk_at dksX2_nearest_1 19 rfl rfl)
theorem dX2_nearest_43 : decode cX2_nearest 43 = .ok (.isub, 1) := dk_100 (dk_at dksX2_nearest_1 20 rfl rfl)
theorem dX2_nearest_44 : decode cX2_nearest 44 = .ok (.invokestatic 121, 3) := dk_184 0 121 (dk_at dksX2_nearest_1 21 rfl rfl)
theorem dX2_nearest_47 : decode cX2_nearest 47 = .ok (.if_icmp .ge 6, 3) := dk_162 0 6 (dk_at dksX2_nearest_2 0 rfl rfl)
theorem dX2_nearest_50 : decode cX2_nearest 50 = .ok (.iload 4, 2) := dk_21 4 (dk_at dksX2_nearest_2 3 rfl rfl)
theorem dX2_nearest_52 : decode cX2_nearest 52 = .ok (.istore_n 3, 1) := dk_62 (dk_at dksX2_nearest_2 5 rfl rfl)
theorem dX2_nearest_53 : decode cX2_nearest 53 = .ok (.iinc 4 1, 3) := dk_132 4 1 (dk_at dksX2_nearest_2 6 rfl rfl)
theorem dX2_nearest_56 : decode cX2_nearest 56 = .ok (.goto (-51), 3) := dk_167 255 205 (dk_at dksX2_nearest_2 9 rfl rfl)
theorem dX2_nearest_59 : decode cX2_nearest 59 = .ok (.iload_n 3, 1) := dk_29 (dk_at dksX2_nearest_2 12 rfl rfl)
theorem dX2_nearest_60 : decode cX2_nearest 60 = .ok (.ireturn, 1) := dk_172 (dk_at dksX2_nearest_2 13 rfl rfl)
abbrev cX2_isFree : ByteArray := prog_7_method_7_code
def yX2_isFree : MethodName := ⟨RX2, "isFree", "(II)Z"⟩
def dkwX2_isFree_1 : List UInt8 := [182, 0, 111, 28, 160, 0, 18, 28, 157, 0, 10, 45, 180, 0, 114, 154, 0, 7, 4, 167, 0, 4, 3, 172]
abbrev dktX2_isFree_1 : List UInt8 := dkwX2_isFree_1 ++ []
def dkwX2_isFree_0 : List UInt8 := [42, 180, 0, 12, 27, 185, 0, 46, 2, 0, 192, 0, 44, 78, 45, 180, 0, 107, 153, 0, 27, 42, 27]
abbrev dktX2_isFree_0 : List UInt8 := dkwX2_isFree_0 ++ dktX2_isFree_1
theorem dksX2_isFree_0 : cX2_isFree.data.toList.drop 0 = dktX2_isFree_0 := by decide +kernel
theorem dksX2_isFree_1 : cX2_isFree.data.toList.drop 23 = dktX2_isFree_1 := dk_seg dksX2_isFree_0 23 rfl rfl
theorem dX2_isFree_0 : decode cX2_isFree 0 = .ok (.aload_n 0, 1) := dk_42 (dk_at dksX2_isFree_0 0 rfl rfl)
theorem dX2_isFree_1 : decode cX2_isFree 1 = .ok (.getfield 12, 3) := dk_180 0 12 (dk_at dksX2_isFree_0 1 rfl rfl)
theorem dX2_isFree_4 : decode cX2_isFree 4 = .ok (.iload_n 1, 1) := dk_27 (dk_at dksX2_isFree_0 4 rfl rfl)
theorem dX2_isFree_5 : decode cX2_isFree 5 = .ok (.invokeinterface 46 2, 5) := by decide +kernel
theorem dX2_isFree_10 : decode cX2_isFree 10 = .ok (.checkcast 44, 3) := dk_192 0 44 (dk_at dksX2_isFree_0 10 rfl rfl)
theorem dX2_isFree_13 : decode cX2_isFree 13 = .ok (.astore_n 3, 1) := dk_78 (dk_at dksX2_isFree_0 13 rfl rfl)
theorem dX2_isFree_14 : decode cX2_isFree 14 = .ok (.aload_n 3, 1) := dk_45 (dk_at dksX2_isFree_0 14 rfl rfl)
theorem dX2_isFree_15 : decode cX2_isFree 15 = .ok (.getfield 107, 3) := dk_180 0 107 (dk_at dksX2_isFree_0 15 rfl rfl)
theorem dX2_isFree_18 : decode cX2_isFree 18 = .ok (.ifCond .eq 27, 3) := dk_153 0 27 (dk_at dksX2_isFree_0 18 rfl rfl)
theorem dX2_isFree_21 : decode cX2_isFree 21 = .ok (.aload_n 0, 1) := dk_42 (dk_at dksX2_isFree_0 21 rfl rfl)
theorem dX2_isFree_22 : decode cX2_isFree 22 = .ok (.iload_n 1, 1) := dk_27 (dk_at dksX2_isFree_0 22 rfl rfl)
theorem dX2_isFree_23 : decode cX2_isFree 23 = .ok (.invokevirtual 111, 3) := dk_182 0 111 (dk_at dksX2_isFree_1 0 rfl rfl)
theorem dX2_isFree_26 : decode cX2_isFree 26 = .ok (.iload_n 2, 1) := dk_28 (dk_at dksX2_isFree_1 3 rfl rfl)
theorem dX2_isFree_27 : decode cX2_isFree 27 = .ok (.if_icmp .ne 18, 3) := dk_160 0 18 (dk_at dksX2_isFree_1 4 rfl rfl)
theorem dX2_isFree_30 : decode cX2_isFree 30 = .ok (.iload_n 2, 1) := dk_28 (dk_at dksX2_isFree_1 7 rfl rfl)
theorem dX2_isFree_31 : decode cX2_isFree 31 = .ok (.ifCond .gt 10, 3) := dk_157 0 10 (dk_at dksX2_isFree_1 8 rfl rfl)
theorem dX2_isFree_34 : decode cX2_isFree 34 = .ok (.aload_n 3, 1) := dk_45 (dk_at dksX2_isFree_1 11 rfl rfl)
theorem dX2_isFree_35 : decode cX2_isFree 35 = .ok (.getfield 114, 3) := dk_180 0 114 (dk_at dksX2_isFree_1 12 rfl rfl)
theorem dX2_isFree_38 : decode cX2_isFree 38 = .ok (.ifCond .ne 7, 3) := dk_154 0 7 (dk_at dksX2_isFree_1 15 rfl rfl)
theorem dX2_isFree_41 : decode cX2_isFree 41 = .ok (.iconst 1, 1) := dk_4 (dk_at dksX2_isFree_1 18 rfl rfl)
theorem dX2_isFree_42 : decode cX2_isFree 42 = .ok (.goto 4, 3) := dk_167 0 4 (dk_at dksX2_isFree_1 19 rfl rfl)
theorem dX2_isFree_45 : decode cX2_isFree 45 = .ok (.iconst 0, 1) := dk_3 (dk_at dksX2_isFree_1 22 rfl rfl)
theorem dX2_isFree_46 : decode cX2_isFree 46 = .ok (.ireturn, 1) := dk_172 (dk_at dksX2_isFree_1 23 rfl rfl)
abbrev cX2_canBreed : ByteArray := prog_7_method_19_code
def yX2_canBreed : MethodName := ⟨RX2, "canBreed", "(I)Z"⟩
def dkwX2_canBreed_3 : List UInt8 := [182, 0, 179, 16, 15, 161, 0, 7, 4, 167, 0, 4, 3, 172]
abbrev dktX2_canBreed_3 : List UInt8 := dkwX2_canBreed_3 ++ []
def dkwX2_canBreed_2 : List UInt8 := [44, 180, 0, 107, 153, 0, 30, 29, 153, 0, 26, 42, 27, 182, 0, 111, 5, 160, 0, 17, 42, 27]
abbrev dktX2_canBreed_2 : List UInt8 := dkwX2_canBreed_2 ++ dktX2_canBreed_3
def dkwX2_canBreed_1 : List UInt8 := [153, 0, 22, 44, 180, 0, 176, 42, 180, 0, 71, 17, 1, 104, 108, 159, 0, 7, 4, 167, 0, 4, 3, 62]
abbrev dktX2_canBreed_1 : List UInt8 := dkwX2_canBreed_1 ++ dktX2_canBreed_2
def dkwX2_canBreed_0 : List UInt8 := [42, 180, 0, 12, 27, 185, 0, 46, 2, 0, 192, 0, 44, 77, 42, 182, 0, 173, 5, 7, 184, 0, 89]
abbrev dktX2_canBreed_0 : List UInt8 := dkwX2_canBreed_0 ++ dktX2_canBreed_1
theorem dksX2_canBreed_0 : cX2_canBreed.data.toList.drop 0 = dktX2_canBreed_0 := by decide +kernel
theorem dksX2_canBreed_1 : cX2_canBreed.data.toList.drop 23 = dktX2_canBreed_1 := dk_seg dksX2_canBreed_0 23 rfl rfl
theorem dksX2_canBreed_2 : cX2_canBreed.data.toList.drop 47 = dktX2_canBreed_2 := dk_seg dksX2_canBreed_1 24 rfl rfl
theorem dksX2_canBreed_3 : cX2_canBreed.data.toList.drop 69 = dktX2_canBreed_3 := dk_seg dksX2_canBreed_2 22 rfl rfl
theorem dX2_canBreed_0 : decode cX2_canBreed 0 = .ok (.aload_n 0, 1) := dk_42 (dk_at dksX2_canBreed_0 0 rfl rfl)
theorem dX2_canBreed_1 : decode cX2_canBreed 1 = .ok (.getfield 12, 3) := dk_180 0 12 (dk_at dksX2_canBreed_0 1 rfl rfl)
theorem dX2_canBreed_4 : decode cX2_canBreed 4 = .ok (.iload_n 1, 1) := dk_27 (dk_at dksX2_canBreed_0 4 rfl rfl)
theorem dX2_canBreed_5 : decode cX2_canBreed 5 = .ok (.invokeinterface 46 2, 5) := by decide +kernel
theorem dX2_canBreed_10 : decode cX2_canBreed 10 = .ok (.checkcast 44, 3) := dk_192 0 44 (dk_at dksX2_canBreed_0 10 rfl rfl)
theorem dX2_canBreed_13 : decode cX2_canBreed 13 = .ok (.astore_n 2, 1) := dk_77 (dk_at dksX2_canBreed_0 13 rfl rfl)
theorem dX2_canBreed_14 : decode cX2_canBreed 14 = .ok (.aload_n 0, 1) := dk_42 (dk_at dksX2_canBreed_0 14 rfl rfl)
theorem dX2_canBreed_15 : decode cX2_canBreed 15 = .ok (.invokevirtual 173, 3) := dk_182 0 173 (dk_at dksX2_canBreed_0 15 rfl rfl)
theorem dX2_canBreed_18 : decode cX2_canBreed 18 = .ok (.iconst 2, 1) := dk_5 (dk_at dksX2_canBreed_0 18 rfl rfl)
theorem dX2_canBreed_19 : decode cX2_canBreed 19 = .ok (.iconst 4, 1) := dk_7 (dk_at dksX2_canBreed_0 19 rfl rfl)
theorem dX2_canBreed_20 : decode cX2_canBreed 20 = .ok (.invokestatic 89, 3) := dk_184 0 89 (dk_at dksX2_canBreed_0 20 rfl rfl)
theorem dX2_canBreed_23 : decode cX2_canBreed 23 = .ok (.ifCond .eq 22, 3) := dk_153 0 22 (dk_at dksX2_canBreed_1 0 rfl rfl)
theorem dX2_canBreed_26 : decode cX2_canBreed 26 = .ok (.aload_n 2, 1) := dk_44 (dk_at dksX2_canBreed_1 3 rfl rfl)
theorem dX2_canBreed_27 : decode cX2_canBreed 27 = .ok (.getfield 176, 3) := dk_180 0 176 (dk_at dksX2_canBreed_1 4 rfl rfl)
theorem dX2_canBreed_30 : decode cX2_canBreed 30 = .ok (.aload_n 0, 1) := dk_42 (dk_at dksX2_canBreed_1 7 rfl rfl)
theorem dX2_canBreed_31 : decode cX2_canBreed 31 = .ok (.getfield 71, 3) := dk_180 0 71 (dk_at dksX2_canBreed_1 8 rfl rfl)
theorem dX2_canBreed_34 : decode cX2_canBreed 34 = .ok (.sipush 360, 3) := dk_17 1 104 (dk_at dksX2_canBreed_1 11 rfl rfl)
theorem dX2_canBreed_37 : decode cX2_canBreed 37 = .ok (.idiv, 1) := dk_108 (dk_at dksX2_canBreed_1 14 rfl rfl)
theorem dX2_canBreed_38 : decode cX2_canBreed 38 = .ok (.if_icmp .eq 7, 3) := dk_159 0 7 (dk_at dksX2_canBreed_1 15 rfl rfl)
theorem dX2_canBreed_41 : decode cX2_canBreed 41 = .ok (.iconst 1, 1) := dk_4 (dk_at dksX2_canBreed_1 18 rfl rfl)
theorem dX2_canBreed_42 : decode cX2_canBreed 42 = .ok (.goto 4, 3) := dk_167 0 4 (dk_at dksX2_canBreed_1 19 rfl rfl)
theorem dX2_canBreed_45 : decode cX2_canBreed 45 = .ok (.iconst 0, 1) := dk_3 (dk_at dksX2_canBreed_1 22 rfl rfl)
theorem dX2_canBreed_46 : decode cX2_canBreed 46 = .ok (.istore_n 3, 1) := dk_62 (dk_at dksX2_canBreed_1 23 rfl rfl)
theorem dX2_canBreed_47 : decode cX2_canBreed 47 = .ok (.aload_n 2, 1) := dk_44 (dk_at dksX2_canBreed_2 0 rfl rfl)
theorem dX2_canBreed_48 : decode cX2_canBreed 48 = .ok (.getfield 107, 3) := dk_180 0 107 (dk_at dksX2_canBreed_2 1 rfl rfl)
theorem dX2_canBreed_51 : decode cX2_canBreed 51 = .ok (.ifCond .eq 30, 3) := dk_153 0 30 (dk_at dksX2_canBreed_2 4 rfl rfl)
theorem dX2_canBreed_54 : decode cX2_canBreed 54 = .ok (.iload_n 3, 1) := dk_29 (dk_at dksX2_canBreed_2 7 rfl rfl)
theorem dX2_canBreed_55 : decode cX2_canBreed 55 = .ok (.ifCond .eq 26, 3) := dk_153 0 26 (dk_at dksX2_canBreed_2 8 rfl rfl)
theorem dX2_canBreed_58 : decode cX2_canBreed 58 = .ok (.aload_n 0, 1) := dk_42 (dk_at dksX2_canBreed_2 11 rfl rfl)
theorem dX2_canBreed_59 : decode cX2_canBreed 59 = .ok (.iload_n 1, 1) := dk_27 (dk_at dksX2_canBreed_2 12 rfl rfl)
theorem dX2_canBreed_60 : decode cX2_canBreed 60 = .ok (.invokevirtual 111, 3) := dk_182 0 111 (dk_at dksX2_canBreed_2 13 rfl rfl)
theorem dX2_canBreed_63 : decode cX2_canBreed 63 = .ok (.iconst 2, 1) := dk_5 (dk_at dksX2_canBreed_2 16 rfl rfl)
theorem dX2_canBreed_64 : decode cX2_canBreed 64 = .ok (.if_icmp .ne 17, 3) := dk_160 0 17 (dk_at dksX2_canBreed_2 17 rfl rfl)
theorem dX2_canBreed_67 : decode cX2_canBreed 67 = .ok (.aload_n 0, 1) := dk_42 (dk_at dksX2_canBreed_2 20 rfl rfl)
theorem dX2_canBreed_68 : decode cX2_canBreed 68 = .ok (.iload_n 1, 1) := dk_27 (dk_at dksX2_canBreed_2 21 rfl rfl)
theorem dX2_canBreed_69 : decode cX2_canBreed 69 = .ok (.invokevirtual 179, 3) := dk_182 0 179 (dk_at dksX2_canBreed_3 0 rfl rfl)
theorem dX2_canBreed_72 : decode cX2_canBreed 72 = .ok (.bipush 15, 2) := dk_16 15 (dk_at dksX2_canBreed_3 3 rfl rfl)
theorem dX2_canBreed_74 : decode cX2_canBreed 74 = .ok (.if_icmp .lt 7, 3) := dk_161 0 7 (dk_at dksX2_canBreed_3 5 rfl rfl)
theorem dX2_canBreed_77 : decode cX2_canBreed 77 = .ok (.iconst 1, 1) := dk_4 (dk_at dksX2_canBreed_3 8 rfl rfl)
theorem dX2_canBreed_78 : decode cX2_canBreed 78 = .ok (.goto 4, 3) := dk_167 0 4 (dk_at dksX2_canBreed_3 9 rfl rfl)
theorem dX2_canBreed_81 : decode cX2_canBreed 81 = .ok (.iconst 0, 1) := dk_3 (dk_at dksX2_canBreed_3 12 rfl rfl)
theorem dX2_canBreed_82 : decode cX2_canBreed 82 = .ok (.ireturn, 1) := dk_172 (dk_at dksX2_canBreed_3 13 rfl rfl)
abbrev cX2_month : ByteArray := prog_7_method_12_code
def yX2_month : MethodName := ⟨RX2, "month", "()I"⟩
def dkwX2_month_0 : List UInt8 := [42, 180, 0, 71, 16, 30, 108, 16, 12, 112, 172]
abbrev dktX2_month_0 : List UInt8 := dkwX2_month_0 ++ []
theorem dksX2_month_0 : cX2_month.data.toList.drop 0 = dktX2_month_0 := by decide +kernel
theorem dX2_month_0 : decode cX2_month 0 = .ok (.aload_n 0, 1) := dk_42 (dk_at dksX2_month_0 0 rfl rfl)
theorem dX2_month_1 : decode cX2_month 1 = .ok (.getfield 71, 3) := dk_180 0 71 (dk_at dksX2_month_0 1 rfl rfl)
theorem dX2_month_4 : decode cX2_month 4 = .ok (.bipush 30, 2) := dk_16 30 (dk_at dksX2_month_0 4 rfl rfl)
theorem dX2_month_6 : decode cX2_month 6 = .ok (.idiv, 1) := dk_108 (dk_at dksX2_month_0 6 rfl rfl)
theorem dX2_month_7 : decode cX2_month 7 = .ok (.bipush 12, 2) := dk_16 12 (dk_at dksX2_month_0 7 rfl rfl)
theorem dX2_month_9 : decode cX2_month 9 = .ok (.irem, 1) := dk_112 (dk_at dksX2_month_0 9 rfl rfl)
theorem dX2_month_10 : decode cX2_month 10 = .ok (.ireturn, 1) := dk_172 (dk_at dksX2_month_0 10 rfl rfl)
abbrev cX2_quality : ByteArray := prog_7_method_4_code
def yX2_quality : MethodName := ⟨RX2, "quality", "(I)I"⟩
def dkwX2_quality_0 : List UInt8 := [5, 42, 27, 182, 0, 96, 104, 42, 27, 4, 100, 182, 0, 96, 96, 42, 27, 4, 96, 182, 0, 96, 96, 172]
abbrev dktX2_quality_0 : List UInt8 := dkwX2_quality_0 ++ []
theorem dksX2_quality_0 : cX2_quality.data.toList.drop 0 = dktX2_quality_0 := by decide +kernel
theorem dX2_quality_0 : decode cX2_quality 0 = .ok (.iconst 2, 1) := dk_5 (dk_at dksX2_quality_0 0 rfl rfl)
theorem dX2_quality_1 : decode cX2_quality 1 = .ok (.aload_n 0, 1) := dk_42 (dk_at dksX2_quality_0 1 rfl rfl)
theorem dX2_quality_2 : decode cX2_quality 2 = .ok (.iload_n 1, 1) := dk_27 (dk_at dksX2_quality_0 2 rfl rfl)
theorem dX2_quality_3 : decode cX2_quality 3 = .ok (.invokevirtual 96, 3) := dk_182 0 96 (dk_at dksX2_quality_0 3 rfl rfl)
theorem dX2_quality_6 : decode cX2_quality 6 = .ok (.imul, 1) := dk_104 (dk_at dksX2_quality_0 6 rfl rfl)
theorem dX2_quality_7 : decode cX2_quality 7 = .ok (.aload_n 0, 1) := dk_42 (dk_at dksX2_quality_0 7 rfl rfl)
theorem dX2_quality_8 : decode cX2_quality 8 = .ok (.iload_n 1, 1) := dk_27 (dk_at dksX2_quality_0 8 rfl rfl)
theorem dX2_quality_9 : decode cX2_quality 9 = .ok (.iconst 1, 1) := dk_4 (dk_at dksX2_quality_0 9 rfl rfl)
theorem dX2_quality_10 : decode cX2_quality 10 = .ok (.isub, 1) := dk_100 (dk_at dksX2_quality_0 10 rfl rfl)
theorem dX2_quality_11 : decode cX2_quality 11 = .ok (.invokevirtual 96, 3) := dk_182 0 96 (dk_at dksX2_quality_0 11 rfl rfl)
theorem dX2_quality_14 : decode cX2_quality 14 = .ok (.iadd, 1) := dk_96 (dk_at dksX2_quality_0 14 rfl rfl)
theorem dX2_quality_15 : decode cX2_quality 15 = .ok (.aload_n 0, 1) := dk_42 (dk_at dksX2_quality_0 15 rfl rfl)
theorem dX2_quality_16 : decode cX2_quality 16 = .ok (.iload_n 1, 1) := dk_27 (dk_at dksX2_quality_0 16 rfl rfl)
theorem dX2_quality_17 : decode cX2_quality 17 = .ok (.iconst 1, 1) := dk_4 (dk_at dksX2_quality_0 17 rfl rfl)
theorem dX2_quality_18 : decode cX2_quality 18 = .ok (.iadd, 1) := dk_96 (dk_at dksX2_quality_0 18 rfl rfl)
theorem dX2_quality_19 : decode cX2_quality 19 = .ok (.invokevirtual 96, 3) := dk_182 0 96 (dk_at dksX2_quality_0 19 rfl rfl)
theorem dX2_quality_22 : decode cX2_quality 22 = .ok (.iadd, 1) := dk_96 (dk_at dksX2_quality_0 22 rfl rfl)
theorem dX2_quality_23 : decode cX2_quality 23 = .ok (.ireturn, 1) := dk_172 (dk_at dksX2_quality_0 23 rfl rfl)
abbrev cX2_coverAt : ByteArray := prog_7_method_3_code
def yX2_coverAt : MethodName := ⟨RX2, "coverAt", "(I)I"⟩
def dkwX2_coverAt_1 : List UInt8 := [185, 0, 46, 2, 0, 192, 0, 44, 180, 0, 93, 167, 0, 4, 3, 172]
abbrev dktX2_coverAt_1 : List UInt8 := dkwX2_coverAt_1 ++ []
def dkwX2_coverAt_0 : List UInt8 := [27, 3, 42, 180, 0, 12, 185, 0, 38, 1, 0, 4, 100, 184, 0, 89, 153, 0, 22, 42, 180, 0, 12, 27]
abbrev dktX2_coverAt_0 : List UInt8 := dkwX2_coverAt_0 ++ dktX2_coverAt_1
theorem dksX2_coverAt_0 : cX2_coverAt.data.toList.drop 0 = dktX2_coverAt_0 := by decide +kernel
theorem dksX2_coverAt_1 : cX2_coverAt.data.toList.drop 24 = dktX2_coverAt_1 := dk_seg dksX2_coverAt_0 24 rfl rfl
theorem dX2_coverAt_0 : decode cX2_coverAt 0 = .ok (.iload_n 1, 1) := dk_27 (dk_at dksX2_coverAt_0 0 rfl rfl)
theorem dX2_coverAt_1 : decode cX2_coverAt 1 = .ok (.iconst 0, 1) := dk_3 (dk_at dksX2_coverAt_0 1 rfl rfl)
theorem dX2_coverAt_2 : decode cX2_coverAt 2 = .ok (.aload_n 0, 1) := dk_42 (dk_at dksX2_coverAt_0 2 rfl rfl)
theorem dX2_coverAt_3 : decode cX2_coverAt 3 = .ok (.getfield 12, 3) := dk_180 0 12 (dk_at dksX2_coverAt_0 3 rfl rfl)
theorem dX2_coverAt_6 : decode cX2_coverAt 6 = .ok (.invokeinterface 38 1, 5) := by decide +kernel
theorem dX2_coverAt_11 : decode cX2_coverAt 11 = .ok (.iconst 1, 1) := dk_4 (dk_at dksX2_coverAt_0 11 rfl rfl)
theorem dX2_coverAt_12 : decode cX2_coverAt 12 = .ok (.isub, 1) := dk_100 (dk_at dksX2_coverAt_0 12 rfl rfl)
theorem dX2_coverAt_13 : decode cX2_coverAt 13 = .ok (.invokestatic 89, 3) := dk_184 0 89 (dk_at dksX2_coverAt_0 13 rfl rfl)
theorem dX2_coverAt_16 : decode cX2_coverAt 16 = .ok (.ifCond .eq 22, 3) := dk_153 0 22 (dk_at dksX2_coverAt_0 16 rfl rfl)
theorem dX2_coverAt_19 : decode cX2_coverAt 19 = .ok (.aload_n 0, 1) := dk_42 (dk_at dksX2_coverAt_0 19 rfl rfl)
theorem dX2_coverAt_20 : decode cX2_coverAt 20 = .ok (.getfield 12, 3) := dk_180 0 12 (dk_at dksX2_coverAt_0 20 rfl rfl)
theorem dX2_coverAt_23 : decode cX2_coverAt 23 = .ok (.iload_n 1, 1) := dk_27 (dk_at dksX2_coverAt_0 23 rfl rfl)
theorem dX2_coverAt_24 : decode cX2_coverAt 24 = .ok (.invokeinterface 46 2, 5) := by decide +kernel
theorem dX2_coverAt_29 : decode cX2_coverAt 29 = .ok (.checkcast 44, 3) := dk_192 0 44 (dk_at dksX2_coverAt_1 5 rfl rfl)
theorem dX2_coverAt_32 : decode cX2_coverAt 32 = .ok (.getfield 93, 3) := dk_180 0 93 (dk_at dksX2_coverAt_1 8 rfl rfl)
theorem dX2_coverAt_35 : decode cX2_coverAt 35 = .ok (.goto 4, 3) := dk_167 0 4 (dk_at dksX2_coverAt_1 11 rfl rfl)
theorem dX2_coverAt_38 : decode cX2_coverAt 38 = .ok (.iconst 0, 1) := dk_3 (dk_at dksX2_coverAt_1 14 rfl rfl)
theorem dX2_coverAt_39 : decode cX2_coverAt 39 = .ok (.ireturn, 1) := dk_172 (dk_at dksX2_coverAt_1 15 rfl rfl)
abbrev cX2_shuts : ByteArray := prog_7_method_31_code
def yX2_shuts : MethodName := ⟨RX2, "shuts", "(I)I"⟩
def dkwX2_shuts_3 : List UInt8 := [180, 0, 35, 16, 25, 100, 181, 0, 35, 44, 4, 181, 0, 222, 42, 6, 182, 0, 228, 172]
abbrev dktX2_shuts_3 : List UInt8 := dkwX2_shuts_3 ++ []
def dkwX2_shuts_2 : List UInt8 := [161, 0, 7, 4, 167, 0, 4, 3, 16, 9, 16, 25, 42, 180, 0, 35, 100, 184, 0, 202, 42, 89]
abbrev dktX2_shuts_2 : List UInt8 := dkwX2_shuts_2 ++ dktX2_shuts_3
def dkwX2_shuts_1 : List UInt8 := [154, 0, 7, 4, 167, 0, 4, 3, 16, 8, 44, 180, 0, 225, 184, 0, 202, 42, 180, 0, 35, 16, 25]
abbrev dktX2_shuts_1 : List UInt8 := dkwX2_shuts_1 ++ dktX2_shuts_2
def dkwX2_shuts_0 : List UInt8 := [42, 27, 182, 0, 211, 77, 44, 182, 0, 145, 16, 7, 44, 180, 0, 93, 184, 0, 202, 44, 180, 0, 222]
abbrev dktX2_shuts_0 : List UInt8 := dkwX2_shuts_0 ++ dktX2_shuts_1
theorem dksX2_shuts_0 : cX2_shuts.data.toList.drop 0 = dktX2_shuts_0 := by decide +kernel
theorem dksX2_shuts_1 : cX2_shuts.data.toList.drop 23 = dktX2_shuts_1 := dk_seg dksX2_shuts_0 23 rfl rfl
theorem dksX2_shuts_2 : cX2_shuts.data.toList.drop 46 = dktX2_shuts_2 := dk_seg dksX2_shuts_1 23 rfl rfl
theorem dksX2_shuts_3 : cX2_shuts.data.toList.drop 68 = dktX2_shuts_3 := dk_seg dksX2_shuts_2 22 rfl rfl
theorem dX2_shuts_0 : decode cX2_shuts 0 = .ok (.aload_n 0, 1) := dk_42 (dk_at dksX2_shuts_0 0 rfl rfl)
theorem dX2_shuts_1 : decode cX2_shuts 1 = .ok (.iload_n 1, 1) := dk_27 (dk_at dksX2_shuts_0 1 rfl rfl)
theorem dX2_shuts_2 : decode cX2_shuts 2 = .ok (.invokevirtual 211, 3) := dk_182 0 211 (dk_at dksX2_shuts_0 2 rfl rfl)
theorem dX2_shuts_5 : decode cX2_shuts 5 = .ok (.astore_n 2, 1) := dk_77 (dk_at dksX2_shuts_0 5 rfl rfl)
theorem dX2_shuts_6 : decode cX2_shuts 6 = .ok (.aload_n 2, 1) := dk_44 (dk_at dksX2_shuts_0 6 rfl rfl)
theorem dX2_shuts_7 : decode cX2_shuts 7 = .ok (.invokevirtual 145, 3) := dk_182 0 145 (dk_at dksX2_shuts_0 7 rfl rfl)
theorem dX2_shuts_10 : decode cX2_shuts 10 = .ok (.bipush 7, 2) := dk_16 7 (dk_at dksX2_shuts_0 10 rfl rfl)
theorem dX2_shuts_12 : decode cX2_shuts 12 = .ok (.aload_n 2, 1) := dk_44 (dk_at dksX2_shuts_0 12 rfl rfl)
theorem dX2_shuts_13 : decode cX2_shuts 13 = .ok (.getfield 93, 3) := dk_180 0 93 (dk_at dksX2_shuts_0 13 rfl rfl)
theorem dX2_shuts_16 : decode cX2_shuts 16 = .ok (.invokestatic 202, 3) := dk_184 0 202 (dk_at dksX2_shuts_0 16 rfl rfl)
theorem dX2_shuts_19 : decode cX2_shuts 19 = .ok (.aload_n 2, 1) := dk_44 (dk_at dksX2_shuts_0 19 rfl rfl)
theorem dX2_shuts_20 : decode cX2_shuts 20 = .ok (.getfield 222, 3) := dk_180 0 222 (dk_at dksX2_shuts_0 20 rfl rfl)
theorem dX2_shuts_23 : decode cX2_shuts 23 = .ok (.ifCond .ne 7, 3) := dk_154 0 7 (dk_at dksX2_shuts_1 0 rfl rfl)
theorem dX2_shuts_26 : decode cX2_shuts 26 = .ok (.iconst 1, 1) := dk_4 (dk_at dksX2_shuts_1 3 rfl rfl)
theorem dX2_shuts_27 : decode cX2_shuts 27 = .ok (.goto 4, 3) := dk_167 0 4 (dk_at dksX2_shuts_1 4 rfl rfl)
theorem dX2_shuts_30 : decode cX2_shuts 30 = .ok (.iconst 0, 1) := dk_3 (dk_at dksX2_shuts_1 7 rfl rfl)
theorem dX2_shuts_31 : decode cX2_shuts 31 = .ok (.bipush 8, 2) := dk_16 8 (dk_at dksX2_shuts_1 8 rfl rfl)
theorem dX2_shuts_33 : decode cX2_shuts 33 = .ok (.aload_n 2, 1) := dk_44 (dk_at dksX2_shuts_1 10 rfl rfl)
theorem dX2_shuts_34 : decode cX2_shuts 34 = .ok (.getfield 225, 3) := dk_180 0 225 (dk_at dksX2_shuts_1 11 rfl rfl)
theorem dX2_shuts_37 : decode cX2_shuts 37 = .ok (.invokestatic 202, 3) := dk_184 0 202 (dk_at dksX2_shuts_1 14 rfl rfl)
theorem dX2_shuts_40 : decode cX2_shuts 40 = .ok (.aload_n 0, 1) := dk_42 (dk_at dksX2_shuts_1 17 rfl rfl)
theorem dX2_shuts_41 : decode cX2_shuts 41 = .ok (.getfield 35, 3) := dk_180 0 35 (dk_at dksX2_shuts_1 18 rfl rfl)
theorem dX2_shuts_44 : decode cX2_shuts 44 = .ok (.bipush 25, 2) := dk_16 25 (dk_at dksX2_shuts_1 21 rfl rfl)
theorem dX2_shuts_46 : decode cX2_shuts 46 = .ok (.if_icmp .lt 7, 3) := dk_161 0 7 (dk_at dksX2_shuts_2 0 rfl rfl)
theorem dX2_shuts_49 : decode cX2_shuts 49 = .ok (.iconst 1, 1) := dk_4 (dk_at dksX2_shuts_2 3 rfl rfl)
theorem dX2_shuts_50 : decode cX2_shuts 50 = .ok (.goto 4, 3) := dk_167 0 4 (dk_at dksX2_shuts_2 4 rfl rfl)
theorem dX2_shuts_53 : decode cX2_shuts 53 = .ok (.iconst 0, 1) := dk_3 (dk_at dksX2_shuts_2 7 rfl rfl)
theorem dX2_shuts_54 : decode cX2_shuts 54 = .ok (.bipush 9, 2) := dk_16 9 (dk_at dksX2_shuts_2 8 rfl rfl)
theorem dX2_shuts_56 : decode cX2_shuts 56 = .ok (.bipush 25, 2) := dk_16 25 (dk_at dksX2_shuts_2 10 rfl rfl)
theorem dX2_shuts_58 : decode cX2_shuts 58 = .ok (.aload_n 0, 1) := dk_42 (dk_at dksX2_shuts_2 12 rfl rfl)
theorem dX2_shuts_59 : decode cX2_shuts 59 = .ok (.getfield 35, 3) := dk_180 0 35 (dk_at dksX2_shuts_2 13 rfl rfl)
theorem dX2_shuts_62 : decode cX2_shuts 62 = .ok (.isub, 1) := dk_100 (dk_at dksX2_shuts_2 16 rfl rfl)
theorem dX2_shuts_63 : decode cX2_shuts 63 = .ok (.invokestatic 202, 3) := dk_184 0 202 (dk_at dksX2_shuts_2 17 rfl rfl)
theorem dX2_shuts_66 : decode cX2_shuts 66 = .ok (.aload_n 0, 1) := dk_42 (dk_at dksX2_shuts_2 20 rfl rfl)
theorem dX2_shuts_67 : decode cX2_shuts 67 = .ok (.dup, 1) := dk_89 (dk_at dksX2_shuts_2 21 rfl rfl)
theorem dX2_shuts_68 : decode cX2_shuts 68 = .ok (.getfield 35, 3) := dk_180 0 35 (dk_at dksX2_shuts_3 0 rfl rfl)
theorem dX2_shuts_71 : decode cX2_shuts 71 = .ok (.bipush 25, 2) := dk_16 25 (dk_at dksX2_shuts_3 3 rfl rfl)
theorem dX2_shuts_73 : decode cX2_shuts 73 = .ok (.isub, 1) := dk_100 (dk_at dksX2_shuts_3 5 rfl rfl)
theorem dX2_shuts_74 : decode cX2_shuts 74 = .ok (.putfield 35, 3) := dk_181 0 35 (dk_at dksX2_shuts_3 6 rfl rfl)
theorem dX2_shuts_77 : decode cX2_shuts 77 = .ok (.aload_n 2, 1) := dk_44 (dk_at dksX2_shuts_3 9 rfl rfl)
theorem dX2_shuts_78 : decode cX2_shuts 78 = .ok (.iconst 1, 1) := dk_4 (dk_at dksX2_shuts_3 10 rfl rfl)
theorem dX2_shuts_79 : decode cX2_shuts 79 = .ok (.putfield 222, 3) := dk_181 0 222 (dk_at dksX2_shuts_3 11 rfl rfl)
theorem dX2_shuts_82 : decode cX2_shuts 82 = .ok (.aload_n 0, 1) := dk_42 (dk_at dksX2_shuts_3 14 rfl rfl)
theorem dX2_shuts_83 : decode cX2_shuts 83 = .ok (.iconst 3, 1) := dk_6 (dk_at dksX2_shuts_3 15 rfl rfl)
theorem dX2_shuts_84 : decode cX2_shuts 84 = .ok (.invokevirtual 228, 3) := dk_182 0 228 (dk_at dksX2_shuts_3 16 rfl rfl)
theorem dX2_shuts_87 : decode cX2_shuts 87 = .ok (.ireturn, 1) := dk_172 (dk_at dksX2_shuts_3 19 rfl rfl)
abbrev cX2_checkReach : ByteArray := prog_7_method_23_code
def yX2_checkReach : MethodName := ⟨RX2, "checkReach", "(I)LOtterTrust$Reach;"⟩
def dkwX2_checkReach_1 : List UInt8 := [180, 0, 12, 27, 185, 0, 46, 2, 0, 192, 0, 44, 176]
abbrev dktX2_checkReach_1 : List UInt8 := dkwX2_checkReach_1 ++ []
def dkwX2_checkReach_0 : List UInt8 := [27, 3, 42, 180, 0, 12, 185, 0, 38, 1, 0, 4, 100, 184, 0, 89, 5, 27, 184, 0, 202, 42]
abbrev dktX2_checkReach_0 : List UInt8 := dkwX2_checkReach_0 ++ dktX2_checkReach_1
theorem dksX2_checkReach_0 : cX2_checkReach.data.toList.drop 0 = dktX2_checkReach_0 := by decide +kernel
theorem dksX2_checkReach_1 : cX2_checkReach.data.toList.drop 22 = dktX2_checkReach_1 := dk_seg dksX2_checkReach_0 22 rfl rfl
theorem dX2_checkReach_0 : decode cX2_checkReach 0 = .ok (.iload_n 1, 1) := dk_27 (dk_at dksX2_checkReach_0 0 rfl rfl)
theorem dX2_checkReach_1 : decode cX2_checkReach 1 = .ok (.iconst 0, 1) := dk_3 (dk_at dksX2_checkReach_0 1 rfl rfl)
theorem dX2_checkReach_2 : decode cX2_checkReach 2 = .ok (.aload_n 0, 1) := dk_42 (dk_at dksX2_checkReach_0 2 rfl rfl)
theorem dX2_checkReach_3 : decode cX2_checkReach 3 = .ok (.getfield 12, 3) := dk_180 0 12 (dk_at dksX2_checkReach_0 3 rfl rfl)
theorem dX2_checkReach_6 : decode cX2_checkReach 6 = .ok (.invokeinterface 38 1, 5) := by decide +kernel
theorem dX2_checkReach_11 : decode cX2_checkReach 11 = .ok (.iconst 1, 1) := dk_4 (dk_at dksX2_checkReach_0 11 rfl rfl)
theorem dX2_checkReach_12 : decode cX2_checkReach 12 = .ok (.isub, 1) := dk_100 (dk_at dksX2_checkReach_0 12 rfl rfl)
theorem dX2_checkReach_13 : decode cX2_checkReach 13 = .ok (.invokestatic 89, 3) := dk_184 0 89 (dk_at dksX2_checkReach_0 13 rfl rfl)
theorem dX2_checkReach_16 : decode cX2_checkReach 16 = .ok (.iconst 2, 1) := dk_5 (dk_at dksX2_checkReach_0 16 rfl rfl)
theorem dX2_checkReach_17 : decode cX2_checkReach 17 = .ok (.iload_n 1, 1) := dk_27 (dk_at dksX2_checkReach_0 17 rfl rfl)
theorem dX2_checkReach_18 : decode cX2_checkReach 18 = .ok (.invokestatic 202, 3) := dk_184 0 202 (dk_at dksX2_checkReach_0 18 rfl rfl)
theorem dX2_checkReach_21 : decode cX2_checkReach 21 = .ok (.aload_n 0, 1) := dk_42 (dk_at dksX2_checkReach_0 21 rfl rfl)
theorem dX2_checkReach_22 : decode cX2_checkReach 22 = .ok (.getfield 12, 3) := dk_180 0 12 (dk_at dksX2_checkReach_1 0 rfl rfl)
theorem dX2_checkReach_25 : decode cX2_checkReach 25 = .ok (.iload_n 1, 1) := dk_27 (dk_at dksX2_checkReach_1 3 rfl rfl)
theorem dX2_checkReach_26 : decode cX2_checkReach 26 = .ok (.invokeinterface 46 2, 5) := by decide +kernel
theorem dX2_checkReach_31 : decode cX2_checkReach 31 = .ok (.checkcast 44, 3) := dk_192 0 44 (dk_at dksX2_checkReach_1 9 rfl rfl)
theorem dX2_checkReach_34 : decode cX2_checkReach 34 = .ok (.areturn, 1) := dk_176 (dk_at dksX2_checkReach_1 12 rfl rfl)
abbrev cX2_sum : ByteArray := prog_7_method_22_code
def yX2_sum : MethodName := ⟨RX2, "sum", "(I)I"⟩
def dkwX2_sum_4 : List UInt8 := [96, 61, 132, 3, 1, 167, 255, 163, 28, 172]
abbrev dktX2_sum_4 : List UInt8 := dkwX2_sum_4 ++ []
def dkwX2_sum_3 : List UInt8 := [153, 0, 7, 4, 167, 0, 20, 3, 167, 0, 16, 25, 4, 182, 0, 199, 153, 0, 7, 4, 167, 0, 4, 3]
abbrev dktX2_sum_3 : List UInt8 := dkwX2_sum_3 ++ dktX2_sum_4
def dkwX2_sum_2 : List UInt8 := [4, 160, 0, 11, 25, 4, 180, 0, 156, 167, 0, 37, 27, 5, 160, 0, 19, 25, 4, 180, 0, 107]
abbrev dktX2_sum_2 : List UInt8 := dkwX2_sum_2 ++ dktX2_sum_3
def dkwX2_sum_1 : List UInt8 := [185, 0, 46, 2, 0, 192, 0, 44, 58, 4, 28, 27, 154, 0, 11, 25, 4, 180, 0, 114, 167, 0, 50, 27]
abbrev dktX2_sum_1 : List UInt8 := dkwX2_sum_1 ++ dktX2_sum_2
def dkwX2_sum_0 : List UInt8 := [3, 61, 3, 62, 29, 42, 180, 0, 12, 185, 0, 38, 1, 0, 162, 0, 86, 42, 180, 0, 12, 29]
abbrev dktX2_sum_0 : List UInt8 := dkwX2_sum_0 ++ dktX2_sum_1
theorem dksX2_sum_0 : cX2_sum.data.toList.drop 0 = dktX2_sum_0 := by decide +kernel
theorem dksX2_sum_1 : cX2_sum.data.toList.drop 22 = dktX2_sum_1 := dk_seg dksX2_sum_0 22 rfl rfl
theorem dksX2_sum_2 : cX2_sum.data.toList.drop 46 = dktX2_sum_2 := dk_seg dksX2_sum_1 24 rfl rfl
theorem dksX2_sum_3 : cX2_sum.data.toList.drop 68 = dktX2_sum_3 := dk_seg dksX2_sum_2 22 rfl rfl
theorem dksX2_sum_4 : cX2_sum.data.toList.drop 92 = dktX2_sum_4 := dk_seg dksX2_sum_3 24 rfl rfl
theorem dX2_sum_0 : decode cX2_sum 0 = .ok (.iconst 0, 1) := dk_3 (dk_at dksX2_sum_0 0 rfl rfl)
theorem dX2_sum_1 : decode cX2_sum 1 = .ok (.istore_n 2, 1) := dk_61 (dk_at dksX2_sum_0 1 rfl rfl)
theorem dX2_sum_2 : decode cX2_sum 2 = .ok (.iconst 0, 1) := dk_3 (dk_at dksX2_sum_0 2 rfl rfl)
theorem dX2_sum_3 : decode cX2_sum 3 = .ok (.istore_n 3, 1) := dk_62 (dk_at dksX2_sum_0 3 rfl rfl)
theorem dX2_sum_4 : decode cX2_sum 4 = .ok (.iload_n 3, 1) := dk_29 (dk_at dksX2_sum_0 4 rfl rfl)
theorem dX2_sum_5 : decode cX2_sum 5 = .ok (.aload_n 0, 1) := dk_42 (dk_at dksX2_sum_0 5 rfl rfl)
theorem dX2_sum_6 : decode cX2_sum 6 = .ok (.getfield 12, 3) := dk_180 0 12 (dk_at dksX2_sum_0 6 rfl rfl)
theorem dX2_sum_9 : decode cX2_sum 9 = .ok (.invokeinterface 38 1, 5) := by decide +kernel
theorem dX2_sum_14 : decode cX2_sum 14 = .ok (.if_icmp .ge 86, 3) := dk_162 0 86 (dk_at dksX2_sum_0 14 rfl rfl)
theorem dX2_sum_17 : decode cX2_sum 17 = .ok (.aload_n 0, 1) := dk_42 (dk_at dksX2_sum_0 17 rfl rfl)
theorem dX2_sum_18 : decode cX2_sum 18 = .ok (.getfield 12, 3) := dk_180 0 12 (dk_at dksX2_sum_0 18 rfl rfl)
theorem dX2_sum_21 : decode cX2_sum 21 = .ok (.iload_n 3, 1) := dk_29 (dk_at dksX2_sum_0 21 rfl rfl)
theorem dX2_sum_22 : decode cX2_sum 22 = .ok (.invokeinterface 46 2, 5) := by decide +kernel
theorem dX2_sum_27 : decode cX2_sum 27 = .ok (.checkcast 44, 3) := dk_192 0 44 (dk_at dksX2_sum_1 5 rfl rfl)
theorem dX2_sum_30 : decode cX2_sum 30 = .ok (.astore 4, 2) := dk_58 4 (dk_at dksX2_sum_1 8 rfl rfl)
theorem dX2_sum_32 : decode cX2_sum 32 = .ok (.iload_n 2, 1) := dk_28 (dk_at dksX2_sum_1 10 rfl rfl)
theorem dX2_sum_33 : decode cX2_sum 33 = .ok (.iload_n 1, 1) := dk_27 (dk_at dksX2_sum_1 11 rfl rfl)
theorem dX2_sum_34 : decode cX2_sum 34 = .ok (.ifCond .ne 11, 3) := dk_154 0 11 (dk_at dksX2_sum_1 12 rfl rfl)
theorem dX2_sum_37 : decode cX2_sum 37 = .ok (.aload 4, 2) := dk_25 4 (dk_at dksX2_sum_1 15 rfl rfl)
theorem dX2_sum_39 : decode cX2_sum 39 = .ok (.getfield 114, 3) := dk_180 0 114 (dk_at dksX2_sum_1 17 rfl rfl)
theorem dX2_sum_42 : decode cX2_sum 42 = .ok (.goto 50, 3) := dk_167 0 50 (dk_at dksX2_sum_1 20 rfl rfl)
theorem dX2_sum_45 : decode cX2_sum 45 = .ok (.iload_n 1, 1) := dk_27 (dk_at dksX2_sum_1 23 rfl rfl)
theorem dX2_sum_46 : decode cX2_sum 46 = .ok (.iconst 1, 1) := dk_4 (dk_at dksX2_sum_2 0 rfl rfl)
theorem dX2_sum_47 : decode cX2_sum 47 = .ok (.if_icmp .ne 11, 3) := dk_160 0 11 (dk_at dksX2_sum_2 1 rfl rfl)
theorem dX2_sum_50 : decode cX2_sum 50 = .ok (.aload 4, 2) := dk_25 4 (dk_at dksX2_sum_2 4 rfl rfl)
theorem dX2_sum_52 : decode cX2_sum 52 = .ok (.getfield 156, 3) := dk_180 0 156 (dk_at dksX2_sum_2 6 rfl rfl)
theorem dX2_sum_55 : decode cX2_sum 55 = .ok (.goto 37, 3) := dk_167 0 37 (dk_at dksX2_sum_2 9 rfl rfl)
theorem dX2_sum_58 : decode cX2_sum 58 = .ok (.iload_n 1, 1) := dk_27 (dk_at dksX2_sum_2 12 rfl rfl)
theorem dX2_sum_59 : decode cX2_sum 59 = .ok (.iconst 2, 1) := dk_5 (dk_at dksX2_sum_2 13 rfl rfl)
theorem dX2_sum_60 : decode cX2_sum 60 = .ok (.if_icmp .ne 19, 3) := dk_160 0 19 (dk_at dksX2_sum_2 14 rfl rfl)
theorem dX2_sum_63 : decode cX2_sum 63 = .ok (.aload 4, 2) := dk_25 4 (dk_at dksX2_sum_2 17 rfl rfl)
theorem dX2_sum_65 : decode cX2_sum 65 = .ok (.getfield 107, 3) := dk_180 0 107 (dk_at dksX2_sum_2 19 rfl rfl)
theorem dX2_sum_68 : decode cX2_sum 68 = .ok (.ifCond .eq 7, 3) := dk_153 0 7 (dk_at dksX2_sum_3 0 rfl rfl)
theorem dX2_sum_71 : decode cX2_sum 71 = .ok (.iconst 1, 1) := dk_4 (dk_at dksX2_sum_3 3 rfl rfl)
theorem dX2_sum_72 : decode cX2_sum 72 = .ok (.goto 20, 3) := dk_167 0 20 (dk_at dksX2_sum_3 4 rfl rfl)
theorem dX2_sum_75 : decode cX2_sum 75 = .ok (.iconst 0, 1) := dk_3 (dk_at dksX2_sum_3 7 rfl rfl)
theorem dX2_sum_76 : decode cX2_sum 76 = .ok (.goto 16, 3) := dk_167 0 16 (dk_at dksX2_sum_3 8 rfl rfl)
theorem dX2_sum_79 : decode cX2_sum 79 = .ok (.aload 4, 2) := dk_25 4 (dk_at dksX2_sum_3 11 rfl rfl)
theorem dX2_sum_81 : decode cX2_sum 81 = .ok (.invokevirtual 199, 3) := dk_182 0 199 (dk_at dksX2_sum_3 13 rfl rfl)
theorem dX2_sum_84 : decode cX2_sum 84 = .ok (.ifCond .eq 7, 3) := dk_153 0 7 (dk_at dksX2_sum_3 16 rfl rfl)
theorem dX2_sum_87 : decode cX2_sum 87 = .ok (.iconst 1, 1) := dk_4 (dk_at dksX2_sum_3 19 rfl rfl)
theorem dX2_sum_88 : decode cX2_sum 88 = .ok (.goto 4, 3) := dk_167 0 4 (dk_at dksX2_sum_3 20 rfl rfl)
theorem dX2_sum_91 : decode cX2_sum 91 = .ok (.iconst 0, 1) := dk_3 (dk_at dksX2_sum_3 23 rfl rfl)
theorem dX2_sum_92 : decode cX2_sum 92 = .ok (.iadd, 1) := dk_96 (dk_at dksX2_sum_4 0 rfl rfl)
theorem dX2_sum_93 : decode cX2_sum 93 = .ok (.istore_n 2, 1) := dk_61 (dk_at dksX2_sum_4 1 rfl rfl)
theorem dX2_sum_94 : decode cX2_sum 94 = .ok (.iinc 3 1, 3) := dk_132 3 1 (dk_at dksX2_sum_4 2 rfl rfl)
theorem dX2_sum_97 : decode cX2_sum 97 = .ok (.goto (-93), 3) := dk_167 255 163 (dk_at dksX2_sum_4 5 rfl rfl)
theorem dX2_sum_100 : decode cX2_sum 100 = .ok (.iload_n 2, 1) := dk_28 (dk_at dksX2_sum_4 8 rfl rfl)
theorem dX2_sum_101 : decode cX2_sum 101 = .ok (.ireturn, 1) := dk_172 (dk_at dksX2_sum_4 9 rfl rfl)
abbrev cX2_rises : ByteArray := prog_7_method_29_code
def yX2_rises : MethodName := ⟨RX2, "rises", "(I)I"⟩
def dkwX2_rises_0 : List UInt8 := [27, 3, 16, 9, 184, 0, 206, 42, 180, 0, 31, 61, 42, 27, 181, 0, 31, 28, 172]
abbrev dktX2_rises_0 : List UInt8 := dkwX2_rises_0 ++ []
theorem dksX2_rises_0 : cX2_rises.data.toList.drop 0 = dktX2_rises_0 := by decide +kernel
theorem dX2_rises_0 : decode cX2_rises 0 = .ok (.iload_n 1, 1) := dk_27 (dk_at dksX2_rises_0 0 rfl rfl)
theorem dX2_rises_1 : decode cX2_rises 1 = .ok (.iconst 0, 1) := dk_3 (dk_at dksX2_rises_0 1 rfl rfl)
theorem dX2_rises_2 : decode cX2_rises 2 = .ok (.bipush 9, 2) := dk_16 9 (dk_at dksX2_rises_0 2 rfl rfl)
theorem dX2_rises_4 : decode cX2_rises 4 = .ok (.invokestatic 206, 3) := dk_184 0 206 (dk_at dksX2_rises_0 4 rfl rfl)
theorem dX2_rises_7 : decode cX2_rises 7 = .ok (.aload_n 0, 1) := dk_42 (dk_at dksX2_rises_0 7 rfl rfl)
theorem dX2_rises_8 : decode cX2_rises 8 = .ok (.getfield 31, 3) := dk_180 0 31 (dk_at dksX2_rises_0 8 rfl rfl)
theorem dX2_rises_11 : decode cX2_rises 11 = .ok (.istore_n 2, 1) := dk_61 (dk_at dksX2_rises_0 11 rfl rfl)
theorem dX2_rises_12 : decode cX2_rises 12 = .ok (.aload_n 0, 1) := dk_42 (dk_at dksX2_rises_0 12 rfl rfl)
theorem dX2_rises_13 : decode cX2_rises 13 = .ok (.iload_n 1, 1) := dk_27 (dk_at dksX2_rises_0 13 rfl rfl)
theorem dX2_rises_14 : decode cX2_rises 14 = .ok (.putfield 31, 3) := dk_181 0 31 (dk_at dksX2_rises_0 14 rfl rfl)
theorem dX2_rises_17 : decode cX2_rises 17 = .ok (.iload_n 2, 1) := dk_28 (dk_at dksX2_rises_0 17 rfl rfl)
theorem dX2_rises_18 : decode cX2_rises 18 = .ok (.ireturn, 1) := dk_172 (dk_at dksX2_rises_0 18 rfl rfl)
abbrev cX2_gets : ByteArray := prog_7_method_30_code
def yX2_gets : MethodName := ⟨RX2, "gets", "(I)I"⟩
def dkwX2_gets_0 : List UInt8 := [27, 4, 16, 99, 184, 0, 206, 42, 89, 180, 0, 35, 27, 96, 181, 0, 35, 42, 180, 0, 35, 172]
abbrev dktX2_gets_0 : List UInt8 := dkwX2_gets_0 ++ []
theorem dksX2_gets_0 : cX2_gets.data.toList.drop 0 = dktX2_gets_0 := by decide +kernel
theorem dX2_gets_0 : decode cX2_gets 0 = .ok (.iload_n 1, 1) := dk_27 (dk_at dksX2_gets_0 0 rfl rfl)
theorem dX2_gets_1 : decode cX2_gets 1 = .ok (.iconst 1, 1) := dk_4 (dk_at dksX2_gets_0 1 rfl rfl)
theorem dX2_gets_2 : decode cX2_gets 2 = .ok (.bipush 99, 2) := dk_16 99 (dk_at dksX2_gets_0 2 rfl rfl)
theorem dX2_gets_4 : decode cX2_gets 4 = .ok (.invokestatic 206, 3) := dk_184 0 206 (dk_at dksX2_gets_0 4 rfl rfl)
theorem dX2_gets_7 : decode cX2_gets 7 = .ok (.aload_n 0, 1) := dk_42 (dk_at dksX2_gets_0 7 rfl rfl)
theorem dX2_gets_8 : decode cX2_gets 8 = .ok (.dup, 1) := dk_89 (dk_at dksX2_gets_0 8 rfl rfl)
theorem dX2_gets_9 : decode cX2_gets 9 = .ok (.getfield 35, 3) := dk_180 0 35 (dk_at dksX2_gets_0 9 rfl rfl)
theorem dX2_gets_12 : decode cX2_gets 12 = .ok (.iload_n 1, 1) := dk_27 (dk_at dksX2_gets_0 12 rfl rfl)
theorem dX2_gets_13 : decode cX2_gets 13 = .ok (.iadd, 1) := dk_96 (dk_at dksX2_gets_0 13 rfl rfl)
theorem dX2_gets_14 : decode cX2_gets 14 = .ok (.putfield 35, 3) := dk_181 0 35 (dk_at dksX2_gets_0 14 rfl rfl)
theorem dX2_gets_17 : decode cX2_gets 17 = .ok (.aload_n 0, 1) := dk_42 (dk_at dksX2_gets_0 17 rfl rfl)
theorem dX2_gets_18 : decode cX2_gets 18 = .ok (.getfield 35, 3) := dk_180 0 35 (dk_at dksX2_gets_0 18 rfl rfl)
theorem dX2_gets_21 : decode cX2_gets 21 = .ok (.ireturn, 1) := dk_172 (dk_at dksX2_gets_0 21 rfl rfl)
abbrev cX2_ends : ByteArray := prog_7_method_35_code
def yX2_ends : MethodName := ⟨RX2, "ends", "()I"⟩
def dkwX2_ends_2 : List UInt8 := [182, 1, 2, 27, 172]
abbrev dktX2_ends_2 : List UInt8 := dkwX2_ends_2 ++ []
def dkwX2_ends_1 : List UInt8 := [28, 185, 0, 46, 2, 0, 192, 0, 62, 3, 181, 0, 253, 132, 2, 1, 167, 255, 223, 42, 180, 0, 27]
abbrev dktX2_ends_1 : List UInt8 := dkwX2_ends_1 ++ dktX2_ends_2
def dkwX2_ends_0 : List UInt8 := [42, 182, 1, 0, 60, 3, 61, 28, 42, 180, 0, 21, 185, 0, 38, 1, 0, 162, 0, 26, 42, 180, 0, 21]
abbrev dktX2_ends_0 : List UInt8 := dkwX2_ends_0 ++ dktX2_ends_1
theorem dksX2_ends_0 : cX2_ends.data.toList.drop 0 = dktX2_ends_0 := by decide +kernel
theorem dksX2_ends_1 : cX2_ends.data.toList.drop 24 = dktX2_ends_1 := dk_seg dksX2_ends_0 24 rfl rfl
theorem dksX2_ends_2 : cX2_ends.data.toList.drop 47 = dktX2_ends_2 := dk_seg dksX2_ends_1 23 rfl rfl
theorem dX2_ends_0 : decode cX2_ends 0 = .ok (.aload_n 0, 1) := dk_42 (dk_at dksX2_ends_0 0 rfl rfl)
theorem dX2_ends_1 : decode cX2_ends 1 = .ok (.invokevirtual 256, 3) := dk_182 1 0 (dk_at dksX2_ends_0 1 rfl rfl)
theorem dX2_ends_4 : decode cX2_ends 4 = .ok (.istore_n 1, 1) := dk_60 (dk_at dksX2_ends_0 4 rfl rfl)
theorem dX2_ends_5 : decode cX2_ends 5 = .ok (.iconst 0, 1) := dk_3 (dk_at dksX2_ends_0 5 rfl rfl)
theorem dX2_ends_6 : decode cX2_ends 6 = .ok (.istore_n 2, 1) := dk_61 (dk_at dksX2_ends_0 6 rfl rfl)
theorem dX2_ends_7 : decode cX2_ends 7 = .ok (.iload_n 2, 1) := dk_28 (dk_at dksX2_ends_0 7 rfl rfl)
theorem dX2_ends_8 : decode cX2_ends 8 = .ok (.aload_n 0, 1) := dk_42 (dk_at dksX2_ends_0 8 rfl rfl)
theorem dX2_ends_9 : decode cX2_ends 9 = .ok (.getfield 21, 3) := dk_180 0 21 (dk_at dksX2_ends_0 9 rfl rfl)
theorem dX2_ends_12 : decode cX2_ends 12 = .ok (.invokeinterface 38 1, 5) := by decide +kernel
theorem dX2_ends_17 : decode cX2_ends 17 = .ok (.if_icmp .ge 26, 3) := dk_162 0 26 (dk_at dksX2_ends_0 17 rfl rfl)
theorem dX2_ends_20 : decode cX2_ends 20 = .ok (.aload_n 0, 1) := dk_42 (dk_at dksX2_ends_0 20 rfl rfl)
theorem dX2_ends_21 : decode cX2_ends 21 = .ok (.getfield 21, 3) := dk_180 0 21 (dk_at dksX2_ends_0 21 rfl rfl)
theorem dX2_ends_24 : decode cX2_ends 24 = .ok (.iload_n 2, 1) := dk_28 (dk_at dksX2_ends_1 0 rfl rfl)
theorem dX2_ends_25 : decode cX2_ends 25 = .ok (.invokeinterface 46 2, 5) := by decide +kernel
theorem dX2_ends_30 : decode cX2_ends 30 = .ok (.checkcast 62, 3) := dk_192 0 62 (dk_at dksX2_ends_1 6 rfl rfl)
theorem dX2_ends_33 : decode cX2_ends 33 = .ok (.iconst 0, 1) := dk_3 (dk_at dksX2_ends_1 9 rfl rfl)
theorem dX2_ends_34 : decode cX2_ends 34 = .ok (.putfield 253, 3) := dk_181 0 253 (dk_at dksX2_ends_1 10 rfl rfl)
theorem dX2_ends_37 : decode cX2_ends 37 = .ok (.iinc 2 1, 3) := dk_132 2 1 (dk_at dksX2_ends_1 13 rfl rfl)
theorem dX2_ends_40 : decode cX2_ends 40 = .ok (.goto (-33), 3) := dk_167 255 223 (dk_at dksX2_ends_1 16 rfl rfl)
theorem dX2_ends_43 : decode cX2_ends 43 = .ok (.aload_n 0, 1) := dk_42 (dk_at dksX2_ends_1 19 rfl rfl)
theorem dX2_ends_44 : decode cX2_ends 44 = .ok (.getfield 27, 3) := dk_180 0 27 (dk_at dksX2_ends_1 20 rfl rfl)
theorem dX2_ends_47 : decode cX2_ends 47 = .ok (.invokevirtual 258, 3) := dk_182 1 2 (dk_at dksX2_ends_2 0 rfl rfl)
theorem dX2_ends_50 : decode cX2_ends 50 = .ok (.iload_n 1, 1) := dk_27 (dk_at dksX2_ends_2 3 rfl rfl)
theorem dX2_ends_51 : decode cX2_ends 51 = .ok (.ireturn, 1) := dk_172 (dk_at dksX2_ends_2 4 rfl rfl)
abbrev cX2_inCensus : ByteArray := prog_7_method_34_code
def yX2_inCensus : MethodName := ⟨RX2, "inCensus", "()I"⟩
def dkwX2_inCensus_1 : List UInt8 := [185, 0, 46, 2, 0, 192, 0, 62, 180, 0, 253, 96, 60, 132, 2, 1, 167, 255, 221, 27, 172]
abbrev dktX2_inCensus_1 : List UInt8 := dkwX2_inCensus_1 ++ []
def dkwX2_inCensus_0 : List UInt8 := [3, 60, 3, 61, 28, 42, 180, 0, 21, 185, 0, 38, 1, 0, 162, 0, 28, 27, 42, 180, 0, 21, 28]
abbrev dktX2_inCensus_0 : List UInt8 := dkwX2_inCensus_0 ++ dktX2_inCensus_1
theorem dksX2_inCensus_0 : cX2_inCensus.data.toList.drop 0 = dktX2_inCensus_0 := by decide +kernel
theorem dksX2_inCensus_1 : cX2_inCensus.data.toList.drop 23 = dktX2_inCensus_1 := dk_seg dksX2_inCensus_0 23 rfl rfl
theorem dX2_inCensus_0 : decode cX2_inCensus 0 = .ok (.iconst 0, 1) := dk_3 (dk_at dksX2_inCensus_0 0 rfl rfl)
theorem dX2_inCensus_1 : decode cX2_inCensus 1 = .ok (.istore_n 1, 1) := dk_60 (dk_at dksX2_inCensus_0 1 rfl rfl)
theorem dX2_inCensus_2 : decode cX2_inCensus 2 = .ok (.iconst 0, 1) := dk_3 (dk_at dksX2_inCensus_0 2 rfl rfl)
theorem dX2_inCensus_3 : decode cX2_inCensus 3 = .ok (.istore_n 2, 1) := dk_61 (dk_at dksX2_inCensus_0 3 rfl rfl)
theorem dX2_inCensus_4 : decode cX2_inCensus 4 = .ok (.iload_n 2, 1) := dk_28 (dk_at dksX2_inCensus_0 4 rfl rfl)
theorem dX2_inCensus_5 : decode cX2_inCensus 5 = .ok (.aload_n 0, 1) := dk_42 (dk_at dksX2_inCensus_0 5 rfl rfl)
theorem dX2_inCensus_6 : decode cX2_inCensus 6 = .ok (.getfield 21, 3) := dk_180 0 21 (dk_at dksX2_inCensus_0 6 rfl rfl)
theorem dX2_inCensus_9 : decode cX2_inCensus 9 = .ok (.invokeinterface 38 1, 5) := by decide +kernel
theorem dX2_inCensus_14 : decode cX2_inCensus 14 = .ok (.if_icmp .ge 28, 3) := dk_162 0 28 (dk_at dksX2_inCensus_0 14 rfl rfl)
theorem dX2_inCensus_17 : decode cX2_inCensus 17 = .ok (.iload_n 1, 1) := dk_27 (dk_at dksX2_inCensus_0 17 rfl rfl)
theorem dX2_inCensus_18 : decode cX2_inCensus 18 = .ok (.aload_n 0, 1) := dk_42 (dk_at dksX2_inCensus_0 18 rfl rfl)
theorem dX2_inCensus_19 : decode cX2_inCensus 19 = .ok (.getfield 21, 3) := dk_180 0 21 (dk_at dksX2_inCensus_0 19 rfl rfl)
theorem dX2_inCensus_22 : decode cX2_inCensus 22 = .ok (.iload_n 2, 1) := dk_28 (dk_at dksX2_inCensus_0 22 rfl rfl)
theorem dX2_inCensus_23 : decode cX2_inCensus 23 = .ok (.invokeinterface 46 2, 5) := by decide +kernel
theorem dX2_inCensus_28 : decode cX2_inCensus 28 = .ok (.checkcast 62, 3) := dk_192 0 62 (dk_at dksX2_inCensus_1 5 rfl rfl)
theorem dX2_inCensus_31 : decode cX2_inCensus 31 = .ok (.getfield 253, 3) := dk_180 0 253 (dk_at dksX2_inCensus_1 8 rfl rfl)
theorem dX2_inCensus_34 : decode cX2_inCensus 34 = .ok (.iadd, 1) := dk_96 (dk_at dksX2_inCensus_1 11 rfl rfl)
theorem dX2_inCensus_35 : decode cX2_inCensus 35 = .ok (.istore_n 1, 1) := dk_60 (dk_at dksX2_inCensus_1 12 rfl rfl)
theorem dX2_inCensus_36 : decode cX2_inCensus 36 = .ok (.iinc 2 1, 3) := dk_132 2 1 (dk_at dksX2_inCensus_1 13 rfl rfl)
theorem dX2_inCensus_39 : decode cX2_inCensus 39 = .ok (.goto (-35), 3) := dk_167 255 221 (dk_at dksX2_inCensus_1 16 rfl rfl)
theorem dX2_inCensus_42 : decode cX2_inCensus 42 = .ok (.iload_n 1, 1) := dk_27 (dk_at dksX2_inCensus_1 19 rfl rfl)
theorem dX2_inCensus_43 : decode cX2_inCensus 43 = .ok (.ireturn, 1) := dk_172 (dk_at dksX2_inCensus_1 20 rfl rfl)
abbrev cX2_flowsOn : ByteArray := prog_7_method_24_code
def yX2_flowsOn : MethodName := ⟨RX2, "flowsOn", "(II)I"⟩
def dkwX2_flowsOn_2 : List UInt8 := [27, 28, 183, 0, 210, 185, 0, 53, 2, 0, 87, 42, 180, 0, 12, 185, 0, 38, 1, 0, 4, 100, 172]
abbrev dktX2_flowsOn_2 : List UInt8 := dkwX2_flowsOn_2 ++ []
def dkwX2_flowsOn_1 : List UInt8 := [16, 12, 162, 0, 7, 4, 167, 0, 4, 3, 4, 16, 12, 184, 0, 202, 42, 180, 0, 12, 187, 0, 44, 89]
abbrev dktX2_flowsOn_1 : List UInt8 := dkwX2_flowsOn_1 ++ dktX2_flowsOn_2
def dkwX2_flowsOn_0 : List UInt8 := [27, 3, 16, 9, 184, 0, 206, 28, 2, 16, 9, 184, 0, 206, 42, 180, 0, 12, 185, 0, 38, 1, 0]
abbrev dktX2_flowsOn_0 : List UInt8 := dkwX2_flowsOn_0 ++ dktX2_flowsOn_1
theorem dksX2_flowsOn_0 : cX2_flowsOn.data.toList.drop 0 = dktX2_flowsOn_0 := by decide +kernel
theorem dksX2_flowsOn_1 : cX2_flowsOn.data.toList.drop 23 = dktX2_flowsOn_1 := dk_seg dksX2_flowsOn_0 23 rfl rfl
theorem dksX2_flowsOn_2 : cX2_flowsOn.data.toList.drop 47 = dktX2_flowsOn_2 := dk_seg dksX2_flowsOn_1 24 rfl rfl
theorem dX2_flowsOn_0 : decode cX2_flowsOn 0 = .ok (.iload_n 1, 1) := dk_27 (dk_at dksX2_flowsOn_0 0 rfl rfl)
theorem dX2_flowsOn_1 : decode cX2_flowsOn 1 = .ok (.iconst 0, 1) := dk_3 (dk_at dksX2_flowsOn_0 1 rfl rfl)
theorem dX2_flowsOn_2 : decode cX2_flowsOn 2 = .ok (.bipush 9, 2) := dk_16 9 (dk_at dksX2_flowsOn_0 2 rfl rfl)
theorem dX2_flowsOn_4 : decode cX2_flowsOn 4 = .ok (.invokestatic 206, 3) := dk_184 0 206 (dk_at dksX2_flowsOn_0 4 rfl rfl)
theorem dX2_flowsOn_7 : decode cX2_flowsOn 7 = .ok (.iload_n 2, 1) := dk_28 (dk_at dksX2_flowsOn_0 7 rfl rfl)
theorem dX2_flowsOn_8 : decode cX2_flowsOn 8 = .ok (.iconst (-1), 1) := dk_2 (dk_at dksX2_flowsOn_0 8 rfl rfl)
theorem dX2_flowsOn_9 : decode cX2_flowsOn 9 = .ok (.bipush 9, 2) := dk_16 9 (dk_at dksX2_flowsOn_0 9 rfl rfl)
theorem dX2_flowsOn_11 : decode cX2_flowsOn 11 = .ok (.invokestatic 206, 3) := dk_184 0 206 (dk_at dksX2_flowsOn_0 11 rfl rfl)
theorem dX2_flowsOn_14 : decode cX2_flowsOn 14 = .ok (.aload_n 0, 1) := dk_42 (dk_at dksX2_flowsOn_0 14 rfl rfl)
theorem dX2_flowsOn_15 : decode cX2_flowsOn 15 = .ok (.getfield 12, 3) := dk_180 0 12 (dk_at dksX2_flowsOn_0 15 rfl rfl)
theorem dX2_flowsOn_18 : decode cX2_flowsOn 18 = .ok (.invokeinterface 38 1, 5) := by decide +kernel
theorem dX2_flowsOn_23 : decode cX2_flowsOn 23 = .ok (.bipush 12, 2) := dk_16 12 (dk_at dksX2_flowsOn_1 0 rfl rfl)
theorem dX2_flowsOn_25 : decode cX2_flowsOn 25 = .ok (.if_icmp .ge 7, 3) := dk_162 0 7 (dk_at dksX2_flowsOn_1 2 rfl rfl)
theorem dX2_flowsOn_28 : decode cX2_flowsOn 28 = .ok (.iconst 1, 1) := dk_4 (dk_at dksX2_flowsOn_1 5 rfl rfl)
theorem dX2_flowsOn_29 : decode cX2_flowsOn 29 = .ok (.goto 4, 3) := dk_167 0 4 (dk_at dksX2_flowsOn_1 6 rfl rfl)
theorem dX2_flowsOn_32 : decode cX2_flowsOn 32 = .ok (.iconst 0, 1) := dk_3 (dk_at dksX2_flowsOn_1 9 rfl rfl)
theorem dX2_flowsOn_33 : decode cX2_flowsOn 33 = .ok (.iconst 1, 1) := dk_4 (dk_at dksX2_flowsOn_1 10 rfl rfl)
theorem dX2_flowsOn_34 : decode cX2_flowsOn 34 = .ok (.bipush 12, 2) := dk_16 12 (dk_at dksX2_flowsOn_1 11 rfl rfl)
theorem dX2_flowsOn_36 : decode cX2_flowsOn 36 = .ok (.invokestatic 202, 3) := dk_184 0 202 (dk_at dksX2_flowsOn_1 13 rfl rfl)
theorem dX2_flowsOn_39 : decode cX2_flowsOn 39 = .ok (.aload_n 0, 1) := dk_42 (dk_at dksX2_flowsOn_1 16 rfl rfl)
theorem dX2_flowsOn_40 : decode cX2_flowsOn 40 = .ok (.getfield 12, 3) := dk_180 0 12 (dk_at dksX2_flowsOn_1 17 rfl rfl)
theorem dX2_flowsOn_43 : decode cX2_flowsOn 43 = .ok (.new 44, 3) := dk_187 0 44 (dk_at dksX2_flowsOn_1 20 rfl rfl)
theorem dX2_flowsOn_46 : decode cX2_flowsOn 46 = .ok (.dup, 1) := dk_89 (dk_at dksX2_flowsOn_1 23 rfl rfl)
theorem dX2_flowsOn_47 : decode cX2_flowsOn 47 = .ok (.iload_n 1, 1) := dk_27 (dk_at dksX2_flowsOn_2 0 rfl rfl)
theorem dX2_flowsOn_48 : decode cX2_flowsOn 48 = .ok (.iload_n 2, 1) := dk_28 (dk_at dksX2_flowsOn_2 1 rfl rfl)
theorem dX2_flowsOn_49 : decode cX2_flowsOn 49 = .ok (.invokespecial 210, 3) := dk_183 0 210 (dk_at dksX2_flowsOn_2 2 rfl rfl)
theorem dX2_flowsOn_52 : decode cX2_flowsOn 52 = .ok (.invokeinterface 53 2, 5) := by decide +kernel
theorem dX2_flowsOn_57 : decode cX2_flowsOn 57 = .ok (.pop, 1) := dk_87 (dk_at dksX2_flowsOn_2 10 rfl rfl)
theorem dX2_flowsOn_58 : decode cX2_flowsOn 58 = .ok (.aload_n 0, 1) := dk_42 (dk_at dksX2_flowsOn_2 11 rfl rfl)
theorem dX2_flowsOn_59 : decode cX2_flowsOn 59 = .ok (.getfield 12, 3) := dk_180 0 12 (dk_at dksX2_flowsOn_2 12 rfl rfl)
theorem dX2_flowsOn_62 : decode cX2_flowsOn 62 = .ok (.invokeinterface 38 1, 5) := by decide +kernel
theorem dX2_flowsOn_67 : decode cX2_flowsOn 67 = .ok (.iconst 1, 1) := dk_4 (dk_at dksX2_flowsOn_2 20 rfl rfl)
theorem dX2_flowsOn_68 : decode cX2_flowsOn 68 = .ok (.isub, 1) := dk_100 (dk_at dksX2_flowsOn_2 21 rfl rfl)
theorem dX2_flowsOn_69 : decode cX2_flowsOn 69 = .ok (.ireturn, 1) := dk_172 (dk_at dksX2_flowsOn_2 22 rfl rfl)
abbrev cX2_isDug : ByteArray := prog_7_method_25_code
def yX2_isDug : MethodName := ⟨RX2, "isDug", "(I)I"⟩
def dkwX2_isDug_1 : List UInt8 := [184, 0, 202, 44, 4, 181, 0, 107, 42, 27, 182, 0, 179, 172]
abbrev dktX2_isDug_1 : List UInt8 := dkwX2_isDug_1 ++ []
def dkwX2_isDug_0 : List UInt8 := [42, 27, 182, 0, 211, 77, 44, 180, 0, 107, 154, 0, 7, 4, 167, 0, 4, 3, 7, 42, 27, 182, 0, 111]
abbrev dktX2_isDug_0 : List UInt8 := dkwX2_isDug_0 ++ dktX2_isDug_1
theorem dksX2_isDug_0 : cX2_isDug.data.toList.drop 0 = dktX2_isDug_0 := by decide +kernel
theorem dksX2_isDug_1 : cX2_isDug.data.toList.drop 24 = dktX2_isDug_1 := dk_seg dksX2_isDug_0 24 rfl rfl
theorem dX2_isDug_0 : decode cX2_isDug 0 = .ok (.aload_n 0, 1) := dk_42 (dk_at dksX2_isDug_0 0 rfl rfl)
theorem dX2_isDug_1 : decode cX2_isDug 1 = .ok (.iload_n 1, 1) := dk_27 (dk_at dksX2_isDug_0 1 rfl rfl)
theorem dX2_isDug_2 : decode cX2_isDug 2 = .ok (.invokevirtual 211, 3) := dk_182 0 211 (dk_at dksX2_isDug_0 2 rfl rfl)
theorem dX2_isDug_5 : decode cX2_isDug 5 = .ok (.astore_n 2, 1) := dk_77 (dk_at dksX2_isDug_0 5 rfl rfl)
theorem dX2_isDug_6 : decode cX2_isDug 6 = .ok (.aload_n 2, 1) := dk_44 (dk_at dksX2_isDug_0 6 rfl rfl)
theorem dX2_isDug_7 : decode cX2_isDug 7 = .ok (.getfield 107, 3) := dk_180 0 107 (dk_at dksX2_isDug_0 7 rfl rfl)
theorem dX2_isDug_10 : decode cX2_isDug 10 = .ok (.ifCond .ne 7, 3) := dk_154 0 7 (dk_at dksX2_isDug_0 10 rfl rfl)
theorem dX2_isDug_13 : decode cX2_isDug 13 = .ok (.iconst 1, 1) := dk_4 (dk_at dksX2_isDug_0 13 rfl rfl)
theorem dX2_isDug_14 : decode cX2_isDug 14 = .ok (.goto 4, 3) := dk_167 0 4 (dk_at dksX2_isDug_0 14 rfl rfl)
theorem dX2_isDug_17 : decode cX2_isDug 17 = .ok (.iconst 0, 1) := dk_3 (dk_at dksX2_isDug_0 17 rfl rfl)
theorem dX2_isDug_18 : decode cX2_isDug 18 = .ok (.iconst 4, 1) := dk_7 (dk_at dksX2_isDug_0 18 rfl rfl)
theorem dX2_isDug_19 : decode cX2_isDug 19 = .ok (.aload_n 0, 1) := dk_42 (dk_at dksX2_isDug_0 19 rfl rfl)
theorem dX2_isDug_20 : decode cX2_isDug 20 = .ok (.iload_n 1, 1) := dk_27 (dk_at dksX2_isDug_0 20 rfl rfl)
theorem dX2_isDug_21 : decode cX2_isDug 21 = .ok (.invokevirtual 111, 3) := dk_182 0 111 (dk_at dksX2_isDug_0 21 rfl rfl)
theorem dX2_isDug_24 : decode cX2_isDug 24 = .ok (.invokestatic 202, 3) := dk_184 0 202 (dk_at dksX2_isDug_1 0 rfl rfl)
theorem dX2_isDug_27 : decode cX2_isDug 27 = .ok (.aload_n 2, 1) := dk_44 (dk_at dksX2_isDug_1 3 rfl rfl)
theorem dX2_isDug_28 : decode cX2_isDug 28 = .ok (.iconst 1, 1) := dk_4 (dk_at dksX2_isDug_1 4 rfl rfl)
theorem dX2_isDug_29 : decode cX2_isDug 29 = .ok (.putfield 107, 3) := dk_181 0 107 (dk_at dksX2_isDug_1 5 rfl rfl)
theorem dX2_isDug_32 : decode cX2_isDug 32 = .ok (.aload_n 0, 1) := dk_42 (dk_at dksX2_isDug_1 8 rfl rfl)
theorem dX2_isDug_33 : decode cX2_isDug 33 = .ok (.iload_n 1, 1) := dk_27 (dk_at dksX2_isDug_1 9 rfl rfl)
theorem dX2_isDug_34 : decode cX2_isDug 34 = .ok (.invokevirtual 179, 3) := dk_182 0 179 (dk_at dksX2_isDug_1 10 rfl rfl)
theorem dX2_isDug_37 : decode cX2_isDug 37 = .ok (.ireturn, 1) := dk_172 (dk_at dksX2_isDug_1 13 rfl rfl)
abbrev cX2_comes : ByteArray := prog_7_method_27_code
def yX2_comes : MethodName := ⟨RX2, "comes", "(I)I"⟩
def dkwX2_comes_4 : List UInt8 := [180, 0, 18, 185, 0, 38, 1, 0, 4, 100, 172]
abbrev dktX2_comes_4 : List UInt8 := dkwX2_comes_4 ++ []
def dkwX2_comes_3 : List UInt8 := [180, 0, 18, 187, 0, 57, 89, 27, 42, 180, 0, 71, 183, 0, 170, 185, 0, 53, 2, 0, 87, 42]
abbrev dktX2_comes_3 : List UInt8 := dkwX2_comes_3 ++ dktX2_comes_4
def dkwX2_comes_2 : List UInt8 := [185, 0, 38, 1, 0, 16, 30, 162, 0, 7, 4, 167, 0, 4, 3, 4, 16, 30, 184, 0, 202, 42]
abbrev dktX2_comes_2 : List UInt8 := dkwX2_comes_2 ++ dktX2_comes_3
def dkwX2_comes_1 : List UInt8 := [160, 0, 18, 187, 0, 215, 89, 16, 6, 42, 27, 182, 0, 217, 183, 0, 220, 191, 42, 180, 0, 18]
abbrev dktX2_comes_1 : List UInt8 := dkwX2_comes_1 ++ dktX2_comes_2
def dkwX2_comes_0 : List UInt8 := [42, 27, 182, 0, 211, 77, 44, 180, 0, 107, 8, 44, 180, 0, 93, 184, 0, 202, 42, 27, 182, 0, 111, 5]
abbrev dktX2_comes_0 : List UInt8 := dkwX2_comes_0 ++ dktX2_comes_1
theorem dksX2_comes_0 : cX2_comes.data.toList.drop 0 = dktX2_comes_0 := by decide +kernel
theorem dksX2_comes_1 : cX2_comes.data.toList.drop 24 = dktX2_comes_1 := dk_seg dksX2_comes_0 24 rfl rfl
theorem dksX2_comes_2 : cX2_comes.data.toList.drop 46 = dktX2_comes_2 := dk_seg dksX2_comes_1 22 rfl rfl
theorem dksX2_comes_3 : cX2_comes.data.toList.drop 68 = dktX2_comes_3 := dk_seg dksX2_comes_2 22 rfl rfl
theorem dksX2_comes_4 : cX2_comes.data.toList.drop 90 = dktX2_comes_4 := dk_seg dksX2_comes_3 22 rfl rfl
theorem dX2_comes_0 : decode cX2_comes 0 = .ok (.aload_n 0, 1) := dk_42 (dk_at dksX2_comes_0 0 rfl rfl)
theorem dX2_comes_1 : decode cX2_comes 1 = .ok (.iload_n 1, 1) := dk_27 (dk_at dksX2_comes_0 1 rfl rfl)
theorem dX2_comes_2 : decode cX2_comes 2 = .ok (.invokevirtual 211, 3) := dk_182 0 211 (dk_at dksX2_comes_0 2 rfl rfl)
theorem dX2_comes_5 : decode cX2_comes 5 = .ok (.astore_n 2, 1) := dk_77 (dk_at dksX2_comes_0 5 rfl rfl)
theorem dX2_comes_6 : decode cX2_comes 6 = .ok (.aload_n 2, 1) := dk_44 (dk_at dksX2_comes_0 6 rfl rfl)
theorem dX2_comes_7 : decode cX2_comes 7 = .ok (.getfield 107, 3) := dk_180 0 107 (dk_at dksX2_comes_0 7 rfl rfl)
theorem dX2_comes_10 : decode cX2_comes 10 = .ok (.iconst 5, 1) := dk_8 (dk_at dksX2_comes_0 10 rfl rfl)
theorem dX2_comes_11 : decode cX2_comes 11 = .ok (.aload_n 2, 1) := dk_44 (dk_at dksX2_comes_0 11 rfl rfl)
theorem dX2_comes_12 : decode cX2_comes 12 = .ok (.getfield 93, 3) := dk_180 0 93 (dk_at dksX2_comes_0 12 rfl rfl)
theorem dX2_comes_15 : decode cX2_comes 15 = .ok (.invokestatic 202, 3) := dk_184 0 202 (dk_at dksX2_comes_0 15 rfl rfl)
theorem dX2_comes_18 : decode cX2_comes 18 = .ok (.aload_n 0, 1) := dk_42 (dk_at dksX2_comes_0 18 rfl rfl)
theorem dX2_comes_19 : decode cX2_comes 19 = .ok (.iload_n 1, 1) := dk_27 (dk_at dksX2_comes_0 19 rfl rfl)
theorem dX2_comes_20 : decode cX2_comes 20 = .ok (.invokevirtual 111, 3) := dk_182 0 111 (dk_at dksX2_comes_0 20 rfl rfl)
theorem dX2_comes_23 : decode cX2_comes 23 = .ok (.iconst 2, 1) := dk_5 (dk_at dksX2_comes_0 23 rfl rfl)
theorem dX2_comes_24 : decode cX2_comes 24 = .ok (.if_icmp .ne 18, 3) := dk_160 0 18 (dk_at dksX2_comes_1 0 rfl rfl)
theorem dX2_comes_27 : decode cX2_comes 27 = .ok (.new 215, 3) := dk_187 0 215 (dk_at dksX2_comes_1 3 rfl rfl)
theorem dX2_comes_30 : decode cX2_comes 30 = .ok (.dup, 1) := dk_89 (dk_at dksX2_comes_1 6 rfl rfl)
theorem dX2_comes_31 : decode cX2_comes 31 = .ok (.bipush 6, 2) := dk_16 6 (dk_at dksX2_comes_1 7 rfl rfl)
theorem dX2_comes_33 : decode cX2_comes 33 = .ok (.aload_n 0, 1) := dk_42 (dk_at dksX2_comes_1 9 rfl rfl)
theorem dX2_comes_34 : decode cX2_comes 34 = .ok (.iload_n 1, 1) := dk_27 (dk_at dksX2_comes_1 10 rfl rfl)
theorem dX2_comes_35 : decode cX2_comes 35 = .ok (.invokevirtual 217, 3) := dk_182 0 217 (dk_at dksX2_comes_1 11 rfl rfl)
theorem dX2_comes_38 : decode cX2_comes 38 = .ok (.invokespecial 220, 3) := dk_183 0 220 (dk_at dksX2_comes_1 14 rfl rfl)
theorem dX2_comes_41 : decode cX2_comes 41 = .ok (.athrow, 1) := dk_191 (dk_at dksX2_comes_1 17 rfl rfl)
theorem dX2_comes_42 : decode cX2_comes 42 = .ok (.aload_n 0, 1) := dk_42 (dk_at dksX2_comes_1 18 rfl rfl)
theorem dX2_comes_43 : decode cX2_comes 43 = .ok (.getfield 18, 3) := dk_180 0 18 (dk_at dksX2_comes_1 19 rfl rfl)
theorem dX2_comes_46 : decode cX2_comes 46 = .ok (.invokeinterface 38 1, 5) := by decide +kernel
theorem dX2_comes_51 : decode cX2_comes 51 = .ok (.bipush 30, 2) := dk_16 30 (dk_at dksX2_comes_2 5 rfl rfl)
theorem dX2_comes_53 : decode cX2_comes 53 = .ok (.if_icmp .ge 7, 3) := dk_162 0 7 (dk_at dksX2_comes_2 7 rfl rfl)
theorem dX2_comes_56 : decode cX2_comes 56 = .ok (.iconst 1, 1) := dk_4 (dk_at dksX2_comes_2 10 rfl rfl)
theorem dX2_comes_57 : decode cX2_comes 57 = .ok (.goto 4, 3) := dk_167 0 4 (dk_at dksX2_comes_2 11 rfl rfl)
theorem dX2_comes_60 : decode cX2_comes 60 = .ok (.iconst 0, 1) := dk_3 (dk_at dksX2_comes_2 14 rfl rfl)
theorem dX2_comes_61 : decode cX2_comes 61 = .ok (.iconst 1, 1) := dk_4 (dk_at dksX2_comes_2 15 rfl rfl)
theorem dX2_comes_62 : decode cX2_comes 62 = .ok (.bipush 30, 2) := dk_16 30 (dk_at dksX2_comes_2 16 rfl rfl)
theorem dX2_comes_64 : decode cX2_comes 64 = .ok (.invokestatic 202, 3) := dk_184 0 202 (dk_at dksX2_comes_2 18 rfl rfl)
theorem dX2_comes_67 : decode cX2_comes 67 = .ok (.aload_n 0, 1) := dk_42 (dk_at dksX2_comes_2 21 rfl rfl)
theorem dX2_comes_68 : decode cX2_comes 68 = .ok (.getfield 18, 3) := dk_180 0 18 (dk_at dksX2_comes_3 0 rfl rfl)
theorem dX2_comes_71 : decode cX2_comes 71 = .ok (.new 57, 3) := dk_187 0 57 (dk_at dksX2_comes_3 3 rfl rfl)
theorem dX2_comes_74 : decode cX2_comes 74 = .ok (.dup, 1) := dk_89 (dk_at dksX2_comes_3 6 rfl rfl)
theorem dX2_comes_75 : decode cX2_comes 75 = .ok (.iload_n 1, 1) := dk_27 (dk_at dksX2_comes_3 7 rfl rfl)
theorem dX2_comes_76 : decode cX2_comes 76 = .ok (.aload_n 0, 1) := dk_42 (dk_at dksX2_comes_3 8 rfl rfl)
theorem dX2_comes_77 : decode cX2_comes 77 = .ok (.getfield 71, 3) := dk_180 0 71 (dk_at dksX2_comes_3 9 rfl rfl)
theorem dX2_comes_80 : decode cX2_comes 80 = .ok (.invokespecial 170, 3) := dk_183 0 170 (dk_at dksX2_comes_3 12 rfl rfl)
theorem dX2_comes_83 : decode cX2_comes 83 = .ok (.invokeinterface 53 2, 5) := by decide +kernel
theorem dX2_comes_88 : decode cX2_comes 88 = .ok (.pop, 1) := dk_87 (dk_at dksX2_comes_3 20 rfl rfl)
theorem dX2_comes_89 : decode cX2_comes 89 = .ok (.aload_n 0, 1) := dk_42 (dk_at dksX2_comes_3 21 rfl rfl)
theorem dX2_comes_90 : decode cX2_comes 90 = .ok (.getfield 18, 3) := dk_180 0 18 (dk_at dksX2_comes_4 0 rfl rfl)
theorem dX2_comes_93 : decode cX2_comes 93 = .ok (.invokeinterface 38 1, 5) := by decide +kernel
theorem dX2_comes_98 : decode cX2_comes 98 = .ok (.iconst 1, 1) := dk_4 (dk_at dksX2_comes_4 8 rfl rfl)
theorem dX2_comes_99 : decode cX2_comes 99 = .ok (.isub, 1) := dk_100 (dk_at dksX2_comes_4 9 rfl rfl)
theorem dX2_comes_100 : decode cX2_comes 100 = .ok (.ireturn, 1) := dk_172 (dk_at dksX2_comes_4 10 rfl rfl)
abbrev cX2_lowestAt : ByteArray := prog_7_method_26_code
def yX2_lowestAt : MethodName := ⟨RX2, "lowestAt", "(I)I"⟩
def dkwX2_lowestAt_1 : List UInt8 := [132, 2, 1, 167, 255, 233, 28, 172]
abbrev dktX2_lowestAt_1 : List UInt8 := dkwX2_lowestAt_1 ++ []
def dkwX2_lowestAt_0 : List UInt8 := [3, 61, 42, 180, 0, 18, 28, 185, 0, 46, 2, 0, 192, 0, 57, 27, 182, 0, 100, 154, 0, 9]
abbrev dktX2_lowestAt_0 : List UInt8 := dkwX2_lowestAt_0 ++ dktX2_lowestAt_1
theorem dksX2_lowestAt_0 : cX2_lowestAt.data.toList.drop 0 = dktX2_lowestAt_0 := by decide +kernel
theorem dksX2_lowestAt_1 : cX2_lowestAt.data.toList.drop 22 = dktX2_lowestAt_1 := dk_seg dksX2_lowestAt_0 22 rfl rfl
theorem dX2_lowestAt_0 : decode cX2_lowestAt 0 = .ok (.iconst 0, 1) := dk_3 (dk_at dksX2_lowestAt_0 0 rfl rfl)
theorem dX2_lowestAt_1 : decode cX2_lowestAt 1 = .ok (.istore_n 2, 1) := dk_61 (dk_at dksX2_lowestAt_0 1 rfl rfl)
theorem dX2_lowestAt_2 : decode cX2_lowestAt 2 = .ok (.aload_n 0, 1) := dk_42 (dk_at dksX2_lowestAt_0 2 rfl rfl)
theorem dX2_lowestAt_3 : decode cX2_lowestAt 3 = .ok (.getfield 18, 3) := dk_180 0 18 (dk_at dksX2_lowestAt_0 3 rfl rfl)
theorem dX2_lowestAt_6 : decode cX2_lowestAt 6 = .ok (.iload_n 2, 1) := dk_28 (dk_at dksX2_lowestAt_0 6 rfl rfl)
theorem dX2_lowestAt_7 : decode cX2_lowestAt 7 = .ok (.invokeinterface 46 2, 5) := by decide +kernel
theorem dX2_lowestAt_12 : decode cX2_lowestAt 12 = .ok (.checkcast 57, 3) := dk_192 0 57 (dk_at dksX2_lowestAt_0 12 rfl rfl)
theorem dX2_lowestAt_15 : decode cX2_lowestAt 15 = .ok (.iload_n 1, 1) := dk_27 (dk_at dksX2_lowestAt_0 15 rfl rfl)
theorem dX2_lowestAt_16 : decode cX2_lowestAt 16 = .ok (.invokevirtual 100, 3) := dk_182 0 100 (dk_at dksX2_lowestAt_0 16 rfl rfl)
theorem dX2_lowestAt_19 : decode cX2_lowestAt 19 = .ok (.ifCond .ne 9, 3) := dk_154 0 9 (dk_at dksX2_lowestAt_0 19 rfl rfl)
theorem dX2_lowestAt_22 : decode cX2_lowestAt 22 = .ok (.iinc 2 1, 3) := dk_132 2 1 (dk_at dksX2_lowestAt_1 0 rfl rfl)
theorem dX2_lowestAt_25 : decode cX2_lowestAt 25 = .ok (.goto (-23), 3) := dk_167 255 233 (dk_at dksX2_lowestAt_1 3 rfl rfl)
theorem dX2_lowestAt_28 : decode cX2_lowestAt 28 = .ok (.iload_n 2, 1) := dk_28 (dk_at dksX2_lowestAt_1 6 rfl rfl)
theorem dX2_lowestAt_29 : decode cX2_lowestAt 29 = .ok (.ireturn, 1) := dk_172 (dk_at dksX2_lowestAt_1 7 rfl rfl)
abbrev cX2_helps : ByteArray := prog_7_method_28_code
def yX2_helps : MethodName := ⟨RX2, "helps", "(II)I"⟩
def dkwX2_helps_3 : List UInt8 := [180, 0, 21, 185, 0, 38, 1, 0, 4, 100, 172]
abbrev dktX2_helps_3 : List UInt8 := dkwX2_helps_3 ++ []
def dkwX2_helps_2 : List UInt8 := [184, 0, 202, 42, 180, 0, 21, 187, 0, 62, 89, 27, 28, 183, 0, 221, 185, 0, 53, 2, 0, 87, 42]
abbrev dktX2_helps_2 : List UInt8 := dkwX2_helps_2 ++ dktX2_helps_3
def dkwX2_helps_1 : List UInt8 := [28, 184, 0, 202, 42, 180, 0, 21, 185, 0, 38, 1, 0, 8, 162, 0, 7, 4, 167, 0, 4, 3, 4, 8]
abbrev dktX2_helps_1 : List UInt8 := dkwX2_helps_1 ++ dktX2_helps_2
def dkwX2_helps_0 : List UInt8 := [42, 27, 182, 0, 211, 78, 42, 28, 182, 0, 211, 58, 4, 27, 28, 163, 0, 7, 4, 167, 0, 4, 3, 6]
abbrev dktX2_helps_0 : List UInt8 := dkwX2_helps_0 ++ dktX2_helps_1
theorem dksX2_helps_0 : cX2_helps.data.toList.drop 0 = dktX2_helps_0 := by decide +kernel
theorem dksX2_helps_1 : cX2_helps.data.toList.drop 24 = dktX2_helps_1 := dk_seg dksX2_helps_0 24 rfl rfl
theorem dksX2_helps_2 : cX2_helps.data.toList.drop 48 = dktX2_helps_2 := dk_seg dksX2_helps_1 24 rfl rfl
theorem dksX2_helps_3 : cX2_helps.data.toList.drop 71 = dktX2_helps_3 := dk_seg dksX2_helps_2 23 rfl rfl
theorem dX2_helps_0 : decode cX2_helps 0 = .ok (.aload_n 0, 1) := dk_42 (dk_at dksX2_helps_0 0 rfl rfl)
theorem dX2_helps_1 : decode cX2_helps 1 = .ok (.iload_n 1, 1) := dk_27 (dk_at dksX2_helps_0 1 rfl rfl)
theorem dX2_helps_2 : decode cX2_helps 2 = .ok (.invokevirtual 211, 3) := dk_182 0 211 (dk_at dksX2_helps_0 2 rfl rfl)
theorem dX2_helps_5 : decode cX2_helps 5 = .ok (.astore_n 3, 1) := dk_78 (dk_at dksX2_helps_0 5 rfl rfl)
theorem dX2_helps_6 : decode cX2_helps 6 = .ok (.aload_n 0, 1) := dk_42 (dk_at dksX2_helps_0 6 rfl rfl)
theorem dX2_helps_7 : decode cX2_helps 7 = .ok (.iload_n 2, 1) := dk_28 (dk_at dksX2_helps_0 7 rfl rfl)
theorem dX2_helps_8 : decode cX2_helps 8 = .ok (.invokevirtual 211, 3) := dk_182 0 211 (dk_at dksX2_helps_0 8 rfl rfl)
theorem dX2_helps_11 : decode cX2_helps 11 = .ok (.astore 4, 2) := dk_58 4 (dk_at dksX2_helps_0 11 rfl rfl)
theorem dX2_helps_13 : decode cX2_helps 13 = .ok (.iload_n 1, 1) := dk_27 (dk_at dksX2_helps_0 13 rfl rfl)
theorem dX2_helps_14 : decode cX2_helps 14 = .ok (.iload_n 2, 1) := dk_28 (dk_at dksX2_helps_0 14 rfl rfl)
theorem dX2_helps_15 : decode cX2_helps 15 = .ok (.if_icmp .gt 7, 3) := dk_163 0 7 (dk_at dksX2_helps_0 15 rfl rfl)
theorem dX2_helps_18 : decode cX2_helps 18 = .ok (.iconst 1, 1) := dk_4 (dk_at dksX2_helps_0 18 rfl rfl)
theorem dX2_helps_19 : decode cX2_helps 19 = .ok (.goto 4, 3) := dk_167 0 4 (dk_at dksX2_helps_0 19 rfl rfl)
theorem dX2_helps_22 : decode cX2_helps 22 = .ok (.iconst 0, 1) := dk_3 (dk_at dksX2_helps_0 22 rfl rfl)
theorem dX2_helps_23 : decode cX2_helps 23 = .ok (.iconst 3, 1) := dk_6 (dk_at dksX2_helps_0 23 rfl rfl)
theorem dX2_helps_24 : decode cX2_helps 24 = .ok (.iload_n 2, 1) := dk_28 (dk_at dksX2_helps_1 0 rfl rfl)
theorem dX2_helps_25 : decode cX2_helps 25 = .ok (.invokestatic 202, 3) := dk_184 0 202 (dk_at dksX2_helps_1 1 rfl rfl)
theorem dX2_helps_28 : decode cX2_helps 28 = .ok (.aload_n 0, 1) := dk_42 (dk_at dksX2_helps_1 4 rfl rfl)
theorem dX2_helps_29 : decode cX2_helps 29 = .ok (.getfield 21, 3) := dk_180 0 21 (dk_at dksX2_helps_1 5 rfl rfl)
theorem dX2_helps_32 : decode cX2_helps 32 = .ok (.invokeinterface 38 1, 5) := by decide +kernel
theorem dX2_helps_37 : decode cX2_helps 37 = .ok (.iconst 5, 1) := dk_8 (dk_at dksX2_helps_1 13 rfl rfl)
theorem dX2_helps_38 : decode cX2_helps 38 = .ok (.if_icmp .ge 7, 3) := dk_162 0 7 (dk_at dksX2_helps_1 14 rfl rfl)
theorem dX2_helps_41 : decode cX2_helps 41 = .ok (.iconst 1, 1) := dk_4 (dk_at dksX2_helps_1 17 rfl rfl)
theorem dX2_helps_42 : decode cX2_helps 42 = .ok (.goto 4, 3) := dk_167 0 4 (dk_at dksX2_helps_1 18 rfl rfl)
theorem dX2_helps_45 : decode cX2_helps 45 = .ok (.iconst 0, 1) := dk_3 (dk_at dksX2_helps_1 21 rfl rfl)
theorem dX2_helps_46 : decode cX2_helps 46 = .ok (.iconst 1, 1) := dk_4 (dk_at dksX2_helps_1 22 rfl rfl)
theorem dX2_helps_47 : decode cX2_helps 47 = .ok (.iconst 5, 1) := dk_8 (dk_at dksX2_helps_1 23 rfl rfl)
theorem dX2_helps_48 : decode cX2_helps 48 = .ok (.invokestatic 202, 3) := dk_184 0 202 (dk_at dksX2_helps_2 0 rfl rfl)
theorem dX2_helps_51 : decode cX2_helps 51 = .ok (.aload_n 0, 1) := dk_42 (dk_at dksX2_helps_2 3 rfl rfl)
theorem dX2_helps_52 : decode cX2_helps 52 = .ok (.getfield 21, 3) := dk_180 0 21 (dk_at dksX2_helps_2 4 rfl rfl)
theorem dX2_helps_55 : decode cX2_helps 55 = .ok (.new 62, 3) := dk_187 0 62 (dk_at dksX2_helps_2 7 rfl rfl)
theorem dX2_helps_58 : decode cX2_helps 58 = .ok (.dup, 1) := dk_89 (dk_at dksX2_helps_2 10 rfl rfl)
theorem dX2_helps_59 : decode cX2_helps 59 = .ok (.iload_n 1, 1) := dk_27 (dk_at dksX2_helps_2 11 rfl rfl)
theorem dX2_helps_60 : decode cX2_helps 60 = .ok (.iload_n 2, 1) := dk_28 (dk_at dksX2_helps_2 12 rfl rfl)
theorem dX2_helps_61 : decode cX2_helps 61 = .ok (.invokespecial 221, 3) := dk_183 0 221 (dk_at dksX2_helps_2 13 rfl rfl)
theorem dX2_helps_64 : decode cX2_helps 64 = .ok (.invokeinterface 53 2, 5) := by decide +kernel
theorem dX2_helps_69 : decode cX2_helps 69 = .ok (.pop, 1) := dk_87 (dk_at dksX2_helps_2 21 rfl rfl)
theorem dX2_helps_70 : decode cX2_helps 70 = .ok (.aload_n 0, 1) := dk_42 (dk_at dksX2_helps_2 22 rfl rfl)
theorem dX2_helps_71 : decode cX2_helps 71 = .ok (.getfield 21, 3) := dk_180 0 21 (dk_at dksX2_helps_3 0 rfl rfl)
theorem dX2_helps_74 : decode cX2_helps 74 = .ok (.invokeinterface 38 1, 5) := by decide +kernel
theorem dX2_helps_79 : decode cX2_helps 79 = .ok (.iconst 1, 1) := dk_4 (dk_at dksX2_helps_3 8 rfl rfl)
theorem dX2_helps_80 : decode cX2_helps 80 = .ok (.isub, 1) := dk_100 (dk_at dksX2_helps_3 9 rfl rfl)
theorem dX2_helps_81 : decode cX2_helps 81 = .ok (.ireturn, 1) := dk_172 (dk_at dksX2_helps_3 10 rfl rfl)
abbrev cX2_unseen : ByteArray := prog_7_method_36_code
def yX2_unseen : MethodName := ⟨RX2, "unseen", "()I"⟩
def dkwX2_unseen_5 : List UInt8 := [132, 2, 1, 167, 255, 143, 27, 172]
abbrev dktX2_unseen_5 : List UInt8 := dkwX2_unseen_5 ++ []
def dkwX2_unseen_4 : List UInt8 := [21, 4, 153, 0, 18, 42, 180, 0, 27, 28, 182, 0, 246, 154, 0, 7, 4, 167, 0, 4, 3, 96, 60]
abbrev dktX2_unseen_4 : List UInt8 := dkwX2_unseen_4 ++ dktX2_unseen_5
def dkwX2_unseen_3 : List UInt8 := [45, 180, 0, 133, 182, 0, 244, 128, 54, 4, 132, 5, 1, 167, 255, 213, 27, 45, 180, 0, 104, 154, 0, 23]
abbrev dktX2_unseen_3 : List UInt8 := dkwX2_unseen_3 ++ dktX2_unseen_4
def dkwX2_unseen_2 : List UInt8 := [185, 0, 38, 1, 0, 162, 0, 35, 21, 4, 42, 180, 0, 21, 21, 5, 185, 0, 46, 2, 0, 192, 0, 62]
abbrev dktX2_unseen_2 : List UInt8 := dkwX2_unseen_2 ++ dktX2_unseen_3
def dkwX2_unseen_1 : List UInt8 := [185, 0, 46, 2, 0, 192, 0, 57, 78, 3, 54, 4, 3, 54, 5, 21, 5, 42, 180, 0, 21]
abbrev dktX2_unseen_1 : List UInt8 := dkwX2_unseen_1 ++ dktX2_unseen_2
def dkwX2_unseen_0 : List UInt8 := [3, 60, 3, 61, 28, 42, 180, 0, 18, 185, 0, 38, 1, 0, 162, 0, 106, 42, 180, 0, 18, 28]
abbrev dktX2_unseen_0 : List UInt8 := dkwX2_unseen_0 ++ dktX2_unseen_1
theorem dksX2_unseen_0 : cX2_unseen.data.toList.drop 0 = dktX2_unseen_0 := by decide +kernel
theorem dksX2_unseen_1 : cX2_unseen.data.toList.drop 22 = dktX2_unseen_1 := dk_seg dksX2_unseen_0 22 rfl rfl
theorem dksX2_unseen_2 : cX2_unseen.data.toList.drop 43 = dktX2_unseen_2 := dk_seg dksX2_unseen_1 21 rfl rfl
theorem dksX2_unseen_3 : cX2_unseen.data.toList.drop 67 = dktX2_unseen_3 := dk_seg dksX2_unseen_2 24 rfl rfl
theorem dksX2_unseen_4 : cX2_unseen.data.toList.drop 91 = dktX2_unseen_4 := dk_seg dksX2_unseen_3 24 rfl rfl
theorem dksX2_unseen_5 : cX2_unseen.data.toList.drop 114 = dktX2_unseen_5 := dk_seg dksX2_unseen_4 23 rfl rfl
theorem dX2_unseen_0 : decode cX2_unseen 0 = .ok (.iconst 0, 1) := dk_3 (dk_at dksX2_unseen_0 0 rfl rfl)
theorem dX2_unseen_1 : decode cX2_unseen 1 = .ok (.istore_n 1, 1) := dk_60 (dk_at dksX2_unseen_0 1 rfl rfl)
theorem dX2_unseen_2 : decode cX2_unseen 2 = .ok (.iconst 0, 1) := dk_3 (dk_at dksX2_unseen_0 2 rfl rfl)
theorem dX2_unseen_3 : decode cX2_unseen 3 = .ok (.istore_n 2, 1) := dk_61 (dk_at dksX2_unseen_0 3 rfl rfl)
theorem dX2_unseen_4 : decode cX2_unseen 4 = .ok (.iload_n 2, 1) := dk_28 (dk_at dksX2_unseen_0 4 rfl rfl)
theorem dX2_unseen_5 : decode cX2_unseen 5 = .ok (.aload_n 0, 1) := dk_42 (dk_at dksX2_unseen_0 5 rfl rfl)
theorem dX2_unseen_6 : decode cX2_unseen 6 = .ok (.getfield 18, 3) := dk_180 0 18 (dk_at dksX2_unseen_0 6 rfl rfl)
theorem dX2_unseen_9 : decode cX2_unseen 9 = .ok (.invokeinterface 38 1, 5) := by decide +kernel
theorem dX2_unseen_14 : decode cX2_unseen 14 = .ok (.if_icmp .ge 106, 3) := dk_162 0 106 (dk_at dksX2_unseen_0 14 rfl rfl)
theorem dX2_unseen_17 : decode cX2_unseen 17 = .ok (.aload_n 0, 1) := dk_42 (dk_at dksX2_unseen_0 17 rfl rfl)
theorem dX2_unseen_18 : decode cX2_unseen 18 = .ok (.getfield 18, 3) := dk_180 0 18 (dk_at dksX2_unseen_0 18 rfl rfl)
theorem dX2_unseen_21 : decode cX2_unseen 21 = .ok (.iload_n 2, 1) := dk_28 (dk_at dksX2_unseen_0 21 rfl rfl)
theorem dX2_unseen_22 : decode cX2_unseen 22 = .ok (.invokeinterface 46 2, 5) := by decide +kernel
theorem dX2_unseen_27 : decode cX2_unseen 27 = .ok (.checkcast 57, 3) := dk_192 0 57 (dk_at dksX2_unseen_1 5 rfl rfl)
theorem dX2_unseen_30 : decode cX2_unseen 30 = .ok (.astore_n 3, 1) := dk_78 (dk_at dksX2_unseen_1 8 rfl rfl)
theorem dX2_unseen_31 : decode cX2_unseen 31 = .ok (.iconst 0, 1) := dk_3 (dk_at dksX2_unseen_1 9 rfl rfl)
theorem dX2_unseen_32 : decode cX2_unseen 32 = .ok (.istore 4, 2) := dk_54 4 (dk_at dksX2_unseen_1 10 rfl rfl)
theorem dX2_unseen_34 : decode cX2_unseen 34 = .ok (.iconst 0, 1) := dk_3 (dk_at dksX2_unseen_1 12 rfl rfl)
theorem dX2_unseen_35 : decode cX2_unseen 35 = .ok (.istore 5, 2) := dk_54 5 (dk_at dksX2_unseen_1 13 rfl rfl)
theorem dX2_unseen_37 : decode cX2_unseen 37 = .ok (.iload 5, 2) := dk_21 5 (dk_at dksX2_unseen_1 15 rfl rfl)
theorem dX2_unseen_39 : decode cX2_unseen 39 = .ok (.aload_n 0, 1) := dk_42 (dk_at dksX2_unseen_1 17 rfl rfl)
theorem dX2_unseen_40 : decode cX2_unseen 40 = .ok (.getfield 21, 3) := dk_180 0 21 (dk_at dksX2_unseen_1 18 rfl rfl)
theorem dX2_unseen_43 : decode cX2_unseen 43 = .ok (.invokeinterface 38 1, 5) := by decide +kernel
theorem dX2_unseen_48 : decode cX2_unseen 48 = .ok (.if_icmp .ge 35, 3) := dk_162 0 35 (dk_at dksX2_unseen_2 5 rfl rfl)
theorem dX2_unseen_51 : decode cX2_unseen 51 = .ok (.iload 4, 2) := dk_21 4 (dk_at dksX2_unseen_2 8 rfl rfl)
theorem dX2_unseen_53 : decode cX2_unseen 53 = .ok (.aload_n 0, 1) := dk_42 (dk_at dksX2_unseen_2 10 rfl rfl)
theorem dX2_unseen_54 : decode cX2_unseen 54 = .ok (.getfield 21, 3) := dk_180 0 21 (dk_at dksX2_unseen_2 11 rfl rfl)
theorem dX2_unseen_57 : decode cX2_unseen 57 = .ok (.iload 5, 2) := dk_21 5 (dk_at dksX2_unseen_2 14 rfl rfl)
theorem dX2_unseen_59 : decode cX2_unseen 59 = .ok (.invokeinterface 46 2, 5) := by decide +kernel
theorem dX2_unseen_64 : decode cX2_unseen 64 = .ok (.checkcast 62, 3) := dk_192 0 62 (dk_at dksX2_unseen_2 21 rfl rfl)
theorem dX2_unseen_67 : decode cX2_unseen 67 = .ok (.aload_n 3, 1) := dk_45 (dk_at dksX2_unseen_3 0 rfl rfl)
theorem dX2_unseen_68 : decode cX2_unseen 68 = .ok (.getfield 133, 3) := dk_180 0 133 (dk_at dksX2_unseen_3 1 rfl rfl)
theorem dX2_unseen_71 : decode cX2_unseen 71 = .ok (.invokevirtual 244, 3) := dk_182 0 244 (dk_at dksX2_unseen_3 4 rfl rfl)
theorem dX2_unseen_74 : decode cX2_unseen 74 = .ok (.ior, 1) := dk_128 (dk_at dksX2_unseen_3 7 rfl rfl)
theorem dX2_unseen_75 : decode cX2_unseen 75 = .ok (.istore 4, 2) := dk_54 4 (dk_at dksX2_unseen_3 8 rfl rfl)
theorem dX2_unseen_77 : decode cX2_unseen 77 = .ok (.iinc 5 1, 3) := dk_132 5 1 (dk_at dksX2_unseen_3 10 rfl rfl)
theorem dX2_unseen_80 : decode cX2_unseen 80 = .ok (.goto (-43), 3) := dk_167 255 213 (dk_at dksX2_unseen_3 13 rfl rfl)
theorem dX2_unseen_83 : decode cX2_unseen 83 = .ok (.iload_n 1, 1) := dk_27 (dk_at dksX2_unseen_3 16 rfl rfl)
theorem dX2_unseen_84 : decode cX2_unseen 84 = .ok (.aload_n 3, 1) := dk_45 (dk_at dksX2_unseen_3 17 rfl rfl)
theorem dX2_unseen_85 : decode cX2_unseen 85 = .ok (.getfield 104, 3) := dk_180 0 104 (dk_at dksX2_unseen_3 18 rfl rfl)
theorem dX2_unseen_88 : decode cX2_unseen 88 = .ok (.ifCond .ne 23, 3) := dk_154 0 23 (dk_at dksX2_unseen_3 21 rfl rfl)
theorem dX2_unseen_91 : decode cX2_unseen 91 = .ok (.iload 4, 2) := dk_21 4 (dk_at dksX2_unseen_4 0 rfl rfl)
theorem dX2_unseen_93 : decode cX2_unseen 93 = .ok (.ifCond .eq 18, 3) := dk_153 0 18 (dk_at dksX2_unseen_4 2 rfl rfl)
theorem dX2_unseen_96 : decode cX2_unseen 96 = .ok (.aload_n 0, 1) := dk_42 (dk_at dksX2_unseen_4 5 rfl rfl)
theorem dX2_unseen_97 : decode cX2_unseen 97 = .ok (.getfield 27, 3) := dk_180 0 27 (dk_at dksX2_unseen_4 6 rfl rfl)
theorem dX2_unseen_100 : decode cX2_unseen 100 = .ok (.iload_n 2, 1) := dk_28 (dk_at dksX2_unseen_4 9 rfl rfl)
theorem dX2_unseen_101 : decode cX2_unseen 101 = .ok (.invokevirtual 246, 3) := dk_182 0 246 (dk_at dksX2_unseen_4 10 rfl rfl)
theorem dX2_unseen_104 : decode cX2_unseen 104 = .ok (.ifCond .ne 7, 3) := dk_154 0 7 (dk_at dksX2_unseen_4 13 rfl rfl)
theorem dX2_unseen_107 : decode cX2_unseen 107 = .ok (.iconst 1, 1) := dk_4 (dk_at dksX2_unseen_4 16 rfl rfl)
theorem dX2_unseen_108 : decode cX2_unseen 108 = .ok (.goto 4, 3) := dk_167 0 4 (dk_at dksX2_unseen_4 17 rfl rfl)
theorem dX2_unseen_111 : decode cX2_unseen 111 = .ok (.iconst 0, 1) := dk_3 (dk_at dksX2_unseen_4 20 rfl rfl)
theorem dX2_unseen_112 : decode cX2_unseen 112 = .ok (.iadd, 1) := dk_96 (dk_at dksX2_unseen_4 21 rfl rfl)
theorem dX2_unseen_113 : decode cX2_unseen 113 = .ok (.istore_n 1, 1) := dk_60 (dk_at dksX2_unseen_4 22 rfl rfl)
theorem dX2_unseen_114 : decode cX2_unseen 114 = .ok (.iinc 2 1, 3) := dk_132 2 1 (dk_at dksX2_unseen_5 0 rfl rfl)
theorem dX2_unseen_117 : decode cX2_unseen 117 = .ok (.goto (-113), 3) := dk_167 255 143 (dk_at dksX2_unseen_5 3 rfl rfl)
theorem dX2_unseen_120 : decode cX2_unseen 120 = .ok (.iload_n 1, 1) := dk_27 (dk_at dksX2_unseen_5 6 rfl rfl)
theorem dX2_unseen_121 : decode cX2_unseen 121 = .ok (.ireturn, 1) := dk_172 (dk_at dksX2_unseen_5 7 rfl rfl)
abbrev cX2_refugeAgain : ByteArray := prog_7_method_11_code
def yX2_refugeAgain : MethodName := ⟨RX2, "refugeAgain", "(I)I"⟩
def dkwX2_refugeAgain_0 : List UInt8 := [42, 27, 3, 182, 0, 130, 61, 28, 2, 160, 0, 12, 42, 27, 4, 182, 0, 130, 167, 0, 4, 28, 172]
abbrev dktX2_refugeAgain_0 : List UInt8 := dkwX2_refugeAgain_0 ++ []
theorem dksX2_refugeAgain_0 : cX2_refugeAgain.data.toList.drop 0 = dktX2_refugeAgain_0 := by decide +kernel
theorem dX2_refugeAgain_0 : decode cX2_refugeAgain 0 = .ok (.aload_n 0, 1) := dk_42 (dk_at dksX2_refugeAgain_0 0 rfl rfl)
theorem dX2_refugeAgain_1 : decode cX2_refugeAgain 1 = .ok (.iload_n 1, 1) := dk_27 (dk_at dksX2_refugeAgain_0 1 rfl rfl)
theorem dX2_refugeAgain_2 : decode cX2_refugeAgain 2 = .ok (.iconst 0, 1) := dk_3 (dk_at dksX2_refugeAgain_0 2 rfl rfl)
theorem dX2_refugeAgain_3 : decode cX2_refugeAgain 3 = .ok (.invokevirtual 130, 3) := dk_182 0 130 (dk_at dksX2_refugeAgain_0 3 rfl rfl)
theorem dX2_refugeAgain_6 : decode cX2_refugeAgain 6 = .ok (.istore_n 2, 1) := dk_61 (dk_at dksX2_refugeAgain_0 6 rfl rfl)
theorem dX2_refugeAgain_7 : decode cX2_refugeAgain 7 = .ok (.iload_n 2, 1) := dk_28 (dk_at dksX2_refugeAgain_0 7 rfl rfl)
theorem dX2_refugeAgain_8 : decode cX2_refugeAgain 8 = .ok (.iconst (-1), 1) := dk_2 (dk_at dksX2_refugeAgain_0 8 rfl rfl)
theorem dX2_refugeAgain_9 : decode cX2_refugeAgain 9 = .ok (.if_icmp .ne 12, 3) := dk_160 0 12 (dk_at dksX2_refugeAgain_0 9 rfl rfl)
theorem dX2_refugeAgain_12 : decode cX2_refugeAgain 12 = .ok (.aload_n 0, 1) := dk_42 (dk_at dksX2_refugeAgain_0 12 rfl rfl)
theorem dX2_refugeAgain_13 : decode cX2_refugeAgain 13 = .ok (.iload_n 1, 1) := dk_27 (dk_at dksX2_refugeAgain_0 13 rfl rfl)
theorem dX2_refugeAgain_14 : decode cX2_refugeAgain 14 = .ok (.iconst 1, 1) := dk_4 (dk_at dksX2_refugeAgain_0 14 rfl rfl)
theorem dX2_refugeAgain_15 : decode cX2_refugeAgain 15 = .ok (.invokevirtual 130, 3) := dk_182 0 130 (dk_at dksX2_refugeAgain_0 15 rfl rfl)
theorem dX2_refugeAgain_18 : decode cX2_refugeAgain 18 = .ok (.goto 4, 3) := dk_167 0 4 (dk_at dksX2_refugeAgain_0 18 rfl rfl)
theorem dX2_refugeAgain_21 : decode cX2_refugeAgain 21 = .ok (.iload_n 2, 1) := dk_28 (dk_at dksX2_refugeAgain_0 21 rfl rfl)
theorem dX2_refugeAgain_22 : decode cX2_refugeAgain 22 = .ok (.ireturn, 1) := dk_172 (dk_at dksX2_refugeAgain_0 22 rfl rfl)
abbrev cX2_widening : ByteArray := prog_7_method_10_code
def yX2_widening : MethodName := ⟨RX2, "widening", "(II)I"⟩
def dkwX2_widening_3 : List UInt8 := [2, 172]
abbrev dktX2_widening_3 : List UInt8 := dkwX2_widening_3 ++ []
def dkwX2_widening_2 : List UInt8 := [162, 0, 18, 42, 27, 29, 96, 28, 182, 0, 117, 153, 0, 7, 27, 29, 96, 172, 132, 3, 1, 167, 255, 189]
abbrev dktX2_widening_2 : List UInt8 := dkwX2_widening_2 ++ dktX2_widening_3
def dkwX2_widening_1 : List UInt8 := [100, 28, 182, 0, 117, 153, 0, 7, 27, 29, 100, 172, 27, 29, 96, 42, 180, 0, 12, 185, 0, 38, 1, 0]
abbrev dktX2_widening_1 : List UInt8 := dkwX2_widening_1 ++ dktX2_widening_2
def dkwX2_widening_0 : List UInt8 := [3, 62, 29, 42, 180, 0, 12, 185, 0, 38, 1, 0, 162, 0, 60, 27, 29, 100, 155, 0, 18, 42, 27, 29]
abbrev dktX2_widening_0 : List UInt8 := dkwX2_widening_0 ++ dktX2_widening_1
theorem dksX2_widening_0 : cX2_widening.data.toList.drop 0 = dktX2_widening_0 := by decide +kernel
theorem dksX2_widening_1 : cX2_widening.data.toList.drop 24 = dktX2_widening_1 := dk_seg dksX2_widening_0 24 rfl rfl
theorem dksX2_widening_2 : cX2_widening.data.toList.drop 48 = dktX2_widening_2 := dk_seg dksX2_widening_1 24 rfl rfl
theorem dksX2_widening_3 : cX2_widening.data.toList.drop 72 = dktX2_widening_3 := dk_seg dksX2_widening_2 24 rfl rfl
theorem dX2_widening_0 : decode cX2_widening 0 = .ok (.iconst 0, 1) := dk_3 (dk_at dksX2_widening_0 0 rfl rfl)
theorem dX2_widening_1 : decode cX2_widening 1 = .ok (.istore_n 3, 1) := dk_62 (dk_at dksX2_widening_0 1 rfl rfl)
theorem dX2_widening_2 : decode cX2_widening 2 = .ok (.iload_n 3, 1) := dk_29 (dk_at dksX2_widening_0 2 rfl rfl)
theorem dX2_widening_3 : decode cX2_widening 3 = .ok (.aload_n 0, 1) := dk_42 (dk_at dksX2_widening_0 3 rfl rfl)
theorem dX2_widening_4 : decode cX2_widening 4 = .ok (.getfield 12, 3) := dk_180 0 12 (dk_at dksX2_widening_0 4 rfl rfl)
theorem dX2_widening_7 : decode cX2_widening 7 = .ok (.invokeinterface 38 1, 5) := by decide +kernel
theorem dX2_widening_12 : decode cX2_widening 12 = .ok (.if_icmp .ge 60, 3) := dk_162 0 60 (dk_at dksX2_widening_0 12 rfl rfl)
theorem dX2_widening_15 : decode cX2_widening 15 = .ok (.iload_n 1, 1) := dk_27 (dk_at dksX2_widening_0 15 rfl rfl)
theorem dX2_widening_16 : decode cX2_widening 16 = .ok (.iload_n 3, 1) := dk_29 (dk_at dksX2_widening_0 16 rfl rfl)
theorem dX2_widening_17 : decode cX2_widening 17 = .ok (.isub, 1) := dk_100 (dk_at dksX2_widening_0 17 rfl rfl)
theorem dX2_widening_18 : decode cX2_widening 18 = .ok (.ifCond .lt 18, 3) := dk_155 0 18 (dk_at dksX2_widening_0 18 rfl rfl)
theorem dX2_widening_21 : decode cX2_widening 21 = .ok (.aload_n 0, 1) := dk_42 (dk_at dksX2_widening_0 21 rfl rfl)
theorem dX2_widening_22 : decode cX2_widening 22 = .ok (.iload_n 1, 1) := dk_27 (dk_at dksX2_widening_0 22 rfl rfl)
theorem dX2_widening_23 : decode cX2_widening 23 = .ok (.iload_n 3, 1) := dk_29 (dk_at dksX2_widening_0 23 rfl rfl)
theorem dX2_widening_24 : decode cX2_widening 24 = .ok (.isub, 1) := dk_100 (dk_at dksX2_widening_1 0 rfl rfl)
theorem dX2_widening_25 : decode cX2_widening 25 = .ok (.iload_n 2, 1) := dk_28 (dk_at dksX2_widening_1 1 rfl rfl)
theorem dX2_widening_26 : decode cX2_widening 26 = .ok (.invokevirtual 117, 3) := dk_182 0 117 (dk_at dksX2_widening_1 2 rfl rfl)
theorem dX2_widening_29 : decode cX2_widening 29 = .ok (.ifCond .eq 7, 3) := dk_153 0 7 (dk_at dksX2_widening_1 5 rfl rfl)
theorem dX2_widening_32 : decode cX2_widening 32 = .ok (.iload_n 1, 1) := dk_27 (dk_at dksX2_widening_1 8 rfl rfl)
theorem dX2_widening_33 : decode cX2_widening 33 = .ok (.iload_n 3, 1) := dk_29 (dk_at dksX2_widening_1 9 rfl rfl)
theorem dX2_widening_34 : decode cX2_widening 34 = .ok (.isub, 1) := dk_100 (dk_at dksX2_widening_1 10 rfl rfl)
theorem dX2_widening_35 : decode cX2_widening 35 = .ok (.ireturn, 1) := dk_172 (dk_at dksX2_widening_1 11 rfl rfl)
theorem dX2_widening_36 : decode cX2_widening 36 = .ok (.iload_n 1, 1) := dk_27 (dk_at dksX2_widening_1 12 rfl rfl)
theorem dX2_widening_37 : decode cX2_widening 37 = .ok (.iload_n 3, 1) := dk_29 (dk_at dksX2_widening_1 13 rfl rfl)
theorem dX2_widening_38 : decode cX2_widening 38 = .ok (.iadd, 1) := dk_96 (dk_at dksX2_widening_1 14 rfl rfl)
theorem dX2_widening_39 : decode cX2_widening 39 = .ok (.aload_n 0, 1) := dk_42 (dk_at dksX2_widening_1 15 rfl rfl)
theorem dX2_widening_40 : decode cX2_widening 40 = .ok (.getfield 12, 3) := dk_180 0 12 (dk_at dksX2_widening_1 16 rfl rfl)
theorem dX2_widening_43 : decode cX2_widening 43 = .ok (.invokeinterface 38 1, 5) := by decide +kernel
theorem dX2_widening_48 : decode cX2_widening 48 = .ok (.if_icmp .ge 18, 3) := dk_162 0 18 (dk_at dksX2_widening_2 0 rfl rfl)
theorem dX2_widening_51 : decode cX2_widening 51 = .ok (.aload_n 0, 1) := dk_42 (dk_at dksX2_widening_2 3 rfl rfl)
theorem dX2_widening_52 : decode cX2_widening 52 = .ok (.iload_n 1, 1) := dk_27 (dk_at dksX2_widening_2 4 rfl rfl)
theorem dX2_widening_53 : decode cX2_widening 53 = .ok (.iload_n 3, 1) := dk_29 (dk_at dksX2_widening_2 5 rfl rfl)
theorem dX2_widening_54 : decode cX2_widening 54 = .ok (.iadd, 1) := dk_96 (dk_at dksX2_widening_2 6 rfl rfl)
theorem dX2_widening_55 : decode cX2_widening 55 = .ok (.iload_n 2, 1) := dk_28 (dk_at dksX2_widening_2 7 rfl rfl)
theorem dX2_widening_56 : decode cX2_widening 56 = .ok (.invokevirtual 117, 3) := dk_182 0 117 (dk_at dksX2_widening_2 8 rfl rfl)
theorem dX2_widening_59 : decode cX2_widening 59 = .ok (.ifCond .eq 7, 3) := dk_153 0 7 (dk_at dksX2_widening_2 11 rfl rfl)
theorem dX2_widening_62 : decode cX2_widening 62 = .ok (.iload_n 1, 1) := dk_27 (dk_at dksX2_widening_2 14 rfl rfl)
theorem dX2_widening_63 : decode cX2_widening 63 = .ok (.iload_n 3, 1) := dk_29 (dk_at dksX2_widening_2 15 rfl rfl)
theorem dX2_widening_64 : decode cX2_widening 64 = .ok (.iadd, 1) := dk_96 (dk_at dksX2_widening_2 16 rfl rfl)
theorem dX2_widening_65 : decode cX2_widening 65 = .ok (.ireturn, 1) := dk_172 (dk_at dksX2_widening_2 17 rfl rfl)
theorem dX2_widening_66 : decode cX2_widening 66 = .ok (.iinc 3 1, 3) := dk_132 3 1 (dk_at dksX2_widening_2 18 rfl rfl)
theorem dX2_widening_69 : decode cX2_widening 69 = .ok (.goto (-67), 3) := dk_167 255 189 (dk_at dksX2_widening_2 21 rfl rfl)
theorem dX2_widening_72 : decode cX2_widening 72 = .ok (.iconst (-1), 1) := dk_2 (dk_at dksX2_widening_3 0 rfl rfl)
theorem dX2_widening_73 : decode cX2_widening 73 = .ok (.ireturn, 1) := dk_172 (dk_at dksX2_widening_3 1 rfl rfl)
theorem q92 : (Jvm.Cond.initialized "OtterTrust$River") ∈ lw_all := lw_g (lw_at lw_m1 2 rfl) rfl
theorem q150 : (Jvm.Cond.instantiable "OtterTrust$River" (12 : Nat)) ∈ lw_all := lw_g (lw_at lw_m1 60 rfl) rfl
theorem q152 : (Jvm.Cond.instanceMethod ({ cls := "OtterTrust$River", name := "<init>", desc := "()V" } : Jvm.MethodName)) ∈ lw_all := lw_g (lw_at lw_m1 62 rfl) rfl
theorem q153 : (Jvm.Cond.code ({ cls := "OtterTrust$River", name := "<init>", desc := "()V" } : Jvm.MethodName) prog_7_method_1_code (1 : Nat) (Option.none : Option Jvm.ClassFile.FieldType)) ∈ lw_all := lw_g (lw_at lw_m1 63 rfl) rfl
theorem q154 : (Jvm.Cond.methodLink "OtterTrust$River" (3 : Nat) ({ cls := "java/lang/Object", name := "<init>", desc := "()V" } : Jvm.MethodName)) ∈ lw_all := lw_g (lw_at lw_m1 64 rfl) rfl
theorem q155 : (Jvm.Cond.classLink "OtterTrust$River" (9 : Nat) "java/util/ArrayList") ∈ lw_all := lw_g (lw_at lw_m1 65 rfl) rfl
theorem q157 : (Jvm.Cond.methodLink "OtterTrust$River" (11 : Nat) ({ cls := "java/util/ArrayList", name := "<init>", desc := "()V" } : Jvm.MethodName)) ∈ lw_all := lw_g (lw_at lw_m1 67 rfl) rfl
theorem q183 : (Jvm.Cond.classLink "OtterTrust$River" (24 : Nat) "java/util/BitSet") ∈ lw_all := lw_g (lw_at lw_m1 93 rfl) rfl
theorem q185 : (Jvm.Cond.methodLink "OtterTrust$River" (26 : Nat) ({ cls := "java/util/BitSet", name := "<init>", desc := "()V" } : Jvm.MethodName)) ∈ lw_all := lw_g (lw_at lw_m1 95 rfl) rfl
theorem q207 : (Jvm.Cond.fieldLink "OtterTrust$River" (12 : Nat) "OtterTrust$River" "reaches" "Ljava/util/List;") ∈ lw_all := lw_g (lw_at lw_m1 117 rfl) rfl
theorem q209 : (Jvm.Cond.fieldLink "OtterTrust$River" (18 : Nat) "OtterTrust$River" "otters" "Ljava/util/List;") ∈ lw_all := lw_g (lw_at lw_m1 119 rfl) rfl
theorem q211 : (Jvm.Cond.fieldLink "OtterTrust$River" (21 : Nat) "OtterTrust$River" "volunteers" "Ljava/util/List;") ∈ lw_all := lw_g (lw_at lw_m1 121 rfl) rfl
theorem q213 : (Jvm.Cond.fieldLink "OtterTrust$River" (27 : Nat) "OtterTrust$River" "marks" "Ljava/util/BitSet;") ∈ lw_all := lw_g (lw_at lw_m1 123 rfl) rfl
theorem q215 : (Jvm.Cond.fieldLink "OtterTrust$River" (31 : Nat) "OtterTrust$River" "level" "I") ∈ lw_all := lw_g (lw_at lw_m1 125 rfl) rfl
theorem q217 : (Jvm.Cond.fieldLink "OtterTrust$River" (35 : Nat) "OtterTrust$River" "coins" "I") ∈ lw_all := lw_g (lw_at lw_m1 127 rfl) rfl
theorem q219 : (Jvm.Cond.fieldLink "OtterTrust$River" (71 : Nat) "OtterTrust$River" "nights" "I") ∈ lw_all := lw_g (lw_at lw_m1 129 rfl) rfl
theorem q221 : (Jvm.Cond.fieldLink "OtterTrust$River" (74 : Nat) "OtterTrust$River" "born" "I") ∈ lw_all := lw_g (lw_at lw_m1 131 rfl) rfl
theorem q223 : (Jvm.Cond.fieldLink "OtterTrust$River" (77 : Nat) "OtterTrust$River" "lost" "I") ∈ lw_all := lw_g (lw_at lw_m1 133 rfl) rfl
theorem q225 : (Jvm.Cond.fieldLink "OtterTrust$River" (80 : Nat) "OtterTrust$River" "left" "I") ∈ lw_all := lw_g (lw_at lw_m1 135 rfl) rfl
theorem q227 : (Jvm.Cond.fieldLink "OtterTrust$River" (83 : Nat) "OtterTrust$River" "counted" "I") ∈ lw_all := lw_g (lw_at lw_m1 137 rfl) rfl
theorem q229 : (Jvm.Cond.fieldLink "OtterTrust$River" (86 : Nat) "OtterTrust$River" "washed" "I") ∈ lw_all := lw_g (lw_at lw_m1 139 rfl) rfl
theorem q231 : (Jvm.Cond.laysFinal "OtterTrust$River" "OtterTrust$River" "reaches" "Ljava/util/List;") ∈ lw_all := lw_g (lw_at lw_m1 141 rfl) rfl
theorem q232 : (Jvm.Cond.soleField "OtterTrust$River" "reaches") ∈ lw_all := lw_g (lw_at lw_m1 142 rfl) rfl
theorem q233 : (Jvm.Cond.laysFinal "OtterTrust$River" "OtterTrust$River" "otters" "Ljava/util/List;") ∈ lw_all := lw_g (lw_at lw_m1 143 rfl) rfl
theorem q234 : (Jvm.Cond.soleField "OtterTrust$River" "otters") ∈ lw_all := lw_g (lw_at lw_m1 144 rfl) rfl
theorem q235 : (Jvm.Cond.laysFinal "OtterTrust$River" "OtterTrust$River" "volunteers" "Ljava/util/List;") ∈ lw_all := lw_g (lw_at lw_m1 145 rfl) rfl
theorem q236 : (Jvm.Cond.soleField "OtterTrust$River" "volunteers") ∈ lw_all := lw_g (lw_at lw_m1 146 rfl) rfl
theorem q237 : (Jvm.Cond.laysFinal "OtterTrust$River" "OtterTrust$River" "marks" "Ljava/util/BitSet;") ∈ lw_all := lw_g (lw_at lw_m1 147 rfl) rfl
theorem q238 : (Jvm.Cond.soleField "OtterTrust$River" "marks") ∈ lw_all := lw_g (lw_at lw_m1 148 rfl) rfl
theorem q239 : (Jvm.Cond.lays "OtterTrust$River" "OtterTrust$River" "level" "I") ∈ lw_all := lw_g (lw_at lw_m1 149 rfl) rfl
theorem q240 : (Jvm.Cond.soleField "OtterTrust$River" "level") ∈ lw_all := lw_g (lw_at lw_m1 150 rfl) rfl
theorem q241 : (Jvm.Cond.lays "OtterTrust$River" "OtterTrust$River" "coins" "I") ∈ lw_all := lw_g (lw_at lw_m1 151 rfl) rfl
theorem q242 : (Jvm.Cond.soleField "OtterTrust$River" "coins") ∈ lw_all := lw_g (lw_at lw_m1 152 rfl) rfl
theorem q243 : (Jvm.Cond.lays "OtterTrust$River" "OtterTrust$River" "nights" "I") ∈ lw_all := lw_g (lw_at lw_m1 153 rfl) rfl
theorem q244 : (Jvm.Cond.soleField "OtterTrust$River" "nights") ∈ lw_all := lw_g (lw_at lw_m1 154 rfl) rfl
theorem q245 : (Jvm.Cond.lays "OtterTrust$River" "OtterTrust$River" "born" "I") ∈ lw_all := lw_g (lw_at lw_m1 155 rfl) rfl
theorem q246 : (Jvm.Cond.soleField "OtterTrust$River" "born") ∈ lw_all := lw_g (lw_at lw_m1 156 rfl) rfl
theorem q247 : (Jvm.Cond.lays "OtterTrust$River" "OtterTrust$River" "lost" "I") ∈ lw_all := lw_g (lw_at lw_m1 157 rfl) rfl
theorem q248 : (Jvm.Cond.soleField "OtterTrust$River" "lost") ∈ lw_all := lw_g (lw_at lw_m1 158 rfl) rfl
theorem q249 : (Jvm.Cond.lays "OtterTrust$River" "OtterTrust$River" "left" "I") ∈ lw_all := lw_g (lw_at lw_m1 159 rfl) rfl
theorem q250 : (Jvm.Cond.soleField "OtterTrust$River" "left") ∈ lw_all := lw_g (lw_at lw_m1 160 rfl) rfl
theorem q251 : (Jvm.Cond.lays "OtterTrust$River" "OtterTrust$River" "counted" "I") ∈ lw_all := lw_g (lw_at lw_m1 161 rfl) rfl
theorem q252 : (Jvm.Cond.soleField "OtterTrust$River" "counted") ∈ lw_all := lw_g (lw_at lw_m1 162 rfl) rfl
theorem q253 : (Jvm.Cond.lays "OtterTrust$River" "OtterTrust$River" "washed" "I") ∈ lw_all := lw_g (lw_at lw_m1 163 rfl) rfl
theorem q254 : (Jvm.Cond.soleField "OtterTrust$River" "washed") ∈ lw_all := lw_g (lw_at lw_m1 164 rfl) rfl
theorem q255 : (Jvm.Cond.superclass "OtterTrust$River" "java/lang/Object") ∈ lw_all := lw_g (lw_at lw_m1 165 rfl) rfl
theorem q343 : (Jvm.Cond.instanceMethod ({ cls := "OtterTrust$River", name := "<init>", desc := "(LOtterTrust$River;)V" } : Jvm.MethodName)) ∈ lw_all := lw_g (lw_at lw_m2 13 rfl) rfl
theorem q344 : (Jvm.Cond.code ({ cls := "OtterTrust$River", name := "<init>", desc := "(LOtterTrust$River;)V" } : Jvm.MethodName) prog_7_method_2_code (3 : Nat) (Option.none : Option Jvm.ClassFile.FieldType)) ∈ lw_all := lw_g (lw_at lw_m2 14 rfl) rfl
theorem q345 : (Jvm.Cond.interfaceEntry "OtterTrust$River" (38 : Nat)) ∈ lw_tbl := lw_at lw_m2 15 rfl
theorem q346 : (Jvm.Cond.methodLink "OtterTrust$River" (38 : Nat) ({ cls := "java/util/List", name := "size", desc := "()I" } : Jvm.MethodName)) ∈ lw_all := lw_g (lw_at lw_m2 16 rfl) rfl
theorem q375 : (Jvm.Cond.classLink "OtterTrust$River" (44 : Nat) "OtterTrust$Reach") ∈ lw_all := lw_g (lw_at lw_m2 45 rfl) rfl
theorem q377 : (Jvm.Cond.interfaceEntry "OtterTrust$River" (46 : Nat)) ∈ lw_tbl := lw_at lw_m2 47 rfl
theorem q378 : (Jvm.Cond.methodLink "OtterTrust$River" (46 : Nat) ({ cls := "java/util/List", name := "get", desc := "(I)Ljava/lang/Object;" } : Jvm.MethodName)) ∈ lw_all := lw_g (lw_at lw_m2 48 rfl) rfl
theorem q751 : (Jvm.Cond.methodLink "OtterTrust$River" (50 : Nat) ({ cls := "OtterTrust$Reach", name := "<init>", desc := "(LOtterTrust$Reach;)V" } : Jvm.MethodName)) ∈ lw_all := lw_g (lw_at lw_m3 181 rfl) rfl
theorem q759 : (Jvm.Cond.fieldLinkNest "OtterTrust$River" (93 : Nat) "OtterTrust$Reach" "cover" "I" "OtterTrust") ∈ lw_tbl := lw_at lw_m3 189 rfl
theorem q764 : (Jvm.Cond.fieldLinkNest "OtterTrust$River" (222 : Nat) "OtterTrust$Reach" "isShut" "Z" "OtterTrust") ∈ lw_tbl := lw_at lw_m3 194 rfl
theorem q766 : (Jvm.Cond.fieldLinkNest "OtterTrust$River" (156 : Nat) "OtterTrust$Reach" "spraints" "I" "OtterTrust") ∈ lw_tbl := lw_at lw_m3 196 rfl
theorem q770 : (Jvm.Cond.fieldLinkNest "OtterTrust$River" (225 : Nat) "OtterTrust$Reach" "crossings" "I" "OtterTrust") ∈ lw_tbl := lw_at lw_m3 200 rfl
theorem q772 : (Jvm.Cond.fieldLinkNest "OtterTrust$River" (142 : Nat) "OtterTrust$Reach" "killed" "I" "OtterTrust") ∈ lw_tbl := lw_at lw_m3 202 rfl
theorem q775 : (Jvm.Cond.fieldLinkNest "OtterTrust$River" (107 : Nat) "OtterTrust$Reach" "hasHolt" "Z" "OtterTrust") ∈ lw_tbl := lw_at lw_m3 205 rfl
theorem q778 : (Jvm.Cond.fieldLinkNest "OtterTrust$River" (114 : Nat) "OtterTrust$Reach" "cubs" "I" "OtterTrust") ∈ lw_tbl := lw_at lw_m3 208 rfl
theorem q781 : (Jvm.Cond.fieldLinkNest "OtterTrust$River" (182 : Nat) "OtterTrust$Reach" "born" "I" "OtterTrust") ∈ lw_tbl := lw_at lw_m3 211 rfl
theorem q784 : (Jvm.Cond.fieldLinkNest "OtterTrust$River" (176 : Nat) "OtterTrust$Reach" "year" "I" "OtterTrust") ∈ lw_tbl := lw_at lw_m3 214 rfl
theorem q806 : (Jvm.Cond.interfaceEntry "OtterTrust$River" (53 : Nat)) ∈ lw_tbl := lw_at lw_m3 236 rfl
theorem q807 : (Jvm.Cond.methodLink "OtterTrust$River" (53 : Nat) ({ cls := "java/util/List", name := "add", desc := "(Ljava/lang/Object;)Z" } : Jvm.MethodName)) ∈ lw_all := lw_g (lw_at lw_m3 237 rfl) rfl
theorem q840 : (Jvm.Cond.selects "OtterTrust$River" ({ cls := "java/lang/Object", name := "getClass", desc := "()Ljava/lang/Class;" } : Jvm.MethodName) ({ cls := "java/lang/Object", name := "getClass", desc := "()Ljava/lang/Class;" } : Jvm.MethodName)) ∈ lw_all := lw_g (lw_at lw_m4 30 rfl) rfl
theorem q929 : (Jvm.Cond.classLink "OtterTrust$River" (57 : Nat) "OtterTrust$Otter") ∈ lw_all := lw_g (lw_at lw_m4 119 rfl) rfl
theorem q931 : (Jvm.Cond.methodLink "OtterTrust$River" (59 : Nat) ({ cls := "OtterTrust$Otter", name := "<init>", desc := "(LOtterTrust$Otter;)V" } : Jvm.MethodName)) ∈ lw_all := lw_g (lw_at lw_m4 121 rfl) rfl
theorem q941 : (Jvm.Cond.fieldLinkNest "OtterTrust$River" (133 : Nat) "OtterTrust$Otter" "reach" "I" "OtterTrust") ∈ lw_tbl := lw_at lw_m4 131 rfl
theorem q944 : (Jvm.Cond.fieldLinkNest "OtterTrust$River" (104 : Nat) "OtterTrust$Otter" "state" "I" "OtterTrust") ∈ lw_tbl := lw_at lw_m4 134 rfl
theorem q947 : (Jvm.Cond.fieldLinkNest "OtterTrust$River" (159 : Nat) "OtterTrust$Otter" "spraints" "I" "OtterTrust") ∈ lw_tbl := lw_at lw_m4 137 rfl
theorem q958 : (Jvm.Cond.classLink "OtterTrust$River" (62 : Nat) "OtterTrust$Volunteer") ∈ lw_all := lw_g (lw_at lw_m4 148 rfl) rfl
theorem q960 : (Jvm.Cond.methodLink "OtterTrust$River" (64 : Nat) ({ cls := "OtterTrust$Volunteer", name := "<init>", desc := "(LOtterTrust$Volunteer;)V" } : Jvm.MethodName)) ∈ lw_all := lw_g (lw_at lw_m4 150 rfl) rfl
theorem q969 : (Jvm.Cond.fieldLinkNest "OtterTrust$River" (237 : Nat) "OtterTrust$Volunteer" "from" "I" "OtterTrust") ∈ lw_tbl := lw_at lw_m4 159 rfl
theorem q972 : (Jvm.Cond.fieldLinkNest "OtterTrust$River" (240 : Nat) "OtterTrust$Volunteer" "to" "I" "OtterTrust") ∈ lw_tbl := lw_at lw_m4 162 rfl
theorem q975 : (Jvm.Cond.fieldLinkNest "OtterTrust$River" (243 : Nat) "OtterTrust$Volunteer" "spraints" "I" "OtterTrust") ∈ lw_tbl := lw_at lw_m4 165 rfl
theorem q978 : (Jvm.Cond.fieldLinkNest "OtterTrust$River" (251 : Nat) "OtterTrust$Volunteer" "otters" "I" "OtterTrust") ∈ lw_tbl := lw_at lw_m4 168 rfl
theorem q981 : (Jvm.Cond.fieldLinkNest "OtterTrust$River" (253 : Nat) "OtterTrust$Volunteer" "inCensus" "I" "OtterTrust") ∈ lw_tbl := lw_at lw_m4 171 rfl
theorem q993 : (Jvm.Cond.methodLink "OtterTrust$River" (67 : Nat) ({ cls := "java/util/BitSet", name := "or", desc := "(Ljava/util/BitSet;)V" } : Jvm.MethodName)) ∈ lw_all := lw_g (lw_at lw_m4 183 rfl) rfl
theorem q1039 : (Jvm.Cond.instanceMethod ({ cls := "OtterTrust$River", name := "walks", desc := "(I)I" } : Jvm.MethodName)) ∈ lw_all := lw_g (lw_at lw_m4 229 rfl) rfl
theorem q1040 : (Jvm.Cond.selects "OtterTrust$River" ({ cls := "OtterTrust$River", name := "walks", desc := "(I)I" } : Jvm.MethodName) ({ cls := "OtterTrust$River", name := "walks", desc := "(I)I" } : Jvm.MethodName)) ∈ lw_all := lw_g (lw_at lw_m4 230 rfl) rfl
theorem q1041 : (Jvm.Cond.code ({ cls := "OtterTrust$River", name := "walks", desc := "(I)I" } : Jvm.MethodName) prog_7_method_33_code (6 : Nat) (Option.some Jvm.ClassFile.FieldType.int)) ∈ lw_all := lw_g (lw_at lw_m4 231 rfl) rfl
theorem q1042 : (Jvm.Cond.methodLinkNest "OtterTrust$River" (89 : Nat) ({ cls := "OtterTrust", name := "isBetween", desc := "(III)Z" } : Jvm.MethodName) "OtterTrust") ∈ lw_tbl := lw_at lw_m4 232 rfl
theorem q1045 : (Jvm.Cond.methodLinkNest "OtterTrust$River" (202 : Nat) ({ cls := "OtterTrust", name := "check", desc := "(ZII)V" } : Jvm.MethodName) "OtterTrust") ∈ lw_tbl := lw_at lw_m4 235 rfl
theorem q1070 : (Jvm.Cond.methodLink "OtterTrust$River" (244 : Nat) ({ cls := "OtterTrust$Volunteer", name := "reaches", desc := "(I)Z" } : Jvm.MethodName)) ∈ lw_all := lw_g (lw_at lw_m5 20 rfl) rfl
theorem q1075 : (Jvm.Cond.methodLink "OtterTrust$River" (246 : Nat) ({ cls := "java/util/BitSet", name := "get", desc := "(I)Z" } : Jvm.MethodName)) ∈ lw_all := lw_g (lw_at lw_m5 25 rfl) rfl
theorem q1087 : (Jvm.Cond.methodLink "OtterTrust$River" (248 : Nat) ({ cls := "java/util/BitSet", name := "set", desc := "(I)V" } : Jvm.MethodName)) ∈ lw_all := lw_g (lw_at lw_m5 37 rfl) rfl
theorem q1096 : (Jvm.Cond.instanceMethod ({ cls := "OtterTrust$River", name := "passes", desc := "(I)I" } : Jvm.MethodName)) ∈ lw_all := lw_g (lw_at lw_m5 46 rfl) rfl
theorem q1097 : (Jvm.Cond.selects "OtterTrust$River" ({ cls := "OtterTrust$River", name := "passes", desc := "(I)I" } : Jvm.MethodName) ({ cls := "OtterTrust$River", name := "passes", desc := "(I)I" } : Jvm.MethodName)) ∈ lw_all := lw_g (lw_at lw_m5 47 rfl) rfl
theorem q1098 : (Jvm.Cond.code ({ cls := "OtterTrust$River", name := "passes", desc := "(I)I" } : Jvm.MethodName) prog_7_method_32_code (4 : Nat) (Option.some Jvm.ClassFile.FieldType.int)) ∈ lw_all := lw_g (lw_at lw_m5 48 rfl) rfl
theorem q1099 : (Jvm.Cond.methodLinkNest "OtterTrust$River" (206 : Nat) ({ cls := "OtterTrust", name := "checkRange", desc := "(III)V" } : Jvm.MethodName) "OtterTrust") ∈ lw_tbl := lw_at lw_m5 49 rfl
theorem q1104 : (Jvm.Cond.methodLink "OtterTrust$River" (231 : Nat) ({ cls := "OtterTrust$River", name := "countIn", desc := "(I)I" } : Jvm.MethodName)) ∈ lw_all := lw_g (lw_at lw_m5 54 rfl) rfl
theorem q1105 : (Jvm.Cond.instanceMethod ({ cls := "OtterTrust$River", name := "countIn", desc := "(I)I" } : Jvm.MethodName)) ∈ lw_all := lw_g (lw_at lw_m5 55 rfl) rfl
theorem q1106 : (Jvm.Cond.selects "OtterTrust$River" ({ cls := "OtterTrust$River", name := "countIn", desc := "(I)I" } : Jvm.MethodName) ({ cls := "OtterTrust$River", name := "countIn", desc := "(I)I" } : Jvm.MethodName)) ∈ lw_all := lw_g (lw_at lw_m5 56 rfl) rfl
theorem q1107 : (Jvm.Cond.code ({ cls := "OtterTrust$River", name := "countIn", desc := "(I)I" } : Jvm.MethodName) prog_7_method_6_code (4 : Nat) (Option.some Jvm.ClassFile.FieldType.int)) ∈ lw_all := lw_g (lw_at lw_m5 57 rfl) rfl
theorem q1108 : (Jvm.Cond.methodLink "OtterTrust$River" (234 : Nat) ({ cls := "OtterTrust$River", name := "night", desc := "()V" } : Jvm.MethodName)) ∈ lw_all := lw_g (lw_at lw_m5 58 rfl) rfl
theorem q1109 : (Jvm.Cond.instanceMethod ({ cls := "OtterTrust$River", name := "night", desc := "()V" } : Jvm.MethodName)) ∈ lw_all := lw_g (lw_at lw_m5 59 rfl) rfl
theorem q1110 : (Jvm.Cond.selects "OtterTrust$River" ({ cls := "OtterTrust$River", name := "night", desc := "()V" } : Jvm.MethodName) ({ cls := "OtterTrust$River", name := "night", desc := "()V" } : Jvm.MethodName)) ∈ lw_all := lw_g (lw_at lw_m5 60 rfl) rfl
theorem q1111 : (Jvm.Cond.code ({ cls := "OtterTrust$River", name := "night", desc := "()V" } : Jvm.MethodName) prog_7_method_21_code (2 : Nat) (Option.none : Option Jvm.ClassFile.FieldType)) ∈ lw_all := lw_g (lw_at lw_m5 61 rfl) rfl
theorem q1112 : (Jvm.Cond.methodLink "OtterTrust$River" (190 : Nat) ({ cls := "OtterTrust$River", name := "goesOut", desc := "(I)V" } : Jvm.MethodName)) ∈ lw_all := lw_g (lw_at lw_m5 62 rfl) rfl
theorem q1113 : (Jvm.Cond.privateMethod ({ cls := "OtterTrust$River", name := "goesOut", desc := "(I)V" } : Jvm.MethodName)) ∈ lw_tbl := lw_at lw_m5 63 rfl
theorem q1114 : (Jvm.Cond.instanceMethod ({ cls := "OtterTrust$River", name := "goesOut", desc := "(I)V" } : Jvm.MethodName)) ∈ lw_all := lw_g (lw_at lw_m5 64 rfl) rfl
theorem q1115 : (Jvm.Cond.code ({ cls := "OtterTrust$River", name := "goesOut", desc := "(I)V" } : Jvm.MethodName) prog_7_method_16_code (7 : Nat) (Option.none : Option Jvm.ClassFile.FieldType)) ∈ lw_all := lw_g (lw_at lw_m5 65 rfl) rfl
theorem q1116 : (Jvm.Cond.methodLink "OtterTrust$River" (160 : Nat) ({ cls := "OtterTrust$River", name := "goal", desc := "(II)I" } : Jvm.MethodName)) ∈ lw_all := lw_g (lw_at lw_m5 66 rfl) rfl
theorem q1117 : (Jvm.Cond.instanceMethod ({ cls := "OtterTrust$River", name := "goal", desc := "(II)I" } : Jvm.MethodName)) ∈ lw_all := lw_g (lw_at lw_m5 67 rfl) rfl
theorem q1118 : (Jvm.Cond.selects "OtterTrust$River" ({ cls := "OtterTrust$River", name := "goal", desc := "(II)I" } : Jvm.MethodName) ({ cls := "OtterTrust$River", name := "goal", desc := "(II)I" } : Jvm.MethodName)) ∈ lw_all := lw_g (lw_at lw_m5 68 rfl) rfl
theorem q1119 : (Jvm.Cond.code ({ cls := "OtterTrust$River", name := "goal", desc := "(II)I" } : Jvm.MethodName) prog_7_method_13_code (6 : Nat) (Option.some Jvm.ClassFile.FieldType.int)) ∈ lw_all := lw_g (lw_at lw_m5 69 rfl) rfl
theorem q1120 : (Jvm.Cond.methodLink "OtterTrust$River" (136 : Nat) ({ cls := "java/lang/Math", name := "min", desc := "(II)I" } : Jvm.MethodName)) ∈ lw_all := lw_g (lw_at lw_m5 70 rfl) rfl
theorem q1121 : (Jvm.Cond.methodLink "OtterTrust$River" (139 : Nat) ({ cls := "java/lang/Math", name := "max", desc := "(II)I" } : Jvm.MethodName)) ∈ lw_all := lw_g (lw_at lw_m5 71 rfl) rfl
theorem q1122 : (Jvm.Cond.methodLink "OtterTrust$River" (163 : Nat) ({ cls := "OtterTrust$River", name := "comesTo", desc := "(LOtterTrust$Otter;I)Z" } : Jvm.MethodName)) ∈ lw_all := lw_g (lw_at lw_m5 72 rfl) rfl
theorem q1123 : (Jvm.Cond.privateMethod ({ cls := "OtterTrust$River", name := "comesTo", desc := "(LOtterTrust$Otter;I)Z" } : Jvm.MethodName)) ∈ lw_tbl := lw_at lw_m5 73 rfl
theorem q1124 : (Jvm.Cond.instanceMethod ({ cls := "OtterTrust$River", name := "comesTo", desc := "(LOtterTrust$Otter;I)Z" } : Jvm.MethodName)) ∈ lw_all := lw_g (lw_at lw_m5 74 rfl) rfl
theorem q1125 : (Jvm.Cond.code ({ cls := "OtterTrust$River", name := "comesTo", desc := "(LOtterTrust$Otter;I)Z" } : Jvm.MethodName) prog_7_method_15_code (4 : Nat) (Option.some Jvm.ClassFile.FieldType.boolean)) ∈ lw_all := lw_g (lw_at lw_m5 75 rfl) rfl
theorem q1126 : (Jvm.Cond.methodLink "OtterTrust$River" (145 : Nat) ({ cls := "OtterTrust$Reach", name := "hasBridge", desc := "()Z" } : Jvm.MethodName)) ∈ lw_all := lw_g (lw_at lw_m5 76 rfl) rfl
theorem q1130 : (Jvm.Cond.methodLink "OtterTrust$River" (149 : Nat) ({ cls := "OtterTrust$Reach", name := "isDeadly", desc := "(I)Z" } : Jvm.MethodName)) ∈ lw_all := lw_g (lw_at lw_m5 80 rfl) rfl
theorem q1134 : (Jvm.Cond.methodLink "OtterTrust$River" (152 : Nat) ({ cls := "OtterTrust$River", name := "isKilled", desc := "(LOtterTrust$Otter;I)V" } : Jvm.MethodName)) ∈ lw_all := lw_g (lw_at lw_m5 84 rfl) rfl
theorem q1135 : (Jvm.Cond.privateMethod ({ cls := "OtterTrust$River", name := "isKilled", desc := "(LOtterTrust$Otter;I)V" } : Jvm.MethodName)) ∈ lw_tbl := lw_at lw_m5 85 rfl
theorem q1136 : (Jvm.Cond.instanceMethod ({ cls := "OtterTrust$River", name := "isKilled", desc := "(LOtterTrust$Otter;I)V" } : Jvm.MethodName)) ∈ lw_all := lw_g (lw_at lw_m5 86 rfl) rfl
theorem q1137 : (Jvm.Cond.code ({ cls := "OtterTrust$River", name := "isKilled", desc := "(LOtterTrust$Otter;I)V" } : Jvm.MethodName) prog_7_method_14_code (3 : Nat) (Option.none : Option Jvm.ClassFile.FieldType)) ∈ lw_all := lw_g (lw_at lw_m5 87 rfl) rfl
theorem q1138 : (Jvm.Cond.methodLink "OtterTrust$River" (193 : Nat) ({ cls := "OtterTrust$River", name := "washes", desc := "(LOtterTrust$Reach;)V" } : Jvm.MethodName)) ∈ lw_all := lw_g (lw_at lw_m5 88 rfl) rfl
theorem q1139 : (Jvm.Cond.privateMethod ({ cls := "OtterTrust$River", name := "washes", desc := "(LOtterTrust$Reach;)V" } : Jvm.MethodName)) ∈ lw_tbl := lw_at lw_m5 89 rfl
theorem q1140 : (Jvm.Cond.instanceMethod ({ cls := "OtterTrust$River", name := "washes", desc := "(LOtterTrust$Reach;)V" } : Jvm.MethodName)) ∈ lw_all := lw_g (lw_at lw_m5 90 rfl) rfl
theorem q1141 : (Jvm.Cond.code ({ cls := "OtterTrust$River", name := "washes", desc := "(LOtterTrust$Reach;)V" } : Jvm.MethodName) prog_7_method_17_code (2 : Nat) (Option.none : Option Jvm.ClassFile.FieldType)) ∈ lw_all := lw_g (lw_at lw_m5 91 rfl) rfl
theorem q1142 : (Jvm.Cond.methodLink "OtterTrust$River" (196 : Nat) ({ cls := "OtterTrust$River", name := "breeds", desc := "(I)V" } : Jvm.MethodName)) ∈ lw_all := lw_g (lw_at lw_m5 92 rfl) rfl
theorem q1143 : (Jvm.Cond.privateMethod ({ cls := "OtterTrust$River", name := "breeds", desc := "(I)V" } : Jvm.MethodName)) ∈ lw_tbl := lw_at lw_m5 93 rfl
theorem q1144 : (Jvm.Cond.instanceMethod ({ cls := "OtterTrust$River", name := "breeds", desc := "(I)V" } : Jvm.MethodName)) ∈ lw_all := lw_g (lw_at lw_m5 94 rfl) rfl
theorem q1145 : (Jvm.Cond.code ({ cls := "OtterTrust$River", name := "breeds", desc := "(I)V" } : Jvm.MethodName) prog_7_method_20_code (3 : Nat) (Option.none : Option Jvm.ClassFile.FieldType)) ∈ lw_all := lw_g (lw_at lw_m5 95 rfl) rfl
theorem q1146 : (Jvm.Cond.methodLink "OtterTrust$River" (111 : Nat) ({ cls := "OtterTrust$River", name := "countAt", desc := "(I)I" } : Jvm.MethodName)) ∈ lw_all := lw_g (lw_at lw_m5 96 rfl) rfl
theorem q1147 : (Jvm.Cond.instanceMethod ({ cls := "OtterTrust$River", name := "countAt", desc := "(I)I" } : Jvm.MethodName)) ∈ lw_all := lw_g (lw_at lw_m5 97 rfl) rfl
theorem q1148 : (Jvm.Cond.selects "OtterTrust$River" ({ cls := "OtterTrust$River", name := "countAt", desc := "(I)I" } : Jvm.MethodName) ({ cls := "OtterTrust$River", name := "countAt", desc := "(I)I" } : Jvm.MethodName)) ∈ lw_all := lw_g (lw_at lw_m5 98 rfl) rfl
theorem q1149 : (Jvm.Cond.code ({ cls := "OtterTrust$River", name := "countAt", desc := "(I)I" } : Jvm.MethodName) prog_7_method_5_code (4 : Nat) (Option.some Jvm.ClassFile.FieldType.int)) ∈ lw_all := lw_g (lw_at lw_m5 99 rfl) rfl
theorem q1150 : (Jvm.Cond.methodLink "OtterTrust$River" (100 : Nat) ({ cls := "OtterTrust$Otter", name := "livesAt", desc := "(I)Z" } : Jvm.MethodName)) ∈ lw_all := lw_g (lw_at lw_m5 100 rfl) rfl
theorem q1154 : (Jvm.Cond.methodLink "OtterTrust$River" (183 : Nat) ({ cls := "OtterTrust$River", name := "growUp", desc := "(I)V" } : Jvm.MethodName)) ∈ lw_all := lw_g (lw_at lw_m5 104 rfl) rfl
theorem q1155 : (Jvm.Cond.privateMethod ({ cls := "OtterTrust$River", name := "growUp", desc := "(I)V" } : Jvm.MethodName)) ∈ lw_tbl := lw_at lw_m5 105 rfl
theorem q1156 : (Jvm.Cond.instanceMethod ({ cls := "OtterTrust$River", name := "growUp", desc := "(I)V" } : Jvm.MethodName)) ∈ lw_all := lw_g (lw_at lw_m5 106 rfl) rfl
theorem q1157 : (Jvm.Cond.code ({ cls := "OtterTrust$River", name := "growUp", desc := "(I)V" } : Jvm.MethodName) prog_7_method_18_code (5 : Nat) (Option.none : Option Jvm.ClassFile.FieldType)) ∈ lw_all := lw_g (lw_at lw_m5 107 rfl) rfl
theorem q1158 : (Jvm.Cond.methodLink "OtterTrust$River" (167 : Nat) ({ cls := "OtterTrust$River", name := "refuge", desc := "(I)I" } : Jvm.MethodName)) ∈ lw_all := lw_g (lw_at lw_m5 108 rfl) rfl
theorem q1159 : (Jvm.Cond.instanceMethod ({ cls := "OtterTrust$River", name := "refuge", desc := "(I)I" } : Jvm.MethodName)) ∈ lw_all := lw_g (lw_at lw_m5 109 rfl) rfl
theorem q1160 : (Jvm.Cond.selects "OtterTrust$River" ({ cls := "OtterTrust$River", name := "refuge", desc := "(I)I" } : Jvm.MethodName) ({ cls := "OtterTrust$River", name := "refuge", desc := "(I)I" } : Jvm.MethodName)) ∈ lw_all := lw_g (lw_at lw_m5 110 rfl) rfl
theorem q1161 : (Jvm.Cond.code ({ cls := "OtterTrust$River", name := "refuge", desc := "(I)I" } : Jvm.MethodName) prog_7_method_9_code (3 : Nat) (Option.some Jvm.ClassFile.FieldType.int)) ∈ lw_all := lw_g (lw_at lw_m5 111 rfl) rfl
theorem q1162 : (Jvm.Cond.methodLink "OtterTrust$River" (126 : Nat) ({ cls := "OtterTrust$River", name := "nearest", desc := "(II)I" } : Jvm.MethodName)) ∈ lw_all := lw_g (lw_at lw_m5 112 rfl) rfl
theorem q1163 : (Jvm.Cond.privateMethod ({ cls := "OtterTrust$River", name := "nearest", desc := "(II)I" } : Jvm.MethodName)) ∈ lw_tbl := lw_at lw_m5 113 rfl
theorem q1164 : (Jvm.Cond.instanceMethod ({ cls := "OtterTrust$River", name := "nearest", desc := "(II)I" } : Jvm.MethodName)) ∈ lw_all := lw_g (lw_at lw_m5 114 rfl) rfl
theorem q1165 : (Jvm.Cond.code ({ cls := "OtterTrust$River", name := "nearest", desc := "(II)I" } : Jvm.MethodName) prog_7_method_8_code (5 : Nat) (Option.some Jvm.ClassFile.FieldType.int)) ∈ lw_all := lw_g (lw_at lw_m5 115 rfl) rfl
theorem q1166 : (Jvm.Cond.methodLink "OtterTrust$River" (117 : Nat) ({ cls := "OtterTrust$River", name := "isFree", desc := "(II)Z" } : Jvm.MethodName)) ∈ lw_all := lw_g (lw_at lw_m5 116 rfl) rfl
theorem q1167 : (Jvm.Cond.privateMethod ({ cls := "OtterTrust$River", name := "isFree", desc := "(II)Z" } : Jvm.MethodName)) ∈ lw_tbl := lw_at lw_m5 117 rfl
theorem q1168 : (Jvm.Cond.instanceMethod ({ cls := "OtterTrust$River", name := "isFree", desc := "(II)Z" } : Jvm.MethodName)) ∈ lw_all := lw_g (lw_at lw_m5 118 rfl) rfl
theorem q1169 : (Jvm.Cond.code ({ cls := "OtterTrust$River", name := "isFree", desc := "(II)Z" } : Jvm.MethodName) prog_7_method_7_code (4 : Nat) (Option.some Jvm.ClassFile.FieldType.boolean)) ∈ lw_all := lw_g (lw_at lw_m5 119 rfl) rfl
theorem q1170 : (Jvm.Cond.methodLink "OtterTrust$River" (121 : Nat) ({ cls := "java/lang/Math", name := "abs", desc := "(I)I" } : Jvm.MethodName)) ∈ lw_all := lw_g (lw_at lw_m5 120 rfl) rfl
theorem q1173 : (Jvm.Cond.methodLink "OtterTrust$River" (170 : Nat) ({ cls := "OtterTrust$Otter", name := "<init>", desc := "(II)V" } : Jvm.MethodName)) ∈ lw_all := lw_g (lw_at lw_m5 123 rfl) rfl
theorem q1174 : (Jvm.Cond.methodLink "OtterTrust$River" (187 : Nat) ({ cls := "OtterTrust$River", name := "canBreed", desc := "(I)Z" } : Jvm.MethodName)) ∈ lw_all := lw_g (lw_at lw_m5 124 rfl) rfl
theorem q1175 : (Jvm.Cond.privateMethod ({ cls := "OtterTrust$River", name := "canBreed", desc := "(I)Z" } : Jvm.MethodName)) ∈ lw_tbl := lw_at lw_m5 125 rfl
theorem q1176 : (Jvm.Cond.instanceMethod ({ cls := "OtterTrust$River", name := "canBreed", desc := "(I)Z" } : Jvm.MethodName)) ∈ lw_all := lw_g (lw_at lw_m5 126 rfl) rfl
theorem q1177 : (Jvm.Cond.code ({ cls := "OtterTrust$River", name := "canBreed", desc := "(I)Z" } : Jvm.MethodName) prog_7_method_19_code (4 : Nat) (Option.some Jvm.ClassFile.FieldType.boolean)) ∈ lw_all := lw_g (lw_at lw_m5 127 rfl) rfl
theorem q1178 : (Jvm.Cond.methodLink "OtterTrust$River" (173 : Nat) ({ cls := "OtterTrust$River", name := "month", desc := "()I" } : Jvm.MethodName)) ∈ lw_all := lw_g (lw_at lw_m5 128 rfl) rfl
theorem q1179 : (Jvm.Cond.instanceMethod ({ cls := "OtterTrust$River", name := "month", desc := "()I" } : Jvm.MethodName)) ∈ lw_all := lw_g (lw_at lw_m5 129 rfl) rfl
theorem q1180 : (Jvm.Cond.selects "OtterTrust$River" ({ cls := "OtterTrust$River", name := "month", desc := "()I" } : Jvm.MethodName) ({ cls := "OtterTrust$River", name := "month", desc := "()I" } : Jvm.MethodName)) ∈ lw_all := lw_g (lw_at lw_m5 130 rfl) rfl
theorem q1181 : (Jvm.Cond.code ({ cls := "OtterTrust$River", name := "month", desc := "()I" } : Jvm.MethodName) prog_7_method_12_code (1 : Nat) (Option.some Jvm.ClassFile.FieldType.int)) ∈ lw_all := lw_g (lw_at lw_m5 131 rfl) rfl
theorem q1182 : (Jvm.Cond.methodLink "OtterTrust$River" (179 : Nat) ({ cls := "OtterTrust$River", name := "quality", desc := "(I)I" } : Jvm.MethodName)) ∈ lw_all := lw_g (lw_at lw_m5 132 rfl) rfl
theorem q1183 : (Jvm.Cond.instanceMethod ({ cls := "OtterTrust$River", name := "quality", desc := "(I)I" } : Jvm.MethodName)) ∈ lw_all := lw_g (lw_at lw_m5 133 rfl) rfl
theorem q1184 : (Jvm.Cond.selects "OtterTrust$River" ({ cls := "OtterTrust$River", name := "quality", desc := "(I)I" } : Jvm.MethodName) ({ cls := "OtterTrust$River", name := "quality", desc := "(I)I" } : Jvm.MethodName)) ∈ lw_all := lw_g (lw_at lw_m5 134 rfl) rfl
theorem q1185 : (Jvm.Cond.code ({ cls := "OtterTrust$River", name := "quality", desc := "(I)I" } : Jvm.MethodName) prog_7_method_4_code (2 : Nat) (Option.some Jvm.ClassFile.FieldType.int)) ∈ lw_all := lw_g (lw_at lw_m5 135 rfl) rfl
theorem q1186 : (Jvm.Cond.methodLink "OtterTrust$River" (96 : Nat) ({ cls := "OtterTrust$River", name := "coverAt", desc := "(I)I" } : Jvm.MethodName)) ∈ lw_all := lw_g (lw_at lw_m5 136 rfl) rfl
theorem q1187 : (Jvm.Cond.privateMethod ({ cls := "OtterTrust$River", name := "coverAt", desc := "(I)I" } : Jvm.MethodName)) ∈ lw_tbl := lw_at lw_m5 137 rfl
theorem q1188 : (Jvm.Cond.instanceMethod ({ cls := "OtterTrust$River", name := "coverAt", desc := "(I)I" } : Jvm.MethodName)) ∈ lw_all := lw_g (lw_at lw_m5 138 rfl) rfl
theorem q1189 : (Jvm.Cond.code ({ cls := "OtterTrust$River", name := "coverAt", desc := "(I)I" } : Jvm.MethodName) prog_7_method_3_code (2 : Nat) (Option.some Jvm.ClassFile.FieldType.int)) ∈ lw_all := lw_g (lw_at lw_m5 139 rfl) rfl
theorem q1191 : (Jvm.Cond.instanceMethod ({ cls := "OtterTrust$River", name := "shuts", desc := "(I)I" } : Jvm.MethodName)) ∈ lw_all := lw_g (lw_at lw_m5 141 rfl) rfl
theorem q1192 : (Jvm.Cond.selects "OtterTrust$River" ({ cls := "OtterTrust$River", name := "shuts", desc := "(I)I" } : Jvm.MethodName) ({ cls := "OtterTrust$River", name := "shuts", desc := "(I)I" } : Jvm.MethodName)) ∈ lw_all := lw_g (lw_at lw_m5 142 rfl) rfl
theorem q1193 : (Jvm.Cond.code ({ cls := "OtterTrust$River", name := "shuts", desc := "(I)I" } : Jvm.MethodName) prog_7_method_31_code (3 : Nat) (Option.some Jvm.ClassFile.FieldType.int)) ∈ lw_all := lw_g (lw_at lw_m5 143 rfl) rfl
theorem q1194 : (Jvm.Cond.methodLink "OtterTrust$River" (211 : Nat) ({ cls := "OtterTrust$River", name := "checkReach", desc := "(I)LOtterTrust$Reach;" } : Jvm.MethodName)) ∈ lw_all := lw_g (lw_at lw_m5 144 rfl) rfl
theorem q1195 : (Jvm.Cond.privateMethod ({ cls := "OtterTrust$River", name := "checkReach", desc := "(I)LOtterTrust$Reach;" } : Jvm.MethodName)) ∈ lw_tbl := lw_at lw_m5 145 rfl
theorem q1196 : (Jvm.Cond.instanceMethod ({ cls := "OtterTrust$River", name := "checkReach", desc := "(I)LOtterTrust$Reach;" } : Jvm.MethodName)) ∈ lw_all := lw_g (lw_at lw_m5 146 rfl) rfl
theorem q1197 : (Jvm.Cond.code ({ cls := "OtterTrust$River", name := "checkReach", desc := "(I)LOtterTrust$Reach;" } : Jvm.MethodName) prog_7_method_23_code (2 : Nat) (Option.some (Jvm.ClassFile.FieldType.object "OtterTrust$Reach"))) ∈ lw_all := lw_g (lw_at lw_m5 147 rfl) rfl
theorem q1198 : (Jvm.Cond.methodLink "OtterTrust$River" (228 : Nat) ({ cls := "OtterTrust$River", name := "sum", desc := "(I)I" } : Jvm.MethodName)) ∈ lw_all := lw_g (lw_at lw_m5 148 rfl) rfl
theorem q1199 : (Jvm.Cond.instanceMethod ({ cls := "OtterTrust$River", name := "sum", desc := "(I)I" } : Jvm.MethodName)) ∈ lw_all := lw_g (lw_at lw_m5 149 rfl) rfl
theorem q1200 : (Jvm.Cond.selects "OtterTrust$River" ({ cls := "OtterTrust$River", name := "sum", desc := "(I)I" } : Jvm.MethodName) ({ cls := "OtterTrust$River", name := "sum", desc := "(I)I" } : Jvm.MethodName)) ∈ lw_all := lw_g (lw_at lw_m5 150 rfl) rfl
theorem q1201 : (Jvm.Cond.code ({ cls := "OtterTrust$River", name := "sum", desc := "(I)I" } : Jvm.MethodName) prog_7_method_22_code (5 : Nat) (Option.some Jvm.ClassFile.FieldType.int)) ∈ lw_all := lw_g (lw_at lw_m5 151 rfl) rfl
theorem q1202 : (Jvm.Cond.methodLink "OtterTrust$River" (199 : Nat) ({ cls := "OtterTrust$Reach", name := "hasOpenDip", desc := "()Z" } : Jvm.MethodName)) ∈ lw_all := lw_g (lw_at lw_m5 152 rfl) rfl
theorem q1208 : (Jvm.Cond.instanceMethod ({ cls := "OtterTrust$River", name := "rises", desc := "(I)I" } : Jvm.MethodName)) ∈ lw_all := lw_g (lw_at lw_m5 158 rfl) rfl
theorem q1209 : (Jvm.Cond.selects "OtterTrust$River" ({ cls := "OtterTrust$River", name := "rises", desc := "(I)I" } : Jvm.MethodName) ({ cls := "OtterTrust$River", name := "rises", desc := "(I)I" } : Jvm.MethodName)) ∈ lw_all := lw_g (lw_at lw_m5 159 rfl) rfl
theorem q1210 : (Jvm.Cond.code ({ cls := "OtterTrust$River", name := "rises", desc := "(I)I" } : Jvm.MethodName) prog_7_method_29_code (3 : Nat) (Option.some Jvm.ClassFile.FieldType.int)) ∈ lw_all := lw_g (lw_at lw_m5 160 rfl) rfl
theorem q1212 : (Jvm.Cond.instanceMethod ({ cls := "OtterTrust$River", name := "gets", desc := "(I)I" } : Jvm.MethodName)) ∈ lw_all := lw_g (lw_at lw_m5 162 rfl) rfl
theorem q1213 : (Jvm.Cond.selects "OtterTrust$River" ({ cls := "OtterTrust$River", name := "gets", desc := "(I)I" } : Jvm.MethodName) ({ cls := "OtterTrust$River", name := "gets", desc := "(I)I" } : Jvm.MethodName)) ∈ lw_all := lw_g (lw_at lw_m5 163 rfl) rfl
theorem q1214 : (Jvm.Cond.code ({ cls := "OtterTrust$River", name := "gets", desc := "(I)I" } : Jvm.MethodName) prog_7_method_30_code (2 : Nat) (Option.some Jvm.ClassFile.FieldType.int)) ∈ lw_all := lw_g (lw_at lw_m5 164 rfl) rfl
theorem q1216 : (Jvm.Cond.instanceMethod ({ cls := "OtterTrust$River", name := "ends", desc := "()I" } : Jvm.MethodName)) ∈ lw_all := lw_g (lw_at lw_m5 166 rfl) rfl
theorem q1217 : (Jvm.Cond.selects "OtterTrust$River" ({ cls := "OtterTrust$River", name := "ends", desc := "()I" } : Jvm.MethodName) ({ cls := "OtterTrust$River", name := "ends", desc := "()I" } : Jvm.MethodName)) ∈ lw_all := lw_g (lw_at lw_m5 167 rfl) rfl
theorem q1218 : (Jvm.Cond.code ({ cls := "OtterTrust$River", name := "ends", desc := "()I" } : Jvm.MethodName) prog_7_method_35_code (3 : Nat) (Option.some Jvm.ClassFile.FieldType.int)) ∈ lw_all := lw_g (lw_at lw_m5 168 rfl) rfl
theorem q1219 : (Jvm.Cond.methodLink "OtterTrust$River" (256 : Nat) ({ cls := "OtterTrust$River", name := "inCensus", desc := "()I" } : Jvm.MethodName)) ∈ lw_all := lw_g (lw_at lw_m5 169 rfl) rfl
theorem q1220 : (Jvm.Cond.instanceMethod ({ cls := "OtterTrust$River", name := "inCensus", desc := "()I" } : Jvm.MethodName)) ∈ lw_all := lw_g (lw_at lw_m5 170 rfl) rfl
theorem q1221 : (Jvm.Cond.selects "OtterTrust$River" ({ cls := "OtterTrust$River", name := "inCensus", desc := "()I" } : Jvm.MethodName) ({ cls := "OtterTrust$River", name := "inCensus", desc := "()I" } : Jvm.MethodName)) ∈ lw_all := lw_g (lw_at lw_m5 171 rfl) rfl
theorem q1222 : (Jvm.Cond.code ({ cls := "OtterTrust$River", name := "inCensus", desc := "()I" } : Jvm.MethodName) prog_7_method_34_code (3 : Nat) (Option.some Jvm.ClassFile.FieldType.int)) ∈ lw_all := lw_g (lw_at lw_m5 172 rfl) rfl
theorem q1223 : (Jvm.Cond.methodLink "OtterTrust$River" (258 : Nat) ({ cls := "java/util/BitSet", name := "clear", desc := "()V" } : Jvm.MethodName)) ∈ lw_all := lw_g (lw_at lw_m5 173 rfl) rfl
theorem q1228 : (Jvm.Cond.instanceMethod ({ cls := "OtterTrust$River", name := "flowsOn", desc := "(II)I" } : Jvm.MethodName)) ∈ lw_all := lw_g (lw_at lw_m5 178 rfl) rfl
theorem q1229 : (Jvm.Cond.selects "OtterTrust$River" ({ cls := "OtterTrust$River", name := "flowsOn", desc := "(II)I" } : Jvm.MethodName) ({ cls := "OtterTrust$River", name := "flowsOn", desc := "(II)I" } : Jvm.MethodName)) ∈ lw_all := lw_g (lw_at lw_m5 179 rfl) rfl
theorem q1230 : (Jvm.Cond.code ({ cls := "OtterTrust$River", name := "flowsOn", desc := "(II)I" } : Jvm.MethodName) prog_7_method_24_code (3 : Nat) (Option.some Jvm.ClassFile.FieldType.int)) ∈ lw_all := lw_g (lw_at lw_m5 180 rfl) rfl
theorem q1231 : (Jvm.Cond.methodLink "OtterTrust$River" (210 : Nat) ({ cls := "OtterTrust$Reach", name := "<init>", desc := "(II)V" } : Jvm.MethodName)) ∈ lw_all := lw_g (lw_at lw_m5 181 rfl) rfl
theorem q1233 : (Jvm.Cond.instanceMethod ({ cls := "OtterTrust$River", name := "isDug", desc := "(I)I" } : Jvm.MethodName)) ∈ lw_all := lw_g (lw_at lw_m5 183 rfl) rfl
theorem q1234 : (Jvm.Cond.selects "OtterTrust$River" ({ cls := "OtterTrust$River", name := "isDug", desc := "(I)I" } : Jvm.MethodName) ({ cls := "OtterTrust$River", name := "isDug", desc := "(I)I" } : Jvm.MethodName)) ∈ lw_all := lw_g (lw_at lw_m5 184 rfl) rfl
theorem q1235 : (Jvm.Cond.code ({ cls := "OtterTrust$River", name := "isDug", desc := "(I)I" } : Jvm.MethodName) prog_7_method_25_code (3 : Nat) (Option.some Jvm.ClassFile.FieldType.int)) ∈ lw_all := lw_g (lw_at lw_m5 185 rfl) rfl
theorem q1237 : (Jvm.Cond.instanceMethod ({ cls := "OtterTrust$River", name := "comes", desc := "(I)I" } : Jvm.MethodName)) ∈ lw_all := lw_g (lw_at lw_m5 187 rfl) rfl
theorem q1238 : (Jvm.Cond.selects "OtterTrust$River" ({ cls := "OtterTrust$River", name := "comes", desc := "(I)I" } : Jvm.MethodName) ({ cls := "OtterTrust$River", name := "comes", desc := "(I)I" } : Jvm.MethodName)) ∈ lw_all := lw_g (lw_at lw_m5 188 rfl) rfl
theorem q1239 : (Jvm.Cond.code ({ cls := "OtterTrust$River", name := "comes", desc := "(I)I" } : Jvm.MethodName) prog_7_method_27_code (3 : Nat) (Option.some Jvm.ClassFile.FieldType.int)) ∈ lw_all := lw_g (lw_at lw_m5 189 rfl) rfl
theorem q1240 : (Jvm.Cond.classLink "OtterTrust$River" (215 : Nat) "OtterTrust$Refused") ∈ lw_all := lw_g (lw_at lw_m5 190 rfl) rfl
theorem q1241 : (Jvm.Cond.methodLink "OtterTrust$River" (217 : Nat) ({ cls := "OtterTrust$River", name := "lowestAt", desc := "(I)I" } : Jvm.MethodName)) ∈ lw_all := lw_g (lw_at lw_m5 191 rfl) rfl
theorem q1242 : (Jvm.Cond.privateMethod ({ cls := "OtterTrust$River", name := "lowestAt", desc := "(I)I" } : Jvm.MethodName)) ∈ lw_tbl := lw_at lw_m5 192 rfl
theorem q1243 : (Jvm.Cond.instanceMethod ({ cls := "OtterTrust$River", name := "lowestAt", desc := "(I)I" } : Jvm.MethodName)) ∈ lw_all := lw_g (lw_at lw_m5 193 rfl) rfl
theorem q1244 : (Jvm.Cond.code ({ cls := "OtterTrust$River", name := "lowestAt", desc := "(I)I" } : Jvm.MethodName) prog_7_method_26_code (3 : Nat) (Option.some Jvm.ClassFile.FieldType.int)) ∈ lw_all := lw_g (lw_at lw_m5 194 rfl) rfl
theorem q1245 : (Jvm.Cond.methodLink "OtterTrust$River" (220 : Nat) ({ cls := "OtterTrust$Refused", name := "<init>", desc := "(II)V" } : Jvm.MethodName)) ∈ lw_all := lw_g (lw_at lw_m5 195 rfl) rfl
theorem q1247 : (Jvm.Cond.instanceMethod ({ cls := "OtterTrust$River", name := "helps", desc := "(II)I" } : Jvm.MethodName)) ∈ lw_all := lw_g (lw_at lw_m5 197 rfl) rfl
theorem q1248 : (Jvm.Cond.selects "OtterTrust$River" ({ cls := "OtterTrust$River", name := "helps", desc := "(II)I" } : Jvm.MethodName) ({ cls := "OtterTrust$River", name := "helps", desc := "(II)I" } : Jvm.MethodName)) ∈ lw_all := lw_g (lw_at lw_m5 198 rfl) rfl
theorem q1249 : (Jvm.Cond.code ({ cls := "OtterTrust$River", name := "helps", desc := "(II)I" } : Jvm.MethodName) prog_7_method_28_code (5 : Nat) (Option.some Jvm.ClassFile.FieldType.int)) ∈ lw_all := lw_g (lw_at lw_m5 199 rfl) rfl
theorem q1250 : (Jvm.Cond.methodLink "OtterTrust$River" (221 : Nat) ({ cls := "OtterTrust$Volunteer", name := "<init>", desc := "(II)V" } : Jvm.MethodName)) ∈ lw_all := lw_g (lw_at lw_m5 200 rfl) rfl
theorem q1368 : (Jvm.Cond.instanceMethod ({ cls := "OtterTrust$River", name := "unseen", desc := "()I" } : Jvm.MethodName)) ∈ lw_all := lw_g (lw_at lw_m6 78 rfl) rfl
theorem q1369 : (Jvm.Cond.selects "OtterTrust$River" ({ cls := "OtterTrust$River", name := "unseen", desc := "()I" } : Jvm.MethodName) ({ cls := "OtterTrust$River", name := "unseen", desc := "()I" } : Jvm.MethodName)) ∈ lw_all := lw_g (lw_at lw_m6 79 rfl) rfl
theorem q1370 : (Jvm.Cond.code ({ cls := "OtterTrust$River", name := "unseen", desc := "()I" } : Jvm.MethodName) prog_7_method_36_code (6 : Nat) (Option.some Jvm.ClassFile.FieldType.int)) ∈ lw_all := lw_g (lw_at lw_m6 80 rfl) rfl
theorem q1584 : (Jvm.Cond.instanceMethod ({ cls := "OtterTrust$River", name := "refugeAgain", desc := "(I)I" } : Jvm.MethodName)) ∈ lw_all := lw_g (lw_at lw_m7 54 rfl) rfl
theorem q1585 : (Jvm.Cond.selects "OtterTrust$River" ({ cls := "OtterTrust$River", name := "refugeAgain", desc := "(I)I" } : Jvm.MethodName) ({ cls := "OtterTrust$River", name := "refugeAgain", desc := "(I)I" } : Jvm.MethodName)) ∈ lw_all := lw_g (lw_at lw_m7 55 rfl) rfl
theorem q1586 : (Jvm.Cond.code ({ cls := "OtterTrust$River", name := "refugeAgain", desc := "(I)I" } : Jvm.MethodName) prog_7_method_11_code (3 : Nat) (Option.some Jvm.ClassFile.FieldType.int)) ∈ lw_all := lw_g (lw_at lw_m7 56 rfl) rfl
theorem q1587 : (Jvm.Cond.methodLink "OtterTrust$River" (130 : Nat) ({ cls := "OtterTrust$River", name := "widening", desc := "(II)I" } : Jvm.MethodName)) ∈ lw_all := lw_g (lw_at lw_m7 57 rfl) rfl
theorem q1588 : (Jvm.Cond.privateMethod ({ cls := "OtterTrust$River", name := "widening", desc := "(II)I" } : Jvm.MethodName)) ∈ lw_tbl := lw_at lw_m7 58 rfl
theorem q1589 : (Jvm.Cond.instanceMethod ({ cls := "OtterTrust$River", name := "widening", desc := "(II)I" } : Jvm.MethodName)) ∈ lw_all := lw_g (lw_at lw_m7 59 rfl) rfl
theorem q1590 : (Jvm.Cond.code ({ cls := "OtterTrust$River", name := "widening", desc := "(II)I" } : Jvm.MethodName) prog_7_method_10_code (4 : Nat) (Option.some Jvm.ClassFile.FieldType.int)) ∈ lw_all := lw_g (lw_at lw_m7 60 rfl) rfl
theorem q2543 : (Jvm.Cond.castable "OtterTrust$River" "java/lang/Object") ∈ lw_tbl := lw_at lw_m11 53 rfl
theorem in_X2 : ∀ w ∈ wsX20, w ∈ lw_all := lw_in wsX20 [231, 233, 235, 237, 239, 241, 243, 245, 247, 249, 251, 253] (by decide +kernel) (by decide +kernel)
