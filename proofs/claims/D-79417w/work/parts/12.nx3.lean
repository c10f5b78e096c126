/-! OtterTrustModel -/
set_option maxRecDepth 100000
def RX3 : String := "OtterTrustModel"
def TX3 : u_T := fun k => match k with
  | 0 => ("OtterTrustModel", "m", "[I", true)
  | 1 => ("OtterTrustModel", "aside", "[I", true)
  | 2 => ("OtterTrustModel", "before", "[I", true)
  | 3 => ("OtterTrustModel", "saved", "[I", true)
  | 4 => ("OtterTrustModel", "isSaved", "Z", false)
  | 5 => ("OtterTrustModel", "past", "[I", true)
  | 6 => ("OtterTrustModel", "changes", "I", false)
  | 7 => ("OtterTrustModel", "thrown", "I", false)
  | 8 => ("OtterTrustModel", "why", "I", false)
  | 9 => ("OtterTrustModel", "detail", "I", false)
  | 10 => ("OtterTrustModel", "whyPlace", "I", false)
  | 11 => ("OtterTrustModel", "faultAt", "I", false)
  | 12 => ("OtterTrustModel", "tape", "[I", true)
  | 13 => ("OtterTrustModel", "tapeMany", "I", false)
  | 14 => ("OtterTrustModel", "killedAt", "[I", true)
  | 15 => ("OtterTrustModel", "wasBirth", "[Z", true)
  | 16 => ("OtterTrustModel", "letters", "[C", true)
  | 17 => ("OtterTrustModel", "begins", "[I", true)
  | 18 => ("OtterTrustModel", "orders", "[I", true)
  | 19 => ("OtterTrustModel", "orderMany", "I", false)
  | 20 => ("OtterTrustModel", "place", "I", false)
  | 21 => ("OtterTrustModel", "size", "I", false)
  | 22 => ("OtterTrustModel", "isWrong", "Z", false)
  | 23 => ("OtterTrustModel", "signs", "[I", true)
  | _ => ("OtterTrustModel", "signMany", "I", false)
def tyX3 : Nat → FieldType := fun k => match k with
  | 0 => .array .int
  | 1 => .array .int
  | 2 => .array .int
  | 3 => .array .int
  | 4 => .boolean
  | 5 => .array .int
  | 6 => .int
  | 7 => .int
  | 8 => .int
  | 9 => .int
  | 10 => .int
  | 11 => .int
  | 12 => .array .int
  | 13 => .int
  | 14 => .array .int
  | 15 => .array .boolean
  | 16 => .array .char
  | 17 => .array .int
  | 18 => .array .int
  | 19 => .int
  | 20 => .int
  | 21 => .int
  | 22 => .boolean
  | 23 => .array .int
  | _ => .int
abbrev wsX30 : List Cond := u_ws RX3 TX3 25
set_option maxRecDepth 100000 in
theorem nmX3 : ∀ a, a < 25 → ∀ b, b < 25 → a ≠ b → (TX3 a).2.1 ≠ (TX3 b).2.1 := by decide +kernel
set_option maxRecDepth 100000 in
theorem tyX3_ok : ∀ k, k < 25 → parseFieldDescriptor (TX3 k).2.2.1 = some (tyX3 k) := by decide +kernel
abbrev cX3_init : ByteArray := prog_11_method_1_code
def yX3_init : MethodName := ⟨RX3, "<init>", "()V"⟩
def dkwX3_init_13 : List UInt8 := [6, 6, 79, 42, 180, 0, 9, 7, 16, 60, 79, 177]
abbrev dktX3_init_13 : List UInt8 := dkwX3_init_13 ++ []
def dkwX3_init_12 : List UInt8 := [79, 181, 0, 43, 42, 16, 122, 188, 10, 181, 0, 46, 42, 16, 64, 188, 10, 181, 0, 49, 42, 180, 0, 9]
abbrev dktX3_init_12 : List UInt8 := dkwX3_init_12 ++ dktX3_init_13
def dkwX3_init_11 : List UInt8 := [5, 16, 9, 79, 89, 6, 16, 13, 79, 89, 7, 16, 18, 79, 89, 8, 16, 22, 79, 89, 16, 6, 16, 28]
abbrev dktX3_init_11 : List UInt8 := dkwX3_init_11 ++ dktX3_init_12
def dkwX3_init_10 : List UInt8 := [85, 89, 16, 27, 16, 115, 85, 181, 0, 39, 42, 16, 7, 188, 10, 89, 3, 3, 79, 89, 4, 7, 79, 89]
abbrev dktX3_init_10 : List UInt8 := dkwX3_init_10 ++ dktX3_init_11
def dkwX3_init_9 : List UInt8 := [85, 89, 16, 23, 16, 101, 85, 89, 16, 24, 16, 110, 85, 89, 16, 25, 16, 115, 85, 89, 16, 26, 16, 117]
abbrev dktX3_init_9 : List UInt8 := dkwX3_init_9 ++ dktX3_init_10
def dkwX3_init_8 : List UInt8 := [85, 89, 16, 19, 16, 105, 85, 89, 16, 20, 16, 118, 85, 89, 16, 21, 16, 101, 85, 89, 16, 22, 16, 99]
abbrev dktX3_init_8 : List UInt8 := dkwX3_init_8 ++ dktX3_init_9
def dkwX3_init_7 : List UInt8 := [85, 89, 16, 15, 16, 118, 85, 89, 16, 16, 16, 101, 85, 89, 16, 17, 16, 108, 85, 89, 16, 18, 16, 103]
abbrev dktX3_init_7 : List UInt8 := dkwX3_init_7 ++ dktX3_init_8
def dkwX3_init_6 : List UInt8 := [85, 89, 16, 11, 16, 117, 85, 89, 16, 12, 16, 116, 85, 89, 16, 13, 16, 108, 85, 89, 16, 14, 16, 101]
abbrev dktX3_init_6 : List UInt8 := dkwX3_init_6 ++ dktX3_init_7
def dkwX3_init_5 : List UInt8 := [85, 89, 16, 7, 16, 104, 85, 89, 16, 8, 16, 116, 85, 89, 16, 9, 16, 115, 85, 89, 16, 10, 16, 104]
abbrev dktX3_init_5 : List UInt8 := dkwX3_init_5 ++ dktX3_init_6
def dkwX3_init_4 : List UInt8 := [5, 16, 108, 85, 89, 6, 16, 107, 85, 89, 7, 16, 110, 85, 89, 8, 16, 105, 85, 89, 16, 6, 16, 103]
abbrev dktX3_init_4 : List UInt8 := dkwX3_init_4 ++ dktX3_init_5
def dkwX3_init_3 : List UInt8 := [42, 16, 12, 188, 4, 181, 0, 35, 42, 16, 28, 188, 5, 89, 3, 16, 119, 85, 89, 4, 16, 97, 85, 89]
abbrev dktX3_init_3 : List UInt8 := dkwX3_init_3 ++ dktX3_init_4
def dkwX3_init_2 : List UInt8 := [181, 0, 22, 42, 2, 181, 0, 25, 42, 16, 60, 188, 10, 181, 0, 29, 42, 16, 12, 188, 10, 181, 0, 32]
abbrev dktX3_init_2 : List UInt8 := dkwX3_init_2 ++ dktX3_init_3
def dkwX3_init_1 : List UInt8 := [17, 1, 39, 188, 10, 181, 0, 16, 42, 17, 1, 39, 188, 10, 181, 0, 19, 42, 17, 9, 56, 188, 10]
abbrev dktX3_init_1 : List UInt8 := dkwX3_init_1 ++ dktX3_init_2
def dkwX3_init_0 : List UInt8 := [42, 183, 0, 1, 42, 17, 1, 39, 188, 10, 181, 0, 9, 42, 17, 1, 39, 188, 10, 181, 0, 13, 42]
abbrev dktX3_init_0 : List UInt8 := dkwX3_init_0 ++ dktX3_init_1
theorem dksX3_init_0 : cX3_init.data.toList.drop 0 = dktX3_init_0 := by decide +kernel
theorem dksX3_init_1 : cX3_init.data.toList.drop 23 = dktX3_init_1 := dk_seg dksX3_init_0 23 rfl rfl
theorem dksX3_init_2 : cX3_init.data.toList.drop 46 = dktX3_init_2 := dk_seg dksX3_init_1 23 rfl rfl
theorem dksX3_init_3 : cX3_init.data.toList.drop 70 = dktX3_init_3 := dk_seg dksX3_init_2 24 rfl rfl
theorem dksX3_init_4 : cX3_init.data.toList.drop 94 = dktX3_init_4 := dk_seg dksX3_init_3 24 rfl rfl
theorem dksX3_init_5 : cX3_init.data.toList.drop 118 = dktX3_init_5 := dk_seg dksX3_init_4 24 rfl rfl
theorem dksX3_init_6 : cX3_init.data.toList.drop 142 = dktX3_init_6 := dk_seg dksX3_init_5 24 rfl rfl
theorem dksX3_init_7 : cX3_init.data.toList.drop 166 = dktX3_init_7 := dk_seg dksX3_init_6 24 rfl rfl
theorem dksX3_init_8 : cX3_init.data.toList.drop 190 = dktX3_init_8 := dk_seg dksX3_init_7 24 rfl rfl
theorem dksX3_init_9 : cX3_init.data.toList.drop 214 = dktX3_init_9 := dk_seg dksX3_init_8 24 rfl rfl
theorem dksX3_init_10 : cX3_init.data.toList.drop 238 = dktX3_init_10 := dk_seg dksX3_init_9 24 rfl rfl
theorem dksX3_init_11 : cX3_init.data.toList.drop 262 = dktX3_init_11 := dk_seg dksX3_init_10 24 rfl rfl
theorem dksX3_init_12 : cX3_init.data.toList.drop 286 = dktX3_init_12 := dk_seg dksX3_init_11 24 rfl rfl
theorem dksX3_init_13 : cX3_init.data.toList.drop 310 = dktX3_init_13 := dk_seg dksX3_init_12 24 rfl rfl
theorem dX3_init_0 : decode cX3_init 0 = .ok (.aload_n 0, 1) := dk_42 (dk_at dksX3_init_0 0 rfl rfl)
theorem dX3_init_1 : decode cX3_init 1 = .ok (.invokespecial 1, 3) := dk_183 0 1 (dk_at dksX3_init_0 1 rfl rfl)
theorem dX3_init_4 : decode cX3_init 4 = .ok (.aload_n 0, 1) := dk_42 (dk_at dksX3_init_0 4 rfl rfl)
theorem dX3_init_5 : decode cX3_init 5 = .ok (.sipush 295, 3) := dk_17 1 39 (dk_at dksX3_init_0 5 rfl rfl)
theorem dX3_init_8 : decode cX3_init 8 = .ok (.newarray .int, 2) := dk_188_10 (dk_at dksX3_init_0 8 rfl rfl)
theorem dX3_init_10 : decode cX3_init 10 = .ok (.putfield 9, 3) := dk_181 0 9 (dk_at dksX3_init_0 10 rfl rfl)
theorem dX3_init_13 : decode cX3_init 13 = .ok (.aload_n 0, 1) := dk_42 (dk_at dksX3_init_0 13 rfl rfl)
theorem dX3_init_14 : decode cX3_init 14 = .ok (.sipush 295, 3) := dk_17 1 39 (dk_at dksX3_init_0 14 rfl rfl)
theorem dX3_init_17 : decode cX3_init 17 = .ok (.newarray .int, 2) := dk_188_10 (dk_at dksX3_init_0 17 rfl rfl)
theorem dX3_init_19 : decode cX3_init 19 = .ok (.putfield 13, 3) := dk_181 0 13 (dk_at dksX3_init_0 19 rfl rfl)
theorem dX3_init_22 : decode cX3_init 22 = .ok (.aload_n 0, 1) := dk_42 (dk_at dksX3_init_0 22 rfl rfl)
theorem dX3_init_23 : decode cX3_init 23 = .ok (.sipush 295, 3) := dk_17 1 39 (dk_at dksX3_init_1 0 rfl rfl)
theorem dX3_init_26 : decode cX3_init 26 = .ok (.newarray .int, 2) := dk_188_10 (dk_at dksX3_init_1 3 rfl rfl)
theorem dX3_init_28 : decode cX3_init 28 = .ok (.putfield 16, 3) := dk_181 0 16 (dk_at dksX3_init_1 5 rfl rfl)
theorem dX3_init_31 : decode cX3_init 31 = .ok (.aload_n 0, 1) := dk_42 (dk_at dksX3_init_1 8 rfl rfl)
theorem dX3_init_32 : decode cX3_init 32 = .ok (.sipush 295, 3) := dk_17 1 39 (dk_at dksX3_init_1 9 rfl rfl)
theorem dX3_init_35 : decode cX3_init 35 = .ok (.newarray .int, 2) := dk_188_10 (dk_at dksX3_init_1 12 rfl rfl)
theorem dX3_init_37 : decode cX3_init 37 = .ok (.putfield 19, 3) := dk_181 0 19 (dk_at dksX3_init_1 14 rfl rfl)
theorem dX3_init_40 : decode cX3_init 40 = .ok (.aload_n 0, 1) := dk_42 (dk_at dksX3_init_1 17 rfl rfl)
theorem dX3_init_41 : decode cX3_init 41 = .ok (.sipush 2360, 3) := dk_17 9 56 (dk_at dksX3_init_1 18 rfl rfl)
theorem dX3_init_44 : decode cX3_init 44 = .ok (.newarray .int, 2) := dk_188_10 (dk_at dksX3_init_1 21 rfl rfl)
theorem dX3_init_46 : decode cX3_init 46 = .ok (.putfield 22, 3) := dk_181 0 22 (dk_at dksX3_init_2 0 rfl rfl)
theorem dX3_init_49 : decode cX3_init 49 = .ok (.aload_n 0, 1) := dk_42 (dk_at dksX3_init_2 3 rfl rfl)
theorem dX3_init_50 : decode cX3_init 50 = .ok (.iconst (-1), 1) := dk_2 (dk_at dksX3_init_2 4 rfl rfl)
theorem dX3_init_51 : decode cX3_init 51 = .ok (.putfield 25, 3) := dk_181 0 25 (dk_at dksX3_init_2 5 rfl rfl)
theorem dX3_init_54 : decode cX3_init 54 = .ok (.aload_n 0, 1) := dk_42 (dk_at dksX3_init_2 8 rfl rfl)
theorem dX3_init_55 : decode cX3_init 55 = .ok (.bipush 60, 2) := dk_16 60 (dk_at dksX3_init_2 9 rfl rfl)
theorem dX3_init_57 : decode cX3_init 57 = .ok (.newarray .int, 2) := dk_188_10 (dk_at dksX3_init_2 11 rfl rfl)
theorem dX3_init_59 : decode cX3_init 59 = .ok (.putfield 29, 3) := dk_181 0 29 (dk_at dksX3_init_2 13 rfl rfl)
theorem dX3_init_62 : decode cX3_init 62 = .ok (.aload_n 0, 1) := dk_42 (dk_at dksX3_init_2 16 rfl rfl)
theorem dX3_init_63 : decode cX3_init 63 = .ok (.bipush 12, 2) := dk_16 12 (dk_at dksX3_init_2 17 rfl rfl)
theorem dX3_init_65 : decode cX3_init 65 = .ok (.newarray .int, 2) := dk_188_10 (dk_at dksX3_init_2 19 rfl rfl)
theorem dX3_init_67 : decode cX3_init 67 = .ok (.putfield 32, 3) := dk_181 0 32 (dk_at dksX3_init_2 21 rfl rfl)
theorem dX3_init_70 : decode cX3_init 70 = .ok (.aload_n 0, 1) := dk_42 (dk_at dksX3_init_3 0 rfl rfl)
theorem dX3_init_71 : decode cX3_init 71 = .ok (.bipush 12, 2) := dk_16 12 (dk_at dksX3_init_3 1 rfl rfl)
theorem dX3_init_73 : decode cX3_init 73 = .ok (.newarray .boolean, 2) := dk_188_4 (dk_at dksX3_init_3 3 rfl rfl)
theorem dX3_init_75 : decode cX3_init 75 = .ok (.putfield 35, 3) := dk_181 0 35 (dk_at dksX3_init_3 5 rfl rfl)
theorem dX3_init_78 : decode cX3_init 78 = .ok (.aload_n 0, 1) := dk_42 (dk_at dksX3_init_3 8 rfl rfl)
theorem dX3_init_79 : decode cX3_init 79 = .ok (.bipush 28, 2) := dk_16 28 (dk_at dksX3_init_3 9 rfl rfl)
theorem dX3_init_81 : decode cX3_init 81 = .ok (.newarray .char, 2) := dk_188_5 (dk_at dksX3_init_3 11 rfl rfl)
theorem dX3_init_83 : decode cX3_init 83 = .ok (.dup, 1) := dk_89 (dk_at dksX3_init_3 13 rfl rfl)
theorem dX3_init_84 : decode cX3_init 84 = .ok (.iconst 0, 1) := dk_3 (dk_at dksX3_init_3 14 rfl rfl)
theorem dX3_init_85 : decode cX3_init 85 = .ok (.bipush 119, 2) := dk_16 119 (dk_at dksX3_init_3 15 rfl rfl)
theorem dX3_init_87 : decode cX3_init 87 = .ok (.castore, 1) := dk_85 (dk_at dksX3_init_3 17 rfl rfl)
theorem dX3_init_88 : decode cX3_init 88 = .ok (.dup, 1) := dk_89 (dk_at dksX3_init_3 18 rfl rfl)
theorem dX3_init_89 : decode cX3_init 89 = .ok (.iconst 1, 1) := dk_4 (dk_at dksX3_init_3 19 rfl rfl)
theorem dX3_init_90 : decode cX3_init 90 = .ok (.bipush 97, 2) := dk_16 97 (dk_at dksX3_init_3 20 rfl rfl)
theorem dX3_init_92 : decode cX3_init 92 = .ok (.castore, 1) := dk_85 (dk_at dksX3_init_3 22 rfl rfl)
theorem dX3_init_93 : decode cX3_init 93 = .ok (.dup, 1) := dk_89 (dk_at dksX3_init_3 23 rfl rfl)
theorem dX3_init_94 : decode cX3_init 94 = .ok (.iconst 2, 1) := dk_5 (dk_at dksX3_init_4 0 rfl rfl)
theorem dX3_init_95 : decode cX3_init 95 = .ok (.bipush 108, 2) := dk_16 108 (dk_at dksX3_init_4 1 rfl rfl)
theorem dX3_init_97 : decode cX3_init 97 = .ok (.castore, 1) := dk_85 (dk_at dksX3_init_4 3 rfl rfl)
theorem dX3_init_98 : decode cX3_init 98 = .ok (.dup, 1) := dk_89 (dk_at dksX3_init_4 4 rfl rfl)
theorem dX3_init_99 : decode cX3_init 99 = .ok (.iconst 3, 1) := dk_6 (dk_at dksX3_init_4 5 rfl rfl)
theorem dX3_init_100 : decode cX3_init 100 = .ok (.bipush 107, 2) := dk_16 107 (dk_at dksX3_init_4 6 rfl rfl)
theorem dX3_init_102 : decode cX3_init 102 = .ok (.castore, 1) := dk_85 (dk_at dksX3_init_4 8 rfl rfl)
theorem dX3_init_103 : decode cX3_init 103 = .ok (.dup, 1) := dk_89 (dk_at dksX3_init_4 9 rfl rfl)
theorem dX3_init_104 : decode cX3_init 104 = .ok (.iconst 4, 1) := dk_7 (dk_at dksX3_init_4 10 rfl rfl)
theorem dX3_init_105 : decode cX3_init 105 = .ok (.bipush 110, 2) := dk_16 110 (dk_at dksX3_init_4 11 rfl rfl)
theorem dX3_init_107 : decode cX3_init 107 = .ok (.castore, 1) := dk_85 (dk_at dksX3_init_4 13 rfl rfl)
theorem dX3_init_108 : decode cX3_init 108 = .ok (.dup, 1) := dk_89 (dk_at dksX3_init_4 14 rfl rfl)
theorem dX3_init_109 : decode cX3_init 109 = .ok (.iconst 5, 1) := dk_8 (dk_at dksX3_init_4 15 rfl rfl)
theorem dX3_init_110 : decode cX3_init 110 = .ok (.bipush 105, 2) := dk_16 105 (dk_at dksX3_init_4 16 rfl rfl)
theorem dX3_init_112 : decode cX3_init 112 = .ok (.castore, 1) := dk_85 (dk_at dksX3_init_4 18 rfl rfl)
theorem dX3_init_113 : decode cX3_init 113 = .ok (.dup, 1) := dk_89 (dk_at dksX3_init_4 19 rfl rfl)
theorem dX3_init_114 : decode cX3_init 114 = .ok (.bipush 6, 2) := dk_16 6 (dk_at dksX3_init_4 20 rfl rfl)
theorem dX3_init_116 : decode cX3_init 116 = .ok (.bipush 103, 2) := dk_16 103 (dk_at dksX3_init_4 22 rfl rfl)
theorem dX3_init_118 : decode cX3_init 118 = .ok (.castore, 1) := dk_85 (dk_at dksX3_init_5 0 rfl rfl)
theorem dX3_init_119 : decode cX3_init 119 = .ok (.dup, 1) := dk_89 (dk_at dksX3_init_5 1 rfl rfl)
theorem dX3_init_120 : decode cX3_init 120 = .ok (.bipush 7, 2) := dk_16 7 (dk_at dksX3_init_5 2 rfl rfl)
theorem dX3_init_122 : decode cX3_init 122 = .ok (.bipush 104, 2) := dk_16 104 (dk_at dksX3_init_5 4 rfl rfl)
theorem dX3_init_124 : decode cX3_init 124 = .ok (.castore, 1) := dk_85 (dk_at dksX3_init_5 6 rfl rfl)
theorem dX3_init_125 : decode cX3_init 125 = .ok (.dup, 1) := dk_89 (dk_at dksX3_init_5 7 rfl rfl)
theorem dX3_init_126 : decode cX3_init 126 = .ok (.bipush 8, 2) := dk_16 8 (dk_at dksX3_init_5 8 rfl rfl)
theorem dX3_init_128 : decode cX3_init 128 = .ok (.bipush 116, 2) := dk_16 116 (dk_at dksX3_init_5 10 rfl rfl)
theorem dX3_init_130 : decode cX3_init 130 = .ok (.castore, 1) := dk_85 (dk_at dksX3_init_5 12 rfl rfl)
theorem dX3_init_131 : decode cX3_init 131 = .ok (.dup, 1) := dk_89 (dk_at dksX3_init_5 13 rfl rfl)
theorem dX3_init_132 : decode cX3_init 132 = .ok (.bipush 9, 2) := dk_16 9 (dk_at dksX3_init_5 14 rfl rfl)
theorem dX3_init_134 : decode cX3_init 134 = .ok (.bipush 115, 2) := dk_16 115 (dk_at dksX3_init_5 16 rfl rfl)
theorem dX3_init_136 : decode cX3_init 136 = .ok (.castore, 1) := dk_85 (dk_at dksX3_init_5 18 rfl rfl)
theorem dX3_init_137 : decode cX3_init 137 = .ok (.dup, 1) := dk_89 (dk_at dksX3_init_5 19 rfl rfl)
theorem dX3_init_138 : decode cX3_init 138 = .ok (.bipush 10, 2) := dk_16 10 (dk_at dksX3_init_5 20 rfl rfl)
theorem dX3_init_140 : decode cX3_init 140 = .ok (.bipush 104, 2) := dk_16 104 (dk_at dksX3_init_5 22 rfl rfl)
theorem dX3_init_142 : decode cX3_init 142 = .ok (.castore, 1) := dk_85 (dk_at dksX3_init_6 0 rfl rfl)
theorem dX3_init_143 : decode cX3_init 143 = .ok (.dup, 1) := dk_89 (dk_at dksX3_init_6 1 rfl rfl)
theorem dX3_init_144 : decode cX3_init 144 = .ok (.bipush 11, 2) := dk_16 11 (dk_at dksX3_init_6 2 rfl rfl)
theorem dX3_init_146 : decode cX3_init 146 = .ok (.bipush 117, 2) := dk_16 117 (dk_at dksX3_init_6 4 rfl rfl)
theorem dX3_init_148 : decode cX3_init 148 = .ok (.castore, 1) := dk_85 (dk_at dksX3_init_6 6 rfl rfl)
theorem dX3_init_149 : decode cX3_init 149 = .ok (.dup, 1) := dk_89 (dk_at dksX3_init_6 7 rfl rfl)
theorem dX3_init_150 : decode cX3_init 150 = .ok (.bipush 12, 2) := dk_16 12 (dk_at dksX3_init_6 8 rfl rfl)
theorem dX3_init_152 : decode cX3_init 152 = .ok (.bipush 116, 2) := dk_16 116 (dk_at dksX3_init_6 10 rfl rfl)
theorem dX3_init_154 : decode cX3_init 154 = .ok (.castore, 1) := dk_85 (dk_at dksX3_init_6 12 rfl rfl)
theorem dX3_init_155 : decode cX3_init 155 = .ok (.dup, 1) := dk_89 (dk_at dksX3_init_6 13 rfl rfl)
theorem dX3_init_156 : decode cX3_init 156 = .ok (.bipush 13, 2) := dk_16 13 (dk_at dksX3_init_6 14 rfl rfl)
theorem dX3_init_158 : decode cX3_init 158 = .ok (.bipush 108, 2) := dk_16 108 (dk_at dksX3_init_6 16 rfl rfl)
theorem dX3_init_160 : decode cX3_init 160 = .ok (.castore, 1) := dk_85 (dk_at dksX3_init_6 18 rfl rfl)
theorem dX3_init_161 : decode cX3_init 161 = .ok (.dup, 1) := dk_89 (dk_at dksX3_init_6 19 rfl rfl)
theorem dX3_init_162 : decode cX3_init 162 = .ok (.bipush 14, 2) := dk_16 14 (dk_at dksX3_init_6 20 rfl rfl)
theorem dX3_init_164 : decode cX3_init 164 = .ok (.bipush 101, 2) := dk_16 101 (dk_at dksX3_init_6 22 rfl rfl)
theorem dX3_init_166 : decode cX3_init 166 = .ok (.castore, 1) := dk_85 (dk_at dksX3_init_7 0 rfl rfl)
theorem dX3_init_167 : decode cX3_init 167 = .ok (.dup, 1) := dk_89 (dk_at dksX3_init_7 1 rfl rfl)
theorem dX3_init_168 : decode cX3_init 168 = .ok (.bipush 15, 2) := dk_16 15 (dk_at dksX3_init_7 2 rfl rfl)
theorem dX3_init_170 : decode cX3_init 170 = .ok (.bipush 118, 2) := dk_16 118 (dk_at dksX3_init_7 4 rfl rfl)
theorem dX3_init_172 : decode cX3_init 172 = .ok (.castore, 1) := dk_85 (dk_at dksX3_init_7 6 rfl rfl)
theorem dX3_init_173 : decode cX3_init 173 = .ok (.dup, 1) := dk_89 (dk_at dksX3_init_7 7 rfl rfl)
theorem dX3_init_174 : decode cX3_init 174 = .ok (.bipush 16, 2) := dk_16 16 (dk_at dksX3_init_7 8 rfl rfl)
theorem dX3_init_176 : decode cX3_init 176 = .ok (.bipush 101, 2) := dk_16 101 (dk_at dksX3_init_7 10 rfl rfl)
theorem dX3_init_178 : decode cX3_init 178 = .ok (.castore, 1) := dk_85 (dk_at dksX3_init_7 12 rfl rfl)
theorem dX3_init_179 : decode cX3_init 179 = .ok (.dup, 1) := dk_89 (dk_at dksX3_init_7 13 rfl rfl)
theorem dX3_init_180 : decode cX3_init 180 = .ok (.bipush 17, 2) := dk_16 17 (dk_at dksX3_init_7 14 rfl rfl)
theorem dX3_init_182 : decode cX3_init 182 = .ok (.bipush 108, 2) := dk_16 108 (dk_at dksX3_init_7 16 rfl rfl)
theorem dX3_init_184 : decode cX3_init 184 = .ok (.castore, 1) := dk_85 (dk_at dksX3_init_7 18 rfl rfl)
theorem dX3_init_185 : decode cX3_init 185 = .ok (.dup, 1) := dk_89 (dk_at dksX3_init_7 19 rfl rfl)
theorem dX3_init_186 : decode cX3_init 186 = .ok (.bipush 18, 2) := dk_16 18 (dk_at dksX3_init_7 20 rfl rfl)
theorem dX3_init_188 : decode cX3_init 188 = .ok (.bipush 103, 2) := dk_16 103 (dk_at dksX3_init_7 22 rfl rfl)
theorem dX3_init_190 : decode cX3_init 190 = .ok (.castore, 1) := dk_85 (dk_at dksX3_init_8 0 rfl rfl)
theorem dX3_init_191 : decode cX3_init 191 = .ok (.dup, 1) := dk_89 (dk_at dksX3_init_8 1 rfl rfl)
theorem dX3_init_192 : decode cX3_init 192 = .ok (.bipush 19, 2) := dk_16 19 (dk_at dksX3_init_8 2 rfl rfl)
theorem dX3_init_194 : decode cX3_init 194 = .ok (.bipush 105, 2) := dk_16 105 (dk_at dksX3_init_8 4 rfl rfl)
theorem dX3_init_196 : decode cX3_init 196 = .ok (.castore, 1) := dk_85 (dk_at dksX3_init_8 6 rfl rfl)
theorem dX3_init_197 : decode cX3_init 197 = .ok (.dup, 1) := dk_89 (dk_at dksX3_init_8 7 rfl rfl)
theorem dX3_init_198 : decode cX3_init 198 = .ok (.bipush 20, 2) := dk_16 20 (dk_at dksX3_init_8 8 rfl rfl)
theorem dX3_init_200 : decode cX3_init 200 = .ok (.bipush 118, 2) := dk_16 118 (dk_at dksX3_init_8 10 rfl rfl)
theorem dX3_init_202 : decode cX3_init 202 = .ok (.castore, 1) := dk_85 (dk_at dksX3_init_8 12 rfl rfl)
theorem dX3_init_203 : decode cX3_init 203 = .ok (.dup, 1) := dk_89 (dk_at dksX3_init_8 13 rfl rfl)
theorem dX3_init_204 : decode cX3_init 204 = .ok (.bipush 21, 2) := dk_16 21 (dk_at dksX3_init_8 14 rfl rfl)
theorem dX3_init_206 : decode cX3_init 206 = .ok (.bipush 101, 2) := dk_16 101 (dk_at dksX3_init_8 16 rfl rfl)
theorem dX3_init_208 : decode cX3_init 208 = .ok (.castore, 1) := dk_85 (dk_at dksX3_init_8 18 rfl rfl)
theorem dX3_init_209 : decode cX3_init 209 = .ok (.dup, 1) := dk_89 (dk_at dksX3_init_8 19 rfl rfl)
theorem dX3_init_210 : decode cX3_init 210 = .ok (.bipush 22, 2) := dk_16 22 (dk_at dksX3_init_8 20 rfl rfl)
theorem dX3_init_212 : decode cX3_init 212 = .ok (.bipush 99, 2) := dk_16 99 (dk_at dksX3_init_8 22 rfl rfl)
theorem dX3_init_214 : decode cX3_init 214 = .ok (.castore, 1) := dk_85 (dk_at dksX3_init_9 0 rfl rfl)
theorem dX3_init_215 : decode cX3_init 215 = .ok (.dup, 1) := dk_89 (dk_at dksX3_init_9 1 rfl rfl)
theorem dX3_init_216 : decode cX3_init 216 = .ok (.bipush 23, 2) := dk_16 23 (dk_at dksX3_init_9 2 rfl rfl)
theorem dX3_init_218 : decode cX3_init 218 = .ok (.bipush 101, 2) := dk_16 101 (dk_at dksX3_init_9 4 rfl rfl)
theorem dX3_init_220 : decode cX3_init 220 = .ok (.castore, 1) := dk_85 (dk_at dksX3_init_9 6 rfl rfl)
theorem dX3_init_221 : decode cX3_init 221 = .ok (.dup, 1) := dk_89 (dk_at dksX3_init_9 7 rfl rfl)
theorem dX3_init_222 : decode cX3_init 222 = .ok (.bipush 24, 2) := dk_16 24 (dk_at dksX3_init_9 8 rfl rfl)
theorem dX3_init_224 : decode cX3_init 224 = .ok (.bipush 110, 2) := dk_16 110 (dk_at dksX3_init_9 10 rfl rfl)
theorem dX3_init_226 : decode cX3_init 226 = .ok (.castore, 1) := dk_85 (dk_at dksX3_init_9 12 rfl rfl)
theorem dX3_init_227 : decode cX3_init 227 = .ok (.dup, 1) := dk_89 (dk_at dksX3_init_9 13 rfl rfl)
theorem dX3_init_228 : decode cX3_init 228 = .ok (.bipush 25, 2) := dk_16 25 (dk_at dksX3_init_9 14 rfl rfl)
theorem dX3_init_230 : decode cX3_init 230 = .ok (.bipush 115, 2) := dk_16 115 (dk_at dksX3_init_9 16 rfl rfl)
theorem dX3_init_232 : decode cX3_init 232 = .ok (.castore, 1) := dk_85 (dk_at dksX3_init_9 18 rfl rfl)
theorem dX3_init_233 : decode cX3_init 233 = .ok (.dup, 1) := dk_89 (dk_at dksX3_init_9 19 rfl rfl)
theorem dX3_init_234 : decode cX3_init 234 = .ok (.bipush 26, 2) := dk_16 26 (dk_at dksX3_init_9 20 rfl rfl)
theorem dX3_init_236 : decode cX3_init 236 = .ok (.bipush 117, 2) := dk_16 117 (dk_at dksX3_init_9 22 rfl rfl)
theorem dX3_init_238 : decode cX3_init 238 = .ok (.castore, 1) := dk_85 (dk_at dksX3_init_10 0 rfl rfl)
theorem dX3_init_239 : decode cX3_init 239 = .ok (.dup, 1) := dk_89 (dk_at dksX3_init_10 1 rfl rfl)
theorem dX3_init_240 : decode cX3_init 240 = .ok (.bipush 27, 2) := dk_16 27 (dk_at dksX3_init_10 2 rfl rfl)
theorem dX3_init_242 : decode cX3_init 242 = .ok (.bipush 115, 2) := dk_16 115 (dk_at dksX3_init_10 4 rfl rfl)
theorem dX3_init_244 : decode cX3_init 244 = .ok (.castore, 1) := dk_85 (dk_at dksX3_init_10 6 rfl rfl)
theorem dX3_init_245 : decode cX3_init 245 = .ok (.putfield 39, 3) := dk_181 0 39 (dk_at dksX3_init_10 7 rfl rfl)
theorem dX3_init_248 : decode cX3_init 248 = .ok (.aload_n 0, 1) := dk_42 (dk_at dksX3_init_10 10 rfl rfl)
theorem dX3_init_249 : decode cX3_init 249 = .ok (.bipush 7, 2) := dk_16 7 (dk_at dksX3_init_10 11 rfl rfl)
theorem dX3_init_251 : decode cX3_init 251 = .ok (.newarray .int, 2) := dk_188_10 (dk_at dksX3_init_10 13 rfl rfl)
theorem dX3_init_253 : decode cX3_init 253 = .ok (.dup, 1) := dk_89 (dk_at dksX3_init_10 15 rfl rfl)
theorem dX3_init_254 : decode cX3_init 254 = .ok (.iconst 0, 1) := dk_3 (dk_at dksX3_init_10 16 rfl rfl)
theorem dX3_init_255 : decode cX3_init 255 = .ok (.iconst 0, 1) := dk_3 (dk_at dksX3_init_10 17 rfl rfl)
theorem dX3_init_256 : decode cX3_init 256 = .ok (.iastore, 1) := dk_79 (dk_at dksX3_init_10 18 rfl rfl)
theorem dX3_init_257 : decode cX3_init 257 = .ok (.dup, 1) := dk_89 (dk_at dksX3_init_10 19 rfl rfl)
theorem dX3_init_258 : decode cX3_init 258 = .ok (.iconst 1, 1) := dk_4 (dk_at dksX3_init_10 20 rfl rfl)
theorem dX3_init_259 : decode cX3_init 259 = .ok (.iconst 4, 1) := dk_7 (dk_at dksX3_init_10 21 rfl rfl)
theorem dX3_init_260 : decode cX3_init 260 = .ok (.iastore, 1) := dk_79 (dk_at dksX3_init_10 22 rfl rfl)
theorem dX3_init_261 : decode cX3_init 261 = .ok (.dup, 1) := dk_89 (dk_at dksX3_init_10 23 rfl rfl)
theorem dX3_init_262 : decode cX3_init 262 = .ok (.iconst 2, 1) := dk_5 (dk_at dksX3_init_11 0 rfl rfl)
theorem dX3_init_263 : decode cX3_init 263 = .ok (.bipush 9, 2) := dk_16 9 (dk_at dksX3_init_11 1 rfl rfl)
theorem dX3_init_265 : decode cX3_init 265 = .ok (.iastore, 1) := dk_79 (dk_at dksX3_init_11 3 rfl rfl)
theorem dX3_init_266 : decode cX3_init 266 = .ok (.dup, 1) := dk_89 (dk_at dksX3_init_11 4 rfl rfl)
theorem dX3_init_267 : decode cX3_init 267 = .ok (.iconst 3, 1) := dk_6 (dk_at dksX3_init_11 5 rfl rfl)
theorem dX3_init_268 : decode cX3_init 268 = .ok (.bipush 13, 2) := dk_16 13 (dk_at dksX3_init_11 6 rfl rfl)
theorem dX3_init_270 : decode cX3_init 270 = .ok (.iastore, 1) := dk_79 (dk_at dksX3_init_11 8 rfl rfl)
theorem dX3_init_271 : decode cX3_init 271 = .ok (.dup, 1) := dk_89 (dk_at dksX3_init_11 9 rfl rfl)
theorem dX3_init_272 : decode cX3_init 272 = .ok (.iconst 4, 1) := dk_7 (dk_at dksX3_init_11 10 rfl rfl)
theorem dX3_init_273 : decode cX3_init 273 = .ok (.bipush 18, 2) := dk_16 18 (dk_at dksX3_init_11 11 rfl rfl)
theorem dX3_init_275 : decode cX3_init 275 = .ok (.iastore, 1) := dk_79 (dk_at dksX3_init_11 13 rfl rfl)
theorem dX3_init_276 : decode cX3_init 276 = .ok (.dup, 1) := dk_89 (dk_at dksX3_init_11 14 rfl rfl)
theorem dX3_init_277 : decode cX3_init 277 = .ok (.iconst 5, 1) := dk_8 (dk_at dksX3_init_11 15 rfl rfl)
theorem dX3_init_278 : decode cX3_init 278 = .ok (.bipush 22, 2) := dk_16 22 (dk_at dksX3_init_11 16 rfl rfl)
theorem dX3_init_280 : decode cX3_init 280 = .ok (.iastore, 1) := dk_79 (dk_at dksX3_init_11 18 rfl rfl)
theorem dX3_init_281 : decode cX3_init 281 = .ok (.dup, 1) := dk_89 (dk_at dksX3_init_11 19 rfl rfl)
theorem dX3_init_282 : decode cX3_init 282 = .ok (.bipush 6, 2) := dk_16 6 (dk_at dksX3_init_11 20 rfl rfl)
theorem dX3_init_284 : decode cX3_init 284 = .ok (.bipush 28, 2) := dk_16 28 (dk_at dksX3_init_11 22 rfl rfl)
theorem dX3_init_286 : decode cX3_init 286 = .ok (.iastore, 1) := dk_79 (dk_at dksX3_init_12 0 rfl rfl)
theorem dX3_init_287 : decode cX3_init 287 = .ok (.putfield 43, 3) := dk_181 0 43 (dk_at dksX3_init_12 1 rfl rfl)
theorem dX3_init_290 : decode cX3_init 290 = .ok (.aload_n 0, 1) := dk_42 (dk_at dksX3_init_12 4 rfl rfl)
theorem dX3_init_291 : decode cX3_init 291 = .ok (.bipush 122, 2) := dk_16 122 (dk_at dksX3_init_12 5 rfl rfl)
theorem dX3_init_293 : decode cX3_init 293 = .ok (.newarray .int, 2) := dk_188_10 (dk_at dksX3_init_12 7 rfl rfl)
theorem dX3_init_295 : decode cX3_init 295 = .ok (.putfield 46, 3) := dk_181 0 46 (dk_at dksX3_init_12 9 rfl rfl)
theorem dX3_init_298 : decode cX3_init 298 = .ok (.aload_n 0, 1) := dk_42 (dk_at dksX3_init_12 12 rfl rfl)
theorem dX3_init_299 : decode cX3_init 299 = .ok (.bipush 64, 2) := dk_16 64 (dk_at dksX3_init_12 13 rfl rfl)
theorem dX3_init_301 : decode cX3_init 301 = .ok (.newarray .int, 2) := dk_188_10 (dk_at dksX3_init_12 15 rfl rfl)
theorem dX3_init_303 : decode cX3_init 303 = .ok (.putfield 49, 3) := dk_181 0 49 (dk_at dksX3_init_12 17 rfl rfl)
theorem dX3_init_306 : decode cX3_init 306 = .ok (.aload_n 0, 1) := dk_42 (dk_at dksX3_init_12 20 rfl rfl)
theorem dX3_init_307 : decode cX3_init 307 = .ok (.getfield 9, 3) := dk_180 0 9 (dk_at dksX3_init_12 21 rfl rfl)
theorem dX3_init_310 : decode cX3_init 310 = .ok (.iconst 3, 1) := dk_6 (dk_at dksX3_init_13 0 rfl rfl)
theorem dX3_init_311 : decode cX3_init 311 = .ok (.iconst 3, 1) := dk_6 (dk_at dksX3_init_13 1 rfl rfl)
theorem dX3_init_312 : decode cX3_init 312 = .ok (.iastore, 1) := dk_79 (dk_at dksX3_init_13 2 rfl rfl)
theorem dX3_init_313 : decode cX3_init 313 = .ok (.aload_n 0, 1) := dk_42 (dk_at dksX3_init_13 3 rfl rfl)
theorem dX3_init_314 : decode cX3_init 314 = .ok (.getfield 9, 3) := dk_180 0 9 (dk_at dksX3_init_13 4 rfl rfl)
theorem dX3_init_317 : decode cX3_init 317 = .ok (.iconst 4, 1) := dk_7 (dk_at dksX3_init_13 7 rfl rfl)
theorem dX3_init_318 : decode cX3_init 318 = .ok (.bipush 60, 2) := dk_16 60 (dk_at dksX3_init_13 8 rfl rfl)
theorem dX3_init_320 : decode cX3_init 320 = .ok (.iastore, 1) := dk_79 (dk_at dksX3_init_13 10 rfl rfl)
theorem dX3_init_321 : decode cX3_init 321 = .ok (.return_, 1) := dk_177 (dk_at dksX3_init_13 11 rfl rfl)
abbrev cX3_thrown : ByteArray := prog_11_method_2_code
def yX3_thrown : MethodName := ⟨RX3, "thrown", "()I"⟩
theorem dX3_thrown_0 : decode cX3_thrown 0 = .ok (.aload_n 0, 1) := by decide +kernel
theorem dX3_thrown_1 : decode cX3_thrown 1 = .ok (.getfield 52, 3) := by decide +kernel
theorem dX3_thrown_4 : decode cX3_thrown 4 = .ok (.ireturn, 1) := by decide +kernel
abbrev cX3_reach : ByteArray := prog_11_method_19_code
def yX3_reach : MethodName := ⟨RX3, "reach", "(II)I"⟩
def dkwX3_reach_7 : List UInt8 := [182, 0, 100, 172]
abbrev dktX3_reach_7 : List UInt8 := dkwX3_reach_7 ++ []
def dkwX3_reach_6 : List UInt8 := [96, 2, 79, 42, 180, 0, 9, 3, 92, 46, 4, 96, 79, 42, 42, 180, 0, 9, 3, 46, 4, 100]
abbrev dktX3_reach_6 : List UInt8 := dkwX3_reach_6 ++ dktX3_reach_7
def dkwX3_reach_5 : List UInt8 := [180, 0, 9, 29, 7, 96, 28, 2, 160, 0, 7, 3, 167, 0, 4, 4, 79, 42, 180, 0, 9, 29, 16, 8]
abbrev dktX3_reach_5 : List UInt8 := dkwX3_reach_5 ++ dktX3_reach_6
def dkwX3_reach_4 : List UInt8 := [167, 255, 236, 42, 180, 0, 9, 29, 3, 96, 27, 79, 42, 180, 0, 9, 29, 4, 96, 28, 79, 42]
abbrev dktX3_reach_4 : List UInt8 := dkwX3_reach_4 ++ dktX3_reach_5
def dkwX3_reach_3 : List UInt8 := [62, 3, 54, 4, 21, 4, 16, 9, 162, 0, 19, 42, 180, 0, 9, 29, 21, 4, 96, 3, 79, 132, 4, 1]
abbrev dktX3_reach_3 : List UInt8 := dkwX3_reach_3 ++ dktX3_reach_4
def dkwX3_reach_2 : List UInt8 := [3, 46, 16, 12, 160, 0, 11, 42, 4, 16, 12, 182, 0, 94, 172, 42, 180, 0, 9, 3, 46, 184, 0, 86]
abbrev dktX3_reach_2 : List UInt8 := dkwX3_reach_2 ++ dktX3_reach_3
def dkwX3_reach_1 : List UInt8 := [133, 20, 0, 98, 20, 0, 92, 184, 0, 71, 154, 0, 10, 42, 6, 28, 182, 0, 94, 172, 42, 180, 0, 9]
abbrev dktX3_reach_1 : List UInt8 := dkwX3_reach_1 ++ dktX3_reach_2
def dkwX3_reach_0 : List UInt8 := [42, 182, 0, 89, 27, 133, 9, 20, 0, 92, 184, 0, 71, 154, 0, 10, 42, 6, 27, 182, 0, 94, 172, 28]
abbrev dktX3_reach_0 : List UInt8 := dkwX3_reach_0 ++ dktX3_reach_1
theorem dksX3_reach_0 : cX3_reach.data.toList.drop 0 = dktX3_reach_0 := by decide +kernel
theorem dksX3_reach_1 : cX3_reach.data.toList.drop 24 = dktX3_reach_1 := dk_seg dksX3_reach_0 24 rfl rfl
theorem dksX3_reach_2 : cX3_reach.data.toList.drop 48 = dktX3_reach_2 := dk_seg dksX3_reach_1 24 rfl rfl
theorem dksX3_reach_3 : cX3_reach.data.toList.drop 72 = dktX3_reach_3 := dk_seg dksX3_reach_2 24 rfl rfl
theorem dksX3_reach_4 : cX3_reach.data.toList.drop 96 = dktX3_reach_4 := dk_seg dksX3_reach_3 24 rfl rfl
theorem dksX3_reach_5 : cX3_reach.data.toList.drop 118 = dktX3_reach_5 := dk_seg dksX3_reach_4 22 rfl rfl
theorem dksX3_reach_6 : cX3_reach.data.toList.drop 142 = dktX3_reach_6 := dk_seg dksX3_reach_5 24 rfl rfl
theorem dksX3_reach_7 : cX3_reach.data.toList.drop 164 = dktX3_reach_7 := dk_seg dksX3_reach_6 22 rfl rfl
theorem dX3_reach_0 : decode cX3_reach 0 = .ok (.aload_n 0, 1) := dk_42 (dk_at dksX3_reach_0 0 rfl rfl)
theorem dX3_reach_1 : decode cX3_reach 1 = .ok (.invokevirtual 89, 3) := dk_182 0 89 (dk_at dksX3_reach_0 1 rfl rfl)
theorem dX3_reach_4 : decode cX3_reach 4 = .ok (.iload_n 1, 1) := dk_27 (dk_at dksX3_reach_0 4 rfl rfl)
theorem dX3_reach_5 : decode cX3_reach 5 = .ok (.i2l, 1) := dk_133 (dk_at dksX3_reach_0 5 rfl rfl)
theorem dX3_reach_6 : decode cX3_reach 6 = .ok (.lconst 0, 1) := dk_9 (dk_at dksX3_reach_0 6 rfl rfl)
theorem dX3_reach_7 : decode cX3_reach 7 = .ok (.ldc2_w 92, 3) := dk_20 0 92 (dk_at dksX3_reach_0 7 rfl rfl)
theorem dX3_reach_10 : decode cX3_reach 10 = .ok (.invokestatic 71, 3) := dk_184 0 71 (dk_at dksX3_reach_0 10 rfl rfl)
theorem dX3_reach_13 : decode cX3_reach 13 = .ok (.ifCond .ne 10, 3) := dk_154 0 10 (dk_at dksX3_reach_0 13 rfl rfl)
theorem dX3_reach_16 : decode cX3_reach 16 = .ok (.aload_n 0, 1) := dk_42 (dk_at dksX3_reach_0 16 rfl rfl)
theorem dX3_reach_17 : decode cX3_reach 17 = .ok (.iconst 3, 1) := dk_6 (dk_at dksX3_reach_0 17 rfl rfl)
theorem dX3_reach_18 : decode cX3_reach 18 = .ok (.iload_n 1, 1) := dk_27 (dk_at dksX3_reach_0 18 rfl rfl)
theorem dX3_reach_19 : decode cX3_reach 19 = .ok (.invokevirtual 94, 3) := dk_182 0 94 (dk_at dksX3_reach_0 19 rfl rfl)
theorem dX3_reach_22 : decode cX3_reach 22 = .ok (.ireturn, 1) := dk_172 (dk_at dksX3_reach_0 22 rfl rfl)
theorem dX3_reach_23 : decode cX3_reach 23 = .ok (.iload_n 2, 1) := dk_28 (dk_at dksX3_reach_0 23 rfl rfl)
theorem dX3_reach_24 : decode cX3_reach 24 = .ok (.i2l, 1) := dk_133 (dk_at dksX3_reach_1 0 rfl rfl)
theorem dX3_reach_25 : decode cX3_reach 25 = .ok (.ldc2_w 98, 3) := dk_20 0 98 (dk_at dksX3_reach_1 1 rfl rfl)
theorem dX3_reach_28 : decode cX3_reach 28 = .ok (.ldc2_w 92, 3) := dk_20 0 92 (dk_at dksX3_reach_1 4 rfl rfl)
theorem dX3_reach_31 : decode cX3_reach 31 = .ok (.invokestatic 71, 3) := dk_184 0 71 (dk_at dksX3_reach_1 7 rfl rfl)
theorem dX3_reach_34 : decode cX3_reach 34 = .ok (.ifCond .ne 10, 3) := dk_154 0 10 (dk_at dksX3_reach_1 10 rfl rfl)
theorem dX3_reach_37 : decode cX3_reach 37 = .ok (.aload_n 0, 1) := dk_42 (dk_at dksX3_reach_1 13 rfl rfl)
theorem dX3_reach_38 : decode cX3_reach 38 = .ok (.iconst 3, 1) := dk_6 (dk_at dksX3_reach_1 14 rfl rfl)
theorem dX3_reach_39 : decode cX3_reach 39 = .ok (.iload_n 2, 1) := dk_28 (dk_at dksX3_reach_1 15 rfl rfl)
theorem dX3_reach_40 : decode cX3_reach 40 = .ok (.invokevirtual 94, 3) := dk_182 0 94 (dk_at dksX3_reach_1 16 rfl rfl)
theorem dX3_reach_43 : decode cX3_reach 43 = .ok (.ireturn, 1) := dk_172 (dk_at dksX3_reach_1 19 rfl rfl)
theorem dX3_reach_44 : decode cX3_reach 44 = .ok (.aload_n 0, 1) := dk_42 (dk_at dksX3_reach_1 20 rfl rfl)
theorem dX3_reach_45 : decode cX3_reach 45 = .ok (.getfield 9, 3) := dk_180 0 9 (dk_at dksX3_reach_1 21 rfl rfl)
theorem dX3_reach_48 : decode cX3_reach 48 = .ok (.iconst 0, 1) := dk_3 (dk_at dksX3_reach_2 0 rfl rfl)
theorem dX3_reach_49 : decode cX3_reach 49 = .ok (.iaload, 1) := dk_46 (dk_at dksX3_reach_2 1 rfl rfl)
theorem dX3_reach_50 : decode cX3_reach 50 = .ok (.bipush 12, 2) := dk_16 12 (dk_at dksX3_reach_2 2 rfl rfl)
theorem dX3_reach_52 : decode cX3_reach 52 = .ok (.if_icmp .ne 11, 3) := dk_160 0 11 (dk_at dksX3_reach_2 4 rfl rfl)
theorem dX3_reach_55 : decode cX3_reach 55 = .ok (.aload_n 0, 1) := dk_42 (dk_at dksX3_reach_2 7 rfl rfl)
theorem dX3_reach_56 : decode cX3_reach 56 = .ok (.iconst 1, 1) := dk_4 (dk_at dksX3_reach_2 8 rfl rfl)
theorem dX3_reach_57 : decode cX3_reach 57 = .ok (.bipush 12, 2) := dk_16 12 (dk_at dksX3_reach_2 9 rfl rfl)
theorem dX3_reach_59 : decode cX3_reach 59 = .ok (.invokevirtual 94, 3) := dk_182 0 94 (dk_at dksX3_reach_2 11 rfl rfl)
theorem dX3_reach_62 : decode cX3_reach 62 = .ok (.ireturn, 1) := dk_172 (dk_at dksX3_reach_2 14 rfl rfl)
theorem dX3_reach_63 : decode cX3_reach 63 = .ok (.aload_n 0, 1) := dk_42 (dk_at dksX3_reach_2 15 rfl rfl)
theorem dX3_reach_64 : decode cX3_reach 64 = .ok (.getfield 9, 3) := dk_180 0 9 (dk_at dksX3_reach_2 16 rfl rfl)
theorem dX3_reach_67 : decode cX3_reach 67 = .ok (.iconst 0, 1) := dk_3 (dk_at dksX3_reach_2 19 rfl rfl)
theorem dX3_reach_68 : decode cX3_reach 68 = .ok (.iaload, 1) := dk_46 (dk_at dksX3_reach_2 20 rfl rfl)
theorem dX3_reach_69 : decode cX3_reach 69 = .ok (.invokestatic 86, 3) := dk_184 0 86 (dk_at dksX3_reach_2 21 rfl rfl)
theorem dX3_reach_72 : decode cX3_reach 72 = .ok (.istore_n 3, 1) := dk_62 (dk_at dksX3_reach_3 0 rfl rfl)
theorem dX3_reach_73 : decode cX3_reach 73 = .ok (.iconst 0, 1) := dk_3 (dk_at dksX3_reach_3 1 rfl rfl)
theorem dX3_reach_74 : decode cX3_reach 74 = .ok (.istore 4, 2) := dk_54 4 (dk_at dksX3_reach_3 2 rfl rfl)
theorem dX3_reach_76 : decode cX3_reach 76 = .ok (.iload 4, 2) := dk_21 4 (dk_at dksX3_reach_3 4 rfl rfl)
theorem dX3_reach_78 : decode cX3_reach 78 = .ok (.bipush 9, 2) := dk_16 9 (dk_at dksX3_reach_3 6 rfl rfl)
theorem dX3_reach_80 : decode cX3_reach 80 = .ok (.if_icmp .ge 19, 3) := dk_162 0 19 (dk_at dksX3_reach_3 8 rfl rfl)
theorem dX3_reach_83 : decode cX3_reach 83 = .ok (.aload_n 0, 1) := dk_42 (dk_at dksX3_reach_3 11 rfl rfl)
theorem dX3_reach_84 : decode cX3_reach 84 = .ok (.getfield 9, 3) := dk_180 0 9 (dk_at dksX3_reach_3 12 rfl rfl)
theorem dX3_reach_87 : decode cX3_reach 87 = .ok (.iload_n 3, 1) := dk_29 (dk_at dksX3_reach_3 15 rfl rfl)
theorem dX3_reach_88 : decode cX3_reach 88 = .ok (.iload 4, 2) := dk_21 4 (dk_at dksX3_reach_3 16 rfl rfl)
theorem dX3_reach_90 : decode cX3_reach 90 = .ok (.iadd, 1) := dk_96 (dk_at dksX3_reach_3 18 rfl rfl)
theorem dX3_reach_91 : decode cX3_reach 91 = .ok (.iconst 0, 1) := dk_3 (dk_at dksX3_reach_3 19 rfl rfl)
theorem dX3_reach_92 : decode cX3_reach 92 = .ok (.iastore, 1) := dk_79 (dk_at dksX3_reach_3 20 rfl rfl)
theorem dX3_reach_93 : decode cX3_reach 93 = .ok (.iinc 4 1, 3) := dk_132 4 1 (dk_at dksX3_reach_3 21 rfl rfl)
theorem dX3_reach_96 : decode cX3_reach 96 = .ok (.goto (-20), 3) := dk_167 255 236 (dk_at dksX3_reach_4 0 rfl rfl)
theorem dX3_reach_99 : decode cX3_reach 99 = .ok (.aload_n 0, 1) := dk_42 (dk_at dksX3_reach_4 3 rfl rfl)
theorem dX3_reach_100 : decode cX3_reach 100 = .ok (.getfield 9, 3) := dk_180 0 9 (dk_at dksX3_reach_4 4 rfl rfl)
theorem dX3_reach_103 : decode cX3_reach 103 = .ok (.iload_n 3, 1) := dk_29 (dk_at dksX3_reach_4 7 rfl rfl)
theorem dX3_reach_104 : decode cX3_reach 104 = .ok (.iconst 0, 1) := dk_3 (dk_at dksX3_reach_4 8 rfl rfl)
theorem dX3_reach_105 : decode cX3_reach 105 = .ok (.iadd, 1) := dk_96 (dk_at dksX3_reach_4 9 rfl rfl)
theorem dX3_reach_106 : decode cX3_reach 106 = .ok (.iload_n 1, 1) := dk_27 (dk_at dksX3_reach_4 10 rfl rfl)
theorem dX3_reach_107 : decode cX3_reach 107 = .ok (.iastore, 1) := dk_79 (dk_at dksX3_reach_4 11 rfl rfl)
theorem dX3_reach_108 : decode cX3_reach 108 = .ok (.aload_n 0, 1) := dk_42 (dk_at dksX3_reach_4 12 rfl rfl)
theorem dX3_reach_109 : decode cX3_reach 109 = .ok (.getfield 9, 3) := dk_180 0 9 (dk_at dksX3_reach_4 13 rfl rfl)
theorem dX3_reach_112 : decode cX3_reach 112 = .ok (.iload_n 3, 1) := dk_29 (dk_at dksX3_reach_4 16 rfl rfl)
theorem dX3_reach_113 : decode cX3_reach 113 = .ok (.iconst 1, 1) := dk_4 (dk_at dksX3_reach_4 17 rfl rfl)
theorem dX3_reach_114 : decode cX3_reach 114 = .ok (.iadd, 1) := dk_96 (dk_at dksX3_reach_4 18 rfl rfl)
theorem dX3_reach_115 : decode cX3_reach 115 = .ok (.iload_n 2, 1) := dk_28 (dk_at dksX3_reach_4 19 rfl rfl)
theorem dX3_reach_116 : decode cX3_reach 116 = .ok (.iastore, 1) := dk_79 (dk_at dksX3_reach_4 20 rfl rfl)
theorem dX3_reach_117 : decode cX3_reach 117 = .ok (.aload_n 0, 1) := dk_42 (dk_at dksX3_reach_4 21 rfl rfl)
theorem dX3_reach_118 : decode cX3_reach 118 = .ok (.getfield 9, 3) := dk_180 0 9 (dk_at dksX3_reach_5 0 rfl rfl)
theorem dX3_reach_121 : decode cX3_reach 121 = .ok (.iload_n 3, 1) := dk_29 (dk_at dksX3_reach_5 3 rfl rfl)
theorem dX3_reach_122 : decode cX3_reach 122 = .ok (.iconst 4, 1) := dk_7 (dk_at dksX3_reach_5 4 rfl rfl)
theorem dX3_reach_123 : decode cX3_reach 123 = .ok (.iadd, 1) := dk_96 (dk_at dksX3_reach_5 5 rfl rfl)
theorem dX3_reach_124 : decode cX3_reach 124 = .ok (.iload_n 2, 1) := dk_28 (dk_at dksX3_reach_5 6 rfl rfl)
theorem dX3_reach_125 : decode cX3_reach 125 = .ok (.iconst (-1), 1) := dk_2 (dk_at dksX3_reach_5 7 rfl rfl)
theorem dX3_reach_126 : decode cX3_reach 126 = .ok (.if_icmp .ne 7, 3) := dk_160 0 7 (dk_at dksX3_reach_5 8 rfl rfl)
theorem dX3_reach_129 : decode cX3_reach 129 = .ok (.iconst 0, 1) := dk_3 (dk_at dksX3_reach_5 11 rfl rfl)
theorem dX3_reach_130 : decode cX3_reach 130 = .ok (.goto 4, 3) := dk_167 0 4 (dk_at dksX3_reach_5 12 rfl rfl)
theorem dX3_reach_133 : decode cX3_reach 133 = .ok (.iconst 1, 1) := dk_4 (dk_at dksX3_reach_5 15 rfl rfl)
theorem dX3_reach_134 : decode cX3_reach 134 = .ok (.iastore, 1) := dk_79 (dk_at dksX3_reach_5 16 rfl rfl)
theorem dX3_reach_135 : decode cX3_reach 135 = .ok (.aload_n 0, 1) := dk_42 (dk_at dksX3_reach_5 17 rfl rfl)
theorem dX3_reach_136 : decode cX3_reach 136 = .ok (.getfield 9, 3) := dk_180 0 9 (dk_at dksX3_reach_5 18 rfl rfl)
theorem dX3_reach_139 : decode cX3_reach 139 = .ok (.iload_n 3, 1) := dk_29 (dk_at dksX3_reach_5 21 rfl rfl)
theorem dX3_reach_140 : decode cX3_reach 140 = .ok (.bipush 8, 2) := dk_16 8 (dk_at dksX3_reach_5 22 rfl rfl)
theorem dX3_reach_142 : decode cX3_reach 142 = .ok (.iadd, 1) := dk_96 (dk_at dksX3_reach_6 0 rfl rfl)
theorem dX3_reach_143 : decode cX3_reach 143 = .ok (.iconst (-1), 1) := dk_2 (dk_at dksX3_reach_6 1 rfl rfl)
theorem dX3_reach_144 : decode cX3_reach 144 = .ok (.iastore, 1) := dk_79 (dk_at dksX3_reach_6 2 rfl rfl)
theorem dX3_reach_145 : decode cX3_reach 145 = .ok (.aload_n 0, 1) := dk_42 (dk_at dksX3_reach_6 3 rfl rfl)
theorem dX3_reach_146 : decode cX3_reach 146 = .ok (.getfield 9, 3) := dk_180 0 9 (dk_at dksX3_reach_6 4 rfl rfl)
theorem dX3_reach_149 : decode cX3_reach 149 = .ok (.iconst 0, 1) := dk_3 (dk_at dksX3_reach_6 7 rfl rfl)
theorem dX3_reach_150 : decode cX3_reach 150 = .ok (.dup2, 1) := dk_92 (dk_at dksX3_reach_6 8 rfl rfl)
theorem dX3_reach_151 : decode cX3_reach 151 = .ok (.iaload, 1) := dk_46 (dk_at dksX3_reach_6 9 rfl rfl)
theorem dX3_reach_152 : decode cX3_reach 152 = .ok (.iconst 1, 1) := dk_4 (dk_at dksX3_reach_6 10 rfl rfl)
theorem dX3_reach_153 : decode cX3_reach 153 = .ok (.iadd, 1) := dk_96 (dk_at dksX3_reach_6 11 rfl rfl)
theorem dX3_reach_154 : decode cX3_reach 154 = .ok (.iastore, 1) := dk_79 (dk_at dksX3_reach_6 12 rfl rfl)
theorem dX3_reach_155 : decode cX3_reach 155 = .ok (.aload_n 0, 1) := dk_42 (dk_at dksX3_reach_6 13 rfl rfl)
theorem dX3_reach_156 : decode cX3_reach 156 = .ok (.aload_n 0, 1) := dk_42 (dk_at dksX3_reach_6 14 rfl rfl)
theorem dX3_reach_157 : decode cX3_reach 157 = .ok (.getfield 9, 3) := dk_180 0 9 (dk_at dksX3_reach_6 15 rfl rfl)
theorem dX3_reach_160 : decode cX3_reach 160 = .ok (.iconst 0, 1) := dk_3 (dk_at dksX3_reach_6 18 rfl rfl)
theorem dX3_reach_161 : decode cX3_reach 161 = .ok (.iaload, 1) := dk_46 (dk_at dksX3_reach_6 19 rfl rfl)
theorem dX3_reach_162 : decode cX3_reach 162 = .ok (.iconst 1, 1) := dk_4 (dk_at dksX3_reach_6 20 rfl rfl)
theorem dX3_reach_163 : decode cX3_reach 163 = .ok (.isub, 1) := dk_100 (dk_at dksX3_reach_6 21 rfl rfl)
theorem dX3_reach_164 : decode cX3_reach 164 = .ok (.invokevirtual 100, 3) := dk_182 0 100 (dk_at dksX3_reach_7 0 rfl rfl)
theorem dX3_reach_167 : decode cX3_reach 167 = .ok (.ireturn, 1) := dk_172 (dk_at dksX3_reach_7 3 rfl rfl)
abbrev cX3_layAside : ByteArray := prog_11_method_6_code
def yX3_layAside : MethodName := ⟨RX3, "layAside", "()V"⟩
def dkwX3_layAside_1 : List UInt8 := [46, 79, 132, 1, 1, 167, 255, 234, 177]
abbrev dktX3_layAside_1 : List UInt8 := dkwX3_layAside_1 ++ []
def dkwX3_layAside_0 : List UInt8 := [42, 3, 181, 0, 52, 3, 60, 27, 17, 1, 39, 162, 0, 21, 42, 180, 0, 13, 27, 42, 180, 0, 9, 27]
abbrev dktX3_layAside_0 : List UInt8 := dkwX3_layAside_0 ++ dktX3_layAside_1
theorem dksX3_layAside_0 : cX3_layAside.data.toList.drop 0 = dktX3_layAside_0 := by decide +kernel
theorem dksX3_layAside_1 : cX3_layAside.data.toList.drop 24 = dktX3_layAside_1 := dk_seg dksX3_layAside_0 24 rfl rfl
theorem dX3_layAside_0 : decode cX3_layAside 0 = .ok (.aload_n 0, 1) := dk_42 (dk_at dksX3_layAside_0 0 rfl rfl)
theorem dX3_layAside_1 : decode cX3_layAside 1 = .ok (.iconst 0, 1) := dk_3 (dk_at dksX3_layAside_0 1 rfl rfl)
theorem dX3_layAside_2 : decode cX3_layAside 2 = .ok (.putfield 52, 3) := dk_181 0 52 (dk_at dksX3_layAside_0 2 rfl rfl)
theorem dX3_layAside_5 : decode cX3_layAside 5 = .ok (.iconst 0, 1) := dk_3 (dk_at dksX3_layAside_0 5 rfl rfl)
theorem dX3_layAside_6 : decode cX3_layAside 6 = .ok (.istore_n 1, 1) := dk_60 (dk_at dksX3_layAside_0 6 rfl rfl)
theorem dX3_layAside_7 : decode cX3_layAside 7 = .ok (.iload_n 1, 1) := dk_27 (dk_at dksX3_layAside_0 7 rfl rfl)
theorem dX3_layAside_8 : decode cX3_layAside 8 = .ok (.sipush 295, 3) := dk_17 1 39 (dk_at dksX3_layAside_0 8 rfl rfl)
theorem dX3_layAside_11 : decode cX3_layAside 11 = .ok (.if_icmp .ge 21, 3) := dk_162 0 21 (dk_at dksX3_layAside_0 11 rfl rfl)
theorem dX3_layAside_14 : decode cX3_layAside 14 = .ok (.aload_n 0, 1) := dk_42 (dk_at dksX3_layAside_0 14 rfl rfl)
theorem dX3_layAside_15 : decode cX3_layAside 15 = .ok (.getfield 13, 3) := dk_180 0 13 (dk_at dksX3_layAside_0 15 rfl rfl)
theorem dX3_layAside_18 : decode cX3_layAside 18 = .ok (.iload_n 1, 1) := dk_27 (dk_at dksX3_layAside_0 18 rfl rfl)
theorem dX3_layAside_19 : decode cX3_layAside 19 = .ok (.aload_n 0, 1) := dk_42 (dk_at dksX3_layAside_0 19 rfl rfl)
theorem dX3_layAside_20 : decode cX3_layAside 20 = .ok (.getfield 9, 3) := dk_180 0 9 (dk_at dksX3_layAside_0 20 rfl rfl)
theorem dX3_layAside_23 : decode cX3_layAside 23 = .ok (.iload_n 1, 1) := dk_27 (dk_at dksX3_layAside_0 23 rfl rfl)
theorem dX3_layAside_24 : decode cX3_layAside 24 = .ok (.iaload, 1) := dk_46 (dk_at dksX3_layAside_1 0 rfl rfl)
theorem dX3_layAside_25 : decode cX3_layAside 25 = .ok (.iastore, 1) := dk_79 (dk_at dksX3_layAside_1 1 rfl rfl)
theorem dX3_layAside_26 : decode cX3_layAside 26 = .ok (.iinc 1 1, 3) := dk_132 1 1 (dk_at dksX3_layAside_1 2 rfl rfl)
theorem dX3_layAside_29 : decode cX3_layAside 29 = .ok (.goto (-22), 3) := dk_167 255 234 (dk_at dksX3_layAside_1 5 rfl rfl)
theorem dX3_layAside_32 : decode cX3_layAside 32 = .ok (.return_, 1) := dk_177 (dk_at dksX3_layAside_1 8 rfl rfl)
abbrev cX3_in : ByteArray := prog_11_method_3_code
def yX3_in : MethodName := ⟨RX3, "in", "(JJJ)Z"⟩
def dkwX3_in_0 : List UInt8 := [30, 32, 148, 155, 0, 14, 30, 22, 4, 148, 157, 0, 7, 4, 167, 0, 4, 3, 172]
abbrev dktX3_in_0 : List UInt8 := dkwX3_in_0 ++ []
theorem dksX3_in_0 : cX3_in.data.toList.drop 0 = dktX3_in_0 := by decide +kernel
theorem dX3_in_0 : decode cX3_in 0 = .ok (.lload_n 0, 1) := dk_30 (dk_at dksX3_in_0 0 rfl rfl)
theorem dX3_in_1 : decode cX3_in 1 = .ok (.lload_n 2, 1) := dk_32 (dk_at dksX3_in_0 1 rfl rfl)
theorem dX3_in_2 : decode cX3_in 2 = .ok (.lcmp, 1) := dk_148 (dk_at dksX3_in_0 2 rfl rfl)
theorem dX3_in_3 : decode cX3_in 3 = .ok (.ifCond .lt 14, 3) := dk_155 0 14 (dk_at dksX3_in_0 3 rfl rfl)
theorem dX3_in_6 : decode cX3_in 6 = .ok (.lload_n 0, 1) := dk_30 (dk_at dksX3_in_0 6 rfl rfl)
theorem dX3_in_7 : decode cX3_in 7 = .ok (.lload 4, 2) := dk_22 4 (dk_at dksX3_in_0 7 rfl rfl)
theorem dX3_in_9 : decode cX3_in 9 = .ok (.lcmp, 1) := dk_148 (dk_at dksX3_in_0 9 rfl rfl)
theorem dX3_in_10 : decode cX3_in 10 = .ok (.ifCond .gt 7, 3) := dk_157 0 7 (dk_at dksX3_in_0 10 rfl rfl)
theorem dX3_in_13 : decode cX3_in 13 = .ok (.iconst 1, 1) := dk_4 (dk_at dksX3_in_0 13 rfl rfl)
theorem dX3_in_14 : decode cX3_in 14 = .ok (.goto 4, 3) := dk_167 0 4 (dk_at dksX3_in_0 14 rfl rfl)
theorem dX3_in_17 : decode cX3_in 17 = .ok (.iconst 0, 1) := dk_3 (dk_at dksX3_in_0 17 rfl rfl)
theorem dX3_in_18 : decode cX3_in 18 = .ok (.ireturn, 1) := dk_172 (dk_at dksX3_in_0 18 rfl rfl)
abbrev cX3_refuse : ByteArray := prog_11_method_5_code
def yX3_refuse : MethodName := ⟨RX3, "refuse", "(II)I"⟩
def dkwX3_refuse_0 : List UInt8 := [42, 27, 181, 0, 55, 42, 28, 181, 0, 58, 42, 3, 181, 0, 61, 42, 4, 182, 0, 64, 172]
abbrev dktX3_refuse_0 : List UInt8 := dkwX3_refuse_0 ++ []
theorem dksX3_refuse_0 : cX3_refuse.data.toList.drop 0 = dktX3_refuse_0 := by decide +kernel
theorem dX3_refuse_0 : decode cX3_refuse 0 = .ok (.aload_n 0, 1) := dk_42 (dk_at dksX3_refuse_0 0 rfl rfl)
theorem dX3_refuse_1 : decode cX3_refuse 1 = .ok (.iload_n 1, 1) := dk_27 (dk_at dksX3_refuse_0 1 rfl rfl)
theorem dX3_refuse_2 : decode cX3_refuse 2 = .ok (.putfield 55, 3) := dk_181 0 55 (dk_at dksX3_refuse_0 2 rfl rfl)
theorem dX3_refuse_5 : decode cX3_refuse 5 = .ok (.aload_n 0, 1) := dk_42 (dk_at dksX3_refuse_0 5 rfl rfl)
theorem dX3_refuse_6 : decode cX3_refuse 6 = .ok (.iload_n 2, 1) := dk_28 (dk_at dksX3_refuse_0 6 rfl rfl)
theorem dX3_refuse_7 : decode cX3_refuse 7 = .ok (.putfield 58, 3) := dk_181 0 58 (dk_at dksX3_refuse_0 7 rfl rfl)
theorem dX3_refuse_10 : decode cX3_refuse 10 = .ok (.aload_n 0, 1) := dk_42 (dk_at dksX3_refuse_0 10 rfl rfl)
theorem dX3_refuse_11 : decode cX3_refuse 11 = .ok (.iconst 0, 1) := dk_3 (dk_at dksX3_refuse_0 11 rfl rfl)
theorem dX3_refuse_12 : decode cX3_refuse 12 = .ok (.putfield 61, 3) := dk_181 0 61 (dk_at dksX3_refuse_0 12 rfl rfl)
theorem dX3_refuse_15 : decode cX3_refuse 15 = .ok (.aload_n 0, 1) := dk_42 (dk_at dksX3_refuse_0 15 rfl rfl)
theorem dX3_refuse_16 : decode cX3_refuse 16 = .ok (.iconst 1, 1) := dk_4 (dk_at dksX3_refuse_0 16 rfl rfl)
theorem dX3_refuse_17 : decode cX3_refuse 17 = .ok (.invokevirtual 64, 3) := dk_182 0 64 (dk_at dksX3_refuse_0 17 rfl rfl)
theorem dX3_refuse_20 : decode cX3_refuse 20 = .ok (.ireturn, 1) := dk_172 (dk_at dksX3_refuse_0 20 rfl rfl)
abbrev cX3_throwing : ByteArray := prog_11_method_4_code
def yX3_throwing : MethodName := ⟨RX3, "throwing", "(I)I"⟩
def dkwX3_throwing_0 : List UInt8 := [42, 27, 181, 0, 52, 3, 172]
abbrev dktX3_throwing_0 : List UInt8 := dkwX3_throwing_0 ++ []
theorem dksX3_throwing_0 : cX3_throwing.data.toList.drop 0 = dktX3_throwing_0 := by decide +kernel
theorem dX3_throwing_0 : decode cX3_throwing 0 = .ok (.aload_n 0, 1) := dk_42 (dk_at dksX3_throwing_0 0 rfl rfl)
theorem dX3_throwing_1 : decode cX3_throwing 1 = .ok (.iload_n 1, 1) := dk_27 (dk_at dksX3_throwing_0 1 rfl rfl)
theorem dX3_throwing_2 : decode cX3_throwing 2 = .ok (.putfield 52, 3) := dk_181 0 52 (dk_at dksX3_throwing_0 2 rfl rfl)
theorem dX3_throwing_5 : decode cX3_throwing 5 = .ok (.iconst 0, 1) := dk_3 (dk_at dksX3_throwing_0 5 rfl rfl)
theorem dX3_throwing_6 : decode cX3_throwing 6 = .ok (.ireturn, 1) := dk_172 (dk_at dksX3_throwing_0 6 rfl rfl)
abbrev cX3_at : ByteArray := prog_11_method_8_code
def yX3_at : MethodName := ⟨RX3, "at", "(I)I"⟩
def dkwX3_at_0 : List UInt8 := [16, 12, 16, 9, 26, 104, 96, 172]
abbrev dktX3_at_0 : List UInt8 := dkwX3_at_0 ++ []
theorem dksX3_at_0 : cX3_at.data.toList.drop 0 = dktX3_at_0 := by decide +kernel
theorem dX3_at_0 : decode cX3_at 0 = .ok (.bipush 12, 2) := dk_16 12 (dk_at dksX3_at_0 0 rfl rfl)
theorem dX3_at_2 : decode cX3_at 2 = .ok (.bipush 9, 2) := dk_16 9 (dk_at dksX3_at_0 2 rfl rfl)
theorem dX3_at_4 : decode cX3_at 4 = .ok (.iload_n 0, 1) := dk_26 (dk_at dksX3_at_0 4 rfl rfl)
theorem dX3_at_5 : decode cX3_at 5 = .ok (.imul, 1) := dk_104 (dk_at dksX3_at_0 5 rfl rfl)
theorem dX3_at_6 : decode cX3_at 6 = .ok (.iadd, 1) := dk_96 (dk_at dksX3_at_0 6 rfl rfl)
theorem dX3_at_7 : decode cX3_at 7 = .ok (.ireturn, 1) := dk_172 (dk_at dksX3_at_0 7 rfl rfl)
abbrev cX3_changed : ByteArray := prog_11_method_7_code
def yX3_changed : MethodName := ⟨RX3, "changed", "(I)I"⟩
def dkwX3_changed_4 : List UInt8 := [167, 255, 225, 42, 89, 180, 0, 68, 4, 96, 181, 0, 68, 27, 172]
abbrev dktX3_changed_4 : List UInt8 := dkwX3_changed_4 ++ []
def dkwX3_changed_3 : List UInt8 := [180, 0, 22, 17, 1, 39, 42, 180, 0, 68, 104, 28, 96, 42, 180, 0, 13, 28, 46, 79, 132, 2, 1]
abbrev dktX3_changed_3 : List UInt8 := dkwX3_changed_3 ++ dktX3_changed_4
def dkwX3_changed_2 : List UInt8 := [167, 255, 230, 42, 89, 180, 0, 68, 4, 100, 181, 0, 68, 3, 61, 28, 17, 1, 39, 162, 0, 30, 42]
abbrev dktX3_changed_2 : List UInt8 := dkwX3_changed_2 ++ dktX3_changed_3
def dkwX3_changed_1 : List UInt8 := [162, 0, 25, 42, 180, 0, 22, 28, 42, 180, 0, 22, 28, 17, 1, 39, 96, 46, 79, 132, 2, 1]
abbrev dktX3_changed_1 : List UInt8 := dkwX3_changed_1 ++ dktX3_changed_2
def dkwX3_changed_0 : List UInt8 := [42, 180, 0, 52, 158, 0, 5, 27, 172, 42, 180, 0, 68, 16, 8, 160, 0, 44, 3, 61, 28, 17, 8, 17]
abbrev dktX3_changed_0 : List UInt8 := dkwX3_changed_0 ++ dktX3_changed_1
theorem dksX3_changed_0 : cX3_changed.data.toList.drop 0 = dktX3_changed_0 := by decide +kernel
theorem dksX3_changed_1 : cX3_changed.data.toList.drop 24 = dktX3_changed_1 := dk_seg dksX3_changed_0 24 rfl rfl
theorem dksX3_changed_2 : cX3_changed.data.toList.drop 46 = dktX3_changed_2 := dk_seg dksX3_changed_1 22 rfl rfl
theorem dksX3_changed_3 : cX3_changed.data.toList.drop 69 = dktX3_changed_3 := dk_seg dksX3_changed_2 23 rfl rfl
theorem dksX3_changed_4 : cX3_changed.data.toList.drop 92 = dktX3_changed_4 := dk_seg dksX3_changed_3 23 rfl rfl
theorem dX3_changed_0 : decode cX3_changed 0 = .ok (.aload_n 0, 1) := dk_42 (dk_at dksX3_changed_0 0 rfl rfl)
theorem dX3_changed_1 : decode cX3_changed 1 = .ok (.getfield 52, 3) := dk_180 0 52 (dk_at dksX3_changed_0 1 rfl rfl)
theorem dX3_changed_4 : decode cX3_changed 4 = .ok (.ifCond .le 5, 3) := dk_158 0 5 (dk_at dksX3_changed_0 4 rfl rfl)
theorem dX3_changed_7 : decode cX3_changed 7 = .ok (.iload_n 1, 1) := dk_27 (dk_at dksX3_changed_0 7 rfl rfl)
theorem dX3_changed_8 : decode cX3_changed 8 = .ok (.ireturn, 1) := dk_172 (dk_at dksX3_changed_0 8 rfl rfl)
theorem dX3_changed_9 : decode cX3_changed 9 = .ok (.aload_n 0, 1) := dk_42 (dk_at dksX3_changed_0 9 rfl rfl)
theorem dX3_changed_10 : decode cX3_changed 10 = .ok (.getfield 68, 3) := dk_180 0 68 (dk_at dksX3_changed_0 10 rfl rfl)
theorem dX3_changed_13 : decode cX3_changed 13 = .ok (.bipush 8, 2) := dk_16 8 (dk_at dksX3_changed_0 13 rfl rfl)
theorem dX3_changed_15 : decode cX3_changed 15 = .ok (.if_icmp .ne 44, 3) := dk_160 0 44 (dk_at dksX3_changed_0 15 rfl rfl)
theorem dX3_changed_18 : decode cX3_changed 18 = .ok (.iconst 0, 1) := dk_3 (dk_at dksX3_changed_0 18 rfl rfl)
theorem dX3_changed_19 : decode cX3_changed 19 = .ok (.istore_n 2, 1) := dk_61 (dk_at dksX3_changed_0 19 rfl rfl)
theorem dX3_changed_20 : decode cX3_changed 20 = .ok (.iload_n 2, 1) := dk_28 (dk_at dksX3_changed_0 20 rfl rfl)
theorem dX3_changed_21 : decode cX3_changed 21 = .ok (.sipush 2065, 3) := dk_17 8 17 (dk_at dksX3_changed_0 21 rfl rfl)
theorem dX3_changed_24 : decode cX3_changed 24 = .ok (.if_icmp .ge 25, 3) := dk_162 0 25 (dk_at dksX3_changed_1 0 rfl rfl)
theorem dX3_changed_27 : decode cX3_changed 27 = .ok (.aload_n 0, 1) := dk_42 (dk_at dksX3_changed_1 3 rfl rfl)
theorem dX3_changed_28 : decode cX3_changed 28 = .ok (.getfield 22, 3) := dk_180 0 22 (dk_at dksX3_changed_1 4 rfl rfl)
theorem dX3_changed_31 : decode cX3_changed 31 = .ok (.iload_n 2, 1) := dk_28 (dk_at dksX3_changed_1 7 rfl rfl)
theorem dX3_changed_32 : decode cX3_changed 32 = .ok (.aload_n 0, 1) := dk_42 (dk_at dksX3_changed_1 8 rfl rfl)
theorem dX3_changed_33 : decode cX3_changed 33 = .ok (.getfield 22, 3) := dk_180 0 22 (dk_at dksX3_changed_1 9 rfl rfl)
theorem dX3_changed_36 : decode cX3_changed 36 = .ok (.iload_n 2, 1) := dk_28 (dk_at dksX3_changed_1 12 rfl rfl)
theorem dX3_changed_37 : decode cX3_changed 37 = .ok (.sipush 295, 3) := dk_17 1 39 (dk_at dksX3_changed_1 13 rfl rfl)
theorem dX3_changed_40 : decode cX3_changed 40 = .ok (.iadd, 1) := dk_96 (dk_at dksX3_changed_1 16 rfl rfl)
theorem dX3_changed_41 : decode cX3_changed 41 = .ok (.iaload, 1) := dk_46 (dk_at dksX3_changed_1 17 rfl rfl)
theorem dX3_changed_42 : decode cX3_changed 42 = .ok (.iastore, 1) := dk_79 (dk_at dksX3_changed_1 18 rfl rfl)
theorem dX3_changed_43 : decode cX3_changed 43 = .ok (.iinc 2 1, 3) := dk_132 2 1 (dk_at dksX3_changed_1 19 rfl rfl)
theorem dX3_changed_46 : decode cX3_changed 46 = .ok (.goto (-26), 3) := dk_167 255 230 (dk_at dksX3_changed_2 0 rfl rfl)
theorem dX3_changed_49 : decode cX3_changed 49 = .ok (.aload_n 0, 1) := dk_42 (dk_at dksX3_changed_2 3 rfl rfl)
theorem dX3_changed_50 : decode cX3_changed 50 = .ok (.dup, 1) := dk_89 (dk_at dksX3_changed_2 4 rfl rfl)
theorem dX3_changed_51 : decode cX3_changed 51 = .ok (.getfield 68, 3) := dk_180 0 68 (dk_at dksX3_changed_2 5 rfl rfl)
theorem dX3_changed_54 : decode cX3_changed 54 = .ok (.iconst 1, 1) := dk_4 (dk_at dksX3_changed_2 8 rfl rfl)
theorem dX3_changed_55 : decode cX3_changed 55 = .ok (.isub, 1) := dk_100 (dk_at dksX3_changed_2 9 rfl rfl)
theorem dX3_changed_56 : decode cX3_changed 56 = .ok (.putfield 68, 3) := dk_181 0 68 (dk_at dksX3_changed_2 10 rfl rfl)
theorem dX3_changed_59 : decode cX3_changed 59 = .ok (.iconst 0, 1) := dk_3 (dk_at dksX3_changed_2 13 rfl rfl)
theorem dX3_changed_60 : decode cX3_changed 60 = .ok (.istore_n 2, 1) := dk_61 (dk_at dksX3_changed_2 14 rfl rfl)
theorem dX3_changed_61 : decode cX3_changed 61 = .ok (.iload_n 2, 1) := dk_28 (dk_at dksX3_changed_2 15 rfl rfl)
theorem dX3_changed_62 : decode cX3_changed 62 = .ok (.sipush 295, 3) := dk_17 1 39 (dk_at dksX3_changed_2 16 rfl rfl)
theorem dX3_changed_65 : decode cX3_changed 65 = .ok (.if_icmp .ge 30, 3) := dk_162 0 30 (dk_at dksX3_changed_2 19 rfl rfl)
theorem dX3_changed_68 : decode cX3_changed 68 = .ok (.aload_n 0, 1) := dk_42 (dk_at dksX3_changed_2 22 rfl rfl)
theorem dX3_changed_69 : decode cX3_changed 69 = .ok (.getfield 22, 3) := dk_180 0 22 (dk_at dksX3_changed_3 0 rfl rfl)
theorem dX3_changed_72 : decode cX3_changed 72 = .ok (.sipush 295, 3) := dk_17 1 39 (dk_at dksX3_changed_3 3 rfl rfl)
theorem dX3_changed_75 : decode cX3_changed 75 = .ok (.aload_n 0, 1) := dk_42 (dk_at dksX3_changed_3 6 rfl rfl)
theorem dX3_changed_76 : decode cX3_changed 76 = .ok (.getfield 68, 3) := dk_180 0 68 (dk_at dksX3_changed_3 7 rfl rfl)
theorem dX3_changed_79 : decode cX3_changed 79 = .ok (.imul, 1) := dk_104 (dk_at dksX3_changed_3 10 rfl rfl)
theorem dX3_changed_80 : decode cX3_changed 80 = .ok (.iload_n 2, 1) := dk_28 (dk_at dksX3_changed_3 11 rfl rfl)
theorem dX3_changed_81 : decode cX3_changed 81 = .ok (.iadd, 1) := dk_96 (dk_at dksX3_changed_3 12 rfl rfl)
theorem dX3_changed_82 : decode cX3_changed 82 = .ok (.aload_n 0, 1) := dk_42 (dk_at dksX3_changed_3 13 rfl rfl)
theorem dX3_changed_83 : decode cX3_changed 83 = .ok (.getfield 13, 3) := dk_180 0 13 (dk_at dksX3_changed_3 14 rfl rfl)
theorem dX3_changed_86 : decode cX3_changed 86 = .ok (.iload_n 2, 1) := dk_28 (dk_at dksX3_changed_3 17 rfl rfl)
theorem dX3_changed_87 : decode cX3_changed 87 = .ok (.iaload, 1) := dk_46 (dk_at dksX3_changed_3 18 rfl rfl)
theorem dX3_changed_88 : decode cX3_changed 88 = .ok (.iastore, 1) := dk_79 (dk_at dksX3_changed_3 19 rfl rfl)
theorem dX3_changed_89 : decode cX3_changed 89 = .ok (.iinc 2 1, 3) := dk_132 2 1 (dk_at dksX3_changed_3 20 rfl rfl)
theorem dX3_changed_92 : decode cX3_changed 92 = .ok (.goto (-31), 3) := dk_167 255 225 (dk_at dksX3_changed_4 0 rfl rfl)
theorem dX3_changed_95 : decode cX3_changed 95 = .ok (.aload_n 0, 1) := dk_42 (dk_at dksX3_changed_4 3 rfl rfl)
theorem dX3_changed_96 : decode cX3_changed 96 = .ok (.dup, 1) := dk_89 (dk_at dksX3_changed_4 4 rfl rfl)
theorem dX3_changed_97 : decode cX3_changed 97 = .ok (.getfield 68, 3) := dk_180 0 68 (dk_at dksX3_changed_4 5 rfl rfl)
theorem dX3_changed_100 : decode cX3_changed 100 = .ok (.iconst 1, 1) := dk_4 (dk_at dksX3_changed_4 8 rfl rfl)
theorem dX3_changed_101 : decode cX3_changed 101 = .ok (.iadd, 1) := dk_96 (dk_at dksX3_changed_4 9 rfl rfl)
theorem dX3_changed_102 : decode cX3_changed 102 = .ok (.putfield 68, 3) := dk_181 0 68 (dk_at dksX3_changed_4 10 rfl rfl)
theorem dX3_changed_105 : decode cX3_changed 105 = .ok (.iload_n 1, 1) := dk_27 (dk_at dksX3_changed_4 13 rfl rfl)
theorem dX3_changed_106 : decode cX3_changed 106 = .ok (.ireturn, 1) := dk_172 (dk_at dksX3_changed_4 14 rfl rfl)
abbrev cX3_holt : ByteArray := prog_11_method_20_code
def yX3_holt : MethodName := ⟨RX3, "holt", "(I)I"⟩
def dkwX3_holt_2 : List UInt8 := [4, 79, 42, 42, 27, 182, 0, 112, 182, 0, 100, 172]
abbrev dktX3_holt_2 : List UInt8 := dkwX3_holt_2 ++ []
def dkwX3_holt_1 : List UInt8 := [153, 0, 14, 42, 7, 42, 27, 182, 0, 109, 182, 0, 94, 172, 42, 180, 0, 9, 27, 184, 0, 86, 8, 96]
abbrev dktX3_holt_1 : List UInt8 := dkwX3_holt_1 ++ dktX3_holt_2
def dkwX3_holt_0 : List UInt8 := [42, 182, 0, 89, 42, 27, 182, 0, 103, 154, 0, 10, 42, 5, 27, 182, 0, 94, 172, 42, 27, 182, 0, 106]
abbrev dktX3_holt_0 : List UInt8 := dkwX3_holt_0 ++ dktX3_holt_1
theorem dksX3_holt_0 : cX3_holt.data.toList.drop 0 = dktX3_holt_0 := by decide +kernel
theorem dksX3_holt_1 : cX3_holt.data.toList.drop 24 = dktX3_holt_1 := dk_seg dksX3_holt_0 24 rfl rfl
theorem dksX3_holt_2 : cX3_holt.data.toList.drop 48 = dktX3_holt_2 := dk_seg dksX3_holt_1 24 rfl rfl
theorem dX3_holt_0 : decode cX3_holt 0 = .ok (.aload_n 0, 1) := dk_42 (dk_at dksX3_holt_0 0 rfl rfl)
theorem dX3_holt_1 : decode cX3_holt 1 = .ok (.invokevirtual 89, 3) := dk_182 0 89 (dk_at dksX3_holt_0 1 rfl rfl)
theorem dX3_holt_4 : decode cX3_holt 4 = .ok (.aload_n 0, 1) := dk_42 (dk_at dksX3_holt_0 4 rfl rfl)
theorem dX3_holt_5 : decode cX3_holt 5 = .ok (.iload_n 1, 1) := dk_27 (dk_at dksX3_holt_0 5 rfl rfl)
theorem dX3_holt_6 : decode cX3_holt 6 = .ok (.invokevirtual 103, 3) := dk_182 0 103 (dk_at dksX3_holt_0 6 rfl rfl)
theorem dX3_holt_9 : decode cX3_holt 9 = .ok (.ifCond .ne 10, 3) := dk_154 0 10 (dk_at dksX3_holt_0 9 rfl rfl)
theorem dX3_holt_12 : decode cX3_holt 12 = .ok (.aload_n 0, 1) := dk_42 (dk_at dksX3_holt_0 12 rfl rfl)
theorem dX3_holt_13 : decode cX3_holt 13 = .ok (.iconst 2, 1) := dk_5 (dk_at dksX3_holt_0 13 rfl rfl)
theorem dX3_holt_14 : decode cX3_holt 14 = .ok (.iload_n 1, 1) := dk_27 (dk_at dksX3_holt_0 14 rfl rfl)
theorem dX3_holt_15 : decode cX3_holt 15 = .ok (.invokevirtual 94, 3) := dk_182 0 94 (dk_at dksX3_holt_0 15 rfl rfl)
theorem dX3_holt_18 : decode cX3_holt 18 = .ok (.ireturn, 1) := dk_172 (dk_at dksX3_holt_0 18 rfl rfl)
theorem dX3_holt_19 : decode cX3_holt 19 = .ok (.aload_n 0, 1) := dk_42 (dk_at dksX3_holt_0 19 rfl rfl)
theorem dX3_holt_20 : decode cX3_holt 20 = .ok (.iload_n 1, 1) := dk_27 (dk_at dksX3_holt_0 20 rfl rfl)
theorem dX3_holt_21 : decode cX3_holt 21 = .ok (.invokevirtual 106, 3) := dk_182 0 106 (dk_at dksX3_holt_0 21 rfl rfl)
theorem dX3_holt_24 : decode cX3_holt 24 = .ok (.ifCond .eq 14, 3) := dk_153 0 14 (dk_at dksX3_holt_1 0 rfl rfl)
theorem dX3_holt_27 : decode cX3_holt 27 = .ok (.aload_n 0, 1) := dk_42 (dk_at dksX3_holt_1 3 rfl rfl)
theorem dX3_holt_28 : decode cX3_holt 28 = .ok (.iconst 4, 1) := dk_7 (dk_at dksX3_holt_1 4 rfl rfl)
theorem dX3_holt_29 : decode cX3_holt 29 = .ok (.aload_n 0, 1) := dk_42 (dk_at dksX3_holt_1 5 rfl rfl)
theorem dX3_holt_30 : decode cX3_holt 30 = .ok (.iload_n 1, 1) := dk_27 (dk_at dksX3_holt_1 6 rfl rfl)
theorem dX3_holt_31 : decode cX3_holt 31 = .ok (.invokevirtual 109, 3) := dk_182 0 109 (dk_at dksX3_holt_1 7 rfl rfl)
theorem dX3_holt_34 : decode cX3_holt 34 = .ok (.invokevirtual 94, 3) := dk_182 0 94 (dk_at dksX3_holt_1 10 rfl rfl)
theorem dX3_holt_37 : decode cX3_holt 37 = .ok (.ireturn, 1) := dk_172 (dk_at dksX3_holt_1 13 rfl rfl)
theorem dX3_holt_38 : decode cX3_holt 38 = .ok (.aload_n 0, 1) := dk_42 (dk_at dksX3_holt_1 14 rfl rfl)
theorem dX3_holt_39 : decode cX3_holt 39 = .ok (.getfield 9, 3) := dk_180 0 9 (dk_at dksX3_holt_1 15 rfl rfl)
theorem dX3_holt_42 : decode cX3_holt 42 = .ok (.iload_n 1, 1) := dk_27 (dk_at dksX3_holt_1 18 rfl rfl)
theorem dX3_holt_43 : decode cX3_holt 43 = .ok (.invokestatic 86, 3) := dk_184 0 86 (dk_at dksX3_holt_1 19 rfl rfl)
theorem dX3_holt_46 : decode cX3_holt 46 = .ok (.iconst 5, 1) := dk_8 (dk_at dksX3_holt_1 22 rfl rfl)
theorem dX3_holt_47 : decode cX3_holt 47 = .ok (.iadd, 1) := dk_96 (dk_at dksX3_holt_1 23 rfl rfl)
theorem dX3_holt_48 : decode cX3_holt 48 = .ok (.iconst 1, 1) := dk_4 (dk_at dksX3_holt_2 0 rfl rfl)
theorem dX3_holt_49 : decode cX3_holt 49 = .ok (.iastore, 1) := dk_79 (dk_at dksX3_holt_2 1 rfl rfl)
theorem dX3_holt_50 : decode cX3_holt 50 = .ok (.aload_n 0, 1) := dk_42 (dk_at dksX3_holt_2 2 rfl rfl)
theorem dX3_holt_51 : decode cX3_holt 51 = .ok (.aload_n 0, 1) := dk_42 (dk_at dksX3_holt_2 3 rfl rfl)
theorem dX3_holt_52 : decode cX3_holt 52 = .ok (.iload_n 1, 1) := dk_27 (dk_at dksX3_holt_2 4 rfl rfl)
theorem dX3_holt_53 : decode cX3_holt 53 = .ok (.invokevirtual 112, 3) := dk_182 0 112 (dk_at dksX3_holt_2 5 rfl rfl)
theorem dX3_holt_56 : decode cX3_holt 56 = .ok (.invokevirtual 100, 3) := dk_182 0 100 (dk_at dksX3_holt_2 8 rfl rfl)
theorem dX3_holt_59 : decode cX3_holt 59 = .ok (.ireturn, 1) := dk_172 (dk_at dksX3_holt_2 11 rfl rfl)
abbrev cX3_isReach : ByteArray := prog_11_method_11_code
def yX3_isReach : MethodName := ⟨RX3, "isReach", "(I)Z"⟩
def dkwX3_isReach_0 : List UInt8 := [27, 133, 9, 42, 180, 0, 9, 3, 46, 4, 100, 133, 184, 0, 71, 172]
abbrev dktX3_isReach_0 : List UInt8 := dkwX3_isReach_0 ++ []
theorem dksX3_isReach_0 : cX3_isReach.data.toList.drop 0 = dktX3_isReach_0 := by decide +kernel
theorem dX3_isReach_0 : decode cX3_isReach 0 = .ok (.iload_n 1, 1) := dk_27 (dk_at dksX3_isReach_0 0 rfl rfl)
theorem dX3_isReach_1 : decode cX3_isReach 1 = .ok (.i2l, 1) := dk_133 (dk_at dksX3_isReach_0 1 rfl rfl)
theorem dX3_isReach_2 : decode cX3_isReach 2 = .ok (.lconst 0, 1) := dk_9 (dk_at dksX3_isReach_0 2 rfl rfl)
theorem dX3_isReach_3 : decode cX3_isReach 3 = .ok (.aload_n 0, 1) := dk_42 (dk_at dksX3_isReach_0 3 rfl rfl)
theorem dX3_isReach_4 : decode cX3_isReach 4 = .ok (.getfield 9, 3) := dk_180 0 9 (dk_at dksX3_isReach_0 4 rfl rfl)
theorem dX3_isReach_7 : decode cX3_isReach 7 = .ok (.iconst 0, 1) := dk_3 (dk_at dksX3_isReach_0 7 rfl rfl)
theorem dX3_isReach_8 : decode cX3_isReach 8 = .ok (.iaload, 1) := dk_46 (dk_at dksX3_isReach_0 8 rfl rfl)
theorem dX3_isReach_9 : decode cX3_isReach 9 = .ok (.iconst 1, 1) := dk_4 (dk_at dksX3_isReach_0 9 rfl rfl)
theorem dX3_isReach_10 : decode cX3_isReach 10 = .ok (.isub, 1) := dk_100 (dk_at dksX3_isReach_0 10 rfl rfl)
theorem dX3_isReach_11 : decode cX3_isReach 11 = .ok (.i2l, 1) := dk_133 (dk_at dksX3_isReach_0 11 rfl rfl)
theorem dX3_isReach_12 : decode cX3_isReach 12 = .ok (.invokestatic 71, 3) := dk_184 0 71 (dk_at dksX3_isReach_0 12 rfl rfl)
theorem dX3_isReach_15 : decode cX3_isReach 15 = .ok (.ireturn, 1) := dk_172 (dk_at dksX3_isReach_0 15 rfl rfl)
abbrev cX3_hasHolt : ByteArray := prog_11_method_16_code
def yX3_hasHolt : MethodName := ⟨RX3, "hasHolt", "(I)Z"⟩
def dkwX3_hasHolt_0 : List UInt8 := [42, 180, 0, 9, 27, 184, 0, 86, 8, 96, 46, 4, 160, 0, 7, 4, 167, 0, 4, 3, 172]
abbrev dktX3_hasHolt_0 : List UInt8 := dkwX3_hasHolt_0 ++ []
theorem dksX3_hasHolt_0 : cX3_hasHolt.data.toList.drop 0 = dktX3_hasHolt_0 := by decide +kernel
theorem dX3_hasHolt_0 : decode cX3_hasHolt 0 = .ok (.aload_n 0, 1) := dk_42 (dk_at dksX3_hasHolt_0 0 rfl rfl)
theorem dX3_hasHolt_1 : decode cX3_hasHolt 1 = .ok (.getfield 9, 3) := dk_180 0 9 (dk_at dksX3_hasHolt_0 1 rfl rfl)
theorem dX3_hasHolt_4 : decode cX3_hasHolt 4 = .ok (.iload_n 1, 1) := dk_27 (dk_at dksX3_hasHolt_0 4 rfl rfl)
theorem dX3_hasHolt_5 : decode cX3_hasHolt 5 = .ok (.invokestatic 86, 3) := dk_184 0 86 (dk_at dksX3_hasHolt_0 5 rfl rfl)
theorem dX3_hasHolt_8 : decode cX3_hasHolt 8 = .ok (.iconst 5, 1) := dk_8 (dk_at dksX3_hasHolt_0 8 rfl rfl)
theorem dX3_hasHolt_9 : decode cX3_hasHolt 9 = .ok (.iadd, 1) := dk_96 (dk_at dksX3_hasHolt_0 9 rfl rfl)
theorem dX3_hasHolt_10 : decode cX3_hasHolt 10 = .ok (.iaload, 1) := dk_46 (dk_at dksX3_hasHolt_0 10 rfl rfl)
theorem dX3_hasHolt_11 : decode cX3_hasHolt 11 = .ok (.iconst 1, 1) := dk_4 (dk_at dksX3_hasHolt_0 11 rfl rfl)
theorem dX3_hasHolt_12 : decode cX3_hasHolt 12 = .ok (.if_icmp .ne 7, 3) := dk_160 0 7 (dk_at dksX3_hasHolt_0 12 rfl rfl)
theorem dX3_hasHolt_15 : decode cX3_hasHolt 15 = .ok (.iconst 1, 1) := dk_4 (dk_at dksX3_hasHolt_0 15 rfl rfl)
theorem dX3_hasHolt_16 : decode cX3_hasHolt 16 = .ok (.goto 4, 3) := dk_167 0 4 (dk_at dksX3_hasHolt_0 16 rfl rfl)
theorem dX3_hasHolt_19 : decode cX3_hasHolt 19 = .ok (.iconst 0, 1) := dk_3 (dk_at dksX3_hasHolt_0 19 rfl rfl)
theorem dX3_hasHolt_20 : decode cX3_hasHolt 20 = .ok (.ireturn, 1) := dk_172 (dk_at dksX3_hasHolt_0 20 rfl rfl)
abbrev cX3_otters : ByteArray := prog_11_method_15_code
def yX3_otters : MethodName := ⟨RX3, "otters", "(I)I"⟩
def dkwX3_otters_1 : List UInt8 := [4, 167, 0, 4, 3, 96, 61, 132, 3, 1, 167, 255, 226, 28, 172]
abbrev dktX3_otters_1 : List UInt8 := dkwX3_otters_1 ++ []
def dkwX3_otters_0 : List UInt8 := [3, 61, 3, 62, 29, 42, 180, 0, 9, 4, 46, 162, 0, 26, 28, 42, 29, 27, 182, 0, 82, 153, 0, 7]
abbrev dktX3_otters_0 : List UInt8 := dkwX3_otters_0 ++ dktX3_otters_1
theorem dksX3_otters_0 : cX3_otters.data.toList.drop 0 = dktX3_otters_0 := by decide +kernel
theorem dksX3_otters_1 : cX3_otters.data.toList.drop 24 = dktX3_otters_1 := dk_seg dksX3_otters_0 24 rfl rfl
theorem dX3_otters_0 : decode cX3_otters 0 = .ok (.iconst 0, 1) := dk_3 (dk_at dksX3_otters_0 0 rfl rfl)
theorem dX3_otters_1 : decode cX3_otters 1 = .ok (.istore_n 2, 1) := dk_61 (dk_at dksX3_otters_0 1 rfl rfl)
theorem dX3_otters_2 : decode cX3_otters 2 = .ok (.iconst 0, 1) := dk_3 (dk_at dksX3_otters_0 2 rfl rfl)
theorem dX3_otters_3 : decode cX3_otters 3 = .ok (.istore_n 3, 1) := dk_62 (dk_at dksX3_otters_0 3 rfl rfl)
theorem dX3_otters_4 : decode cX3_otters 4 = .ok (.iload_n 3, 1) := dk_29 (dk_at dksX3_otters_0 4 rfl rfl)
theorem dX3_otters_5 : decode cX3_otters 5 = .ok (.aload_n 0, 1) := dk_42 (dk_at dksX3_otters_0 5 rfl rfl)
theorem dX3_otters_6 : decode cX3_otters 6 = .ok (.getfield 9, 3) := dk_180 0 9 (dk_at dksX3_otters_0 6 rfl rfl)
theorem dX3_otters_9 : decode cX3_otters 9 = .ok (.iconst 1, 1) := dk_4 (dk_at dksX3_otters_0 9 rfl rfl)
theorem dX3_otters_10 : decode cX3_otters 10 = .ok (.iaload, 1) := dk_46 (dk_at dksX3_otters_0 10 rfl rfl)
theorem dX3_otters_11 : decode cX3_otters 11 = .ok (.if_icmp .ge 26, 3) := dk_162 0 26 (dk_at dksX3_otters_0 11 rfl rfl)
theorem dX3_otters_14 : decode cX3_otters 14 = .ok (.iload_n 2, 1) := dk_28 (dk_at dksX3_otters_0 14 rfl rfl)
theorem dX3_otters_15 : decode cX3_otters 15 = .ok (.aload_n 0, 1) := dk_42 (dk_at dksX3_otters_0 15 rfl rfl)
theorem dX3_otters_16 : decode cX3_otters 16 = .ok (.iload_n 3, 1) := dk_29 (dk_at dksX3_otters_0 16 rfl rfl)
theorem dX3_otters_17 : decode cX3_otters 17 = .ok (.iload_n 1, 1) := dk_27 (dk_at dksX3_otters_0 17 rfl rfl)
theorem dX3_otters_18 : decode cX3_otters 18 = .ok (.invokevirtual 82, 3) := dk_182 0 82 (dk_at dksX3_otters_0 18 rfl rfl)
theorem dX3_otters_21 : decode cX3_otters 21 = .ok (.ifCond .eq 7, 3) := dk_153 0 7 (dk_at dksX3_otters_0 21 rfl rfl)
theorem dX3_otters_24 : decode cX3_otters 24 = .ok (.iconst 1, 1) := dk_4 (dk_at dksX3_otters_1 0 rfl rfl)
theorem dX3_otters_25 : decode cX3_otters 25 = .ok (.goto 4, 3) := dk_167 0 4 (dk_at dksX3_otters_1 1 rfl rfl)
theorem dX3_otters_28 : decode cX3_otters 28 = .ok (.iconst 0, 1) := dk_3 (dk_at dksX3_otters_1 4 rfl rfl)
theorem dX3_otters_29 : decode cX3_otters 29 = .ok (.iadd, 1) := dk_96 (dk_at dksX3_otters_1 5 rfl rfl)
theorem dX3_otters_30 : decode cX3_otters 30 = .ok (.istore_n 2, 1) := dk_61 (dk_at dksX3_otters_1 6 rfl rfl)
theorem dX3_otters_31 : decode cX3_otters 31 = .ok (.iinc 3 1, 3) := dk_132 3 1 (dk_at dksX3_otters_1 7 rfl rfl)
theorem dX3_otters_34 : decode cX3_otters 34 = .ok (.goto (-30), 3) := dk_167 255 226 (dk_at dksX3_otters_1 10 rfl rfl)
theorem dX3_otters_37 : decode cX3_otters 37 = .ok (.iload_n 2, 1) := dk_28 (dk_at dksX3_otters_1 13 rfl rfl)
theorem dX3_otters_38 : decode cX3_otters 38 = .ok (.ireturn, 1) := dk_172 (dk_at dksX3_otters_1 14 rfl rfl)
abbrev cX3_livesAt : ByteArray := prog_11_method_14_code
def yX3_livesAt : MethodName := ⟨RX3, "livesAt", "(II)Z"⟩
def dkwX3_livesAt_1 : List UInt8 := [167, 0, 4, 3, 172]
abbrev dktX3_livesAt_1 : List UInt8 := dkwX3_livesAt_1 ++ []
def dkwX3_livesAt_0 : List UInt8 := [42, 27, 182, 0, 78, 153, 0, 22, 42, 180, 0, 9, 27, 184, 0, 75, 4, 96, 46, 28, 160, 0, 7, 4]
abbrev dktX3_livesAt_0 : List UInt8 := dkwX3_livesAt_0 ++ dktX3_livesAt_1
theorem dksX3_livesAt_0 : cX3_livesAt.data.toList.drop 0 = dktX3_livesAt_0 := by decide +kernel
theorem dksX3_livesAt_1 : cX3_livesAt.data.toList.drop 24 = dktX3_livesAt_1 := dk_seg dksX3_livesAt_0 24 rfl rfl
theorem dX3_livesAt_0 : decode cX3_livesAt 0 = .ok (.aload_n 0, 1) := dk_42 (dk_at dksX3_livesAt_0 0 rfl rfl)
theorem dX3_livesAt_1 : decode cX3_livesAt 1 = .ok (.iload_n 1, 1) := dk_27 (dk_at dksX3_livesAt_0 1 rfl rfl)
theorem dX3_livesAt_2 : decode cX3_livesAt 2 = .ok (.invokevirtual 78, 3) := dk_182 0 78 (dk_at dksX3_livesAt_0 2 rfl rfl)
theorem dX3_livesAt_5 : decode cX3_livesAt 5 = .ok (.ifCond .eq 22, 3) := dk_153 0 22 (dk_at dksX3_livesAt_0 5 rfl rfl)
theorem dX3_livesAt_8 : decode cX3_livesAt 8 = .ok (.aload_n 0, 1) := dk_42 (dk_at dksX3_livesAt_0 8 rfl rfl)
theorem dX3_livesAt_9 : decode cX3_livesAt 9 = .ok (.getfield 9, 3) := dk_180 0 9 (dk_at dksX3_livesAt_0 9 rfl rfl)
theorem dX3_livesAt_12 : decode cX3_livesAt 12 = .ok (.iload_n 1, 1) := dk_27 (dk_at dksX3_livesAt_0 12 rfl rfl)
theorem dX3_livesAt_13 : decode cX3_livesAt 13 = .ok (.invokestatic 75, 3) := dk_184 0 75 (dk_at dksX3_livesAt_0 13 rfl rfl)
theorem dX3_livesAt_16 : decode cX3_livesAt 16 = .ok (.iconst 1, 1) := dk_4 (dk_at dksX3_livesAt_0 16 rfl rfl)
theorem dX3_livesAt_17 : decode cX3_livesAt 17 = .ok (.iadd, 1) := dk_96 (dk_at dksX3_livesAt_0 17 rfl rfl)
theorem dX3_livesAt_18 : decode cX3_livesAt 18 = .ok (.iaload, 1) := dk_46 (dk_at dksX3_livesAt_0 18 rfl rfl)
theorem dX3_livesAt_19 : decode cX3_livesAt 19 = .ok (.iload_n 2, 1) := dk_28 (dk_at dksX3_livesAt_0 19 rfl rfl)
theorem dX3_livesAt_20 : decode cX3_livesAt 20 = .ok (.if_icmp .ne 7, 3) := dk_160 0 7 (dk_at dksX3_livesAt_0 20 rfl rfl)
theorem dX3_livesAt_23 : decode cX3_livesAt 23 = .ok (.iconst 1, 1) := dk_4 (dk_at dksX3_livesAt_0 23 rfl rfl)
theorem dX3_livesAt_24 : decode cX3_livesAt 24 = .ok (.goto 4, 3) := dk_167 0 4 (dk_at dksX3_livesAt_1 0 rfl rfl)
theorem dX3_livesAt_27 : decode cX3_livesAt 27 = .ok (.iconst 0, 1) := dk_3 (dk_at dksX3_livesAt_1 3 rfl rfl)
theorem dX3_livesAt_28 : decode cX3_livesAt 28 = .ok (.ireturn, 1) := dk_172 (dk_at dksX3_livesAt_1 4 rfl rfl)
abbrev cX3_lives : ByteArray := prog_11_method_13_code
def yX3_lives : MethodName := ⟨RX3, "lives", "(I)Z"⟩
def dkwX3_lives_0 : List UInt8 := [42, 180, 0, 9, 27, 184, 0, 75, 3, 96, 46, 154, 0, 7, 4, 167, 0, 4, 3, 172]
abbrev dktX3_lives_0 : List UInt8 := dkwX3_lives_0 ++ []
theorem dksX3_lives_0 : cX3_lives.data.toList.drop 0 = dktX3_lives_0 := by decide +kernel
theorem dX3_lives_0 : decode cX3_lives 0 = .ok (.aload_n 0, 1) := dk_42 (dk_at dksX3_lives_0 0 rfl rfl)
theorem dX3_lives_1 : decode cX3_lives 1 = .ok (.getfield 9, 3) := dk_180 0 9 (dk_at dksX3_lives_0 1 rfl rfl)
theorem dX3_lives_4 : decode cX3_lives 4 = .ok (.iload_n 1, 1) := dk_27 (dk_at dksX3_lives_0 4 rfl rfl)
theorem dX3_lives_5 : decode cX3_lives 5 = .ok (.invokestatic 75, 3) := dk_184 0 75 (dk_at dksX3_lives_0 5 rfl rfl)
theorem dX3_lives_8 : decode cX3_lives 8 = .ok (.iconst 0, 1) := dk_3 (dk_at dksX3_lives_0 8 rfl rfl)
theorem dX3_lives_9 : decode cX3_lives 9 = .ok (.iadd, 1) := dk_96 (dk_at dksX3_lives_0 9 rfl rfl)
theorem dX3_lives_10 : decode cX3_lives 10 = .ok (.iaload, 1) := dk_46 (dk_at dksX3_lives_0 10 rfl rfl)
theorem dX3_lives_11 : decode cX3_lives 11 = .ok (.ifCond .ne 7, 3) := dk_154 0 7 (dk_at dksX3_lives_0 11 rfl rfl)
theorem dX3_lives_14 : decode cX3_lives 14 = .ok (.iconst 1, 1) := dk_4 (dk_at dksX3_lives_0 14 rfl rfl)
theorem dX3_lives_15 : decode cX3_lives 15 = .ok (.goto 4, 3) := dk_167 0 4 (dk_at dksX3_lives_0 15 rfl rfl)
theorem dX3_lives_18 : decode cX3_lives 18 = .ok (.iconst 0, 1) := dk_3 (dk_at dksX3_lives_0 18 rfl rfl)
theorem dX3_lives_19 : decode cX3_lives 19 = .ok (.ireturn, 1) := dk_172 (dk_at dksX3_lives_0 19 rfl rfl)
abbrev cX3_of : ByteArray := prog_11_method_9_code
def yX3_of : MethodName := ⟨RX3, "of", "(I)I"⟩
def dkwX3_of_0 : List UInt8 := [16, 120, 8, 26, 104, 96, 172]
abbrev dktX3_of_0 : List UInt8 := dkwX3_of_0 ++ []
theorem dksX3_of_0 : cX3_of.data.toList.drop 0 = dktX3_of_0 := by decide +kernel
theorem dX3_of_0 : decode cX3_of 0 = .ok (.bipush 120, 2) := dk_16 120 (dk_at dksX3_of_0 0 rfl rfl)
theorem dX3_of_2 : decode cX3_of 2 = .ok (.iconst 5, 1) := dk_8 (dk_at dksX3_of_0 2 rfl rfl)
theorem dX3_of_3 : decode cX3_of 3 = .ok (.iload_n 0, 1) := dk_26 (dk_at dksX3_of_0 3 rfl rfl)
theorem dX3_of_4 : decode cX3_of 4 = .ok (.imul, 1) := dk_104 (dk_at dksX3_of_0 4 rfl rfl)
theorem dX3_of_5 : decode cX3_of 5 = .ok (.iadd, 1) := dk_96 (dk_at dksX3_of_0 5 rfl rfl)
theorem dX3_of_6 : decode cX3_of 6 = .ok (.ireturn, 1) := dk_172 (dk_at dksX3_of_0 6 rfl rfl)
abbrev cX3_quality : ByteArray := prog_11_method_18_code
def yX3_quality : MethodName := ⟨RX3, "quality", "(I)I"⟩
def dkwX3_quality_2 : List UInt8 := [162, 0, 19, 42, 180, 0, 9, 27, 4, 96, 184, 0, 86, 3, 96, 46, 167, 0, 4, 3, 96, 172]
abbrev dktX3_quality_2 : List UInt8 := dkwX3_quality_2 ++ []
def dkwX3_quality_1 : List UInt8 := [4, 100, 184, 0, 86, 3, 96, 46, 167, 0, 4, 3, 96, 61, 28, 27, 42, 180, 0, 9, 3, 46, 4, 100]
abbrev dktX3_quality_1 : List UInt8 := dkwX3_quality_1 ++ dktX3_quality_2
def dkwX3_quality_0 : List UInt8 := [5, 42, 180, 0, 9, 27, 184, 0, 86, 3, 96, 46, 104, 61, 28, 27, 158, 0, 19, 42, 180, 0, 9, 27]
abbrev dktX3_quality_0 : List UInt8 := dkwX3_quality_0 ++ dktX3_quality_1
theorem dksX3_quality_0 : cX3_quality.data.toList.drop 0 = dktX3_quality_0 := by decide +kernel
theorem dksX3_quality_1 : cX3_quality.data.toList.drop 24 = dktX3_quality_1 := dk_seg dksX3_quality_0 24 rfl rfl
theorem dksX3_quality_2 : cX3_quality.data.toList.drop 48 = dktX3_quality_2 := dk_seg dksX3_quality_1 24 rfl rfl
theorem dX3_quality_0 : decode cX3_quality 0 = .ok (.iconst 2, 1) := dk_5 (dk_at dksX3_quality_0 0 rfl rfl)
theorem dX3_quality_1 : decode cX3_quality 1 = .ok (.aload_n 0, 1) := dk_42 (dk_at dksX3_quality_0 1 rfl rfl)
theorem dX3_quality_2 : decode cX3_quality 2 = .ok (.getfield 9, 3) := dk_180 0 9 (dk_at dksX3_quality_0 2 rfl rfl)
theorem dX3_quality_5 : decode cX3_quality 5 = .ok (.iload_n 1, 1) := dk_27 (dk_at dksX3_quality_0 5 rfl rfl)
theorem dX3_quality_6 : decode cX3_quality 6 = .ok (.invokestatic 86, 3) := dk_184 0 86 (dk_at dksX3_quality_0 6 rfl rfl)
theorem dX3_quality_9 : decode cX3_quality 9 = .ok (.iconst 0, 1) := dk_3 (dk_at dksX3_quality_0 9 rfl rfl)
theorem dX3_quality_10 : decode cX3_quality 10 = .ok (.iadd, 1) := dk_96 (dk_at dksX3_quality_0 10 rfl rfl)
theorem dX3_quality_11 : decode cX3_quality 11 = .ok (.iaload, 1) := dk_46 (dk_at dksX3_quality_0 11 rfl rfl)
theorem dX3_quality_12 : decode cX3_quality 12 = .ok (.imul, 1) := dk_104 (dk_at dksX3_quality_0 12 rfl rfl)
theorem dX3_quality_13 : decode cX3_quality 13 = .ok (.istore_n 2, 1) := dk_61 (dk_at dksX3_quality_0 13 rfl rfl)
theorem dX3_quality_14 : decode cX3_quality 14 = .ok (.iload_n 2, 1) := dk_28 (dk_at dksX3_quality_0 14 rfl rfl)
theorem dX3_quality_15 : decode cX3_quality 15 = .ok (.iload_n 1, 1) := dk_27 (dk_at dksX3_quality_0 15 rfl rfl)
theorem dX3_quality_16 : decode cX3_quality 16 = .ok (.ifCond .le 19, 3) := dk_158 0 19 (dk_at dksX3_quality_0 16 rfl rfl)
theorem dX3_quality_19 : decode cX3_quality 19 = .ok (.aload_n 0, 1) := dk_42 (dk_at dksX3_quality_0 19 rfl rfl)
theorem dX3_quality_20 : decode cX3_quality 20 = .ok (.getfield 9, 3) := dk_180 0 9 (dk_at dksX3_quality_0 20 rfl rfl)
theorem dX3_quality_23 : decode cX3_quality 23 = .ok (.iload_n 1, 1) := dk_27 (dk_at dksX3_quality_0 23 rfl rfl)
theorem dX3_quality_24 : decode cX3_quality 24 = .ok (.iconst 1, 1) := dk_4 (dk_at dksX3_quality_1 0 rfl rfl)
theorem dX3_quality_25 : decode cX3_quality 25 = .ok (.isub, 1) := dk_100 (dk_at dksX3_quality_1 1 rfl rfl)
theorem dX3_quality_26 : decode cX3_quality 26 = .ok (.invokestatic 86, 3) := dk_184 0 86 (dk_at dksX3_quality_1 2 rfl rfl)
theorem dX3_quality_29 : decode cX3_quality 29 = .ok (.iconst 0, 1) := dk_3 (dk_at dksX3_quality_1 5 rfl rfl)
theorem dX3_quality_30 : decode cX3_quality 30 = .ok (.iadd, 1) := dk_96 (dk_at dksX3_quality_1 6 rfl rfl)
theorem dX3_quality_31 : decode cX3_quality 31 = .ok (.iaload, 1) := dk_46 (dk_at dksX3_quality_1 7 rfl rfl)
theorem dX3_quality_32 : decode cX3_quality 32 = .ok (.goto 4, 3) := dk_167 0 4 (dk_at dksX3_quality_1 8 rfl rfl)
theorem dX3_quality_35 : decode cX3_quality 35 = .ok (.iconst 0, 1) := dk_3 (dk_at dksX3_quality_1 11 rfl rfl)
theorem dX3_quality_36 : decode cX3_quality 36 = .ok (.iadd, 1) := dk_96 (dk_at dksX3_quality_1 12 rfl rfl)
theorem dX3_quality_37 : decode cX3_quality 37 = .ok (.istore_n 2, 1) := dk_61 (dk_at dksX3_quality_1 13 rfl rfl)
theorem dX3_quality_38 : decode cX3_quality 38 = .ok (.iload_n 2, 1) := dk_28 (dk_at dksX3_quality_1 14 rfl rfl)
theorem dX3_quality_39 : decode cX3_quality 39 = .ok (.iload_n 1, 1) := dk_27 (dk_at dksX3_quality_1 15 rfl rfl)
theorem dX3_quality_40 : decode cX3_quality 40 = .ok (.aload_n 0, 1) := dk_42 (dk_at dksX3_quality_1 16 rfl rfl)
theorem dX3_quality_41 : decode cX3_quality 41 = .ok (.getfield 9, 3) := dk_180 0 9 (dk_at dksX3_quality_1 17 rfl rfl)
theorem dX3_quality_44 : decode cX3_quality 44 = .ok (.iconst 0, 1) := dk_3 (dk_at dksX3_quality_1 20 rfl rfl)
theorem dX3_quality_45 : decode cX3_quality 45 = .ok (.iaload, 1) := dk_46 (dk_at dksX3_quality_1 21 rfl rfl)
theorem dX3_quality_46 : decode cX3_quality 46 = .ok (.iconst 1, 1) := dk_4 (dk_at dksX3_quality_1 22 rfl rfl)
theorem dX3_quality_47 : decode cX3_quality 47 = .ok (.isub, 1) := dk_100 (dk_at dksX3_quality_1 23 rfl rfl)
theorem dX3_quality_48 : decode cX3_quality 48 = .ok (.if_icmp .ge 19, 3) := dk_162 0 19 (dk_at dksX3_quality_2 0 rfl rfl)
theorem dX3_quality_51 : decode cX3_quality 51 = .ok (.aload_n 0, 1) := dk_42 (dk_at dksX3_quality_2 3 rfl rfl)
theorem dX3_quality_52 : decode cX3_quality 52 = .ok (.getfield 9, 3) := dk_180 0 9 (dk_at dksX3_quality_2 4 rfl rfl)
theorem dX3_quality_55 : decode cX3_quality 55 = .ok (.iload_n 1, 1) := dk_27 (dk_at dksX3_quality_2 7 rfl rfl)
theorem dX3_quality_56 : decode cX3_quality 56 = .ok (.iconst 1, 1) := dk_4 (dk_at dksX3_quality_2 8 rfl rfl)
theorem dX3_quality_57 : decode cX3_quality 57 = .ok (.iadd, 1) := dk_96 (dk_at dksX3_quality_2 9 rfl rfl)
theorem dX3_quality_58 : decode cX3_quality 58 = .ok (.invokestatic 86, 3) := dk_184 0 86 (dk_at dksX3_quality_2 10 rfl rfl)
theorem dX3_quality_61 : decode cX3_quality 61 = .ok (.iconst 0, 1) := dk_3 (dk_at dksX3_quality_2 13 rfl rfl)
theorem dX3_quality_62 : decode cX3_quality 62 = .ok (.iadd, 1) := dk_96 (dk_at dksX3_quality_2 14 rfl rfl)
theorem dX3_quality_63 : decode cX3_quality 63 = .ok (.iaload, 1) := dk_46 (dk_at dksX3_quality_2 15 rfl rfl)
theorem dX3_quality_64 : decode cX3_quality 64 = .ok (.goto 4, 3) := dk_167 0 4 (dk_at dksX3_quality_2 16 rfl rfl)
theorem dX3_quality_67 : decode cX3_quality 67 = .ok (.iconst 0, 1) := dk_3 (dk_at dksX3_quality_2 19 rfl rfl)
theorem dX3_quality_68 : decode cX3_quality 68 = .ok (.iadd, 1) := dk_96 (dk_at dksX3_quality_2 20 rfl rfl)
theorem dX3_quality_69 : decode cX3_quality 69 = .ok (.ireturn, 1) := dk_172 (dk_at dksX3_quality_2 21 rfl rfl)
abbrev cX3_otter : ByteArray := prog_11_method_23_code
def yX3_otter : MethodName := ⟨RX3, "otter", "(I)I"⟩
def dkwX3_otter_3 : List UInt8 := [46, 16, 30, 160, 0, 11, 42, 4, 16, 30, 182, 0, 94, 172, 42, 42, 27, 182, 0, 118, 182, 0, 100, 172]
abbrev dktX3_otter_3 : List UInt8 := dkwX3_otter_3 ++ []
def dkwX3_otter_2 : List UInt8 := [182, 0, 109, 4, 164, 0, 15, 42, 16, 6, 42, 27, 182, 0, 115, 182, 0, 94, 172, 42, 180, 0, 9, 4]
abbrev dktX3_otter_2 : List UInt8 := dkwX3_otter_2 ++ dktX3_otter_3
def dkwX3_otter_1 : List UInt8 := [154, 0, 20, 42, 8, 42, 180, 0, 9, 27, 184, 0, 86, 3, 96, 46, 182, 0, 94, 172, 42, 27]
abbrev dktX3_otter_1 : List UInt8 := dkwX3_otter_1 ++ dktX3_otter_2
def dkwX3_otter_0 : List UInt8 := [42, 182, 0, 89, 42, 27, 182, 0, 103, 154, 0, 10, 42, 5, 27, 182, 0, 94, 172, 42, 27, 182, 0, 106]
abbrev dktX3_otter_0 : List UInt8 := dkwX3_otter_0 ++ dktX3_otter_1
theorem dksX3_otter_0 : cX3_otter.data.toList.drop 0 = dktX3_otter_0 := by decide +kernel
theorem dksX3_otter_1 : cX3_otter.data.toList.drop 24 = dktX3_otter_1 := dk_seg dksX3_otter_0 24 rfl rfl
theorem dksX3_otter_2 : cX3_otter.data.toList.drop 46 = dktX3_otter_2 := dk_seg dksX3_otter_1 22 rfl rfl
theorem dksX3_otter_3 : cX3_otter.data.toList.drop 70 = dktX3_otter_3 := dk_seg dksX3_otter_2 24 rfl rfl
theorem dX3_otter_0 : decode cX3_otter 0 = .ok (.aload_n 0, 1) := dk_42 (dk_at dksX3_otter_0 0 rfl rfl)
theorem dX3_otter_1 : decode cX3_otter 1 = .ok (.invokevirtual 89, 3) := dk_182 0 89 (dk_at dksX3_otter_0 1 rfl rfl)
theorem dX3_otter_4 : decode cX3_otter 4 = .ok (.aload_n 0, 1) := dk_42 (dk_at dksX3_otter_0 4 rfl rfl)
theorem dX3_otter_5 : decode cX3_otter 5 = .ok (.iload_n 1, 1) := dk_27 (dk_at dksX3_otter_0 5 rfl rfl)
theorem dX3_otter_6 : decode cX3_otter 6 = .ok (.invokevirtual 103, 3) := dk_182 0 103 (dk_at dksX3_otter_0 6 rfl rfl)
theorem dX3_otter_9 : decode cX3_otter 9 = .ok (.ifCond .ne 10, 3) := dk_154 0 10 (dk_at dksX3_otter_0 9 rfl rfl)
theorem dX3_otter_12 : decode cX3_otter 12 = .ok (.aload_n 0, 1) := dk_42 (dk_at dksX3_otter_0 12 rfl rfl)
theorem dX3_otter_13 : decode cX3_otter 13 = .ok (.iconst 2, 1) := dk_5 (dk_at dksX3_otter_0 13 rfl rfl)
theorem dX3_otter_14 : decode cX3_otter 14 = .ok (.iload_n 1, 1) := dk_27 (dk_at dksX3_otter_0 14 rfl rfl)
theorem dX3_otter_15 : decode cX3_otter 15 = .ok (.invokevirtual 94, 3) := dk_182 0 94 (dk_at dksX3_otter_0 15 rfl rfl)
theorem dX3_otter_18 : decode cX3_otter 18 = .ok (.ireturn, 1) := dk_172 (dk_at dksX3_otter_0 18 rfl rfl)
theorem dX3_otter_19 : decode cX3_otter 19 = .ok (.aload_n 0, 1) := dk_42 (dk_at dksX3_otter_0 19 rfl rfl)
theorem dX3_otter_20 : decode cX3_otter 20 = .ok (.iload_n 1, 1) := dk_27 (dk_at dksX3_otter_0 20 rfl rfl)
theorem dX3_otter_21 : decode cX3_otter 21 = .ok (.invokevirtual 106, 3) := dk_182 0 106 (dk_at dksX3_otter_0 21 rfl rfl)
theorem dX3_otter_24 : decode cX3_otter 24 = .ok (.ifCond .ne 20, 3) := dk_154 0 20 (dk_at dksX3_otter_1 0 rfl rfl)
theorem dX3_otter_27 : decode cX3_otter 27 = .ok (.aload_n 0, 1) := dk_42 (dk_at dksX3_otter_1 3 rfl rfl)
theorem dX3_otter_28 : decode cX3_otter 28 = .ok (.iconst 5, 1) := dk_8 (dk_at dksX3_otter_1 4 rfl rfl)
theorem dX3_otter_29 : decode cX3_otter 29 = .ok (.aload_n 0, 1) := dk_42 (dk_at dksX3_otter_1 5 rfl rfl)
theorem dX3_otter_30 : decode cX3_otter 30 = .ok (.getfield 9, 3) := dk_180 0 9 (dk_at dksX3_otter_1 6 rfl rfl)
theorem dX3_otter_33 : decode cX3_otter 33 = .ok (.iload_n 1, 1) := dk_27 (dk_at dksX3_otter_1 9 rfl rfl)
theorem dX3_otter_34 : decode cX3_otter 34 = .ok (.invokestatic 86, 3) := dk_184 0 86 (dk_at dksX3_otter_1 10 rfl rfl)
theorem dX3_otter_37 : decode cX3_otter 37 = .ok (.iconst 0, 1) := dk_3 (dk_at dksX3_otter_1 13 rfl rfl)
theorem dX3_otter_38 : decode cX3_otter 38 = .ok (.iadd, 1) := dk_96 (dk_at dksX3_otter_1 14 rfl rfl)
theorem dX3_otter_39 : decode cX3_otter 39 = .ok (.iaload, 1) := dk_46 (dk_at dksX3_otter_1 15 rfl rfl)
theorem dX3_otter_40 : decode cX3_otter 40 = .ok (.invokevirtual 94, 3) := dk_182 0 94 (dk_at dksX3_otter_1 16 rfl rfl)
theorem dX3_otter_43 : decode cX3_otter 43 = .ok (.ireturn, 1) := dk_172 (dk_at dksX3_otter_1 19 rfl rfl)
theorem dX3_otter_44 : decode cX3_otter 44 = .ok (.aload_n 0, 1) := dk_42 (dk_at dksX3_otter_1 20 rfl rfl)
theorem dX3_otter_45 : decode cX3_otter 45 = .ok (.iload_n 1, 1) := dk_27 (dk_at dksX3_otter_1 21 rfl rfl)
theorem dX3_otter_46 : decode cX3_otter 46 = .ok (.invokevirtual 109, 3) := dk_182 0 109 (dk_at dksX3_otter_2 0 rfl rfl)
theorem dX3_otter_49 : decode cX3_otter 49 = .ok (.iconst 1, 1) := dk_4 (dk_at dksX3_otter_2 3 rfl rfl)
theorem dX3_otter_50 : decode cX3_otter 50 = .ok (.if_icmp .le 15, 3) := dk_164 0 15 (dk_at dksX3_otter_2 4 rfl rfl)
theorem dX3_otter_53 : decode cX3_otter 53 = .ok (.aload_n 0, 1) := dk_42 (dk_at dksX3_otter_2 7 rfl rfl)
theorem dX3_otter_54 : decode cX3_otter 54 = .ok (.bipush 6, 2) := dk_16 6 (dk_at dksX3_otter_2 8 rfl rfl)
theorem dX3_otter_56 : decode cX3_otter 56 = .ok (.aload_n 0, 1) := dk_42 (dk_at dksX3_otter_2 10 rfl rfl)
theorem dX3_otter_57 : decode cX3_otter 57 = .ok (.iload_n 1, 1) := dk_27 (dk_at dksX3_otter_2 11 rfl rfl)
theorem dX3_otter_58 : decode cX3_otter 58 = .ok (.invokevirtual 115, 3) := dk_182 0 115 (dk_at dksX3_otter_2 12 rfl rfl)
theorem dX3_otter_61 : decode cX3_otter 61 = .ok (.invokevirtual 94, 3) := dk_182 0 94 (dk_at dksX3_otter_2 15 rfl rfl)
theorem dX3_otter_64 : decode cX3_otter 64 = .ok (.ireturn, 1) := dk_172 (dk_at dksX3_otter_2 18 rfl rfl)
theorem dX3_otter_65 : decode cX3_otter 65 = .ok (.aload_n 0, 1) := dk_42 (dk_at dksX3_otter_2 19 rfl rfl)
theorem dX3_otter_66 : decode cX3_otter 66 = .ok (.getfield 9, 3) := dk_180 0 9 (dk_at dksX3_otter_2 20 rfl rfl)
theorem dX3_otter_69 : decode cX3_otter 69 = .ok (.iconst 1, 1) := dk_4 (dk_at dksX3_otter_2 23 rfl rfl)
theorem dX3_otter_70 : decode cX3_otter 70 = .ok (.iaload, 1) := dk_46 (dk_at dksX3_otter_3 0 rfl rfl)
theorem dX3_otter_71 : decode cX3_otter 71 = .ok (.bipush 30, 2) := dk_16 30 (dk_at dksX3_otter_3 1 rfl rfl)
theorem dX3_otter_73 : decode cX3_otter 73 = .ok (.if_icmp .ne 11, 3) := dk_160 0 11 (dk_at dksX3_otter_3 3 rfl rfl)
theorem dX3_otter_76 : decode cX3_otter 76 = .ok (.aload_n 0, 1) := dk_42 (dk_at dksX3_otter_3 6 rfl rfl)
theorem dX3_otter_77 : decode cX3_otter 77 = .ok (.iconst 1, 1) := dk_4 (dk_at dksX3_otter_3 7 rfl rfl)
theorem dX3_otter_78 : decode cX3_otter 78 = .ok (.bipush 30, 2) := dk_16 30 (dk_at dksX3_otter_3 8 rfl rfl)
theorem dX3_otter_80 : decode cX3_otter 80 = .ok (.invokevirtual 94, 3) := dk_182 0 94 (dk_at dksX3_otter_3 10 rfl rfl)
theorem dX3_otter_83 : decode cX3_otter 83 = .ok (.ireturn, 1) := dk_172 (dk_at dksX3_otter_3 13 rfl rfl)
theorem dX3_otter_84 : decode cX3_otter 84 = .ok (.aload_n 0, 1) := dk_42 (dk_at dksX3_otter_3 14 rfl rfl)
theorem dX3_otter_85 : decode cX3_otter 85 = .ok (.aload_n 0, 1) := dk_42 (dk_at dksX3_otter_3 15 rfl rfl)
theorem dX3_otter_86 : decode cX3_otter 86 = .ok (.iload_n 1, 1) := dk_27 (dk_at dksX3_otter_3 16 rfl rfl)
theorem dX3_otter_87 : decode cX3_otter 87 = .ok (.invokevirtual 118, 3) := dk_182 0 118 (dk_at dksX3_otter_3 17 rfl rfl)
theorem dX3_otter_90 : decode cX3_otter 90 = .ok (.invokevirtual 100, 3) := dk_182 0 100 (dk_at dksX3_otter_3 20 rfl rfl)
theorem dX3_otter_93 : decode cX3_otter 93 = .ok (.ireturn, 1) := dk_172 (dk_at dksX3_otter_3 23 rfl rfl)
abbrev cX3_lowestAt : ByteArray := prog_11_method_22_code
def yX3_lowestAt : MethodName := ⟨RX3, "lowestAt", "(I)I"⟩
def dkwX3_lowestAt_0 : List UInt8 := [3, 61, 42, 28, 27, 182, 0, 82, 154, 0, 9, 132, 2, 1, 167, 255, 244, 28, 172]
abbrev dktX3_lowestAt_0 : List UInt8 := dkwX3_lowestAt_0 ++ []
theorem dksX3_lowestAt_0 : cX3_lowestAt.data.toList.drop 0 = dktX3_lowestAt_0 := by decide +kernel
theorem dX3_lowestAt_0 : decode cX3_lowestAt 0 = .ok (.iconst 0, 1) := dk_3 (dk_at dksX3_lowestAt_0 0 rfl rfl)
theorem dX3_lowestAt_1 : decode cX3_lowestAt 1 = .ok (.istore_n 2, 1) := dk_61 (dk_at dksX3_lowestAt_0 1 rfl rfl)
theorem dX3_lowestAt_2 : decode cX3_lowestAt 2 = .ok (.aload_n 0, 1) := dk_42 (dk_at dksX3_lowestAt_0 2 rfl rfl)
theorem dX3_lowestAt_3 : decode cX3_lowestAt 3 = .ok (.iload_n 2, 1) := dk_28 (dk_at dksX3_lowestAt_0 3 rfl rfl)
theorem dX3_lowestAt_4 : decode cX3_lowestAt 4 = .ok (.iload_n 1, 1) := dk_27 (dk_at dksX3_lowestAt_0 4 rfl rfl)
theorem dX3_lowestAt_5 : decode cX3_lowestAt 5 = .ok (.invokevirtual 82, 3) := dk_182 0 82 (dk_at dksX3_lowestAt_0 5 rfl rfl)
theorem dX3_lowestAt_8 : decode cX3_lowestAt 8 = .ok (.ifCond .ne 9, 3) := dk_154 0 9 (dk_at dksX3_lowestAt_0 8 rfl rfl)
theorem dX3_lowestAt_11 : decode cX3_lowestAt 11 = .ok (.iinc 2 1, 3) := dk_132 2 1 (dk_at dksX3_lowestAt_0 11 rfl rfl)
theorem dX3_lowestAt_14 : decode cX3_lowestAt 14 = .ok (.goto (-12), 3) := dk_167 255 244 (dk_at dksX3_lowestAt_0 14 rfl rfl)
theorem dX3_lowestAt_17 : decode cX3_lowestAt 17 = .ok (.iload_n 2, 1) := dk_28 (dk_at dksX3_lowestAt_0 17 rfl rfl)
theorem dX3_lowestAt_18 : decode cX3_lowestAt 18 = .ok (.ireturn, 1) := dk_172 (dk_at dksX3_lowestAt_0 18 rfl rfl)
abbrev cX3_comes : ByteArray := prog_11_method_21_code
def yX3_comes : MethodName := ⟨RX3, "comes", "(I)I"⟩
def dkwX3_comes_3 : List UInt8 := [180, 0, 9, 4, 92, 46, 4, 96, 79, 42, 180, 0, 9, 4, 46, 4, 100, 172]
abbrev dktX3_comes_3 : List UInt8 := dkwX3_comes_3 ++ []
def dkwX3_comes_2 : List UInt8 := [180, 0, 9, 28, 6, 96, 3, 79, 42, 180, 0, 9, 28, 7, 96, 42, 180, 0, 9, 8, 46, 79, 42]
abbrev dktX3_comes_2 : List UInt8 := dkwX3_comes_2 ++ dktX3_comes_3
def dkwX3_comes_1 : List UInt8 := [167, 0, 4, 3, 79, 42, 180, 0, 9, 28, 4, 96, 27, 79, 42, 180, 0, 9, 28, 5, 96, 3, 79, 42]
abbrev dktX3_comes_1 : List UInt8 := dkwX3_comes_1 ++ dktX3_comes_2
def dkwX3_comes_0 : List UInt8 := [42, 180, 0, 9, 4, 46, 184, 0, 75, 61, 42, 180, 0, 9, 28, 3, 96, 27, 2, 160, 0, 7, 5]
abbrev dktX3_comes_0 : List UInt8 := dkwX3_comes_0 ++ dktX3_comes_1
theorem dksX3_comes_0 : cX3_comes.data.toList.drop 0 = dktX3_comes_0 := by decide +kernel
theorem dksX3_comes_1 : cX3_comes.data.toList.drop 23 = dktX3_comes_1 := dk_seg dksX3_comes_0 23 rfl rfl
theorem dksX3_comes_2 : cX3_comes.data.toList.drop 47 = dktX3_comes_2 := dk_seg dksX3_comes_1 24 rfl rfl
theorem dksX3_comes_3 : cX3_comes.data.toList.drop 70 = dktX3_comes_3 := dk_seg dksX3_comes_2 23 rfl rfl
theorem dX3_comes_0 : decode cX3_comes 0 = .ok (.aload_n 0, 1) := dk_42 (dk_at dksX3_comes_0 0 rfl rfl)
theorem dX3_comes_1 : decode cX3_comes 1 = .ok (.getfield 9, 3) := dk_180 0 9 (dk_at dksX3_comes_0 1 rfl rfl)
theorem dX3_comes_4 : decode cX3_comes 4 = .ok (.iconst 1, 1) := dk_4 (dk_at dksX3_comes_0 4 rfl rfl)
theorem dX3_comes_5 : decode cX3_comes 5 = .ok (.iaload, 1) := dk_46 (dk_at dksX3_comes_0 5 rfl rfl)
theorem dX3_comes_6 : decode cX3_comes 6 = .ok (.invokestatic 75, 3) := dk_184 0 75 (dk_at dksX3_comes_0 6 rfl rfl)
theorem dX3_comes_9 : decode cX3_comes 9 = .ok (.istore_n 2, 1) := dk_61 (dk_at dksX3_comes_0 9 rfl rfl)
theorem dX3_comes_10 : decode cX3_comes 10 = .ok (.aload_n 0, 1) := dk_42 (dk_at dksX3_comes_0 10 rfl rfl)
theorem dX3_comes_11 : decode cX3_comes 11 = .ok (.getfield 9, 3) := dk_180 0 9 (dk_at dksX3_comes_0 11 rfl rfl)
theorem dX3_comes_14 : decode cX3_comes 14 = .ok (.iload_n 2, 1) := dk_28 (dk_at dksX3_comes_0 14 rfl rfl)
theorem dX3_comes_15 : decode cX3_comes 15 = .ok (.iconst 0, 1) := dk_3 (dk_at dksX3_comes_0 15 rfl rfl)
theorem dX3_comes_16 : decode cX3_comes 16 = .ok (.iadd, 1) := dk_96 (dk_at dksX3_comes_0 16 rfl rfl)
theorem dX3_comes_17 : decode cX3_comes 17 = .ok (.iload_n 1, 1) := dk_27 (dk_at dksX3_comes_0 17 rfl rfl)
theorem dX3_comes_18 : decode cX3_comes 18 = .ok (.iconst (-1), 1) := dk_2 (dk_at dksX3_comes_0 18 rfl rfl)
theorem dX3_comes_19 : decode cX3_comes 19 = .ok (.if_icmp .ne 7, 3) := dk_160 0 7 (dk_at dksX3_comes_0 19 rfl rfl)
theorem dX3_comes_22 : decode cX3_comes 22 = .ok (.iconst 2, 1) := dk_5 (dk_at dksX3_comes_0 22 rfl rfl)
theorem dX3_comes_23 : decode cX3_comes 23 = .ok (.goto 4, 3) := dk_167 0 4 (dk_at dksX3_comes_1 0 rfl rfl)
theorem dX3_comes_26 : decode cX3_comes 26 = .ok (.iconst 0, 1) := dk_3 (dk_at dksX3_comes_1 3 rfl rfl)
theorem dX3_comes_27 : decode cX3_comes 27 = .ok (.iastore, 1) := dk_79 (dk_at dksX3_comes_1 4 rfl rfl)
theorem dX3_comes_28 : decode cX3_comes 28 = .ok (.aload_n 0, 1) := dk_42 (dk_at dksX3_comes_1 5 rfl rfl)
theorem dX3_comes_29 : decode cX3_comes 29 = .ok (.getfield 9, 3) := dk_180 0 9 (dk_at dksX3_comes_1 6 rfl rfl)
theorem dX3_comes_32 : decode cX3_comes 32 = .ok (.iload_n 2, 1) := dk_28 (dk_at dksX3_comes_1 9 rfl rfl)
theorem dX3_comes_33 : decode cX3_comes 33 = .ok (.iconst 1, 1) := dk_4 (dk_at dksX3_comes_1 10 rfl rfl)
theorem dX3_comes_34 : decode cX3_comes 34 = .ok (.iadd, 1) := dk_96 (dk_at dksX3_comes_1 11 rfl rfl)
theorem dX3_comes_35 : decode cX3_comes 35 = .ok (.iload_n 1, 1) := dk_27 (dk_at dksX3_comes_1 12 rfl rfl)
theorem dX3_comes_36 : decode cX3_comes 36 = .ok (.iastore, 1) := dk_79 (dk_at dksX3_comes_1 13 rfl rfl)
theorem dX3_comes_37 : decode cX3_comes 37 = .ok (.aload_n 0, 1) := dk_42 (dk_at dksX3_comes_1 14 rfl rfl)
theorem dX3_comes_38 : decode cX3_comes 38 = .ok (.getfield 9, 3) := dk_180 0 9 (dk_at dksX3_comes_1 15 rfl rfl)
theorem dX3_comes_41 : decode cX3_comes 41 = .ok (.iload_n 2, 1) := dk_28 (dk_at dksX3_comes_1 18 rfl rfl)
theorem dX3_comes_42 : decode cX3_comes 42 = .ok (.iconst 2, 1) := dk_5 (dk_at dksX3_comes_1 19 rfl rfl)
theorem dX3_comes_43 : decode cX3_comes 43 = .ok (.iadd, 1) := dk_96 (dk_at dksX3_comes_1 20 rfl rfl)
theorem dX3_comes_44 : decode cX3_comes 44 = .ok (.iconst 0, 1) := dk_3 (dk_at dksX3_comes_1 21 rfl rfl)
theorem dX3_comes_45 : decode cX3_comes 45 = .ok (.iastore, 1) := dk_79 (dk_at dksX3_comes_1 22 rfl rfl)
theorem dX3_comes_46 : decode cX3_comes 46 = .ok (.aload_n 0, 1) := dk_42 (dk_at dksX3_comes_1 23 rfl rfl)
theorem dX3_comes_47 : decode cX3_comes 47 = .ok (.getfield 9, 3) := dk_180 0 9 (dk_at dksX3_comes_2 0 rfl rfl)
theorem dX3_comes_50 : decode cX3_comes 50 = .ok (.iload_n 2, 1) := dk_28 (dk_at dksX3_comes_2 3 rfl rfl)
theorem dX3_comes_51 : decode cX3_comes 51 = .ok (.iconst 3, 1) := dk_6 (dk_at dksX3_comes_2 4 rfl rfl)
theorem dX3_comes_52 : decode cX3_comes 52 = .ok (.iadd, 1) := dk_96 (dk_at dksX3_comes_2 5 rfl rfl)
theorem dX3_comes_53 : decode cX3_comes 53 = .ok (.iconst 0, 1) := dk_3 (dk_at dksX3_comes_2 6 rfl rfl)
theorem dX3_comes_54 : decode cX3_comes 54 = .ok (.iastore, 1) := dk_79 (dk_at dksX3_comes_2 7 rfl rfl)
theorem dX3_comes_55 : decode cX3_comes 55 = .ok (.aload_n 0, 1) := dk_42 (dk_at dksX3_comes_2 8 rfl rfl)
theorem dX3_comes_56 : decode cX3_comes 56 = .ok (.getfield 9, 3) := dk_180 0 9 (dk_at dksX3_comes_2 9 rfl rfl)
theorem dX3_comes_59 : decode cX3_comes 59 = .ok (.iload_n 2, 1) := dk_28 (dk_at dksX3_comes_2 12 rfl rfl)
theorem dX3_comes_60 : decode cX3_comes 60 = .ok (.iconst 4, 1) := dk_7 (dk_at dksX3_comes_2 13 rfl rfl)
theorem dX3_comes_61 : decode cX3_comes 61 = .ok (.iadd, 1) := dk_96 (dk_at dksX3_comes_2 14 rfl rfl)
theorem dX3_comes_62 : decode cX3_comes 62 = .ok (.aload_n 0, 1) := dk_42 (dk_at dksX3_comes_2 15 rfl rfl)
theorem dX3_comes_63 : decode cX3_comes 63 = .ok (.getfield 9, 3) := dk_180 0 9 (dk_at dksX3_comes_2 16 rfl rfl)
theorem dX3_comes_66 : decode cX3_comes 66 = .ok (.iconst 5, 1) := dk_8 (dk_at dksX3_comes_2 19 rfl rfl)
theorem dX3_comes_67 : decode cX3_comes 67 = .ok (.iaload, 1) := dk_46 (dk_at dksX3_comes_2 20 rfl rfl)
theorem dX3_comes_68 : decode cX3_comes 68 = .ok (.iastore, 1) := dk_79 (dk_at dksX3_comes_2 21 rfl rfl)
theorem dX3_comes_69 : decode cX3_comes 69 = .ok (.aload_n 0, 1) := dk_42 (dk_at dksX3_comes_2 22 rfl rfl)
theorem dX3_comes_70 : decode cX3_comes 70 = .ok (.getfield 9, 3) := dk_180 0 9 (dk_at dksX3_comes_3 0 rfl rfl)
theorem dX3_comes_73 : decode cX3_comes 73 = .ok (.iconst 1, 1) := dk_4 (dk_at dksX3_comes_3 3 rfl rfl)
theorem dX3_comes_74 : decode cX3_comes 74 = .ok (.dup2, 1) := dk_92 (dk_at dksX3_comes_3 4 rfl rfl)
theorem dX3_comes_75 : decode cX3_comes 75 = .ok (.iaload, 1) := dk_46 (dk_at dksX3_comes_3 5 rfl rfl)
theorem dX3_comes_76 : decode cX3_comes 76 = .ok (.iconst 1, 1) := dk_4 (dk_at dksX3_comes_3 6 rfl rfl)
theorem dX3_comes_77 : decode cX3_comes 77 = .ok (.iadd, 1) := dk_96 (dk_at dksX3_comes_3 7 rfl rfl)
theorem dX3_comes_78 : decode cX3_comes 78 = .ok (.iastore, 1) := dk_79 (dk_at dksX3_comes_3 8 rfl rfl)
theorem dX3_comes_79 : decode cX3_comes 79 = .ok (.aload_n 0, 1) := dk_42 (dk_at dksX3_comes_3 9 rfl rfl)
theorem dX3_comes_80 : decode cX3_comes 80 = .ok (.getfield 9, 3) := dk_180 0 9 (dk_at dksX3_comes_3 10 rfl rfl)
theorem dX3_comes_83 : decode cX3_comes 83 = .ok (.iconst 1, 1) := dk_4 (dk_at dksX3_comes_3 13 rfl rfl)
theorem dX3_comes_84 : decode cX3_comes 84 = .ok (.iaload, 1) := dk_46 (dk_at dksX3_comes_3 14 rfl rfl)
theorem dX3_comes_85 : decode cX3_comes 85 = .ok (.iconst 1, 1) := dk_4 (dk_at dksX3_comes_3 15 rfl rfl)
theorem dX3_comes_86 : decode cX3_comes 86 = .ok (.isub, 1) := dk_100 (dk_at dksX3_comes_3 16 rfl rfl)
theorem dX3_comes_87 : decode cX3_comes 87 = .ok (.ireturn, 1) := dk_172 (dk_at dksX3_comes_3 17 rfl rfl)
abbrev cX3_volunteer : ByteArray := prog_11_method_24_code
def yX3_volunteer : MethodName := ⟨RX3, "volunteer", "(II)I"⟩
def dkwX3_volunteer_6 : List UInt8 := [182, 0, 100, 172]
abbrev dktX3_volunteer_6 : List UInt8 := dkwX3_volunteer_6 ++ []
def dkwX3_volunteer_5 : List UInt8 := [7, 96, 3, 79, 42, 180, 0, 9, 5, 92, 46, 4, 96, 79, 42, 42, 180, 0, 9, 5, 46, 4, 100]
abbrev dktX3_volunteer_5 : List UInt8 := dkwX3_volunteer_5 ++ dktX3_volunteer_6
def dkwX3_volunteer_4 : List UInt8 := [79, 42, 180, 0, 9, 29, 5, 96, 3, 79, 42, 180, 0, 9, 29, 6, 96, 3, 79, 42, 180, 0, 9, 29]
abbrev dktX3_volunteer_4 : List UInt8 := dkwX3_volunteer_4 ++ dktX3_volunteer_5
def dkwX3_volunteer_3 : List UInt8 := [180, 0, 9, 5, 46, 184, 0, 121, 62, 42, 180, 0, 9, 29, 27, 79, 42, 180, 0, 9, 29, 4, 96, 28]
abbrev dktX3_volunteer_3 : List UInt8 := dkwX3_volunteer_3 ++ dktX3_volunteer_4
def dkwX3_volunteer_2 : List UInt8 := [182, 0, 94, 172, 42, 180, 0, 9, 5, 46, 8, 160, 0, 10, 42, 4, 8, 182, 0, 94, 172, 42]
abbrev dktX3_volunteer_2 : List UInt8 := dkwX3_volunteer_2 ++ dktX3_volunteer_3
def dkwX3_volunteer_1 : List UInt8 := [182, 0, 103, 153, 0, 7, 28, 167, 0, 4, 27, 182, 0, 94, 172, 28, 27, 162, 0, 10, 42, 6, 28]
abbrev dktX3_volunteer_1 : List UInt8 := dkwX3_volunteer_1 ++ dktX3_volunteer_2
def dkwX3_volunteer_0 : List UInt8 := [42, 182, 0, 89, 42, 27, 182, 0, 103, 153, 0, 11, 42, 28, 182, 0, 103, 154, 0, 22, 42, 5, 42, 27]
abbrev dktX3_volunteer_0 : List UInt8 := dkwX3_volunteer_0 ++ dktX3_volunteer_1
theorem dksX3_volunteer_0 : cX3_volunteer.data.toList.drop 0 = dktX3_volunteer_0 := by decide +kernel
theorem dksX3_volunteer_1 : cX3_volunteer.data.toList.drop 24 = dktX3_volunteer_1 := dk_seg dksX3_volunteer_0 24 rfl rfl
theorem dksX3_volunteer_2 : cX3_volunteer.data.toList.drop 47 = dktX3_volunteer_2 := dk_seg dksX3_volunteer_1 23 rfl rfl
theorem dksX3_volunteer_3 : cX3_volunteer.data.toList.drop 69 = dktX3_volunteer_3 := dk_seg dksX3_volunteer_2 22 rfl rfl
theorem dksX3_volunteer_4 : cX3_volunteer.data.toList.drop 93 = dktX3_volunteer_4 := dk_seg dksX3_volunteer_3 24 rfl rfl
theorem dksX3_volunteer_5 : cX3_volunteer.data.toList.drop 117 = dktX3_volunteer_5 := dk_seg dksX3_volunteer_4 24 rfl rfl
theorem dksX3_volunteer_6 : cX3_volunteer.data.toList.drop 140 = dktX3_volunteer_6 := dk_seg dksX3_volunteer_5 23 rfl rfl
theorem dX3_volunteer_0 : decode cX3_volunteer 0 = .ok (.aload_n 0, 1) := dk_42 (dk_at dksX3_volunteer_0 0 rfl rfl)
theorem dX3_volunteer_1 : decode cX3_volunteer 1 = .ok (.invokevirtual 89, 3) := dk_182 0 89 (dk_at dksX3_volunteer_0 1 rfl rfl)
theorem dX3_volunteer_4 : decode cX3_volunteer 4 = .ok (.aload_n 0, 1) := dk_42 (dk_at dksX3_volunteer_0 4 rfl rfl)
theorem dX3_volunteer_5 : decode cX3_volunteer 5 = .ok (.iload_n 1, 1) := dk_27 (dk_at dksX3_volunteer_0 5 rfl rfl)
theorem dX3_volunteer_6 : decode cX3_volunteer 6 = .ok (.invokevirtual 103, 3) := dk_182 0 103 (dk_at dksX3_volunteer_0 6 rfl rfl)
theorem dX3_volunteer_9 : decode cX3_volunteer 9 = .ok (.ifCond .eq 11, 3) := dk_153 0 11 (dk_at dksX3_volunteer_0 9 rfl rfl)
theorem dX3_volunteer_12 : decode cX3_volunteer 12 = .ok (.aload_n 0, 1) := dk_42 (dk_at dksX3_volunteer_0 12 rfl rfl)
theorem dX3_volunteer_13 : decode cX3_volunteer 13 = .ok (.iload_n 2, 1) := dk_28 (dk_at dksX3_volunteer_0 13 rfl rfl)
theorem dX3_volunteer_14 : decode cX3_volunteer 14 = .ok (.invokevirtual 103, 3) := dk_182 0 103 (dk_at dksX3_volunteer_0 14 rfl rfl)
theorem dX3_volunteer_17 : decode cX3_volunteer 17 = .ok (.ifCond .ne 22, 3) := dk_154 0 22 (dk_at dksX3_volunteer_0 17 rfl rfl)
theorem dX3_volunteer_20 : decode cX3_volunteer 20 = .ok (.aload_n 0, 1) := dk_42 (dk_at dksX3_volunteer_0 20 rfl rfl)
theorem dX3_volunteer_21 : decode cX3_volunteer 21 = .ok (.iconst 2, 1) := dk_5 (dk_at dksX3_volunteer_0 21 rfl rfl)
theorem dX3_volunteer_22 : decode cX3_volunteer 22 = .ok (.aload_n 0, 1) := dk_42 (dk_at dksX3_volunteer_0 22 rfl rfl)
theorem dX3_volunteer_23 : decode cX3_volunteer 23 = .ok (.iload_n 1, 1) := dk_27 (dk_at dksX3_volunteer_0 23 rfl rfl)
theorem dX3_volunteer_24 : decode cX3_volunteer 24 = .ok (.invokevirtual 103, 3) := dk_182 0 103 (dk_at dksX3_volunteer_1 0 rfl rfl)
theorem dX3_volunteer_27 : decode cX3_volunteer 27 = .ok (.ifCond .eq 7, 3) := dk_153 0 7 (dk_at dksX3_volunteer_1 3 rfl rfl)
theorem dX3_volunteer_30 : decode cX3_volunteer 30 = .ok (.iload_n 2, 1) := dk_28 (dk_at dksX3_volunteer_1 6 rfl rfl)
theorem dX3_volunteer_31 : decode cX3_volunteer 31 = .ok (.goto 4, 3) := dk_167 0 4 (dk_at dksX3_volunteer_1 7 rfl rfl)
theorem dX3_volunteer_34 : decode cX3_volunteer 34 = .ok (.iload_n 1, 1) := dk_27 (dk_at dksX3_volunteer_1 10 rfl rfl)
theorem dX3_volunteer_35 : decode cX3_volunteer 35 = .ok (.invokevirtual 94, 3) := dk_182 0 94 (dk_at dksX3_volunteer_1 11 rfl rfl)
theorem dX3_volunteer_38 : decode cX3_volunteer 38 = .ok (.ireturn, 1) := dk_172 (dk_at dksX3_volunteer_1 14 rfl rfl)
theorem dX3_volunteer_39 : decode cX3_volunteer 39 = .ok (.iload_n 2, 1) := dk_28 (dk_at dksX3_volunteer_1 15 rfl rfl)
theorem dX3_volunteer_40 : decode cX3_volunteer 40 = .ok (.iload_n 1, 1) := dk_27 (dk_at dksX3_volunteer_1 16 rfl rfl)
theorem dX3_volunteer_41 : decode cX3_volunteer 41 = .ok (.if_icmp .ge 10, 3) := dk_162 0 10 (dk_at dksX3_volunteer_1 17 rfl rfl)
theorem dX3_volunteer_44 : decode cX3_volunteer 44 = .ok (.aload_n 0, 1) := dk_42 (dk_at dksX3_volunteer_1 20 rfl rfl)
theorem dX3_volunteer_45 : decode cX3_volunteer 45 = .ok (.iconst 3, 1) := dk_6 (dk_at dksX3_volunteer_1 21 rfl rfl)
theorem dX3_volunteer_46 : decode cX3_volunteer 46 = .ok (.iload_n 2, 1) := dk_28 (dk_at dksX3_volunteer_1 22 rfl rfl)
theorem dX3_volunteer_47 : decode cX3_volunteer 47 = .ok (.invokevirtual 94, 3) := dk_182 0 94 (dk_at dksX3_volunteer_2 0 rfl rfl)
theorem dX3_volunteer_50 : decode cX3_volunteer 50 = .ok (.ireturn, 1) := dk_172 (dk_at dksX3_volunteer_2 3 rfl rfl)
theorem dX3_volunteer_51 : decode cX3_volunteer 51 = .ok (.aload_n 0, 1) := dk_42 (dk_at dksX3_volunteer_2 4 rfl rfl)
theorem dX3_volunteer_52 : decode cX3_volunteer 52 = .ok (.getfield 9, 3) := dk_180 0 9 (dk_at dksX3_volunteer_2 5 rfl rfl)
theorem dX3_volunteer_55 : decode cX3_volunteer 55 = .ok (.iconst 2, 1) := dk_5 (dk_at dksX3_volunteer_2 8 rfl rfl)
theorem dX3_volunteer_56 : decode cX3_volunteer 56 = .ok (.iaload, 1) := dk_46 (dk_at dksX3_volunteer_2 9 rfl rfl)
theorem dX3_volunteer_57 : decode cX3_volunteer 57 = .ok (.iconst 5, 1) := dk_8 (dk_at dksX3_volunteer_2 10 rfl rfl)
theorem dX3_volunteer_58 : decode cX3_volunteer 58 = .ok (.if_icmp .ne 10, 3) := dk_160 0 10 (dk_at dksX3_volunteer_2 11 rfl rfl)
theorem dX3_volunteer_61 : decode cX3_volunteer 61 = .ok (.aload_n 0, 1) := dk_42 (dk_at dksX3_volunteer_2 14 rfl rfl)
theorem dX3_volunteer_62 : decode cX3_volunteer 62 = .ok (.iconst 1, 1) := dk_4 (dk_at dksX3_volunteer_2 15 rfl rfl)
theorem dX3_volunteer_63 : decode cX3_volunteer 63 = .ok (.iconst 5, 1) := dk_8 (dk_at dksX3_volunteer_2 16 rfl rfl)
theorem dX3_volunteer_64 : decode cX3_volunteer 64 = .ok (.invokevirtual 94, 3) := dk_182 0 94 (dk_at dksX3_volunteer_2 17 rfl rfl)
theorem dX3_volunteer_67 : decode cX3_volunteer 67 = .ok (.ireturn, 1) := dk_172 (dk_at dksX3_volunteer_2 20 rfl rfl)
theorem dX3_volunteer_68 : decode cX3_volunteer 68 = .ok (.aload_n 0, 1) := dk_42 (dk_at dksX3_volunteer_2 21 rfl rfl)
theorem dX3_volunteer_69 : decode cX3_volunteer 69 = .ok (.getfield 9, 3) := dk_180 0 9 (dk_at dksX3_volunteer_3 0 rfl rfl)
theorem dX3_volunteer_72 : decode cX3_volunteer 72 = .ok (.iconst 2, 1) := dk_5 (dk_at dksX3_volunteer_3 3 rfl rfl)
theorem dX3_volunteer_73 : decode cX3_volunteer 73 = .ok (.iaload, 1) := dk_46 (dk_at dksX3_volunteer_3 4 rfl rfl)
theorem dX3_volunteer_74 : decode cX3_volunteer 74 = .ok (.invokestatic 121, 3) := dk_184 0 121 (dk_at dksX3_volunteer_3 5 rfl rfl)
theorem dX3_volunteer_77 : decode cX3_volunteer 77 = .ok (.istore_n 3, 1) := dk_62 (dk_at dksX3_volunteer_3 8 rfl rfl)
theorem dX3_volunteer_78 : decode cX3_volunteer 78 = .ok (.aload_n 0, 1) := dk_42 (dk_at dksX3_volunteer_3 9 rfl rfl)
theorem dX3_volunteer_79 : decode cX3_volunteer 79 = .ok (.getfield 9, 3) := dk_180 0 9 (dk_at dksX3_volunteer_3 10 rfl rfl)
theorem dX3_volunteer_82 : decode cX3_volunteer 82 = .ok (.iload_n 3, 1) := dk_29 (dk_at dksX3_volunteer_3 13 rfl rfl)
theorem dX3_volunteer_83 : decode cX3_volunteer 83 = .ok (.iload_n 1, 1) := dk_27 (dk_at dksX3_volunteer_3 14 rfl rfl)
theorem dX3_volunteer_84 : decode cX3_volunteer 84 = .ok (.iastore, 1) := dk_79 (dk_at dksX3_volunteer_3 15 rfl rfl)
theorem dX3_volunteer_85 : decode cX3_volunteer 85 = .ok (.aload_n 0, 1) := dk_42 (dk_at dksX3_volunteer_3 16 rfl rfl)
theorem dX3_volunteer_86 : decode cX3_volunteer 86 = .ok (.getfield 9, 3) := dk_180 0 9 (dk_at dksX3_volunteer_3 17 rfl rfl)
theorem dX3_volunteer_89 : decode cX3_volunteer 89 = .ok (.iload_n 3, 1) := dk_29 (dk_at dksX3_volunteer_3 20 rfl rfl)
theorem dX3_volunteer_90 : decode cX3_volunteer 90 = .ok (.iconst 1, 1) := dk_4 (dk_at dksX3_volunteer_3 21 rfl rfl)
theorem dX3_volunteer_91 : decode cX3_volunteer 91 = .ok (.iadd, 1) := dk_96 (dk_at dksX3_volunteer_3 22 rfl rfl)
theorem dX3_volunteer_92 : decode cX3_volunteer 92 = .ok (.iload_n 2, 1) := dk_28 (dk_at dksX3_volunteer_3 23 rfl rfl)
theorem dX3_volunteer_93 : decode cX3_volunteer 93 = .ok (.iastore, 1) := dk_79 (dk_at dksX3_volunteer_4 0 rfl rfl)
theorem dX3_volunteer_94 : decode cX3_volunteer 94 = .ok (.aload_n 0, 1) := dk_42 (dk_at dksX3_volunteer_4 1 rfl rfl)
theorem dX3_volunteer_95 : decode cX3_volunteer 95 = .ok (.getfield 9, 3) := dk_180 0 9 (dk_at dksX3_volunteer_4 2 rfl rfl)
theorem dX3_volunteer_98 : decode cX3_volunteer 98 = .ok (.iload_n 3, 1) := dk_29 (dk_at dksX3_volunteer_4 5 rfl rfl)
theorem dX3_volunteer_99 : decode cX3_volunteer 99 = .ok (.iconst 2, 1) := dk_5 (dk_at dksX3_volunteer_4 6 rfl rfl)
theorem dX3_volunteer_100 : decode cX3_volunteer 100 = .ok (.iadd, 1) := dk_96 (dk_at dksX3_volunteer_4 7 rfl rfl)
theorem dX3_volunteer_101 : decode cX3_volunteer 101 = .ok (.iconst 0, 1) := dk_3 (dk_at dksX3_volunteer_4 8 rfl rfl)
theorem dX3_volunteer_102 : decode cX3_volunteer 102 = .ok (.iastore, 1) := dk_79 (dk_at dksX3_volunteer_4 9 rfl rfl)
theorem dX3_volunteer_103 : decode cX3_volunteer 103 = .ok (.aload_n 0, 1) := dk_42 (dk_at dksX3_volunteer_4 10 rfl rfl)
theorem dX3_volunteer_104 : decode cX3_volunteer 104 = .ok (.getfield 9, 3) := dk_180 0 9 (dk_at dksX3_volunteer_4 11 rfl rfl)
theorem dX3_volunteer_107 : decode cX3_volunteer 107 = .ok (.iload_n 3, 1) := dk_29 (dk_at dksX3_volunteer_4 14 rfl rfl)
theorem dX3_volunteer_108 : decode cX3_volunteer 108 = .ok (.iconst 3, 1) := dk_6 (dk_at dksX3_volunteer_4 15 rfl rfl)
theorem dX3_volunteer_109 : decode cX3_volunteer 109 = .ok (.iadd, 1) := dk_96 (dk_at dksX3_volunteer_4 16 rfl rfl)
theorem dX3_volunteer_110 : decode cX3_volunteer 110 = .ok (.iconst 0, 1) := dk_3 (dk_at dksX3_volunteer_4 17 rfl rfl)
theorem dX3_volunteer_111 : decode cX3_volunteer 111 = .ok (.iastore, 1) := dk_79 (dk_at dksX3_volunteer_4 18 rfl rfl)
theorem dX3_volunteer_112 : decode cX3_volunteer 112 = .ok (.aload_n 0, 1) := dk_42 (dk_at dksX3_volunteer_4 19 rfl rfl)
theorem dX3_volunteer_113 : decode cX3_volunteer 113 = .ok (.getfield 9, 3) := dk_180 0 9 (dk_at dksX3_volunteer_4 20 rfl rfl)
theorem dX3_volunteer_116 : decode cX3_volunteer 116 = .ok (.iload_n 3, 1) := dk_29 (dk_at dksX3_volunteer_4 23 rfl rfl)
theorem dX3_volunteer_117 : decode cX3_volunteer 117 = .ok (.iconst 4, 1) := dk_7 (dk_at dksX3_volunteer_5 0 rfl rfl)
theorem dX3_volunteer_118 : decode cX3_volunteer 118 = .ok (.iadd, 1) := dk_96 (dk_at dksX3_volunteer_5 1 rfl rfl)
theorem dX3_volunteer_119 : decode cX3_volunteer 119 = .ok (.iconst 0, 1) := dk_3 (dk_at dksX3_volunteer_5 2 rfl rfl)
theorem dX3_volunteer_120 : decode cX3_volunteer 120 = .ok (.iastore, 1) := dk_79 (dk_at dksX3_volunteer_5 3 rfl rfl)
theorem dX3_volunteer_121 : decode cX3_volunteer 121 = .ok (.aload_n 0, 1) := dk_42 (dk_at dksX3_volunteer_5 4 rfl rfl)
theorem dX3_volunteer_122 : decode cX3_volunteer 122 = .ok (.getfield 9, 3) := dk_180 0 9 (dk_at dksX3_volunteer_5 5 rfl rfl)
theorem dX3_volunteer_125 : decode cX3_volunteer 125 = .ok (.iconst 2, 1) := dk_5 (dk_at dksX3_volunteer_5 8 rfl rfl)
theorem dX3_volunteer_126 : decode cX3_volunteer 126 = .ok (.dup2, 1) := dk_92 (dk_at dksX3_volunteer_5 9 rfl rfl)
theorem dX3_volunteer_127 : decode cX3_volunteer 127 = .ok (.iaload, 1) := dk_46 (dk_at dksX3_volunteer_5 10 rfl rfl)
theorem dX3_volunteer_128 : decode cX3_volunteer 128 = .ok (.iconst 1, 1) := dk_4 (dk_at dksX3_volunteer_5 11 rfl rfl)
theorem dX3_volunteer_129 : decode cX3_volunteer 129 = .ok (.iadd, 1) := dk_96 (dk_at dksX3_volunteer_5 12 rfl rfl)
theorem dX3_volunteer_130 : decode cX3_volunteer 130 = .ok (.iastore, 1) := dk_79 (dk_at dksX3_volunteer_5 13 rfl rfl)
theorem dX3_volunteer_131 : decode cX3_volunteer 131 = .ok (.aload_n 0, 1) := dk_42 (dk_at dksX3_volunteer_5 14 rfl rfl)
theorem dX3_volunteer_132 : decode cX3_volunteer 132 = .ok (.aload_n 0, 1) := dk_42 (dk_at dksX3_volunteer_5 15 rfl rfl)
theorem dX3_volunteer_133 : decode cX3_volunteer 133 = .ok (.getfield 9, 3) := dk_180 0 9 (dk_at dksX3_volunteer_5 16 rfl rfl)
theorem dX3_volunteer_136 : decode cX3_volunteer 136 = .ok (.iconst 2, 1) := dk_5 (dk_at dksX3_volunteer_5 19 rfl rfl)
theorem dX3_volunteer_137 : decode cX3_volunteer 137 = .ok (.iaload, 1) := dk_46 (dk_at dksX3_volunteer_5 20 rfl rfl)
theorem dX3_volunteer_138 : decode cX3_volunteer 138 = .ok (.iconst 1, 1) := dk_4 (dk_at dksX3_volunteer_5 21 rfl rfl)
theorem dX3_volunteer_139 : decode cX3_volunteer 139 = .ok (.isub, 1) := dk_100 (dk_at dksX3_volunteer_5 22 rfl rfl)
theorem dX3_volunteer_140 : decode cX3_volunteer 140 = .ok (.invokevirtual 100, 3) := dk_182 0 100 (dk_at dksX3_volunteer_6 0 rfl rfl)
theorem dX3_volunteer_143 : decode cX3_volunteer 143 = .ok (.ireturn, 1) := dk_172 (dk_at dksX3_volunteer_6 3 rfl rfl)
abbrev cX3_by : ByteArray := prog_11_method_10_code
def yX3_by : MethodName := ⟨RX3, "by", "(I)I"⟩
def dkwX3_by_0 : List UInt8 := [17, 1, 14, 8, 26, 104, 96, 172]
abbrev dktX3_by_0 : List UInt8 := dkwX3_by_0 ++ []
theorem dksX3_by_0 : cX3_by.data.toList.drop 0 = dktX3_by_0 := by decide +kernel
theorem dX3_by_0 : decode cX3_by 0 = .ok (.sipush 270, 3) := dk_17 1 14 (dk_at dksX3_by_0 0 rfl rfl)
theorem dX3_by_3 : decode cX3_by 3 = .ok (.iconst 5, 1) := dk_8 (dk_at dksX3_by_0 3 rfl rfl)
theorem dX3_by_4 : decode cX3_by 4 = .ok (.iload_n 0, 1) := dk_26 (dk_at dksX3_by_0 4 rfl rfl)
theorem dX3_by_5 : decode cX3_by 5 = .ok (.imul, 1) := dk_104 (dk_at dksX3_by_0 5 rfl rfl)
theorem dX3_by_6 : decode cX3_by 6 = .ok (.iadd, 1) := dk_96 (dk_at dksX3_by_0 6 rfl rfl)
theorem dX3_by_7 : decode cX3_by 7 = .ok (.ireturn, 1) := dk_172 (dk_at dksX3_by_0 7 rfl rfl)
abbrev cX3_level : ByteArray := prog_11_method_26_code
def yX3_level : MethodName := ⟨RX3, "level", "(I)I"⟩
def dkwX3_level_0 : List UInt8 := [42, 182, 0, 89, 42, 42, 27, 182, 0, 124, 182, 0, 100, 172]
abbrev dktX3_level_0 : List UInt8 := dkwX3_level_0 ++ []
theorem dksX3_level_0 : cX3_level.data.toList.drop 0 = dktX3_level_0 := by decide +kernel
theorem dX3_level_0 : decode cX3_level 0 = .ok (.aload_n 0, 1) := dk_42 (dk_at dksX3_level_0 0 rfl rfl)
theorem dX3_level_1 : decode cX3_level 1 = .ok (.invokevirtual 89, 3) := dk_182 0 89 (dk_at dksX3_level_0 1 rfl rfl)
theorem dX3_level_4 : decode cX3_level 4 = .ok (.aload_n 0, 1) := dk_42 (dk_at dksX3_level_0 4 rfl rfl)
theorem dX3_level_5 : decode cX3_level 5 = .ok (.aload_n 0, 1) := dk_42 (dk_at dksX3_level_0 5 rfl rfl)
theorem dX3_level_6 : decode cX3_level 6 = .ok (.iload_n 1, 1) := dk_27 (dk_at dksX3_level_0 6 rfl rfl)
theorem dX3_level_7 : decode cX3_level 7 = .ok (.invokevirtual 124, 3) := dk_182 0 124 (dk_at dksX3_level_0 7 rfl rfl)
theorem dX3_level_10 : decode cX3_level 10 = .ok (.invokevirtual 100, 3) := dk_182 0 100 (dk_at dksX3_level_0 10 rfl rfl)
theorem dX3_level_13 : decode cX3_level 13 = .ok (.ireturn, 1) := dk_172 (dk_at dksX3_level_0 13 rfl rfl)
abbrev cX3_levelIt : ByteArray := prog_11_method_25_code
def yX3_levelIt : MethodName := ⟨RX3, "levelIt", "(I)I"⟩
def dkwX3_levelIt_1 : List UInt8 := [46, 61, 42, 180, 0, 9, 6, 27, 79, 28, 172]
abbrev dktX3_levelIt_1 : List UInt8 := dkwX3_levelIt_1 ++ []
def dkwX3_levelIt_0 : List UInt8 := [27, 133, 9, 20, 0, 92, 184, 0, 71, 154, 0, 10, 42, 6, 27, 182, 0, 94, 172, 42, 180, 0, 9, 6]
abbrev dktX3_levelIt_0 : List UInt8 := dkwX3_levelIt_0 ++ dktX3_levelIt_1
theorem dksX3_levelIt_0 : cX3_levelIt.data.toList.drop 0 = dktX3_levelIt_0 := by decide +kernel
theorem dksX3_levelIt_1 : cX3_levelIt.data.toList.drop 24 = dktX3_levelIt_1 := dk_seg dksX3_levelIt_0 24 rfl rfl
theorem dX3_levelIt_0 : decode cX3_levelIt 0 = .ok (.iload_n 1, 1) := dk_27 (dk_at dksX3_levelIt_0 0 rfl rfl)
theorem dX3_levelIt_1 : decode cX3_levelIt 1 = .ok (.i2l, 1) := dk_133 (dk_at dksX3_levelIt_0 1 rfl rfl)
theorem dX3_levelIt_2 : decode cX3_levelIt 2 = .ok (.lconst 0, 1) := dk_9 (dk_at dksX3_levelIt_0 2 rfl rfl)
theorem dX3_levelIt_3 : decode cX3_levelIt 3 = .ok (.ldc2_w 92, 3) := dk_20 0 92 (dk_at dksX3_levelIt_0 3 rfl rfl)
theorem dX3_levelIt_6 : decode cX3_levelIt 6 = .ok (.invokestatic 71, 3) := dk_184 0 71 (dk_at dksX3_levelIt_0 6 rfl rfl)
theorem dX3_levelIt_9 : decode cX3_levelIt 9 = .ok (.ifCond .ne 10, 3) := dk_154 0 10 (dk_at dksX3_levelIt_0 9 rfl rfl)
theorem dX3_levelIt_12 : decode cX3_levelIt 12 = .ok (.aload_n 0, 1) := dk_42 (dk_at dksX3_levelIt_0 12 rfl rfl)
theorem dX3_levelIt_13 : decode cX3_levelIt 13 = .ok (.iconst 3, 1) := dk_6 (dk_at dksX3_levelIt_0 13 rfl rfl)
theorem dX3_levelIt_14 : decode cX3_levelIt 14 = .ok (.iload_n 1, 1) := dk_27 (dk_at dksX3_levelIt_0 14 rfl rfl)
theorem dX3_levelIt_15 : decode cX3_levelIt 15 = .ok (.invokevirtual 94, 3) := dk_182 0 94 (dk_at dksX3_levelIt_0 15 rfl rfl)
theorem dX3_levelIt_18 : decode cX3_levelIt 18 = .ok (.ireturn, 1) := dk_172 (dk_at dksX3_levelIt_0 18 rfl rfl)
theorem dX3_levelIt_19 : decode cX3_levelIt 19 = .ok (.aload_n 0, 1) := dk_42 (dk_at dksX3_levelIt_0 19 rfl rfl)
theorem dX3_levelIt_20 : decode cX3_levelIt 20 = .ok (.getfield 9, 3) := dk_180 0 9 (dk_at dksX3_levelIt_0 20 rfl rfl)
theorem dX3_levelIt_23 : decode cX3_levelIt 23 = .ok (.iconst 3, 1) := dk_6 (dk_at dksX3_levelIt_0 23 rfl rfl)
theorem dX3_levelIt_24 : decode cX3_levelIt 24 = .ok (.iaload, 1) := dk_46 (dk_at dksX3_levelIt_1 0 rfl rfl)
theorem dX3_levelIt_25 : decode cX3_levelIt 25 = .ok (.istore_n 2, 1) := dk_61 (dk_at dksX3_levelIt_1 1 rfl rfl)
theorem dX3_levelIt_26 : decode cX3_levelIt 26 = .ok (.aload_n 0, 1) := dk_42 (dk_at dksX3_levelIt_1 2 rfl rfl)
theorem dX3_levelIt_27 : decode cX3_levelIt 27 = .ok (.getfield 9, 3) := dk_180 0 9 (dk_at dksX3_levelIt_1 3 rfl rfl)
theorem dX3_levelIt_30 : decode cX3_levelIt 30 = .ok (.iconst 3, 1) := dk_6 (dk_at dksX3_levelIt_1 6 rfl rfl)
theorem dX3_levelIt_31 : decode cX3_levelIt 31 = .ok (.iload_n 1, 1) := dk_27 (dk_at dksX3_levelIt_1 7 rfl rfl)
theorem dX3_levelIt_32 : decode cX3_levelIt 32 = .ok (.iastore, 1) := dk_79 (dk_at dksX3_levelIt_1 8 rfl rfl)
theorem dX3_levelIt_33 : decode cX3_levelIt 33 = .ok (.iload_n 2, 1) := dk_28 (dk_at dksX3_levelIt_1 9 rfl rfl)
theorem dX3_levelIt_34 : decode cX3_levelIt 34 = .ok (.ireturn, 1) := dk_172 (dk_at dksX3_levelIt_1 10 rfl rfl)
abbrev cX3_give : ByteArray := prog_11_method_28_code
def yX3_give : MethodName := ⟨RX3, "give", "(I)I"⟩
def dkwX3_give_0 : List UInt8 := [42, 182, 0, 89, 42, 42, 27, 182, 0, 129, 182, 0, 100, 172]
abbrev dktX3_give_0 : List UInt8 := dkwX3_give_0 ++ []
theorem dksX3_give_0 : cX3_give.data.toList.drop 0 = dktX3_give_0 := by decide +kernel
theorem dX3_give_0 : decode cX3_give 0 = .ok (.aload_n 0, 1) := dk_42 (dk_at dksX3_give_0 0 rfl rfl)
theorem dX3_give_1 : decode cX3_give 1 = .ok (.invokevirtual 89, 3) := dk_182 0 89 (dk_at dksX3_give_0 1 rfl rfl)
theorem dX3_give_4 : decode cX3_give 4 = .ok (.aload_n 0, 1) := dk_42 (dk_at dksX3_give_0 4 rfl rfl)
theorem dX3_give_5 : decode cX3_give 5 = .ok (.aload_n 0, 1) := dk_42 (dk_at dksX3_give_0 5 rfl rfl)
theorem dX3_give_6 : decode cX3_give 6 = .ok (.iload_n 1, 1) := dk_27 (dk_at dksX3_give_0 6 rfl rfl)
theorem dX3_give_7 : decode cX3_give 7 = .ok (.invokevirtual 129, 3) := dk_182 0 129 (dk_at dksX3_give_0 7 rfl rfl)
theorem dX3_give_10 : decode cX3_give 10 = .ok (.invokevirtual 100, 3) := dk_182 0 100 (dk_at dksX3_give_0 10 rfl rfl)
theorem dX3_give_13 : decode cX3_give 13 = .ok (.ireturn, 1) := dk_172 (dk_at dksX3_give_0 13 rfl rfl)
abbrev cX3_giveIt : ByteArray := prog_11_method_27_code
def yX3_giveIt : MethodName := ⟨RX3, "giveIt", "(I)I"⟩
def dkwX3_giveIt_1 : List UInt8 := [92, 46, 27, 96, 79, 42, 180, 0, 9, 7, 46, 172]
abbrev dktX3_giveIt_1 : List UInt8 := dkwX3_giveIt_1 ++ []
def dkwX3_giveIt_0 : List UInt8 := [27, 133, 10, 20, 0, 127, 184, 0, 71, 154, 0, 10, 42, 6, 27, 182, 0, 94, 172, 42, 180, 0, 9, 7]
abbrev dktX3_giveIt_0 : List UInt8 := dkwX3_giveIt_0 ++ dktX3_giveIt_1
theorem dksX3_giveIt_0 : cX3_giveIt.data.toList.drop 0 = dktX3_giveIt_0 := by decide +kernel
theorem dksX3_giveIt_1 : cX3_giveIt.data.toList.drop 24 = dktX3_giveIt_1 := dk_seg dksX3_giveIt_0 24 rfl rfl
theorem dX3_giveIt_0 : decode cX3_giveIt 0 = .ok (.iload_n 1, 1) := dk_27 (dk_at dksX3_giveIt_0 0 rfl rfl)
theorem dX3_giveIt_1 : decode cX3_giveIt 1 = .ok (.i2l, 1) := dk_133 (dk_at dksX3_giveIt_0 1 rfl rfl)
theorem dX3_giveIt_2 : decode cX3_giveIt 2 = .ok (.lconst 1, 1) := dk_10 (dk_at dksX3_giveIt_0 2 rfl rfl)
theorem dX3_giveIt_3 : decode cX3_giveIt 3 = .ok (.ldc2_w 127, 3) := dk_20 0 127 (dk_at dksX3_giveIt_0 3 rfl rfl)
theorem dX3_giveIt_6 : decode cX3_giveIt 6 = .ok (.invokestatic 71, 3) := dk_184 0 71 (dk_at dksX3_giveIt_0 6 rfl rfl)
theorem dX3_giveIt_9 : decode cX3_giveIt 9 = .ok (.ifCond .ne 10, 3) := dk_154 0 10 (dk_at dksX3_giveIt_0 9 rfl rfl)
theorem dX3_giveIt_12 : decode cX3_giveIt 12 = .ok (.aload_n 0, 1) := dk_42 (dk_at dksX3_giveIt_0 12 rfl rfl)
theorem dX3_giveIt_13 : decode cX3_giveIt 13 = .ok (.iconst 3, 1) := dk_6 (dk_at dksX3_giveIt_0 13 rfl rfl)
theorem dX3_giveIt_14 : decode cX3_giveIt 14 = .ok (.iload_n 1, 1) := dk_27 (dk_at dksX3_giveIt_0 14 rfl rfl)
theorem dX3_giveIt_15 : decode cX3_giveIt 15 = .ok (.invokevirtual 94, 3) := dk_182 0 94 (dk_at dksX3_giveIt_0 15 rfl rfl)
theorem dX3_giveIt_18 : decode cX3_giveIt 18 = .ok (.ireturn, 1) := dk_172 (dk_at dksX3_giveIt_0 18 rfl rfl)
theorem dX3_giveIt_19 : decode cX3_giveIt 19 = .ok (.aload_n 0, 1) := dk_42 (dk_at dksX3_giveIt_0 19 rfl rfl)
theorem dX3_giveIt_20 : decode cX3_giveIt 20 = .ok (.getfield 9, 3) := dk_180 0 9 (dk_at dksX3_giveIt_0 20 rfl rfl)
theorem dX3_giveIt_23 : decode cX3_giveIt 23 = .ok (.iconst 4, 1) := dk_7 (dk_at dksX3_giveIt_0 23 rfl rfl)
theorem dX3_giveIt_24 : decode cX3_giveIt 24 = .ok (.dup2, 1) := dk_92 (dk_at dksX3_giveIt_1 0 rfl rfl)
theorem dX3_giveIt_25 : decode cX3_giveIt 25 = .ok (.iaload, 1) := dk_46 (dk_at dksX3_giveIt_1 1 rfl rfl)
theorem dX3_giveIt_26 : decode cX3_giveIt 26 = .ok (.iload_n 1, 1) := dk_27 (dk_at dksX3_giveIt_1 2 rfl rfl)
theorem dX3_giveIt_27 : decode cX3_giveIt 27 = .ok (.iadd, 1) := dk_96 (dk_at dksX3_giveIt_1 3 rfl rfl)
theorem dX3_giveIt_28 : decode cX3_giveIt 28 = .ok (.iastore, 1) := dk_79 (dk_at dksX3_giveIt_1 4 rfl rfl)
theorem dX3_giveIt_29 : decode cX3_giveIt 29 = .ok (.aload_n 0, 1) := dk_42 (dk_at dksX3_giveIt_1 5 rfl rfl)
theorem dX3_giveIt_30 : decode cX3_giveIt 30 = .ok (.getfield 9, 3) := dk_180 0 9 (dk_at dksX3_giveIt_1 6 rfl rfl)
theorem dX3_giveIt_33 : decode cX3_giveIt 33 = .ok (.iconst 4, 1) := dk_7 (dk_at dksX3_giveIt_1 9 rfl rfl)
theorem dX3_giveIt_34 : decode cX3_giveIt 34 = .ok (.iaload, 1) := dk_46 (dk_at dksX3_giveIt_1 10 rfl rfl)
theorem dX3_giveIt_35 : decode cX3_giveIt 35 = .ok (.ireturn, 1) := dk_172 (dk_at dksX3_giveIt_1 11 rfl rfl)
abbrev cX3_shut : ByteArray := prog_11_method_31_code
def yX3_shut : MethodName := ⟨RX3, "shut", "(I)I"⟩
def dkwX3_shut_0 : List UInt8 := [42, 182, 0, 89, 42, 42, 27, 182, 0, 139, 182, 0, 100, 172]
abbrev dktX3_shut_0 : List UInt8 := dkwX3_shut_0 ++ []
theorem dksX3_shut_0 : cX3_shut.data.toList.drop 0 = dktX3_shut_0 := by decide +kernel
theorem dX3_shut_0 : decode cX3_shut 0 = .ok (.aload_n 0, 1) := dk_42 (dk_at dksX3_shut_0 0 rfl rfl)
theorem dX3_shut_1 : decode cX3_shut 1 = .ok (.invokevirtual 89, 3) := dk_182 0 89 (dk_at dksX3_shut_0 1 rfl rfl)
theorem dX3_shut_4 : decode cX3_shut 4 = .ok (.aload_n 0, 1) := dk_42 (dk_at dksX3_shut_0 4 rfl rfl)
theorem dX3_shut_5 : decode cX3_shut 5 = .ok (.aload_n 0, 1) := dk_42 (dk_at dksX3_shut_0 5 rfl rfl)
theorem dX3_shut_6 : decode cX3_shut 6 = .ok (.iload_n 1, 1) := dk_27 (dk_at dksX3_shut_0 6 rfl rfl)
theorem dX3_shut_7 : decode cX3_shut 7 = .ok (.invokevirtual 139, 3) := dk_182 0 139 (dk_at dksX3_shut_0 7 rfl rfl)
theorem dX3_shut_10 : decode cX3_shut 10 = .ok (.invokevirtual 100, 3) := dk_182 0 100 (dk_at dksX3_shut_0 10 rfl rfl)
theorem dX3_shut_13 : decode cX3_shut 13 = .ok (.ireturn, 1) := dk_172 (dk_at dksX3_shut_0 13 rfl rfl)
abbrev cX3_shutIt : ByteArray := prog_11_method_30_code
def yX3_shutIt : MethodName := ⟨RX3, "shutIt", "(I)I"⟩
def dkwX3_shutIt_5 : List UInt8 := [42, 182, 0, 135, 172]
abbrev dktX3_shutIt_5 : List UInt8 := dkwX3_shutIt_5 ++ []
def dkwX3_shutIt_4 : List UInt8 := [182, 0, 94, 172, 42, 180, 0, 9, 7, 92, 46, 16, 25, 100, 79, 42, 180, 0, 9, 28, 7, 96, 3, 79]
abbrev dktX3_shutIt_4 : List UInt8 := dkwX3_shutIt_4 ++ dktX3_shutIt_5
def dkwX3_shutIt_3 : List UInt8 := [172, 42, 180, 0, 9, 7, 46, 16, 25, 162, 0, 19, 42, 16, 9, 16, 25, 42, 180, 0, 9, 7, 46, 100]
abbrev dktX3_shutIt_3 : List UInt8 := dkwX3_shutIt_3 ++ dktX3_shutIt_4
def dkwX3_shutIt_2 : List UInt8 := [180, 0, 9, 28, 7, 96, 46, 154, 0, 18, 42, 16, 8, 42, 180, 0, 9, 28, 6, 96, 46, 182, 0, 94]
abbrev dktX3_shutIt_2 : List UInt8 := dkwX3_shutIt_2 ++ dktX3_shutIt_3
def dkwX3_shutIt_1 : List UInt8 := [182, 0, 132, 154, 0, 18, 42, 16, 7, 42, 180, 0, 9, 28, 3, 96, 46, 182, 0, 94, 172, 42]
abbrev dktX3_shutIt_1 : List UInt8 := dkwX3_shutIt_1 ++ dktX3_shutIt_2
def dkwX3_shutIt_0 : List UInt8 := [42, 27, 182, 0, 103, 154, 0, 10, 42, 5, 27, 182, 0, 94, 172, 27, 184, 0, 86, 61, 42, 27]
abbrev dktX3_shutIt_0 : List UInt8 := dkwX3_shutIt_0 ++ dktX3_shutIt_1
theorem dksX3_shutIt_0 : cX3_shutIt.data.toList.drop 0 = dktX3_shutIt_0 := by decide +kernel
theorem dksX3_shutIt_1 : cX3_shutIt.data.toList.drop 22 = dktX3_shutIt_1 := dk_seg dksX3_shutIt_0 22 rfl rfl
theorem dksX3_shutIt_2 : cX3_shutIt.data.toList.drop 44 = dktX3_shutIt_2 := dk_seg dksX3_shutIt_1 22 rfl rfl
theorem dksX3_shutIt_3 : cX3_shutIt.data.toList.drop 68 = dktX3_shutIt_3 := dk_seg dksX3_shutIt_2 24 rfl rfl
theorem dksX3_shutIt_4 : cX3_shutIt.data.toList.drop 92 = dktX3_shutIt_4 := dk_seg dksX3_shutIt_3 24 rfl rfl
theorem dksX3_shutIt_5 : cX3_shutIt.data.toList.drop 116 = dktX3_shutIt_5 := dk_seg dksX3_shutIt_4 24 rfl rfl
theorem dX3_shutIt_0 : decode cX3_shutIt 0 = .ok (.aload_n 0, 1) := dk_42 (dk_at dksX3_shutIt_0 0 rfl rfl)
theorem dX3_shutIt_1 : decode cX3_shutIt 1 = .ok (.iload_n 1, 1) := dk_27 (dk_at dksX3_shutIt_0 1 rfl rfl)
theorem dX3_shutIt_2 : decode cX3_shutIt 2 = .ok (.invokevirtual 103, 3) := dk_182 0 103 (dk_at dksX3_shutIt_0 2 rfl rfl)
theorem dX3_shutIt_5 : decode cX3_shutIt 5 = .ok (.ifCond .ne 10, 3) := dk_154 0 10 (dk_at dksX3_shutIt_0 5 rfl rfl)
theorem dX3_shutIt_8 : decode cX3_shutIt 8 = .ok (.aload_n 0, 1) := dk_42 (dk_at dksX3_shutIt_0 8 rfl rfl)
theorem dX3_shutIt_9 : decode cX3_shutIt 9 = .ok (.iconst 2, 1) := dk_5 (dk_at dksX3_shutIt_0 9 rfl rfl)
theorem dX3_shutIt_10 : decode cX3_shutIt 10 = .ok (.iload_n 1, 1) := dk_27 (dk_at dksX3_shutIt_0 10 rfl rfl)
theorem dX3_shutIt_11 : decode cX3_shutIt 11 = .ok (.invokevirtual 94, 3) := dk_182 0 94 (dk_at dksX3_shutIt_0 11 rfl rfl)
theorem dX3_shutIt_14 : decode cX3_shutIt 14 = .ok (.ireturn, 1) := dk_172 (dk_at dksX3_shutIt_0 14 rfl rfl)
theorem dX3_shutIt_15 : decode cX3_shutIt 15 = .ok (.iload_n 1, 1) := dk_27 (dk_at dksX3_shutIt_0 15 rfl rfl)
theorem dX3_shutIt_16 : decode cX3_shutIt 16 = .ok (.invokestatic 86, 3) := dk_184 0 86 (dk_at dksX3_shutIt_0 16 rfl rfl)
theorem dX3_shutIt_19 : decode cX3_shutIt 19 = .ok (.istore_n 2, 1) := dk_61 (dk_at dksX3_shutIt_0 19 rfl rfl)
theorem dX3_shutIt_20 : decode cX3_shutIt 20 = .ok (.aload_n 0, 1) := dk_42 (dk_at dksX3_shutIt_0 20 rfl rfl)
theorem dX3_shutIt_21 : decode cX3_shutIt 21 = .ok (.iload_n 1, 1) := dk_27 (dk_at dksX3_shutIt_0 21 rfl rfl)
theorem dX3_shutIt_22 : decode cX3_shutIt 22 = .ok (.invokevirtual 132, 3) := dk_182 0 132 (dk_at dksX3_shutIt_1 0 rfl rfl)
theorem dX3_shutIt_25 : decode cX3_shutIt 25 = .ok (.ifCond .ne 18, 3) := dk_154 0 18 (dk_at dksX3_shutIt_1 3 rfl rfl)
theorem dX3_shutIt_28 : decode cX3_shutIt 28 = .ok (.aload_n 0, 1) := dk_42 (dk_at dksX3_shutIt_1 6 rfl rfl)
theorem dX3_shutIt_29 : decode cX3_shutIt 29 = .ok (.bipush 7, 2) := dk_16 7 (dk_at dksX3_shutIt_1 7 rfl rfl)
theorem dX3_shutIt_31 : decode cX3_shutIt 31 = .ok (.aload_n 0, 1) := dk_42 (dk_at dksX3_shutIt_1 9 rfl rfl)
theorem dX3_shutIt_32 : decode cX3_shutIt 32 = .ok (.getfield 9, 3) := dk_180 0 9 (dk_at dksX3_shutIt_1 10 rfl rfl)
theorem dX3_shutIt_35 : decode cX3_shutIt 35 = .ok (.iload_n 2, 1) := dk_28 (dk_at dksX3_shutIt_1 13 rfl rfl)
theorem dX3_shutIt_36 : decode cX3_shutIt 36 = .ok (.iconst 0, 1) := dk_3 (dk_at dksX3_shutIt_1 14 rfl rfl)
theorem dX3_shutIt_37 : decode cX3_shutIt 37 = .ok (.iadd, 1) := dk_96 (dk_at dksX3_shutIt_1 15 rfl rfl)
theorem dX3_shutIt_38 : decode cX3_shutIt 38 = .ok (.iaload, 1) := dk_46 (dk_at dksX3_shutIt_1 16 rfl rfl)
theorem dX3_shutIt_39 : decode cX3_shutIt 39 = .ok (.invokevirtual 94, 3) := dk_182 0 94 (dk_at dksX3_shutIt_1 17 rfl rfl)
theorem dX3_shutIt_42 : decode cX3_shutIt 42 = .ok (.ireturn, 1) := dk_172 (dk_at dksX3_shutIt_1 20 rfl rfl)
theorem dX3_shutIt_43 : decode cX3_shutIt 43 = .ok (.aload_n 0, 1) := dk_42 (dk_at dksX3_shutIt_1 21 rfl rfl)
theorem dX3_shutIt_44 : decode cX3_shutIt 44 = .ok (.getfield 9, 3) := dk_180 0 9 (dk_at dksX3_shutIt_2 0 rfl rfl)
theorem dX3_shutIt_47 : decode cX3_shutIt 47 = .ok (.iload_n 2, 1) := dk_28 (dk_at dksX3_shutIt_2 3 rfl rfl)
theorem dX3_shutIt_48 : decode cX3_shutIt 48 = .ok (.iconst 4, 1) := dk_7 (dk_at dksX3_shutIt_2 4 rfl rfl)
theorem dX3_shutIt_49 : decode cX3_shutIt 49 = .ok (.iadd, 1) := dk_96 (dk_at dksX3_shutIt_2 5 rfl rfl)
theorem dX3_shutIt_50 : decode cX3_shutIt 50 = .ok (.iaload, 1) := dk_46 (dk_at dksX3_shutIt_2 6 rfl rfl)
theorem dX3_shutIt_51 : decode cX3_shutIt 51 = .ok (.ifCond .ne 18, 3) := dk_154 0 18 (dk_at dksX3_shutIt_2 7 rfl rfl)
theorem dX3_shutIt_54 : decode cX3_shutIt 54 = .ok (.aload_n 0, 1) := dk_42 (dk_at dksX3_shutIt_2 10 rfl rfl)
theorem dX3_shutIt_55 : decode cX3_shutIt 55 = .ok (.bipush 8, 2) := dk_16 8 (dk_at dksX3_shutIt_2 11 rfl rfl)
theorem dX3_shutIt_57 : decode cX3_shutIt 57 = .ok (.aload_n 0, 1) := dk_42 (dk_at dksX3_shutIt_2 13 rfl rfl)
theorem dX3_shutIt_58 : decode cX3_shutIt 58 = .ok (.getfield 9, 3) := dk_180 0 9 (dk_at dksX3_shutIt_2 14 rfl rfl)
theorem dX3_shutIt_61 : decode cX3_shutIt 61 = .ok (.iload_n 2, 1) := dk_28 (dk_at dksX3_shutIt_2 17 rfl rfl)
theorem dX3_shutIt_62 : decode cX3_shutIt 62 = .ok (.iconst 3, 1) := dk_6 (dk_at dksX3_shutIt_2 18 rfl rfl)
theorem dX3_shutIt_63 : decode cX3_shutIt 63 = .ok (.iadd, 1) := dk_96 (dk_at dksX3_shutIt_2 19 rfl rfl)
theorem dX3_shutIt_64 : decode cX3_shutIt 64 = .ok (.iaload, 1) := dk_46 (dk_at dksX3_shutIt_2 20 rfl rfl)
theorem dX3_shutIt_65 : decode cX3_shutIt 65 = .ok (.invokevirtual 94, 3) := dk_182 0 94 (dk_at dksX3_shutIt_2 21 rfl rfl)
theorem dX3_shutIt_68 : decode cX3_shutIt 68 = .ok (.ireturn, 1) := dk_172 (dk_at dksX3_shutIt_3 0 rfl rfl)
theorem dX3_shutIt_69 : decode cX3_shutIt 69 = .ok (.aload_n 0, 1) := dk_42 (dk_at dksX3_shutIt_3 1 rfl rfl)
theorem dX3_shutIt_70 : decode cX3_shutIt 70 = .ok (.getfield 9, 3) := dk_180 0 9 (dk_at dksX3_shutIt_3 2 rfl rfl)
theorem dX3_shutIt_73 : decode cX3_shutIt 73 = .ok (.iconst 4, 1) := dk_7 (dk_at dksX3_shutIt_3 5 rfl rfl)
theorem dX3_shutIt_74 : decode cX3_shutIt 74 = .ok (.iaload, 1) := dk_46 (dk_at dksX3_shutIt_3 6 rfl rfl)
theorem dX3_shutIt_75 : decode cX3_shutIt 75 = .ok (.bipush 25, 2) := dk_16 25 (dk_at dksX3_shutIt_3 7 rfl rfl)
theorem dX3_shutIt_77 : decode cX3_shutIt 77 = .ok (.if_icmp .ge 19, 3) := dk_162 0 19 (dk_at dksX3_shutIt_3 9 rfl rfl)
theorem dX3_shutIt_80 : decode cX3_shutIt 80 = .ok (.aload_n 0, 1) := dk_42 (dk_at dksX3_shutIt_3 12 rfl rfl)
theorem dX3_shutIt_81 : decode cX3_shutIt 81 = .ok (.bipush 9, 2) := dk_16 9 (dk_at dksX3_shutIt_3 13 rfl rfl)
theorem dX3_shutIt_83 : decode cX3_shutIt 83 = .ok (.bipush 25, 2) := dk_16 25 (dk_at dksX3_shutIt_3 15 rfl rfl)
theorem dX3_shutIt_85 : decode cX3_shutIt 85 = .ok (.aload_n 0, 1) := dk_42 (dk_at dksX3_shutIt_3 17 rfl rfl)
theorem dX3_shutIt_86 : decode cX3_shutIt 86 = .ok (.getfield 9, 3) := dk_180 0 9 (dk_at dksX3_shutIt_3 18 rfl rfl)
theorem dX3_shutIt_89 : decode cX3_shutIt 89 = .ok (.iconst 4, 1) := dk_7 (dk_at dksX3_shutIt_3 21 rfl rfl)
theorem dX3_shutIt_90 : decode cX3_shutIt 90 = .ok (.iaload, 1) := dk_46 (dk_at dksX3_shutIt_3 22 rfl rfl)
theorem dX3_shutIt_91 : decode cX3_shutIt 91 = .ok (.isub, 1) := dk_100 (dk_at dksX3_shutIt_3 23 rfl rfl)
theorem dX3_shutIt_92 : decode cX3_shutIt 92 = .ok (.invokevirtual 94, 3) := dk_182 0 94 (dk_at dksX3_shutIt_4 0 rfl rfl)
theorem dX3_shutIt_95 : decode cX3_shutIt 95 = .ok (.ireturn, 1) := dk_172 (dk_at dksX3_shutIt_4 3 rfl rfl)
theorem dX3_shutIt_96 : decode cX3_shutIt 96 = .ok (.aload_n 0, 1) := dk_42 (dk_at dksX3_shutIt_4 4 rfl rfl)
theorem dX3_shutIt_97 : decode cX3_shutIt 97 = .ok (.getfield 9, 3) := dk_180 0 9 (dk_at dksX3_shutIt_4 5 rfl rfl)
theorem dX3_shutIt_100 : decode cX3_shutIt 100 = .ok (.iconst 4, 1) := dk_7 (dk_at dksX3_shutIt_4 8 rfl rfl)
theorem dX3_shutIt_101 : decode cX3_shutIt 101 = .ok (.dup2, 1) := dk_92 (dk_at dksX3_shutIt_4 9 rfl rfl)
theorem dX3_shutIt_102 : decode cX3_shutIt 102 = .ok (.iaload, 1) := dk_46 (dk_at dksX3_shutIt_4 10 rfl rfl)
theorem dX3_shutIt_103 : decode cX3_shutIt 103 = .ok (.bipush 25, 2) := dk_16 25 (dk_at dksX3_shutIt_4 11 rfl rfl)
theorem dX3_shutIt_105 : decode cX3_shutIt 105 = .ok (.isub, 1) := dk_100 (dk_at dksX3_shutIt_4 13 rfl rfl)
theorem dX3_shutIt_106 : decode cX3_shutIt 106 = .ok (.iastore, 1) := dk_79 (dk_at dksX3_shutIt_4 14 rfl rfl)
theorem dX3_shutIt_107 : decode cX3_shutIt 107 = .ok (.aload_n 0, 1) := dk_42 (dk_at dksX3_shutIt_4 15 rfl rfl)
theorem dX3_shutIt_108 : decode cX3_shutIt 108 = .ok (.getfield 9, 3) := dk_180 0 9 (dk_at dksX3_shutIt_4 16 rfl rfl)
theorem dX3_shutIt_111 : decode cX3_shutIt 111 = .ok (.iload_n 2, 1) := dk_28 (dk_at dksX3_shutIt_4 19 rfl rfl)
theorem dX3_shutIt_112 : decode cX3_shutIt 112 = .ok (.iconst 4, 1) := dk_7 (dk_at dksX3_shutIt_4 20 rfl rfl)
theorem dX3_shutIt_113 : decode cX3_shutIt 113 = .ok (.iadd, 1) := dk_96 (dk_at dksX3_shutIt_4 21 rfl rfl)
theorem dX3_shutIt_114 : decode cX3_shutIt 114 = .ok (.iconst 0, 1) := dk_3 (dk_at dksX3_shutIt_4 22 rfl rfl)
theorem dX3_shutIt_115 : decode cX3_shutIt 115 = .ok (.iastore, 1) := dk_79 (dk_at dksX3_shutIt_4 23 rfl rfl)
theorem dX3_shutIt_116 : decode cX3_shutIt 116 = .ok (.aload_n 0, 1) := dk_42 (dk_at dksX3_shutIt_5 0 rfl rfl)
theorem dX3_shutIt_117 : decode cX3_shutIt 117 = .ok (.invokevirtual 135, 3) := dk_182 0 135 (dk_at dksX3_shutIt_5 1 rfl rfl)
theorem dX3_shutIt_120 : decode cX3_shutIt 120 = .ok (.ireturn, 1) := dk_172 (dk_at dksX3_shutIt_5 4 rfl rfl)
abbrev cX3_hasBridge : ByteArray := prog_11_method_17_code
def yX3_hasBridge : MethodName := ⟨RX3, "hasBridge", "(I)Z"⟩
def dkwX3_hasBridge_0 : List UInt8 := [42, 180, 0, 9, 27, 184, 0, 86, 4, 96, 46, 2, 159, 0, 7, 4, 167, 0, 4, 3, 172]
abbrev dktX3_hasBridge_0 : List UInt8 := dkwX3_hasBridge_0 ++ []
theorem dksX3_hasBridge_0 : cX3_hasBridge.data.toList.drop 0 = dktX3_hasBridge_0 := by decide +kernel
theorem dX3_hasBridge_0 : decode cX3_hasBridge 0 = .ok (.aload_n 0, 1) := dk_42 (dk_at dksX3_hasBridge_0 0 rfl rfl)
theorem dX3_hasBridge_1 : decode cX3_hasBridge 1 = .ok (.getfield 9, 3) := dk_180 0 9 (dk_at dksX3_hasBridge_0 1 rfl rfl)
theorem dX3_hasBridge_4 : decode cX3_hasBridge 4 = .ok (.iload_n 1, 1) := dk_27 (dk_at dksX3_hasBridge_0 4 rfl rfl)
theorem dX3_hasBridge_5 : decode cX3_hasBridge 5 = .ok (.invokestatic 86, 3) := dk_184 0 86 (dk_at dksX3_hasBridge_0 5 rfl rfl)
theorem dX3_hasBridge_8 : decode cX3_hasBridge 8 = .ok (.iconst 1, 1) := dk_4 (dk_at dksX3_hasBridge_0 8 rfl rfl)
theorem dX3_hasBridge_9 : decode cX3_hasBridge 9 = .ok (.iadd, 1) := dk_96 (dk_at dksX3_hasBridge_0 9 rfl rfl)
theorem dX3_hasBridge_10 : decode cX3_hasBridge 10 = .ok (.iaload, 1) := dk_46 (dk_at dksX3_hasBridge_0 10 rfl rfl)
theorem dX3_hasBridge_11 : decode cX3_hasBridge 11 = .ok (.iconst (-1), 1) := dk_2 (dk_at dksX3_hasBridge_0 11 rfl rfl)
theorem dX3_hasBridge_12 : decode cX3_hasBridge 12 = .ok (.if_icmp .eq 7, 3) := dk_159 0 7 (dk_at dksX3_hasBridge_0 12 rfl rfl)
theorem dX3_hasBridge_15 : decode cX3_hasBridge 15 = .ok (.iconst 1, 1) := dk_4 (dk_at dksX3_hasBridge_0 15 rfl rfl)
theorem dX3_hasBridge_16 : decode cX3_hasBridge 16 = .ok (.goto 4, 3) := dk_167 0 4 (dk_at dksX3_hasBridge_0 16 rfl rfl)
theorem dX3_hasBridge_19 : decode cX3_hasBridge 19 = .ok (.iconst 0, 1) := dk_3 (dk_at dksX3_hasBridge_0 19 rfl rfl)
theorem dX3_hasBridge_20 : decode cX3_hasBridge 20 = .ok (.ireturn, 1) := dk_172 (dk_at dksX3_hasBridge_0 20 rfl rfl)
abbrev cX3_openDips : ByteArray := prog_11_method_29_code
def yX3_openDips : MethodName := ⟨RX3, "openDips", "()I"⟩
def dkwX3_openDips_1 : List UInt8 := [96, 46, 96, 60, 132, 2, 1, 167, 255, 229, 27, 172]
abbrev dktX3_openDips_1 : List UInt8 := dkwX3_openDips_1 ++ []
def dkwX3_openDips_0 : List UInt8 := [3, 60, 3, 61, 28, 42, 180, 0, 9, 3, 46, 162, 0, 23, 27, 42, 180, 0, 9, 28, 184, 0, 86, 7]
abbrev dktX3_openDips_0 : List UInt8 := dkwX3_openDips_0 ++ dktX3_openDips_1
theorem dksX3_openDips_0 : cX3_openDips.data.toList.drop 0 = dktX3_openDips_0 := by decide +kernel
theorem dksX3_openDips_1 : cX3_openDips.data.toList.drop 24 = dktX3_openDips_1 := dk_seg dksX3_openDips_0 24 rfl rfl
theorem dX3_openDips_0 : decode cX3_openDips 0 = .ok (.iconst 0, 1) := dk_3 (dk_at dksX3_openDips_0 0 rfl rfl)
theorem dX3_openDips_1 : decode cX3_openDips 1 = .ok (.istore_n 1, 1) := dk_60 (dk_at dksX3_openDips_0 1 rfl rfl)
theorem dX3_openDips_2 : decode cX3_openDips 2 = .ok (.iconst 0, 1) := dk_3 (dk_at dksX3_openDips_0 2 rfl rfl)
theorem dX3_openDips_3 : decode cX3_openDips 3 = .ok (.istore_n 2, 1) := dk_61 (dk_at dksX3_openDips_0 3 rfl rfl)
theorem dX3_openDips_4 : decode cX3_openDips 4 = .ok (.iload_n 2, 1) := dk_28 (dk_at dksX3_openDips_0 4 rfl rfl)
theorem dX3_openDips_5 : decode cX3_openDips 5 = .ok (.aload_n 0, 1) := dk_42 (dk_at dksX3_openDips_0 5 rfl rfl)
theorem dX3_openDips_6 : decode cX3_openDips 6 = .ok (.getfield 9, 3) := dk_180 0 9 (dk_at dksX3_openDips_0 6 rfl rfl)
theorem dX3_openDips_9 : decode cX3_openDips 9 = .ok (.iconst 0, 1) := dk_3 (dk_at dksX3_openDips_0 9 rfl rfl)
theorem dX3_openDips_10 : decode cX3_openDips 10 = .ok (.iaload, 1) := dk_46 (dk_at dksX3_openDips_0 10 rfl rfl)
theorem dX3_openDips_11 : decode cX3_openDips 11 = .ok (.if_icmp .ge 23, 3) := dk_162 0 23 (dk_at dksX3_openDips_0 11 rfl rfl)
theorem dX3_openDips_14 : decode cX3_openDips 14 = .ok (.iload_n 1, 1) := dk_27 (dk_at dksX3_openDips_0 14 rfl rfl)
theorem dX3_openDips_15 : decode cX3_openDips 15 = .ok (.aload_n 0, 1) := dk_42 (dk_at dksX3_openDips_0 15 rfl rfl)
theorem dX3_openDips_16 : decode cX3_openDips 16 = .ok (.getfield 9, 3) := dk_180 0 9 (dk_at dksX3_openDips_0 16 rfl rfl)
theorem dX3_openDips_19 : decode cX3_openDips 19 = .ok (.iload_n 2, 1) := dk_28 (dk_at dksX3_openDips_0 19 rfl rfl)
theorem dX3_openDips_20 : decode cX3_openDips 20 = .ok (.invokestatic 86, 3) := dk_184 0 86 (dk_at dksX3_openDips_0 20 rfl rfl)
theorem dX3_openDips_23 : decode cX3_openDips 23 = .ok (.iconst 4, 1) := dk_7 (dk_at dksX3_openDips_0 23 rfl rfl)
theorem dX3_openDips_24 : decode cX3_openDips 24 = .ok (.iadd, 1) := dk_96 (dk_at dksX3_openDips_1 0 rfl rfl)
theorem dX3_openDips_25 : decode cX3_openDips 25 = .ok (.iaload, 1) := dk_46 (dk_at dksX3_openDips_1 1 rfl rfl)
theorem dX3_openDips_26 : decode cX3_openDips 26 = .ok (.iadd, 1) := dk_96 (dk_at dksX3_openDips_1 2 rfl rfl)
theorem dX3_openDips_27 : decode cX3_openDips 27 = .ok (.istore_n 1, 1) := dk_60 (dk_at dksX3_openDips_1 3 rfl rfl)
theorem dX3_openDips_28 : decode cX3_openDips 28 = .ok (.iinc 2 1, 3) := dk_132 2 1 (dk_at dksX3_openDips_1 4 rfl rfl)
theorem dX3_openDips_31 : decode cX3_openDips 31 = .ok (.goto (-27), 3) := dk_167 255 229 (dk_at dksX3_openDips_1 7 rfl rfl)
theorem dX3_openDips_34 : decode cX3_openDips 34 = .ok (.iload_n 1, 1) := dk_27 (dk_at dksX3_openDips_1 10 rfl rfl)
theorem dX3_openDips_35 : decode cX3_openDips 35 = .ok (.ireturn, 1) := dk_172 (dk_at dksX3_openDips_1 11 rfl rfl)
abbrev cX3_pass : ByteArray := prog_11_method_46_code
def yX3_pass : MethodName := ⟨RX3, "pass", "(I)I"⟩
def dkwX3_pass_0 : List UInt8 := [42, 182, 0, 89, 42, 42, 27, 182, 0, 195, 182, 0, 100, 172]
abbrev dktX3_pass_0 : List UInt8 := dkwX3_pass_0 ++ []
theorem dksX3_pass_0 : cX3_pass.data.toList.drop 0 = dktX3_pass_0 := by decide +kernel
theorem dX3_pass_0 : decode cX3_pass 0 = .ok (.aload_n 0, 1) := dk_42 (dk_at dksX3_pass_0 0 rfl rfl)
theorem dX3_pass_1 : decode cX3_pass 1 = .ok (.invokevirtual 89, 3) := dk_182 0 89 (dk_at dksX3_pass_0 1 rfl rfl)
theorem dX3_pass_4 : decode cX3_pass 4 = .ok (.aload_n 0, 1) := dk_42 (dk_at dksX3_pass_0 4 rfl rfl)
theorem dX3_pass_5 : decode cX3_pass 5 = .ok (.aload_n 0, 1) := dk_42 (dk_at dksX3_pass_0 5 rfl rfl)
theorem dX3_pass_6 : decode cX3_pass 6 = .ok (.iload_n 1, 1) := dk_27 (dk_at dksX3_pass_0 6 rfl rfl)
theorem dX3_pass_7 : decode cX3_pass 7 = .ok (.invokevirtual 195, 3) := dk_182 0 195 (dk_at dksX3_pass_0 7 rfl rfl)
theorem dX3_pass_10 : decode cX3_pass 10 = .ok (.invokevirtual 100, 3) := dk_182 0 100 (dk_at dksX3_pass_0 10 rfl rfl)
theorem dX3_pass_13 : decode cX3_pass 13 = .ok (.ireturn, 1) := dk_172 (dk_at dksX3_pass_0 13 rfl rfl)
abbrev cX3_passIt : ByteArray := prog_11_method_45_code
def yX3_passIt : MethodName := ⟨RX3, "passIt", "(I)I"⟩
def dkwX3_passIt_2 : List UInt8 := [100, 172]
abbrev dktX3_passIt_2 : List UInt8 := dkwX3_passIt_2 ++ []
def dkwX3_passIt_1 : List UInt8 := [61, 3, 62, 29, 27, 162, 0, 13, 42, 182, 0, 192, 132, 3, 1, 167, 255, 244, 42, 4, 182, 0, 189, 28]
abbrev dktX3_passIt_1 : List UInt8 := dkwX3_passIt_1 ++ dktX3_passIt_2
def dkwX3_passIt_0 : List UInt8 := [27, 133, 10, 20, 0, 127, 184, 0, 71, 154, 0, 10, 42, 6, 27, 182, 0, 94, 172, 42, 4, 182, 0, 189]
abbrev dktX3_passIt_0 : List UInt8 := dkwX3_passIt_0 ++ dktX3_passIt_1
theorem dksX3_passIt_0 : cX3_passIt.data.toList.drop 0 = dktX3_passIt_0 := by decide +kernel
theorem dksX3_passIt_1 : cX3_passIt.data.toList.drop 24 = dktX3_passIt_1 := dk_seg dksX3_passIt_0 24 rfl rfl
theorem dksX3_passIt_2 : cX3_passIt.data.toList.drop 48 = dktX3_passIt_2 := dk_seg dksX3_passIt_1 24 rfl rfl
theorem dX3_passIt_0 : decode cX3_passIt 0 = .ok (.iload_n 1, 1) := dk_27 (dk_at dksX3_passIt_0 0 rfl rfl)
theorem dX3_passIt_1 : decode cX3_passIt 1 = .ok (.i2l, 1) := dk_133 (dk_at dksX3_passIt_0 1 rfl rfl)
theorem dX3_passIt_2 : decode cX3_passIt 2 = .ok (.lconst 1, 1) := dk_10 (dk_at dksX3_passIt_0 2 rfl rfl)
theorem dX3_passIt_3 : decode cX3_passIt 3 = .ok (.ldc2_w 127, 3) := dk_20 0 127 (dk_at dksX3_passIt_0 3 rfl rfl)
theorem dX3_passIt_6 : decode cX3_passIt 6 = .ok (.invokestatic 71, 3) := dk_184 0 71 (dk_at dksX3_passIt_0 6 rfl rfl)
theorem dX3_passIt_9 : decode cX3_passIt 9 = .ok (.ifCond .ne 10, 3) := dk_154 0 10 (dk_at dksX3_passIt_0 9 rfl rfl)
theorem dX3_passIt_12 : decode cX3_passIt 12 = .ok (.aload_n 0, 1) := dk_42 (dk_at dksX3_passIt_0 12 rfl rfl)
theorem dX3_passIt_13 : decode cX3_passIt 13 = .ok (.iconst 3, 1) := dk_6 (dk_at dksX3_passIt_0 13 rfl rfl)
theorem dX3_passIt_14 : decode cX3_passIt 14 = .ok (.iload_n 1, 1) := dk_27 (dk_at dksX3_passIt_0 14 rfl rfl)
theorem dX3_passIt_15 : decode cX3_passIt 15 = .ok (.invokevirtual 94, 3) := dk_182 0 94 (dk_at dksX3_passIt_0 15 rfl rfl)
theorem dX3_passIt_18 : decode cX3_passIt 18 = .ok (.ireturn, 1) := dk_172 (dk_at dksX3_passIt_0 18 rfl rfl)
theorem dX3_passIt_19 : decode cX3_passIt 19 = .ok (.aload_n 0, 1) := dk_42 (dk_at dksX3_passIt_0 19 rfl rfl)
theorem dX3_passIt_20 : decode cX3_passIt 20 = .ok (.iconst 1, 1) := dk_4 (dk_at dksX3_passIt_0 20 rfl rfl)
theorem dX3_passIt_21 : decode cX3_passIt 21 = .ok (.invokevirtual 189, 3) := dk_182 0 189 (dk_at dksX3_passIt_0 21 rfl rfl)
theorem dX3_passIt_24 : decode cX3_passIt 24 = .ok (.istore_n 2, 1) := dk_61 (dk_at dksX3_passIt_1 0 rfl rfl)
theorem dX3_passIt_25 : decode cX3_passIt 25 = .ok (.iconst 0, 1) := dk_3 (dk_at dksX3_passIt_1 1 rfl rfl)
theorem dX3_passIt_26 : decode cX3_passIt 26 = .ok (.istore_n 3, 1) := dk_62 (dk_at dksX3_passIt_1 2 rfl rfl)
theorem dX3_passIt_27 : decode cX3_passIt 27 = .ok (.iload_n 3, 1) := dk_29 (dk_at dksX3_passIt_1 3 rfl rfl)
theorem dX3_passIt_28 : decode cX3_passIt 28 = .ok (.iload_n 1, 1) := dk_27 (dk_at dksX3_passIt_1 4 rfl rfl)
theorem dX3_passIt_29 : decode cX3_passIt 29 = .ok (.if_icmp .ge 13, 3) := dk_162 0 13 (dk_at dksX3_passIt_1 5 rfl rfl)
theorem dX3_passIt_32 : decode cX3_passIt 32 = .ok (.aload_n 0, 1) := dk_42 (dk_at dksX3_passIt_1 8 rfl rfl)
theorem dX3_passIt_33 : decode cX3_passIt 33 = .ok (.invokevirtual 192, 3) := dk_182 0 192 (dk_at dksX3_passIt_1 9 rfl rfl)
theorem dX3_passIt_36 : decode cX3_passIt 36 = .ok (.iinc 3 1, 3) := dk_132 3 1 (dk_at dksX3_passIt_1 12 rfl rfl)
theorem dX3_passIt_39 : decode cX3_passIt 39 = .ok (.goto (-12), 3) := dk_167 255 244 (dk_at dksX3_passIt_1 15 rfl rfl)
theorem dX3_passIt_42 : decode cX3_passIt 42 = .ok (.aload_n 0, 1) := dk_42 (dk_at dksX3_passIt_1 18 rfl rfl)
theorem dX3_passIt_43 : decode cX3_passIt 43 = .ok (.iconst 1, 1) := dk_4 (dk_at dksX3_passIt_1 19 rfl rfl)
theorem dX3_passIt_44 : decode cX3_passIt 44 = .ok (.invokevirtual 189, 3) := dk_182 0 189 (dk_at dksX3_passIt_1 20 rfl rfl)
theorem dX3_passIt_47 : decode cX3_passIt 47 = .ok (.iload_n 2, 1) := dk_28 (dk_at dksX3_passIt_1 23 rfl rfl)
theorem dX3_passIt_48 : decode cX3_passIt 48 = .ok (.isub, 1) := dk_100 (dk_at dksX3_passIt_2 0 rfl rfl)
theorem dX3_passIt_49 : decode cX3_passIt 49 = .ok (.ireturn, 1) := dk_172 (dk_at dksX3_passIt_2 1 rfl rfl)
abbrev cX3_inState : ByteArray := prog_11_method_44_code
def yX3_inState : MethodName := ⟨RX3, "inState", "(I)I"⟩
def dkwX3_inState_1 : List UInt8 := [96, 46, 27, 160, 0, 7, 4, 167, 0, 4, 3, 96, 61, 132, 3, 1, 167, 255, 220, 28, 172]
abbrev dktX3_inState_1 : List UInt8 := dkwX3_inState_1 ++ []
def dkwX3_inState_0 : List UInt8 := [3, 61, 3, 62, 29, 42, 180, 0, 9, 4, 46, 162, 0, 32, 28, 42, 180, 0, 9, 29, 184, 0, 75, 3]
abbrev dktX3_inState_0 : List UInt8 := dkwX3_inState_0 ++ dktX3_inState_1
theorem dksX3_inState_0 : cX3_inState.data.toList.drop 0 = dktX3_inState_0 := by decide +kernel
theorem dksX3_inState_1 : cX3_inState.data.toList.drop 24 = dktX3_inState_1 := dk_seg dksX3_inState_0 24 rfl rfl
theorem dX3_inState_0 : decode cX3_inState 0 = .ok (.iconst 0, 1) := dk_3 (dk_at dksX3_inState_0 0 rfl rfl)
theorem dX3_inState_1 : decode cX3_inState 1 = .ok (.istore_n 2, 1) := dk_61 (dk_at dksX3_inState_0 1 rfl rfl)
theorem dX3_inState_2 : decode cX3_inState 2 = .ok (.iconst 0, 1) := dk_3 (dk_at dksX3_inState_0 2 rfl rfl)
theorem dX3_inState_3 : decode cX3_inState 3 = .ok (.istore_n 3, 1) := dk_62 (dk_at dksX3_inState_0 3 rfl rfl)
theorem dX3_inState_4 : decode cX3_inState 4 = .ok (.iload_n 3, 1) := dk_29 (dk_at dksX3_inState_0 4 rfl rfl)
theorem dX3_inState_5 : decode cX3_inState 5 = .ok (.aload_n 0, 1) := dk_42 (dk_at dksX3_inState_0 5 rfl rfl)
theorem dX3_inState_6 : decode cX3_inState 6 = .ok (.getfield 9, 3) := dk_180 0 9 (dk_at dksX3_inState_0 6 rfl rfl)
theorem dX3_inState_9 : decode cX3_inState 9 = .ok (.iconst 1, 1) := dk_4 (dk_at dksX3_inState_0 9 rfl rfl)
theorem dX3_inState_10 : decode cX3_inState 10 = .ok (.iaload, 1) := dk_46 (dk_at dksX3_inState_0 10 rfl rfl)
theorem dX3_inState_11 : decode cX3_inState 11 = .ok (.if_icmp .ge 32, 3) := dk_162 0 32 (dk_at dksX3_inState_0 11 rfl rfl)
theorem dX3_inState_14 : decode cX3_inState 14 = .ok (.iload_n 2, 1) := dk_28 (dk_at dksX3_inState_0 14 rfl rfl)
theorem dX3_inState_15 : decode cX3_inState 15 = .ok (.aload_n 0, 1) := dk_42 (dk_at dksX3_inState_0 15 rfl rfl)
theorem dX3_inState_16 : decode cX3_inState 16 = .ok (.getfield 9, 3) := dk_180 0 9 (dk_at dksX3_inState_0 16 rfl rfl)
theorem dX3_inState_19 : decode cX3_inState 19 = .ok (.iload_n 3, 1) := dk_29 (dk_at dksX3_inState_0 19 rfl rfl)
theorem dX3_inState_20 : decode cX3_inState 20 = .ok (.invokestatic 75, 3) := dk_184 0 75 (dk_at dksX3_inState_0 20 rfl rfl)
theorem dX3_inState_23 : decode cX3_inState 23 = .ok (.iconst 0, 1) := dk_3 (dk_at dksX3_inState_0 23 rfl rfl)
theorem dX3_inState_24 : decode cX3_inState 24 = .ok (.iadd, 1) := dk_96 (dk_at dksX3_inState_1 0 rfl rfl)
theorem dX3_inState_25 : decode cX3_inState 25 = .ok (.iaload, 1) := dk_46 (dk_at dksX3_inState_1 1 rfl rfl)
theorem dX3_inState_26 : decode cX3_inState 26 = .ok (.iload_n 1, 1) := dk_27 (dk_at dksX3_inState_1 2 rfl rfl)
theorem dX3_inState_27 : decode cX3_inState 27 = .ok (.if_icmp .ne 7, 3) := dk_160 0 7 (dk_at dksX3_inState_1 3 rfl rfl)
theorem dX3_inState_30 : decode cX3_inState 30 = .ok (.iconst 1, 1) := dk_4 (dk_at dksX3_inState_1 6 rfl rfl)
theorem dX3_inState_31 : decode cX3_inState 31 = .ok (.goto 4, 3) := dk_167 0 4 (dk_at dksX3_inState_1 7 rfl rfl)
theorem dX3_inState_34 : decode cX3_inState 34 = .ok (.iconst 0, 1) := dk_3 (dk_at dksX3_inState_1 10 rfl rfl)
theorem dX3_inState_35 : decode cX3_inState 35 = .ok (.iadd, 1) := dk_96 (dk_at dksX3_inState_1 11 rfl rfl)
theorem dX3_inState_36 : decode cX3_inState 36 = .ok (.istore_n 2, 1) := dk_61 (dk_at dksX3_inState_1 12 rfl rfl)
theorem dX3_inState_37 : decode cX3_inState 37 = .ok (.iinc 3 1, 3) := dk_132 3 1 (dk_at dksX3_inState_1 13 rfl rfl)
theorem dX3_inState_40 : decode cX3_inState 40 = .ok (.goto (-36), 3) := dk_167 255 220 (dk_at dksX3_inState_1 16 rfl rfl)
theorem dX3_inState_43 : decode cX3_inState 43 = .ok (.iload_n 2, 1) := dk_28 (dk_at dksX3_inState_1 19 rfl rfl)
theorem dX3_inState_44 : decode cX3_inState 44 = .ok (.ireturn, 1) := dk_172 (dk_at dksX3_inState_1 20 rfl rfl)
abbrev cX3_night : ByteArray := prog_11_method_43_code
def yX3_night : MethodName := ⟨RX3, "night", "()V"⟩
def dkwX3_night_4 : List UInt8 := [153, 0, 8, 42, 27, 182, 0, 186, 132, 1, 1, 167, 255, 230, 177]
abbrev dktX3_night_4 : List UInt8 := dkwX3_night_4 ++ []
def dkwX3_night_3 : List UInt8 := [161, 0, 7, 42, 182, 0, 183, 3, 60, 27, 42, 180, 0, 9, 3, 46, 162, 0, 22, 42, 27, 182, 0, 106]
abbrev dktX3_night_3 : List UInt8 := dkwX3_night_3 ++ dktX3_night_4
def dkwX3_night_2 : List UInt8 := [153, 0, 8, 42, 27, 182, 0, 180, 132, 1, 1, 167, 255, 230, 42, 180, 0, 9, 6, 46, 16, 7]
abbrev dktX3_night_2 : List UInt8 := dkwX3_night_2 ++ dktX3_night_3
def dkwX3_night_1 : List UInt8 := [84, 132, 1, 1, 167, 255, 240, 3, 60, 27, 42, 180, 0, 9, 4, 46, 162, 0, 22, 42, 27, 182, 0, 78]
abbrev dktX3_night_1 : List UInt8 := dkwX3_night_1 ++ dktX3_night_2
def dkwX3_night_0 : List UInt8 := [42, 180, 0, 9, 8, 92, 46, 4, 96, 79, 3, 60, 27, 16, 12, 162, 0, 16, 42, 180, 0, 35, 27, 3]
abbrev dktX3_night_0 : List UInt8 := dkwX3_night_0 ++ dktX3_night_1
theorem dksX3_night_0 : cX3_night.data.toList.drop 0 = dktX3_night_0 := by decide +kernel
theorem dksX3_night_1 : cX3_night.data.toList.drop 24 = dktX3_night_1 := dk_seg dksX3_night_0 24 rfl rfl
theorem dksX3_night_2 : cX3_night.data.toList.drop 48 = dktX3_night_2 := dk_seg dksX3_night_1 24 rfl rfl
theorem dksX3_night_3 : cX3_night.data.toList.drop 70 = dktX3_night_3 := dk_seg dksX3_night_2 22 rfl rfl
theorem dksX3_night_4 : cX3_night.data.toList.drop 94 = dktX3_night_4 := dk_seg dksX3_night_3 24 rfl rfl
theorem dX3_night_0 : decode cX3_night 0 = .ok (.aload_n 0, 1) := dk_42 (dk_at dksX3_night_0 0 rfl rfl)
theorem dX3_night_1 : decode cX3_night 1 = .ok (.getfield 9, 3) := dk_180 0 9 (dk_at dksX3_night_0 1 rfl rfl)
theorem dX3_night_4 : decode cX3_night 4 = .ok (.iconst 5, 1) := dk_8 (dk_at dksX3_night_0 4 rfl rfl)
theorem dX3_night_5 : decode cX3_night 5 = .ok (.dup2, 1) := dk_92 (dk_at dksX3_night_0 5 rfl rfl)
theorem dX3_night_6 : decode cX3_night 6 = .ok (.iaload, 1) := dk_46 (dk_at dksX3_night_0 6 rfl rfl)
theorem dX3_night_7 : decode cX3_night 7 = .ok (.iconst 1, 1) := dk_4 (dk_at dksX3_night_0 7 rfl rfl)
theorem dX3_night_8 : decode cX3_night 8 = .ok (.iadd, 1) := dk_96 (dk_at dksX3_night_0 8 rfl rfl)
theorem dX3_night_9 : decode cX3_night 9 = .ok (.iastore, 1) := dk_79 (dk_at dksX3_night_0 9 rfl rfl)
theorem dX3_night_10 : decode cX3_night 10 = .ok (.iconst 0, 1) := dk_3 (dk_at dksX3_night_0 10 rfl rfl)
theorem dX3_night_11 : decode cX3_night 11 = .ok (.istore_n 1, 1) := dk_60 (dk_at dksX3_night_0 11 rfl rfl)
theorem dX3_night_12 : decode cX3_night 12 = .ok (.iload_n 1, 1) := dk_27 (dk_at dksX3_night_0 12 rfl rfl)
theorem dX3_night_13 : decode cX3_night 13 = .ok (.bipush 12, 2) := dk_16 12 (dk_at dksX3_night_0 13 rfl rfl)
theorem dX3_night_15 : decode cX3_night 15 = .ok (.if_icmp .ge 16, 3) := dk_162 0 16 (dk_at dksX3_night_0 15 rfl rfl)
theorem dX3_night_18 : decode cX3_night 18 = .ok (.aload_n 0, 1) := dk_42 (dk_at dksX3_night_0 18 rfl rfl)
theorem dX3_night_19 : decode cX3_night 19 = .ok (.getfield 35, 3) := dk_180 0 35 (dk_at dksX3_night_0 19 rfl rfl)
theorem dX3_night_22 : decode cX3_night 22 = .ok (.iload_n 1, 1) := dk_27 (dk_at dksX3_night_0 22 rfl rfl)
theorem dX3_night_23 : decode cX3_night 23 = .ok (.iconst 0, 1) := dk_3 (dk_at dksX3_night_0 23 rfl rfl)
theorem dX3_night_24 : decode cX3_night 24 = .ok (.bastore, 1) := dk_84 (dk_at dksX3_night_1 0 rfl rfl)
theorem dX3_night_25 : decode cX3_night 25 = .ok (.iinc 1 1, 3) := dk_132 1 1 (dk_at dksX3_night_1 1 rfl rfl)
theorem dX3_night_28 : decode cX3_night 28 = .ok (.goto (-16), 3) := dk_167 255 240 (dk_at dksX3_night_1 4 rfl rfl)
theorem dX3_night_31 : decode cX3_night 31 = .ok (.iconst 0, 1) := dk_3 (dk_at dksX3_night_1 7 rfl rfl)
theorem dX3_night_32 : decode cX3_night 32 = .ok (.istore_n 1, 1) := dk_60 (dk_at dksX3_night_1 8 rfl rfl)
theorem dX3_night_33 : decode cX3_night 33 = .ok (.iload_n 1, 1) := dk_27 (dk_at dksX3_night_1 9 rfl rfl)
theorem dX3_night_34 : decode cX3_night 34 = .ok (.aload_n 0, 1) := dk_42 (dk_at dksX3_night_1 10 rfl rfl)
theorem dX3_night_35 : decode cX3_night 35 = .ok (.getfield 9, 3) := dk_180 0 9 (dk_at dksX3_night_1 11 rfl rfl)
theorem dX3_night_38 : decode cX3_night 38 = .ok (.iconst 1, 1) := dk_4 (dk_at dksX3_night_1 14 rfl rfl)
theorem dX3_night_39 : decode cX3_night 39 = .ok (.iaload, 1) := dk_46 (dk_at dksX3_night_1 15 rfl rfl)
theorem dX3_night_40 : decode cX3_night 40 = .ok (.if_icmp .ge 22, 3) := dk_162 0 22 (dk_at dksX3_night_1 16 rfl rfl)
theorem dX3_night_43 : decode cX3_night 43 = .ok (.aload_n 0, 1) := dk_42 (dk_at dksX3_night_1 19 rfl rfl)
theorem dX3_night_44 : decode cX3_night 44 = .ok (.iload_n 1, 1) := dk_27 (dk_at dksX3_night_1 20 rfl rfl)
theorem dX3_night_45 : decode cX3_night 45 = .ok (.invokevirtual 78, 3) := dk_182 0 78 (dk_at dksX3_night_1 21 rfl rfl)
theorem dX3_night_48 : decode cX3_night 48 = .ok (.ifCond .eq 8, 3) := dk_153 0 8 (dk_at dksX3_night_2 0 rfl rfl)
theorem dX3_night_51 : decode cX3_night 51 = .ok (.aload_n 0, 1) := dk_42 (dk_at dksX3_night_2 3 rfl rfl)
theorem dX3_night_52 : decode cX3_night 52 = .ok (.iload_n 1, 1) := dk_27 (dk_at dksX3_night_2 4 rfl rfl)
theorem dX3_night_53 : decode cX3_night 53 = .ok (.invokevirtual 180, 3) := dk_182 0 180 (dk_at dksX3_night_2 5 rfl rfl)
theorem dX3_night_56 : decode cX3_night 56 = .ok (.iinc 1 1, 3) := dk_132 1 1 (dk_at dksX3_night_2 8 rfl rfl)
theorem dX3_night_59 : decode cX3_night 59 = .ok (.goto (-26), 3) := dk_167 255 230 (dk_at dksX3_night_2 11 rfl rfl)
theorem dX3_night_62 : decode cX3_night 62 = .ok (.aload_n 0, 1) := dk_42 (dk_at dksX3_night_2 14 rfl rfl)
theorem dX3_night_63 : decode cX3_night 63 = .ok (.getfield 9, 3) := dk_180 0 9 (dk_at dksX3_night_2 15 rfl rfl)
theorem dX3_night_66 : decode cX3_night 66 = .ok (.iconst 3, 1) := dk_6 (dk_at dksX3_night_2 18 rfl rfl)
theorem dX3_night_67 : decode cX3_night 67 = .ok (.iaload, 1) := dk_46 (dk_at dksX3_night_2 19 rfl rfl)
theorem dX3_night_68 : decode cX3_night 68 = .ok (.bipush 7, 2) := dk_16 7 (dk_at dksX3_night_2 20 rfl rfl)
theorem dX3_night_70 : decode cX3_night 70 = .ok (.if_icmp .lt 7, 3) := dk_161 0 7 (dk_at dksX3_night_3 0 rfl rfl)
theorem dX3_night_73 : decode cX3_night 73 = .ok (.aload_n 0, 1) := dk_42 (dk_at dksX3_night_3 3 rfl rfl)
theorem dX3_night_74 : decode cX3_night 74 = .ok (.invokevirtual 183, 3) := dk_182 0 183 (dk_at dksX3_night_3 4 rfl rfl)
theorem dX3_night_77 : decode cX3_night 77 = .ok (.iconst 0, 1) := dk_3 (dk_at dksX3_night_3 7 rfl rfl)
theorem dX3_night_78 : decode cX3_night 78 = .ok (.istore_n 1, 1) := dk_60 (dk_at dksX3_night_3 8 rfl rfl)
theorem dX3_night_79 : decode cX3_night 79 = .ok (.iload_n 1, 1) := dk_27 (dk_at dksX3_night_3 9 rfl rfl)
theorem dX3_night_80 : decode cX3_night 80 = .ok (.aload_n 0, 1) := dk_42 (dk_at dksX3_night_3 10 rfl rfl)
theorem dX3_night_81 : decode cX3_night 81 = .ok (.getfield 9, 3) := dk_180 0 9 (dk_at dksX3_night_3 11 rfl rfl)
theorem dX3_night_84 : decode cX3_night 84 = .ok (.iconst 0, 1) := dk_3 (dk_at dksX3_night_3 14 rfl rfl)
theorem dX3_night_85 : decode cX3_night 85 = .ok (.iaload, 1) := dk_46 (dk_at dksX3_night_3 15 rfl rfl)
theorem dX3_night_86 : decode cX3_night 86 = .ok (.if_icmp .ge 22, 3) := dk_162 0 22 (dk_at dksX3_night_3 16 rfl rfl)
theorem dX3_night_89 : decode cX3_night 89 = .ok (.aload_n 0, 1) := dk_42 (dk_at dksX3_night_3 19 rfl rfl)
theorem dX3_night_90 : decode cX3_night 90 = .ok (.iload_n 1, 1) := dk_27 (dk_at dksX3_night_3 20 rfl rfl)
theorem dX3_night_91 : decode cX3_night 91 = .ok (.invokevirtual 106, 3) := dk_182 0 106 (dk_at dksX3_night_3 21 rfl rfl)
theorem dX3_night_94 : decode cX3_night 94 = .ok (.ifCond .eq 8, 3) := dk_153 0 8 (dk_at dksX3_night_4 0 rfl rfl)
theorem dX3_night_97 : decode cX3_night 97 = .ok (.aload_n 0, 1) := dk_42 (dk_at dksX3_night_4 3 rfl rfl)
theorem dX3_night_98 : decode cX3_night 98 = .ok (.iload_n 1, 1) := dk_27 (dk_at dksX3_night_4 4 rfl rfl)
theorem dX3_night_99 : decode cX3_night 99 = .ok (.invokevirtual 186, 3) := dk_182 0 186 (dk_at dksX3_night_4 5 rfl rfl)
theorem dX3_night_102 : decode cX3_night 102 = .ok (.iinc 1 1, 3) := dk_132 1 1 (dk_at dksX3_night_4 8 rfl rfl)
theorem dX3_night_105 : decode cX3_night 105 = .ok (.goto (-26), 3) := dk_167 255 230 (dk_at dksX3_night_4 11 rfl rfl)
theorem dX3_night_108 : decode cX3_night 108 = .ok (.return_, 1) := dk_177 (dk_at dksX3_night_4 14 rfl rfl)
abbrev cX3_goesOut : ByteArray := prog_11_method_36_code
def yX3_goesOut : MethodName := ⟨RX3, "goesOut", "(I)V"⟩
def dkwX3_goesOut_5 : List UInt8 := [182, 0, 151, 132, 4, 1, 167, 255, 157, 177]
abbrev dktX3_goesOut_5 : List UInt8 := dkwX3_goesOut_5 ++ []
def dkwX3_goesOut_4 : List UInt8 := [184, 0, 75, 4, 96, 29, 79, 42, 180, 0, 32, 29, 92, 46, 4, 96, 79, 167, 0, 9, 42, 27, 29]
abbrev dktX3_goesOut_4 : List UInt8 := dkwX3_goesOut_4 ++ dktX3_goesOut_5
def dkwX3_goesOut_3 : List UInt8 := [182, 0, 148, 153, 0, 40, 42, 180, 0, 9, 27, 184, 0, 75, 3, 96, 4, 79, 42, 180, 0, 9, 27]
abbrev dktX3_goesOut_3 : List UInt8 := dkwX3_goesOut_3 ++ dktX3_goesOut_4
def dkwX3_goesOut_2 : List UInt8 := [182, 0, 103, 153, 0, 75, 29, 28, 184, 0, 145, 96, 62, 42, 29, 182, 0, 132, 153, 0, 54, 42, 29]
abbrev dktX3_goesOut_2 : List UInt8 := dkwX3_goesOut_2 ++ dktX3_goesOut_3
def dkwX3_goesOut_1 : List UInt8 := [21, 4, 28, 184, 0, 142, 162, 0, 96, 42, 27, 182, 0, 78, 153, 0, 88, 42, 29, 28, 184, 0, 145, 96]
abbrev dktX3_goesOut_1 : List UInt8 := dkwX3_goesOut_1 ++ dktX3_goesOut_2
def dkwX3_goesOut_0 : List UInt8 := [42, 180, 0, 9, 8, 46, 27, 96, 61, 42, 180, 0, 9, 27, 184, 0, 75, 4, 96, 46, 62, 3, 54, 4]
abbrev dktX3_goesOut_0 : List UInt8 := dkwX3_goesOut_0 ++ dktX3_goesOut_1
theorem dksX3_goesOut_0 : cX3_goesOut.data.toList.drop 0 = dktX3_goesOut_0 := by decide +kernel
theorem dksX3_goesOut_1 : cX3_goesOut.data.toList.drop 24 = dktX3_goesOut_1 := dk_seg dksX3_goesOut_0 24 rfl rfl
theorem dksX3_goesOut_2 : cX3_goesOut.data.toList.drop 48 = dktX3_goesOut_2 := dk_seg dksX3_goesOut_1 24 rfl rfl
theorem dksX3_goesOut_3 : cX3_goesOut.data.toList.drop 71 = dktX3_goesOut_3 := dk_seg dksX3_goesOut_2 23 rfl rfl
theorem dksX3_goesOut_4 : cX3_goesOut.data.toList.drop 94 = dktX3_goesOut_4 := dk_seg dksX3_goesOut_3 23 rfl rfl
theorem dksX3_goesOut_5 : cX3_goesOut.data.toList.drop 117 = dktX3_goesOut_5 := dk_seg dksX3_goesOut_4 23 rfl rfl
theorem dX3_goesOut_0 : decode cX3_goesOut 0 = .ok (.aload_n 0, 1) := dk_42 (dk_at dksX3_goesOut_0 0 rfl rfl)
theorem dX3_goesOut_1 : decode cX3_goesOut 1 = .ok (.getfield 9, 3) := dk_180 0 9 (dk_at dksX3_goesOut_0 1 rfl rfl)
theorem dX3_goesOut_4 : decode cX3_goesOut 4 = .ok (.iconst 5, 1) := dk_8 (dk_at dksX3_goesOut_0 4 rfl rfl)
theorem dX3_goesOut_5 : decode cX3_goesOut 5 = .ok (.iaload, 1) := dk_46 (dk_at dksX3_goesOut_0 5 rfl rfl)
theorem dX3_goesOut_6 : decode cX3_goesOut 6 = .ok (.iload_n 1, 1) := dk_27 (dk_at dksX3_goesOut_0 6 rfl rfl)
theorem dX3_goesOut_7 : decode cX3_goesOut 7 = .ok (.iadd, 1) := dk_96 (dk_at dksX3_goesOut_0 7 rfl rfl)
theorem dX3_goesOut_8 : decode cX3_goesOut 8 = .ok (.istore_n 2, 1) := dk_61 (dk_at dksX3_goesOut_0 8 rfl rfl)
theorem dX3_goesOut_9 : decode cX3_goesOut 9 = .ok (.aload_n 0, 1) := dk_42 (dk_at dksX3_goesOut_0 9 rfl rfl)
theorem dX3_goesOut_10 : decode cX3_goesOut 10 = .ok (.getfield 9, 3) := dk_180 0 9 (dk_at dksX3_goesOut_0 10 rfl rfl)
theorem dX3_goesOut_13 : decode cX3_goesOut 13 = .ok (.iload_n 1, 1) := dk_27 (dk_at dksX3_goesOut_0 13 rfl rfl)
theorem dX3_goesOut_14 : decode cX3_goesOut 14 = .ok (.invokestatic 75, 3) := dk_184 0 75 (dk_at dksX3_goesOut_0 14 rfl rfl)
theorem dX3_goesOut_17 : decode cX3_goesOut 17 = .ok (.iconst 1, 1) := dk_4 (dk_at dksX3_goesOut_0 17 rfl rfl)
theorem dX3_goesOut_18 : decode cX3_goesOut 18 = .ok (.iadd, 1) := dk_96 (dk_at dksX3_goesOut_0 18 rfl rfl)
theorem dX3_goesOut_19 : decode cX3_goesOut 19 = .ok (.iaload, 1) := dk_46 (dk_at dksX3_goesOut_0 19 rfl rfl)
theorem dX3_goesOut_20 : decode cX3_goesOut 20 = .ok (.istore_n 3, 1) := dk_62 (dk_at dksX3_goesOut_0 20 rfl rfl)
theorem dX3_goesOut_21 : decode cX3_goesOut 21 = .ok (.iconst 0, 1) := dk_3 (dk_at dksX3_goesOut_0 21 rfl rfl)
theorem dX3_goesOut_22 : decode cX3_goesOut 22 = .ok (.istore 4, 2) := dk_54 4 (dk_at dksX3_goesOut_0 22 rfl rfl)
theorem dX3_goesOut_24 : decode cX3_goesOut 24 = .ok (.iload 4, 2) := dk_21 4 (dk_at dksX3_goesOut_1 0 rfl rfl)
theorem dX3_goesOut_26 : decode cX3_goesOut 26 = .ok (.iload_n 2, 1) := dk_28 (dk_at dksX3_goesOut_1 2 rfl rfl)
theorem dX3_goesOut_27 : decode cX3_goesOut 27 = .ok (.invokestatic 142, 3) := dk_184 0 142 (dk_at dksX3_goesOut_1 3 rfl rfl)
theorem dX3_goesOut_30 : decode cX3_goesOut 30 = .ok (.if_icmp .ge 96, 3) := dk_162 0 96 (dk_at dksX3_goesOut_1 6 rfl rfl)
theorem dX3_goesOut_33 : decode cX3_goesOut 33 = .ok (.aload_n 0, 1) := dk_42 (dk_at dksX3_goesOut_1 9 rfl rfl)
theorem dX3_goesOut_34 : decode cX3_goesOut 34 = .ok (.iload_n 1, 1) := dk_27 (dk_at dksX3_goesOut_1 10 rfl rfl)
theorem dX3_goesOut_35 : decode cX3_goesOut 35 = .ok (.invokevirtual 78, 3) := dk_182 0 78 (dk_at dksX3_goesOut_1 11 rfl rfl)
theorem dX3_goesOut_38 : decode cX3_goesOut 38 = .ok (.ifCond .eq 88, 3) := dk_153 0 88 (dk_at dksX3_goesOut_1 14 rfl rfl)
theorem dX3_goesOut_41 : decode cX3_goesOut 41 = .ok (.aload_n 0, 1) := dk_42 (dk_at dksX3_goesOut_1 17 rfl rfl)
theorem dX3_goesOut_42 : decode cX3_goesOut 42 = .ok (.iload_n 3, 1) := dk_29 (dk_at dksX3_goesOut_1 18 rfl rfl)
theorem dX3_goesOut_43 : decode cX3_goesOut 43 = .ok (.iload_n 2, 1) := dk_28 (dk_at dksX3_goesOut_1 19 rfl rfl)
theorem dX3_goesOut_44 : decode cX3_goesOut 44 = .ok (.invokestatic 145, 3) := dk_184 0 145 (dk_at dksX3_goesOut_1 20 rfl rfl)
theorem dX3_goesOut_47 : decode cX3_goesOut 47 = .ok (.iadd, 1) := dk_96 (dk_at dksX3_goesOut_1 23 rfl rfl)
theorem dX3_goesOut_48 : decode cX3_goesOut 48 = .ok (.invokevirtual 103, 3) := dk_182 0 103 (dk_at dksX3_goesOut_2 0 rfl rfl)
theorem dX3_goesOut_51 : decode cX3_goesOut 51 = .ok (.ifCond .eq 75, 3) := dk_153 0 75 (dk_at dksX3_goesOut_2 3 rfl rfl)
theorem dX3_goesOut_54 : decode cX3_goesOut 54 = .ok (.iload_n 3, 1) := dk_29 (dk_at dksX3_goesOut_2 6 rfl rfl)
theorem dX3_goesOut_55 : decode cX3_goesOut 55 = .ok (.iload_n 2, 1) := dk_28 (dk_at dksX3_goesOut_2 7 rfl rfl)
theorem dX3_goesOut_56 : decode cX3_goesOut 56 = .ok (.invokestatic 145, 3) := dk_184 0 145 (dk_at dksX3_goesOut_2 8 rfl rfl)
theorem dX3_goesOut_59 : decode cX3_goesOut 59 = .ok (.iadd, 1) := dk_96 (dk_at dksX3_goesOut_2 11 rfl rfl)
theorem dX3_goesOut_60 : decode cX3_goesOut 60 = .ok (.istore_n 3, 1) := dk_62 (dk_at dksX3_goesOut_2 12 rfl rfl)
theorem dX3_goesOut_61 : decode cX3_goesOut 61 = .ok (.aload_n 0, 1) := dk_42 (dk_at dksX3_goesOut_2 13 rfl rfl)
theorem dX3_goesOut_62 : decode cX3_goesOut 62 = .ok (.iload_n 3, 1) := dk_29 (dk_at dksX3_goesOut_2 14 rfl rfl)
theorem dX3_goesOut_63 : decode cX3_goesOut 63 = .ok (.invokevirtual 132, 3) := dk_182 0 132 (dk_at dksX3_goesOut_2 15 rfl rfl)
theorem dX3_goesOut_66 : decode cX3_goesOut 66 = .ok (.ifCond .eq 54, 3) := dk_153 0 54 (dk_at dksX3_goesOut_2 18 rfl rfl)
theorem dX3_goesOut_69 : decode cX3_goesOut 69 = .ok (.aload_n 0, 1) := dk_42 (dk_at dksX3_goesOut_2 21 rfl rfl)
theorem dX3_goesOut_70 : decode cX3_goesOut 70 = .ok (.iload_n 3, 1) := dk_29 (dk_at dksX3_goesOut_2 22 rfl rfl)
theorem dX3_goesOut_71 : decode cX3_goesOut 71 = .ok (.invokevirtual 148, 3) := dk_182 0 148 (dk_at dksX3_goesOut_3 0 rfl rfl)
theorem dX3_goesOut_74 : decode cX3_goesOut 74 = .ok (.ifCond .eq 40, 3) := dk_153 0 40 (dk_at dksX3_goesOut_3 3 rfl rfl)
theorem dX3_goesOut_77 : decode cX3_goesOut 77 = .ok (.aload_n 0, 1) := dk_42 (dk_at dksX3_goesOut_3 6 rfl rfl)
theorem dX3_goesOut_78 : decode cX3_goesOut 78 = .ok (.getfield 9, 3) := dk_180 0 9 (dk_at dksX3_goesOut_3 7 rfl rfl)
theorem dX3_goesOut_81 : decode cX3_goesOut 81 = .ok (.iload_n 1, 1) := dk_27 (dk_at dksX3_goesOut_3 10 rfl rfl)
theorem dX3_goesOut_82 : decode cX3_goesOut 82 = .ok (.invokestatic 75, 3) := dk_184 0 75 (dk_at dksX3_goesOut_3 11 rfl rfl)
theorem dX3_goesOut_85 : decode cX3_goesOut 85 = .ok (.iconst 0, 1) := dk_3 (dk_at dksX3_goesOut_3 14 rfl rfl)
theorem dX3_goesOut_86 : decode cX3_goesOut 86 = .ok (.iadd, 1) := dk_96 (dk_at dksX3_goesOut_3 15 rfl rfl)
theorem dX3_goesOut_87 : decode cX3_goesOut 87 = .ok (.iconst 1, 1) := dk_4 (dk_at dksX3_goesOut_3 16 rfl rfl)
theorem dX3_goesOut_88 : decode cX3_goesOut 88 = .ok (.iastore, 1) := dk_79 (dk_at dksX3_goesOut_3 17 rfl rfl)
theorem dX3_goesOut_89 : decode cX3_goesOut 89 = .ok (.aload_n 0, 1) := dk_42 (dk_at dksX3_goesOut_3 18 rfl rfl)
theorem dX3_goesOut_90 : decode cX3_goesOut 90 = .ok (.getfield 9, 3) := dk_180 0 9 (dk_at dksX3_goesOut_3 19 rfl rfl)
theorem dX3_goesOut_93 : decode cX3_goesOut 93 = .ok (.iload_n 1, 1) := dk_27 (dk_at dksX3_goesOut_3 22 rfl rfl)
theorem dX3_goesOut_94 : decode cX3_goesOut 94 = .ok (.invokestatic 75, 3) := dk_184 0 75 (dk_at dksX3_goesOut_4 0 rfl rfl)
theorem dX3_goesOut_97 : decode cX3_goesOut 97 = .ok (.iconst 1, 1) := dk_4 (dk_at dksX3_goesOut_4 3 rfl rfl)
theorem dX3_goesOut_98 : decode cX3_goesOut 98 = .ok (.iadd, 1) := dk_96 (dk_at dksX3_goesOut_4 4 rfl rfl)
theorem dX3_goesOut_99 : decode cX3_goesOut 99 = .ok (.iload_n 3, 1) := dk_29 (dk_at dksX3_goesOut_4 5 rfl rfl)
theorem dX3_goesOut_100 : decode cX3_goesOut 100 = .ok (.iastore, 1) := dk_79 (dk_at dksX3_goesOut_4 6 rfl rfl)
theorem dX3_goesOut_101 : decode cX3_goesOut 101 = .ok (.aload_n 0, 1) := dk_42 (dk_at dksX3_goesOut_4 7 rfl rfl)
theorem dX3_goesOut_102 : decode cX3_goesOut 102 = .ok (.getfield 32, 3) := dk_180 0 32 (dk_at dksX3_goesOut_4 8 rfl rfl)
theorem dX3_goesOut_105 : decode cX3_goesOut 105 = .ok (.iload_n 3, 1) := dk_29 (dk_at dksX3_goesOut_4 11 rfl rfl)
theorem dX3_goesOut_106 : decode cX3_goesOut 106 = .ok (.dup2, 1) := dk_92 (dk_at dksX3_goesOut_4 12 rfl rfl)
theorem dX3_goesOut_107 : decode cX3_goesOut 107 = .ok (.iaload, 1) := dk_46 (dk_at dksX3_goesOut_4 13 rfl rfl)
theorem dX3_goesOut_108 : decode cX3_goesOut 108 = .ok (.iconst 1, 1) := dk_4 (dk_at dksX3_goesOut_4 14 rfl rfl)
theorem dX3_goesOut_109 : decode cX3_goesOut 109 = .ok (.iadd, 1) := dk_96 (dk_at dksX3_goesOut_4 15 rfl rfl)
theorem dX3_goesOut_110 : decode cX3_goesOut 110 = .ok (.iastore, 1) := dk_79 (dk_at dksX3_goesOut_4 16 rfl rfl)
theorem dX3_goesOut_111 : decode cX3_goesOut 111 = .ok (.goto 9, 3) := dk_167 0 9 (dk_at dksX3_goesOut_4 17 rfl rfl)
theorem dX3_goesOut_114 : decode cX3_goesOut 114 = .ok (.aload_n 0, 1) := dk_42 (dk_at dksX3_goesOut_4 20 rfl rfl)
theorem dX3_goesOut_115 : decode cX3_goesOut 115 = .ok (.iload_n 1, 1) := dk_27 (dk_at dksX3_goesOut_4 21 rfl rfl)
theorem dX3_goesOut_116 : decode cX3_goesOut 116 = .ok (.iload_n 3, 1) := dk_29 (dk_at dksX3_goesOut_4 22 rfl rfl)
theorem dX3_goesOut_117 : decode cX3_goesOut 117 = .ok (.invokevirtual 151, 3) := dk_182 0 151 (dk_at dksX3_goesOut_5 0 rfl rfl)
theorem dX3_goesOut_120 : decode cX3_goesOut 120 = .ok (.iinc 4 1, 3) := dk_132 4 1 (dk_at dksX3_goesOut_5 3 rfl rfl)
theorem dX3_goesOut_123 : decode cX3_goesOut 123 = .ok (.goto (-99), 3) := dk_167 255 157 (dk_at dksX3_goesOut_5 6 rfl rfl)
theorem dX3_goesOut_126 : decode cX3_goesOut 126 = .ok (.return_, 1) := dk_177 (dk_at dksX3_goesOut_5 9 rfl rfl)
abbrev cX3_waysOf : ByteArray := prog_11_method_33_code
def yX3_waysOf : MethodName := ⟨RX3, "waysOf", "(I)I"⟩
def dkwX3_waysOf_0 : List UInt8 := [4, 26, 5, 108, 6, 112, 96, 172]
abbrev dktX3_waysOf_0 : List UInt8 := dkwX3_waysOf_0 ++ []
theorem dksX3_waysOf_0 : cX3_waysOf.data.toList.drop 0 = dktX3_waysOf_0 := by decide +kernel
theorem dX3_waysOf_0 : decode cX3_waysOf 0 = .ok (.iconst 1, 1) := dk_4 (dk_at dksX3_waysOf_0 0 rfl rfl)
theorem dX3_waysOf_1 : decode cX3_waysOf 1 = .ok (.iload_n 0, 1) := dk_26 (dk_at dksX3_waysOf_0 1 rfl rfl)
theorem dX3_waysOf_2 : decode cX3_waysOf 2 = .ok (.iconst 2, 1) := dk_5 (dk_at dksX3_waysOf_0 2 rfl rfl)
theorem dX3_waysOf_3 : decode cX3_waysOf 3 = .ok (.idiv, 1) := dk_108 (dk_at dksX3_waysOf_0 3 rfl rfl)
theorem dX3_waysOf_4 : decode cX3_waysOf 4 = .ok (.iconst 3, 1) := dk_6 (dk_at dksX3_waysOf_0 4 rfl rfl)
theorem dX3_waysOf_5 : decode cX3_waysOf 5 = .ok (.irem, 1) := dk_112 (dk_at dksX3_waysOf_0 5 rfl rfl)
theorem dX3_waysOf_6 : decode cX3_waysOf 6 = .ok (.iadd, 1) := dk_96 (dk_at dksX3_waysOf_0 6 rfl rfl)
theorem dX3_waysOf_7 : decode cX3_waysOf 7 = .ok (.ireturn, 1) := dk_172 (dk_at dksX3_waysOf_0 7 rfl rfl)
abbrev cX3_sideOf : ByteArray := prog_11_method_32_code
def yX3_sideOf : MethodName := ⟨RX3, "sideOf", "(I)I"⟩
def dkwX3_sideOf_0 : List UInt8 := [26, 5, 112, 154, 0, 7, 4, 167, 0, 4, 2, 172]
abbrev dktX3_sideOf_0 : List UInt8 := dkwX3_sideOf_0 ++ []
theorem dksX3_sideOf_0 : cX3_sideOf.data.toList.drop 0 = dktX3_sideOf_0 := by decide +kernel
theorem dX3_sideOf_0 : decode cX3_sideOf 0 = .ok (.iload_n 0, 1) := dk_26 (dk_at dksX3_sideOf_0 0 rfl rfl)
theorem dX3_sideOf_1 : decode cX3_sideOf 1 = .ok (.iconst 2, 1) := dk_5 (dk_at dksX3_sideOf_0 1 rfl rfl)
theorem dX3_sideOf_2 : decode cX3_sideOf 2 = .ok (.irem, 1) := dk_112 (dk_at dksX3_sideOf_0 2 rfl rfl)
theorem dX3_sideOf_3 : decode cX3_sideOf 3 = .ok (.ifCond .ne 7, 3) := dk_154 0 7 (dk_at dksX3_sideOf_0 3 rfl rfl)
theorem dX3_sideOf_6 : decode cX3_sideOf 6 = .ok (.iconst 1, 1) := dk_4 (dk_at dksX3_sideOf_0 6 rfl rfl)
theorem dX3_sideOf_7 : decode cX3_sideOf 7 = .ok (.goto 4, 3) := dk_167 0 4 (dk_at dksX3_sideOf_0 7 rfl rfl)
theorem dX3_sideOf_10 : decode cX3_sideOf 10 = .ok (.iconst (-1), 1) := dk_2 (dk_at dksX3_sideOf_0 10 rfl rfl)
theorem dX3_sideOf_11 : decode cX3_sideOf 11 = .ok (.ireturn, 1) := dk_172 (dk_at dksX3_sideOf_0 11 rfl rfl)
abbrev cX3_isKilledAt : ByteArray := prog_11_method_34_code
def yX3_isKilledAt : MethodName := ⟨RX3, "isKilledAt", "(I)Z"⟩
def dkwX3_isKilledAt_2 : List UInt8 := [42, 180, 0, 9, 28, 6, 96, 46, 6, 112, 154, 0, 7, 4, 167, 0, 4, 3, 172]
abbrev dktX3_isKilledAt_2 : List UInt8 := dkwX3_isKilledAt_2 ++ []
def dkwX3_isKilledAt_1 : List UInt8 := [42, 180, 0, 9, 28, 6, 96, 92, 46, 4, 96, 79, 42, 180, 0, 9, 28, 7, 96, 46, 4, 160, 0, 20]
abbrev dktX3_isKilledAt_1 : List UInt8 := dkwX3_isKilledAt_1 ++ dktX3_isKilledAt_2
def dkwX3_isKilledAt_0 : List UInt8 := [27, 184, 0, 86, 61, 42, 180, 0, 9, 6, 46, 42, 180, 0, 9, 28, 4, 96, 46, 162, 0, 5, 3, 172]
abbrev dktX3_isKilledAt_0 : List UInt8 := dkwX3_isKilledAt_0 ++ dktX3_isKilledAt_1
theorem dksX3_isKilledAt_0 : cX3_isKilledAt.data.toList.drop 0 = dktX3_isKilledAt_0 := by decide +kernel
theorem dksX3_isKilledAt_1 : cX3_isKilledAt.data.toList.drop 24 = dktX3_isKilledAt_1 := dk_seg dksX3_isKilledAt_0 24 rfl rfl
theorem dksX3_isKilledAt_2 : cX3_isKilledAt.data.toList.drop 48 = dktX3_isKilledAt_2 := dk_seg dksX3_isKilledAt_1 24 rfl rfl
theorem dX3_isKilledAt_0 : decode cX3_isKilledAt 0 = .ok (.iload_n 1, 1) := dk_27 (dk_at dksX3_isKilledAt_0 0 rfl rfl)
theorem dX3_isKilledAt_1 : decode cX3_isKilledAt 1 = .ok (.invokestatic 86, 3) := dk_184 0 86 (dk_at dksX3_isKilledAt_0 1 rfl rfl)
theorem dX3_isKilledAt_4 : decode cX3_isKilledAt 4 = .ok (.istore_n 2, 1) := dk_61 (dk_at dksX3_isKilledAt_0 4 rfl rfl)
theorem dX3_isKilledAt_5 : decode cX3_isKilledAt 5 = .ok (.aload_n 0, 1) := dk_42 (dk_at dksX3_isKilledAt_0 5 rfl rfl)
theorem dX3_isKilledAt_6 : decode cX3_isKilledAt 6 = .ok (.getfield 9, 3) := dk_180 0 9 (dk_at dksX3_isKilledAt_0 6 rfl rfl)
theorem dX3_isKilledAt_9 : decode cX3_isKilledAt 9 = .ok (.iconst 3, 1) := dk_6 (dk_at dksX3_isKilledAt_0 9 rfl rfl)
theorem dX3_isKilledAt_10 : decode cX3_isKilledAt 10 = .ok (.iaload, 1) := dk_46 (dk_at dksX3_isKilledAt_0 10 rfl rfl)
theorem dX3_isKilledAt_11 : decode cX3_isKilledAt 11 = .ok (.aload_n 0, 1) := dk_42 (dk_at dksX3_isKilledAt_0 11 rfl rfl)
theorem dX3_isKilledAt_12 : decode cX3_isKilledAt 12 = .ok (.getfield 9, 3) := dk_180 0 9 (dk_at dksX3_isKilledAt_0 12 rfl rfl)
theorem dX3_isKilledAt_15 : decode cX3_isKilledAt 15 = .ok (.iload_n 2, 1) := dk_28 (dk_at dksX3_isKilledAt_0 15 rfl rfl)
theorem dX3_isKilledAt_16 : decode cX3_isKilledAt 16 = .ok (.iconst 1, 1) := dk_4 (dk_at dksX3_isKilledAt_0 16 rfl rfl)
theorem dX3_isKilledAt_17 : decode cX3_isKilledAt 17 = .ok (.iadd, 1) := dk_96 (dk_at dksX3_isKilledAt_0 17 rfl rfl)
theorem dX3_isKilledAt_18 : decode cX3_isKilledAt 18 = .ok (.iaload, 1) := dk_46 (dk_at dksX3_isKilledAt_0 18 rfl rfl)
theorem dX3_isKilledAt_19 : decode cX3_isKilledAt 19 = .ok (.if_icmp .ge 5, 3) := dk_162 0 5 (dk_at dksX3_isKilledAt_0 19 rfl rfl)
theorem dX3_isKilledAt_22 : decode cX3_isKilledAt 22 = .ok (.iconst 0, 1) := dk_3 (dk_at dksX3_isKilledAt_0 22 rfl rfl)
theorem dX3_isKilledAt_23 : decode cX3_isKilledAt 23 = .ok (.ireturn, 1) := dk_172 (dk_at dksX3_isKilledAt_0 23 rfl rfl)
theorem dX3_isKilledAt_24 : decode cX3_isKilledAt 24 = .ok (.aload_n 0, 1) := dk_42 (dk_at dksX3_isKilledAt_1 0 rfl rfl)
theorem dX3_isKilledAt_25 : decode cX3_isKilledAt 25 = .ok (.getfield 9, 3) := dk_180 0 9 (dk_at dksX3_isKilledAt_1 1 rfl rfl)
theorem dX3_isKilledAt_28 : decode cX3_isKilledAt 28 = .ok (.iload_n 2, 1) := dk_28 (dk_at dksX3_isKilledAt_1 4 rfl rfl)
theorem dX3_isKilledAt_29 : decode cX3_isKilledAt 29 = .ok (.iconst 3, 1) := dk_6 (dk_at dksX3_isKilledAt_1 5 rfl rfl)
theorem dX3_isKilledAt_30 : decode cX3_isKilledAt 30 = .ok (.iadd, 1) := dk_96 (dk_at dksX3_isKilledAt_1 6 rfl rfl)
theorem dX3_isKilledAt_31 : decode cX3_isKilledAt 31 = .ok (.dup2, 1) := dk_92 (dk_at dksX3_isKilledAt_1 7 rfl rfl)
theorem dX3_isKilledAt_32 : decode cX3_isKilledAt 32 = .ok (.iaload, 1) := dk_46 (dk_at dksX3_isKilledAt_1 8 rfl rfl)
theorem dX3_isKilledAt_33 : decode cX3_isKilledAt 33 = .ok (.iconst 1, 1) := dk_4 (dk_at dksX3_isKilledAt_1 9 rfl rfl)
theorem dX3_isKilledAt_34 : decode cX3_isKilledAt 34 = .ok (.iadd, 1) := dk_96 (dk_at dksX3_isKilledAt_1 10 rfl rfl)
theorem dX3_isKilledAt_35 : decode cX3_isKilledAt 35 = .ok (.iastore, 1) := dk_79 (dk_at dksX3_isKilledAt_1 11 rfl rfl)
theorem dX3_isKilledAt_36 : decode cX3_isKilledAt 36 = .ok (.aload_n 0, 1) := dk_42 (dk_at dksX3_isKilledAt_1 12 rfl rfl)
theorem dX3_isKilledAt_37 : decode cX3_isKilledAt 37 = .ok (.getfield 9, 3) := dk_180 0 9 (dk_at dksX3_isKilledAt_1 13 rfl rfl)
theorem dX3_isKilledAt_40 : decode cX3_isKilledAt 40 = .ok (.iload_n 2, 1) := dk_28 (dk_at dksX3_isKilledAt_1 16 rfl rfl)
theorem dX3_isKilledAt_41 : decode cX3_isKilledAt 41 = .ok (.iconst 4, 1) := dk_7 (dk_at dksX3_isKilledAt_1 17 rfl rfl)
theorem dX3_isKilledAt_42 : decode cX3_isKilledAt 42 = .ok (.iadd, 1) := dk_96 (dk_at dksX3_isKilledAt_1 18 rfl rfl)
theorem dX3_isKilledAt_43 : decode cX3_isKilledAt 43 = .ok (.iaload, 1) := dk_46 (dk_at dksX3_isKilledAt_1 19 rfl rfl)
theorem dX3_isKilledAt_44 : decode cX3_isKilledAt 44 = .ok (.iconst 1, 1) := dk_4 (dk_at dksX3_isKilledAt_1 20 rfl rfl)
theorem dX3_isKilledAt_45 : decode cX3_isKilledAt 45 = .ok (.if_icmp .ne 20, 3) := dk_160 0 20 (dk_at dksX3_isKilledAt_1 21 rfl rfl)
theorem dX3_isKilledAt_48 : decode cX3_isKilledAt 48 = .ok (.aload_n 0, 1) := dk_42 (dk_at dksX3_isKilledAt_2 0 rfl rfl)
theorem dX3_isKilledAt_49 : decode cX3_isKilledAt 49 = .ok (.getfield 9, 3) := dk_180 0 9 (dk_at dksX3_isKilledAt_2 1 rfl rfl)
theorem dX3_isKilledAt_52 : decode cX3_isKilledAt 52 = .ok (.iload_n 2, 1) := dk_28 (dk_at dksX3_isKilledAt_2 4 rfl rfl)
theorem dX3_isKilledAt_53 : decode cX3_isKilledAt 53 = .ok (.iconst 3, 1) := dk_6 (dk_at dksX3_isKilledAt_2 5 rfl rfl)
theorem dX3_isKilledAt_54 : decode cX3_isKilledAt 54 = .ok (.iadd, 1) := dk_96 (dk_at dksX3_isKilledAt_2 6 rfl rfl)
theorem dX3_isKilledAt_55 : decode cX3_isKilledAt 55 = .ok (.iaload, 1) := dk_46 (dk_at dksX3_isKilledAt_2 7 rfl rfl)
theorem dX3_isKilledAt_56 : decode cX3_isKilledAt 56 = .ok (.iconst 3, 1) := dk_6 (dk_at dksX3_isKilledAt_2 8 rfl rfl)
theorem dX3_isKilledAt_57 : decode cX3_isKilledAt 57 = .ok (.irem, 1) := dk_112 (dk_at dksX3_isKilledAt_2 9 rfl rfl)
theorem dX3_isKilledAt_58 : decode cX3_isKilledAt 58 = .ok (.ifCond .ne 7, 3) := dk_154 0 7 (dk_at dksX3_isKilledAt_2 10 rfl rfl)
theorem dX3_isKilledAt_61 : decode cX3_isKilledAt 61 = .ok (.iconst 1, 1) := dk_4 (dk_at dksX3_isKilledAt_2 13 rfl rfl)
theorem dX3_isKilledAt_62 : decode cX3_isKilledAt 62 = .ok (.goto 4, 3) := dk_167 0 4 (dk_at dksX3_isKilledAt_2 14 rfl rfl)
theorem dX3_isKilledAt_65 : decode cX3_isKilledAt 65 = .ok (.iconst 0, 1) := dk_3 (dk_at dksX3_isKilledAt_2 17 rfl rfl)
theorem dX3_isKilledAt_66 : decode cX3_isKilledAt 66 = .ok (.ireturn, 1) := dk_172 (dk_at dksX3_isKilledAt_2 18 rfl rfl)
abbrev cX3_leavesSpraint : ByteArray := prog_11_method_35_code
def yX3_leavesSpraint : MethodName := ⟨RX3, "leavesSpraint", "(II)V"⟩
def dkwX3_leavesSpraint_2 : List UInt8 := [180, 0, 9, 16, 8, 92, 46, 4, 96, 79, 177]
abbrev dktX3_leavesSpraint_2 : List UInt8 := dkwX3_leavesSpraint_2 ++ []
def dkwX3_leavesSpraint_1 : List UInt8 := [5, 96, 92, 46, 4, 96, 79, 42, 180, 0, 9, 27, 184, 0, 75, 6, 96, 92, 46, 4, 96, 79, 42]
abbrev dktX3_leavesSpraint_1 : List UInt8 := dkwX3_leavesSpraint_1 ++ dktX3_leavesSpraint_2
def dkwX3_leavesSpraint_0 : List UInt8 := [42, 180, 0, 9, 28, 184, 0, 86, 5, 96, 46, 16, 99, 162, 0, 44, 42, 180, 0, 9, 28, 184, 0, 86]
abbrev dktX3_leavesSpraint_0 : List UInt8 := dkwX3_leavesSpraint_0 ++ dktX3_leavesSpraint_1
theorem dksX3_leavesSpraint_0 : cX3_leavesSpraint.data.toList.drop 0 = dktX3_leavesSpraint_0 := by decide +kernel
theorem dksX3_leavesSpraint_1 : cX3_leavesSpraint.data.toList.drop 24 = dktX3_leavesSpraint_1 := dk_seg dksX3_leavesSpraint_0 24 rfl rfl
theorem dksX3_leavesSpraint_2 : cX3_leavesSpraint.data.toList.drop 47 = dktX3_leavesSpraint_2 := dk_seg dksX3_leavesSpraint_1 23 rfl rfl
theorem dX3_leavesSpraint_0 : decode cX3_leavesSpraint 0 = .ok (.aload_n 0, 1) := dk_42 (dk_at dksX3_leavesSpraint_0 0 rfl rfl)
theorem dX3_leavesSpraint_1 : decode cX3_leavesSpraint 1 = .ok (.getfield 9, 3) := dk_180 0 9 (dk_at dksX3_leavesSpraint_0 1 rfl rfl)
theorem dX3_leavesSpraint_4 : decode cX3_leavesSpraint 4 = .ok (.iload_n 2, 1) := dk_28 (dk_at dksX3_leavesSpraint_0 4 rfl rfl)
theorem dX3_leavesSpraint_5 : decode cX3_leavesSpraint 5 = .ok (.invokestatic 86, 3) := dk_184 0 86 (dk_at dksX3_leavesSpraint_0 5 rfl rfl)
theorem dX3_leavesSpraint_8 : decode cX3_leavesSpraint 8 = .ok (.iconst 2, 1) := dk_5 (dk_at dksX3_leavesSpraint_0 8 rfl rfl)
theorem dX3_leavesSpraint_9 : decode cX3_leavesSpraint 9 = .ok (.iadd, 1) := dk_96 (dk_at dksX3_leavesSpraint_0 9 rfl rfl)
theorem dX3_leavesSpraint_10 : decode cX3_leavesSpraint 10 = .ok (.iaload, 1) := dk_46 (dk_at dksX3_leavesSpraint_0 10 rfl rfl)
theorem dX3_leavesSpraint_11 : decode cX3_leavesSpraint 11 = .ok (.bipush 99, 2) := dk_16 99 (dk_at dksX3_leavesSpraint_0 11 rfl rfl)
theorem dX3_leavesSpraint_13 : decode cX3_leavesSpraint 13 = .ok (.if_icmp .ge 44, 3) := dk_162 0 44 (dk_at dksX3_leavesSpraint_0 13 rfl rfl)
theorem dX3_leavesSpraint_16 : decode cX3_leavesSpraint 16 = .ok (.aload_n 0, 1) := dk_42 (dk_at dksX3_leavesSpraint_0 16 rfl rfl)
theorem dX3_leavesSpraint_17 : decode cX3_leavesSpraint 17 = .ok (.getfield 9, 3) := dk_180 0 9 (dk_at dksX3_leavesSpraint_0 17 rfl rfl)
theorem dX3_leavesSpraint_20 : decode cX3_leavesSpraint 20 = .ok (.iload_n 2, 1) := dk_28 (dk_at dksX3_leavesSpraint_0 20 rfl rfl)
theorem dX3_leavesSpraint_21 : decode cX3_leavesSpraint 21 = .ok (.invokestatic 86, 3) := dk_184 0 86 (dk_at dksX3_leavesSpraint_0 21 rfl rfl)
theorem dX3_leavesSpraint_24 : decode cX3_leavesSpraint 24 = .ok (.iconst 2, 1) := dk_5 (dk_at dksX3_leavesSpraint_1 0 rfl rfl)
theorem dX3_leavesSpraint_25 : decode cX3_leavesSpraint 25 = .ok (.iadd, 1) := dk_96 (dk_at dksX3_leavesSpraint_1 1 rfl rfl)
theorem dX3_leavesSpraint_26 : decode cX3_leavesSpraint 26 = .ok (.dup2, 1) := dk_92 (dk_at dksX3_leavesSpraint_1 2 rfl rfl)
theorem dX3_leavesSpraint_27 : decode cX3_leavesSpraint 27 = .ok (.iaload, 1) := dk_46 (dk_at dksX3_leavesSpraint_1 3 rfl rfl)
theorem dX3_leavesSpraint_28 : decode cX3_leavesSpraint 28 = .ok (.iconst 1, 1) := dk_4 (dk_at dksX3_leavesSpraint_1 4 rfl rfl)
theorem dX3_leavesSpraint_29 : decode cX3_leavesSpraint 29 = .ok (.iadd, 1) := dk_96 (dk_at dksX3_leavesSpraint_1 5 rfl rfl)
theorem dX3_leavesSpraint_30 : decode cX3_leavesSpraint 30 = .ok (.iastore, 1) := dk_79 (dk_at dksX3_leavesSpraint_1 6 rfl rfl)
theorem dX3_leavesSpraint_31 : decode cX3_leavesSpraint 31 = .ok (.aload_n 0, 1) := dk_42 (dk_at dksX3_leavesSpraint_1 7 rfl rfl)
theorem dX3_leavesSpraint_32 : decode cX3_leavesSpraint 32 = .ok (.getfield 9, 3) := dk_180 0 9 (dk_at dksX3_leavesSpraint_1 8 rfl rfl)
theorem dX3_leavesSpraint_35 : decode cX3_leavesSpraint 35 = .ok (.iload_n 1, 1) := dk_27 (dk_at dksX3_leavesSpraint_1 11 rfl rfl)
theorem dX3_leavesSpraint_36 : decode cX3_leavesSpraint 36 = .ok (.invokestatic 75, 3) := dk_184 0 75 (dk_at dksX3_leavesSpraint_1 12 rfl rfl)
theorem dX3_leavesSpraint_39 : decode cX3_leavesSpraint 39 = .ok (.iconst 3, 1) := dk_6 (dk_at dksX3_leavesSpraint_1 15 rfl rfl)
theorem dX3_leavesSpraint_40 : decode cX3_leavesSpraint 40 = .ok (.iadd, 1) := dk_96 (dk_at dksX3_leavesSpraint_1 16 rfl rfl)
theorem dX3_leavesSpraint_41 : decode cX3_leavesSpraint 41 = .ok (.dup2, 1) := dk_92 (dk_at dksX3_leavesSpraint_1 17 rfl rfl)
theorem dX3_leavesSpraint_42 : decode cX3_leavesSpraint 42 = .ok (.iaload, 1) := dk_46 (dk_at dksX3_leavesSpraint_1 18 rfl rfl)
theorem dX3_leavesSpraint_43 : decode cX3_leavesSpraint 43 = .ok (.iconst 1, 1) := dk_4 (dk_at dksX3_leavesSpraint_1 19 rfl rfl)
theorem dX3_leavesSpraint_44 : decode cX3_leavesSpraint 44 = .ok (.iadd, 1) := dk_96 (dk_at dksX3_leavesSpraint_1 20 rfl rfl)
theorem dX3_leavesSpraint_45 : decode cX3_leavesSpraint 45 = .ok (.iastore, 1) := dk_79 (dk_at dksX3_leavesSpraint_1 21 rfl rfl)
theorem dX3_leavesSpraint_46 : decode cX3_leavesSpraint 46 = .ok (.aload_n 0, 1) := dk_42 (dk_at dksX3_leavesSpraint_1 22 rfl rfl)
theorem dX3_leavesSpraint_47 : decode cX3_leavesSpraint 47 = .ok (.getfield 9, 3) := dk_180 0 9 (dk_at dksX3_leavesSpraint_2 0 rfl rfl)
theorem dX3_leavesSpraint_50 : decode cX3_leavesSpraint 50 = .ok (.bipush 8, 2) := dk_16 8 (dk_at dksX3_leavesSpraint_2 3 rfl rfl)
theorem dX3_leavesSpraint_52 : decode cX3_leavesSpraint 52 = .ok (.dup2, 1) := dk_92 (dk_at dksX3_leavesSpraint_2 5 rfl rfl)
theorem dX3_leavesSpraint_53 : decode cX3_leavesSpraint 53 = .ok (.iaload, 1) := dk_46 (dk_at dksX3_leavesSpraint_2 6 rfl rfl)
theorem dX3_leavesSpraint_54 : decode cX3_leavesSpraint 54 = .ok (.iconst 1, 1) := dk_4 (dk_at dksX3_leavesSpraint_2 7 rfl rfl)
theorem dX3_leavesSpraint_55 : decode cX3_leavesSpraint 55 = .ok (.iadd, 1) := dk_96 (dk_at dksX3_leavesSpraint_2 8 rfl rfl)
theorem dX3_leavesSpraint_56 : decode cX3_leavesSpraint 56 = .ok (.iastore, 1) := dk_79 (dk_at dksX3_leavesSpraint_2 9 rfl rfl)
theorem dX3_leavesSpraint_57 : decode cX3_leavesSpraint 57 = .ok (.return_, 1) := dk_177 (dk_at dksX3_leavesSpraint_2 10 rfl rfl)
abbrev cX3_washes : ByteArray := prog_11_method_37_code
def yX3_washes : MethodName := ⟨RX3, "washes", "()V"⟩
def dkwX3_washes_2 : List UInt8 := [5, 108, 100, 96, 79, 132, 1, 1, 167, 255, 202, 177]
abbrev dktX3_washes_2 : List UInt8 := dkwX3_washes_2 ++ []
def dkwX3_washes_1 : List UInt8 := [42, 180, 0, 9, 27, 184, 0, 86, 5, 96, 28, 5, 108, 79, 42, 180, 0, 9, 16, 10, 92, 46, 28, 28]
abbrev dktX3_washes_1 : List UInt8 := dkwX3_washes_1 ++ dktX3_washes_2
def dkwX3_washes_0 : List UInt8 := [3, 60, 27, 42, 180, 0, 9, 3, 46, 162, 0, 50, 42, 180, 0, 9, 27, 184, 0, 86, 5, 96, 46, 61]
abbrev dktX3_washes_0 : List UInt8 := dkwX3_washes_0 ++ dktX3_washes_1
theorem dksX3_washes_0 : cX3_washes.data.toList.drop 0 = dktX3_washes_0 := by decide +kernel
theorem dksX3_washes_1 : cX3_washes.data.toList.drop 24 = dktX3_washes_1 := dk_seg dksX3_washes_0 24 rfl rfl
theorem dksX3_washes_2 : cX3_washes.data.toList.drop 48 = dktX3_washes_2 := dk_seg dksX3_washes_1 24 rfl rfl
theorem dX3_washes_0 : decode cX3_washes 0 = .ok (.iconst 0, 1) := dk_3 (dk_at dksX3_washes_0 0 rfl rfl)
theorem dX3_washes_1 : decode cX3_washes 1 = .ok (.istore_n 1, 1) := dk_60 (dk_at dksX3_washes_0 1 rfl rfl)
theorem dX3_washes_2 : decode cX3_washes 2 = .ok (.iload_n 1, 1) := dk_27 (dk_at dksX3_washes_0 2 rfl rfl)
theorem dX3_washes_3 : decode cX3_washes 3 = .ok (.aload_n 0, 1) := dk_42 (dk_at dksX3_washes_0 3 rfl rfl)
theorem dX3_washes_4 : decode cX3_washes 4 = .ok (.getfield 9, 3) := dk_180 0 9 (dk_at dksX3_washes_0 4 rfl rfl)
theorem dX3_washes_7 : decode cX3_washes 7 = .ok (.iconst 0, 1) := dk_3 (dk_at dksX3_washes_0 7 rfl rfl)
theorem dX3_washes_8 : decode cX3_washes 8 = .ok (.iaload, 1) := dk_46 (dk_at dksX3_washes_0 8 rfl rfl)
theorem dX3_washes_9 : decode cX3_washes 9 = .ok (.if_icmp .ge 50, 3) := dk_162 0 50 (dk_at dksX3_washes_0 9 rfl rfl)
theorem dX3_washes_12 : decode cX3_washes 12 = .ok (.aload_n 0, 1) := dk_42 (dk_at dksX3_washes_0 12 rfl rfl)
theorem dX3_washes_13 : decode cX3_washes 13 = .ok (.getfield 9, 3) := dk_180 0 9 (dk_at dksX3_washes_0 13 rfl rfl)
theorem dX3_washes_16 : decode cX3_washes 16 = .ok (.iload_n 1, 1) := dk_27 (dk_at dksX3_washes_0 16 rfl rfl)
theorem dX3_washes_17 : decode cX3_washes 17 = .ok (.invokestatic 86, 3) := dk_184 0 86 (dk_at dksX3_washes_0 17 rfl rfl)
theorem dX3_washes_20 : decode cX3_washes 20 = .ok (.iconst 2, 1) := dk_5 (dk_at dksX3_washes_0 20 rfl rfl)
theorem dX3_washes_21 : decode cX3_washes 21 = .ok (.iadd, 1) := dk_96 (dk_at dksX3_washes_0 21 rfl rfl)
theorem dX3_washes_22 : decode cX3_washes 22 = .ok (.iaload, 1) := dk_46 (dk_at dksX3_washes_0 22 rfl rfl)
theorem dX3_washes_23 : decode cX3_washes 23 = .ok (.istore_n 2, 1) := dk_61 (dk_at dksX3_washes_0 23 rfl rfl)
theorem dX3_washes_24 : decode cX3_washes 24 = .ok (.aload_n 0, 1) := dk_42 (dk_at dksX3_washes_1 0 rfl rfl)
theorem dX3_washes_25 : decode cX3_washes 25 = .ok (.getfield 9, 3) := dk_180 0 9 (dk_at dksX3_washes_1 1 rfl rfl)
theorem dX3_washes_28 : decode cX3_washes 28 = .ok (.iload_n 1, 1) := dk_27 (dk_at dksX3_washes_1 4 rfl rfl)
theorem dX3_washes_29 : decode cX3_washes 29 = .ok (.invokestatic 86, 3) := dk_184 0 86 (dk_at dksX3_washes_1 5 rfl rfl)
theorem dX3_washes_32 : decode cX3_washes 32 = .ok (.iconst 2, 1) := dk_5 (dk_at dksX3_washes_1 8 rfl rfl)
theorem dX3_washes_33 : decode cX3_washes 33 = .ok (.iadd, 1) := dk_96 (dk_at dksX3_washes_1 9 rfl rfl)
theorem dX3_washes_34 : decode cX3_washes 34 = .ok (.iload_n 2, 1) := dk_28 (dk_at dksX3_washes_1 10 rfl rfl)
theorem dX3_washes_35 : decode cX3_washes 35 = .ok (.iconst 2, 1) := dk_5 (dk_at dksX3_washes_1 11 rfl rfl)
theorem dX3_washes_36 : decode cX3_washes 36 = .ok (.idiv, 1) := dk_108 (dk_at dksX3_washes_1 12 rfl rfl)
theorem dX3_washes_37 : decode cX3_washes 37 = .ok (.iastore, 1) := dk_79 (dk_at dksX3_washes_1 13 rfl rfl)
theorem dX3_washes_38 : decode cX3_washes 38 = .ok (.aload_n 0, 1) := dk_42 (dk_at dksX3_washes_1 14 rfl rfl)
theorem dX3_washes_39 : decode cX3_washes 39 = .ok (.getfield 9, 3) := dk_180 0 9 (dk_at dksX3_washes_1 15 rfl rfl)
theorem dX3_washes_42 : decode cX3_washes 42 = .ok (.bipush 10, 2) := dk_16 10 (dk_at dksX3_washes_1 18 rfl rfl)
theorem dX3_washes_44 : decode cX3_washes 44 = .ok (.dup2, 1) := dk_92 (dk_at dksX3_washes_1 20 rfl rfl)
theorem dX3_washes_45 : decode cX3_washes 45 = .ok (.iaload, 1) := dk_46 (dk_at dksX3_washes_1 21 rfl rfl)
theorem dX3_washes_46 : decode cX3_washes 46 = .ok (.iload_n 2, 1) := dk_28 (dk_at dksX3_washes_1 22 rfl rfl)
theorem dX3_washes_47 : decode cX3_washes 47 = .ok (.iload_n 2, 1) := dk_28 (dk_at dksX3_washes_1 23 rfl rfl)
theorem dX3_washes_48 : decode cX3_washes 48 = .ok (.iconst 2, 1) := dk_5 (dk_at dksX3_washes_2 0 rfl rfl)
theorem dX3_washes_49 : decode cX3_washes 49 = .ok (.idiv, 1) := dk_108 (dk_at dksX3_washes_2 1 rfl rfl)
theorem dX3_washes_50 : decode cX3_washes 50 = .ok (.isub, 1) := dk_100 (dk_at dksX3_washes_2 2 rfl rfl)
theorem dX3_washes_51 : decode cX3_washes 51 = .ok (.iadd, 1) := dk_96 (dk_at dksX3_washes_2 3 rfl rfl)
theorem dX3_washes_52 : decode cX3_washes 52 = .ok (.iastore, 1) := dk_79 (dk_at dksX3_washes_2 4 rfl rfl)
theorem dX3_washes_53 : decode cX3_washes 53 = .ok (.iinc 1 1, 3) := dk_132 1 1 (dk_at dksX3_washes_2 5 rfl rfl)
theorem dX3_washes_56 : decode cX3_washes 56 = .ok (.goto (-54), 3) := dk_167 255 202 (dk_at dksX3_washes_2 8 rfl rfl)
theorem dX3_washes_59 : decode cX3_washes 59 = .ok (.return_, 1) := dk_177 (dk_at dksX3_washes_2 11 rfl rfl)
abbrev cX3_atHolt : ByteArray := prog_11_method_42_code
def yX3_atHolt : MethodName := ⟨RX3, "atHolt", "(I)V"⟩
def dkwX3_atHolt_9 : List UInt8 := [96, 79, 42, 180, 0, 35, 27, 4, 84, 177]
abbrev dktX3_atHolt_9 : List UInt8 := dkwX3_atHolt_9 ++ []
def dkwX3_atHolt_8 : List UInt8 := [28, 16, 8, 96, 21, 4, 79, 42, 180, 0, 9, 16, 6, 92, 46, 42, 180, 0, 9, 28, 16, 6, 96, 46]
abbrev dktX3_atHolt_8 : List UInt8 := dkwX3_atHolt_8 ++ dktX3_atHolt_9
def dkwX3_atHolt_7 : List UInt8 := [96, 184, 0, 177, 79, 42, 180, 0, 9, 28, 16, 7, 96, 42, 180, 0, 9, 8, 46, 79, 42, 180, 0, 9]
abbrev dktX3_atHolt_7 : List UInt8 := dkwX3_atHolt_7 ++ dktX3_atHolt_8
def dkwX3_atHolt_6 : List UInt8 := [46, 21, 4, 159, 0, 78, 42, 180, 0, 9, 28, 16, 6, 96, 6, 4, 42, 27, 182, 0, 112, 16, 12, 108]
abbrev dktX3_atHolt_6 : List UInt8 := dkwX3_atHolt_6 ++ dktX3_atHolt_7
def dkwX3_atHolt_5 : List UInt8 := [184, 0, 71, 153, 0, 102, 42, 27, 182, 0, 112, 16, 15, 161, 0, 92, 42, 180, 0, 9, 28, 16, 8, 96]
abbrev dktX3_atHolt_5 : List UInt8 := dkwX3_atHolt_5 ++ dktX3_atHolt_6
def dkwX3_atHolt_4 : List UInt8 := [17, 1, 104, 108, 54, 4, 29, 5, 160, 0, 119, 42, 182, 0, 170, 133, 20, 0, 173, 20, 0, 175]
abbrev dktX3_atHolt_4 : List UInt8 := dkwX3_atHolt_4 ++ dktX3_atHolt_5
def dkwX3_atHolt_3 : List UInt8 := [16, 7, 96, 46, 100, 17, 0, 200, 161, 0, 8, 42, 27, 182, 0, 166, 177, 42, 180, 0, 9, 8, 46]
abbrev dktX3_atHolt_3 : List UInt8 := dkwX3_atHolt_3 ++ dktX3_atHolt_4
def dkwX3_atHolt_2 : List UInt8 := [180, 0, 9, 28, 16, 6, 96, 3, 79, 167, 0, 30, 42, 180, 0, 9, 8, 46, 42, 180, 0, 9, 28]
abbrev dktX3_atHolt_2 : List UInt8 := dkwX3_atHolt_2 ++ dktX3_atHolt_3
def dkwX3_atHolt_1 : List UInt8 := [154, 0, 35, 42, 180, 0, 9, 16, 7, 92, 46, 42, 180, 0, 9, 28, 16, 6, 96, 46, 96, 79, 42]
abbrev dktX3_atHolt_1 : List UInt8 := dkwX3_atHolt_1 ++ dktX3_atHolt_2
def dkwX3_atHolt_0 : List UInt8 := [27, 184, 0, 86, 61, 42, 27, 182, 0, 109, 62, 42, 180, 0, 9, 28, 16, 6, 96, 46, 158, 0, 67, 29]
abbrev dktX3_atHolt_0 : List UInt8 := dkwX3_atHolt_0 ++ dktX3_atHolt_1
theorem dksX3_atHolt_0 : cX3_atHolt.data.toList.drop 0 = dktX3_atHolt_0 := by decide +kernel
theorem dksX3_atHolt_1 : cX3_atHolt.data.toList.drop 24 = dktX3_atHolt_1 := dk_seg dksX3_atHolt_0 24 rfl rfl
theorem dksX3_atHolt_2 : cX3_atHolt.data.toList.drop 47 = dktX3_atHolt_2 := dk_seg dksX3_atHolt_1 23 rfl rfl
theorem dksX3_atHolt_3 : cX3_atHolt.data.toList.drop 70 = dktX3_atHolt_3 := dk_seg dksX3_atHolt_2 23 rfl rfl
theorem dksX3_atHolt_4 : cX3_atHolt.data.toList.drop 93 = dktX3_atHolt_4 := dk_seg dksX3_atHolt_3 23 rfl rfl
theorem dksX3_atHolt_5 : cX3_atHolt.data.toList.drop 115 = dktX3_atHolt_5 := dk_seg dksX3_atHolt_4 22 rfl rfl
theorem dksX3_atHolt_6 : cX3_atHolt.data.toList.drop 139 = dktX3_atHolt_6 := dk_seg dksX3_atHolt_5 24 rfl rfl
theorem dksX3_atHolt_7 : cX3_atHolt.data.toList.drop 163 = dktX3_atHolt_7 := dk_seg dksX3_atHolt_6 24 rfl rfl
theorem dksX3_atHolt_8 : cX3_atHolt.data.toList.drop 187 = dktX3_atHolt_8 := dk_seg dksX3_atHolt_7 24 rfl rfl
theorem dksX3_atHolt_9 : cX3_atHolt.data.toList.drop 211 = dktX3_atHolt_9 := dk_seg dksX3_atHolt_8 24 rfl rfl
theorem dX3_atHolt_0 : decode cX3_atHolt 0 = .ok (.iload_n 1, 1) := dk_27 (dk_at dksX3_atHolt_0 0 rfl rfl)
theorem dX3_atHolt_1 : decode cX3_atHolt 1 = .ok (.invokestatic 86, 3) := dk_184 0 86 (dk_at dksX3_atHolt_0 1 rfl rfl)
theorem dX3_atHolt_4 : decode cX3_atHolt 4 = .ok (.istore_n 2, 1) := dk_61 (dk_at dksX3_atHolt_0 4 rfl rfl)
theorem dX3_atHolt_5 : decode cX3_atHolt 5 = .ok (.aload_n 0, 1) := dk_42 (dk_at dksX3_atHolt_0 5 rfl rfl)
theorem dX3_atHolt_6 : decode cX3_atHolt 6 = .ok (.iload_n 1, 1) := dk_27 (dk_at dksX3_atHolt_0 6 rfl rfl)
theorem dX3_atHolt_7 : decode cX3_atHolt 7 = .ok (.invokevirtual 109, 3) := dk_182 0 109 (dk_at dksX3_atHolt_0 7 rfl rfl)
theorem dX3_atHolt_10 : decode cX3_atHolt 10 = .ok (.istore_n 3, 1) := dk_62 (dk_at dksX3_atHolt_0 10 rfl rfl)
theorem dX3_atHolt_11 : decode cX3_atHolt 11 = .ok (.aload_n 0, 1) := dk_42 (dk_at dksX3_atHolt_0 11 rfl rfl)
theorem dX3_atHolt_12 : decode cX3_atHolt 12 = .ok (.getfield 9, 3) := dk_180 0 9 (dk_at dksX3_atHolt_0 12 rfl rfl)
theorem dX3_atHolt_15 : decode cX3_atHolt 15 = .ok (.iload_n 2, 1) := dk_28 (dk_at dksX3_atHolt_0 15 rfl rfl)
theorem dX3_atHolt_16 : decode cX3_atHolt 16 = .ok (.bipush 6, 2) := dk_16 6 (dk_at dksX3_atHolt_0 16 rfl rfl)
theorem dX3_atHolt_18 : decode cX3_atHolt 18 = .ok (.iadd, 1) := dk_96 (dk_at dksX3_atHolt_0 18 rfl rfl)
theorem dX3_atHolt_19 : decode cX3_atHolt 19 = .ok (.iaload, 1) := dk_46 (dk_at dksX3_atHolt_0 19 rfl rfl)
theorem dX3_atHolt_20 : decode cX3_atHolt 20 = .ok (.ifCond .le 67, 3) := dk_158 0 67 (dk_at dksX3_atHolt_0 20 rfl rfl)
theorem dX3_atHolt_23 : decode cX3_atHolt 23 = .ok (.iload_n 3, 1) := dk_29 (dk_at dksX3_atHolt_0 23 rfl rfl)
theorem dX3_atHolt_24 : decode cX3_atHolt 24 = .ok (.ifCond .ne 35, 3) := dk_154 0 35 (dk_at dksX3_atHolt_1 0 rfl rfl)
theorem dX3_atHolt_27 : decode cX3_atHolt 27 = .ok (.aload_n 0, 1) := dk_42 (dk_at dksX3_atHolt_1 3 rfl rfl)
theorem dX3_atHolt_28 : decode cX3_atHolt 28 = .ok (.getfield 9, 3) := dk_180 0 9 (dk_at dksX3_atHolt_1 4 rfl rfl)
theorem dX3_atHolt_31 : decode cX3_atHolt 31 = .ok (.bipush 7, 2) := dk_16 7 (dk_at dksX3_atHolt_1 7 rfl rfl)
theorem dX3_atHolt_33 : decode cX3_atHolt 33 = .ok (.dup2, 1) := dk_92 (dk_at dksX3_atHolt_1 9 rfl rfl)
theorem dX3_atHolt_34 : decode cX3_atHolt 34 = .ok (.iaload, 1) := dk_46 (dk_at dksX3_atHolt_1 10 rfl rfl)
theorem dX3_atHolt_35 : decode cX3_atHolt 35 = .ok (.aload_n 0, 1) := dk_42 (dk_at dksX3_atHolt_1 11 rfl rfl)
theorem dX3_atHolt_36 : decode cX3_atHolt 36 = .ok (.getfield 9, 3) := dk_180 0 9 (dk_at dksX3_atHolt_1 12 rfl rfl)
theorem dX3_atHolt_39 : decode cX3_atHolt 39 = .ok (.iload_n 2, 1) := dk_28 (dk_at dksX3_atHolt_1 15 rfl rfl)
theorem dX3_atHolt_40 : decode cX3_atHolt 40 = .ok (.bipush 6, 2) := dk_16 6 (dk_at dksX3_atHolt_1 16 rfl rfl)
theorem dX3_atHolt_42 : decode cX3_atHolt 42 = .ok (.iadd, 1) := dk_96 (dk_at dksX3_atHolt_1 18 rfl rfl)
theorem dX3_atHolt_43 : decode cX3_atHolt 43 = .ok (.iaload, 1) := dk_46 (dk_at dksX3_atHolt_1 19 rfl rfl)
theorem dX3_atHolt_44 : decode cX3_atHolt 44 = .ok (.iadd, 1) := dk_96 (dk_at dksX3_atHolt_1 20 rfl rfl)
theorem dX3_atHolt_45 : decode cX3_atHolt 45 = .ok (.iastore, 1) := dk_79 (dk_at dksX3_atHolt_1 21 rfl rfl)
theorem dX3_atHolt_46 : decode cX3_atHolt 46 = .ok (.aload_n 0, 1) := dk_42 (dk_at dksX3_atHolt_1 22 rfl rfl)
theorem dX3_atHolt_47 : decode cX3_atHolt 47 = .ok (.getfield 9, 3) := dk_180 0 9 (dk_at dksX3_atHolt_2 0 rfl rfl)
theorem dX3_atHolt_50 : decode cX3_atHolt 50 = .ok (.iload_n 2, 1) := dk_28 (dk_at dksX3_atHolt_2 3 rfl rfl)
theorem dX3_atHolt_51 : decode cX3_atHolt 51 = .ok (.bipush 6, 2) := dk_16 6 (dk_at dksX3_atHolt_2 4 rfl rfl)
theorem dX3_atHolt_53 : decode cX3_atHolt 53 = .ok (.iadd, 1) := dk_96 (dk_at dksX3_atHolt_2 6 rfl rfl)
theorem dX3_atHolt_54 : decode cX3_atHolt 54 = .ok (.iconst 0, 1) := dk_3 (dk_at dksX3_atHolt_2 7 rfl rfl)
theorem dX3_atHolt_55 : decode cX3_atHolt 55 = .ok (.iastore, 1) := dk_79 (dk_at dksX3_atHolt_2 8 rfl rfl)
theorem dX3_atHolt_56 : decode cX3_atHolt 56 = .ok (.goto 30, 3) := dk_167 0 30 (dk_at dksX3_atHolt_2 9 rfl rfl)
theorem dX3_atHolt_59 : decode cX3_atHolt 59 = .ok (.aload_n 0, 1) := dk_42 (dk_at dksX3_atHolt_2 12 rfl rfl)
theorem dX3_atHolt_60 : decode cX3_atHolt 60 = .ok (.getfield 9, 3) := dk_180 0 9 (dk_at dksX3_atHolt_2 13 rfl rfl)
theorem dX3_atHolt_63 : decode cX3_atHolt 63 = .ok (.iconst 5, 1) := dk_8 (dk_at dksX3_atHolt_2 16 rfl rfl)
theorem dX3_atHolt_64 : decode cX3_atHolt 64 = .ok (.iaload, 1) := dk_46 (dk_at dksX3_atHolt_2 17 rfl rfl)
theorem dX3_atHolt_65 : decode cX3_atHolt 65 = .ok (.aload_n 0, 1) := dk_42 (dk_at dksX3_atHolt_2 18 rfl rfl)
theorem dX3_atHolt_66 : decode cX3_atHolt 66 = .ok (.getfield 9, 3) := dk_180 0 9 (dk_at dksX3_atHolt_2 19 rfl rfl)
theorem dX3_atHolt_69 : decode cX3_atHolt 69 = .ok (.iload_n 2, 1) := dk_28 (dk_at dksX3_atHolt_2 22 rfl rfl)
theorem dX3_atHolt_70 : decode cX3_atHolt 70 = .ok (.bipush 7, 2) := dk_16 7 (dk_at dksX3_atHolt_3 0 rfl rfl)
theorem dX3_atHolt_72 : decode cX3_atHolt 72 = .ok (.iadd, 1) := dk_96 (dk_at dksX3_atHolt_3 2 rfl rfl)
theorem dX3_atHolt_73 : decode cX3_atHolt 73 = .ok (.iaload, 1) := dk_46 (dk_at dksX3_atHolt_3 3 rfl rfl)
theorem dX3_atHolt_74 : decode cX3_atHolt 74 = .ok (.isub, 1) := dk_100 (dk_at dksX3_atHolt_3 4 rfl rfl)
theorem dX3_atHolt_75 : decode cX3_atHolt 75 = .ok (.sipush 200, 3) := dk_17 0 200 (dk_at dksX3_atHolt_3 5 rfl rfl)
theorem dX3_atHolt_78 : decode cX3_atHolt 78 = .ok (.if_icmp .lt 8, 3) := dk_161 0 8 (dk_at dksX3_atHolt_3 8 rfl rfl)
theorem dX3_atHolt_81 : decode cX3_atHolt 81 = .ok (.aload_n 0, 1) := dk_42 (dk_at dksX3_atHolt_3 11 rfl rfl)
theorem dX3_atHolt_82 : decode cX3_atHolt 82 = .ok (.iload_n 1, 1) := dk_27 (dk_at dksX3_atHolt_3 12 rfl rfl)
theorem dX3_atHolt_83 : decode cX3_atHolt 83 = .ok (.invokevirtual 166, 3) := dk_182 0 166 (dk_at dksX3_atHolt_3 13 rfl rfl)
theorem dX3_atHolt_86 : decode cX3_atHolt 86 = .ok (.return_, 1) := dk_177 (dk_at dksX3_atHolt_3 16 rfl rfl)
theorem dX3_atHolt_87 : decode cX3_atHolt 87 = .ok (.aload_n 0, 1) := dk_42 (dk_at dksX3_atHolt_3 17 rfl rfl)
theorem dX3_atHolt_88 : decode cX3_atHolt 88 = .ok (.getfield 9, 3) := dk_180 0 9 (dk_at dksX3_atHolt_3 18 rfl rfl)
theorem dX3_atHolt_91 : decode cX3_atHolt 91 = .ok (.iconst 5, 1) := dk_8 (dk_at dksX3_atHolt_3 21 rfl rfl)
theorem dX3_atHolt_92 : decode cX3_atHolt 92 = .ok (.iaload, 1) := dk_46 (dk_at dksX3_atHolt_3 22 rfl rfl)
theorem dX3_atHolt_93 : decode cX3_atHolt 93 = .ok (.sipush 360, 3) := dk_17 1 104 (dk_at dksX3_atHolt_4 0 rfl rfl)
theorem dX3_atHolt_96 : decode cX3_atHolt 96 = .ok (.idiv, 1) := dk_108 (dk_at dksX3_atHolt_4 3 rfl rfl)
theorem dX3_atHolt_97 : decode cX3_atHolt 97 = .ok (.istore 4, 2) := dk_54 4 (dk_at dksX3_atHolt_4 4 rfl rfl)
theorem dX3_atHolt_99 : decode cX3_atHolt 99 = .ok (.iload_n 3, 1) := dk_29 (dk_at dksX3_atHolt_4 6 rfl rfl)
theorem dX3_atHolt_100 : decode cX3_atHolt 100 = .ok (.iconst 2, 1) := dk_5 (dk_at dksX3_atHolt_4 7 rfl rfl)
theorem dX3_atHolt_101 : decode cX3_atHolt 101 = .ok (.if_icmp .ne 119, 3) := dk_160 0 119 (dk_at dksX3_atHolt_4 8 rfl rfl)
theorem dX3_atHolt_104 : decode cX3_atHolt 104 = .ok (.aload_n 0, 1) := dk_42 (dk_at dksX3_atHolt_4 11 rfl rfl)
theorem dX3_atHolt_105 : decode cX3_atHolt 105 = .ok (.invokevirtual 170, 3) := dk_182 0 170 (dk_at dksX3_atHolt_4 12 rfl rfl)
theorem dX3_atHolt_108 : decode cX3_atHolt 108 = .ok (.i2l, 1) := dk_133 (dk_at dksX3_atHolt_4 15 rfl rfl)
theorem dX3_atHolt_109 : decode cX3_atHolt 109 = .ok (.ldc2_w 173, 3) := dk_20 0 173 (dk_at dksX3_atHolt_4 16 rfl rfl)
theorem dX3_atHolt_112 : decode cX3_atHolt 112 = .ok (.ldc2_w 175, 3) := dk_20 0 175 (dk_at dksX3_atHolt_4 19 rfl rfl)
theorem dX3_atHolt_115 : decode cX3_atHolt 115 = .ok (.invokestatic 71, 3) := dk_184 0 71 (dk_at dksX3_atHolt_5 0 rfl rfl)
theorem dX3_atHolt_118 : decode cX3_atHolt 118 = .ok (.ifCond .eq 102, 3) := dk_153 0 102 (dk_at dksX3_atHolt_5 3 rfl rfl)
theorem dX3_atHolt_121 : decode cX3_atHolt 121 = .ok (.aload_n 0, 1) := dk_42 (dk_at dksX3_atHolt_5 6 rfl rfl)
theorem dX3_atHolt_122 : decode cX3_atHolt 122 = .ok (.iload_n 1, 1) := dk_27 (dk_at dksX3_atHolt_5 7 rfl rfl)
theorem dX3_atHolt_123 : decode cX3_atHolt 123 = .ok (.invokevirtual 112, 3) := dk_182 0 112 (dk_at dksX3_atHolt_5 8 rfl rfl)
theorem dX3_atHolt_126 : decode cX3_atHolt 126 = .ok (.bipush 15, 2) := dk_16 15 (dk_at dksX3_atHolt_5 11 rfl rfl)
theorem dX3_atHolt_128 : decode cX3_atHolt 128 = .ok (.if_icmp .lt 92, 3) := dk_161 0 92 (dk_at dksX3_atHolt_5 13 rfl rfl)
theorem dX3_atHolt_131 : decode cX3_atHolt 131 = .ok (.aload_n 0, 1) := dk_42 (dk_at dksX3_atHolt_5 16 rfl rfl)
theorem dX3_atHolt_132 : decode cX3_atHolt 132 = .ok (.getfield 9, 3) := dk_180 0 9 (dk_at dksX3_atHolt_5 17 rfl rfl)
theorem dX3_atHolt_135 : decode cX3_atHolt 135 = .ok (.iload_n 2, 1) := dk_28 (dk_at dksX3_atHolt_5 20 rfl rfl)
theorem dX3_atHolt_136 : decode cX3_atHolt 136 = .ok (.bipush 8, 2) := dk_16 8 (dk_at dksX3_atHolt_5 21 rfl rfl)
theorem dX3_atHolt_138 : decode cX3_atHolt 138 = .ok (.iadd, 1) := dk_96 (dk_at dksX3_atHolt_5 23 rfl rfl)
theorem dX3_atHolt_139 : decode cX3_atHolt 139 = .ok (.iaload, 1) := dk_46 (dk_at dksX3_atHolt_6 0 rfl rfl)
theorem dX3_atHolt_140 : decode cX3_atHolt 140 = .ok (.iload 4, 2) := dk_21 4 (dk_at dksX3_atHolt_6 1 rfl rfl)
theorem dX3_atHolt_142 : decode cX3_atHolt 142 = .ok (.if_icmp .eq 78, 3) := dk_159 0 78 (dk_at dksX3_atHolt_6 3 rfl rfl)
theorem dX3_atHolt_145 : decode cX3_atHolt 145 = .ok (.aload_n 0, 1) := dk_42 (dk_at dksX3_atHolt_6 6 rfl rfl)
theorem dX3_atHolt_146 : decode cX3_atHolt 146 = .ok (.getfield 9, 3) := dk_180 0 9 (dk_at dksX3_atHolt_6 7 rfl rfl)
theorem dX3_atHolt_149 : decode cX3_atHolt 149 = .ok (.iload_n 2, 1) := dk_28 (dk_at dksX3_atHolt_6 10 rfl rfl)
theorem dX3_atHolt_150 : decode cX3_atHolt 150 = .ok (.bipush 6, 2) := dk_16 6 (dk_at dksX3_atHolt_6 11 rfl rfl)
theorem dX3_atHolt_152 : decode cX3_atHolt 152 = .ok (.iadd, 1) := dk_96 (dk_at dksX3_atHolt_6 13 rfl rfl)
theorem dX3_atHolt_153 : decode cX3_atHolt 153 = .ok (.iconst 3, 1) := dk_6 (dk_at dksX3_atHolt_6 14 rfl rfl)
theorem dX3_atHolt_154 : decode cX3_atHolt 154 = .ok (.iconst 1, 1) := dk_4 (dk_at dksX3_atHolt_6 15 rfl rfl)
theorem dX3_atHolt_155 : decode cX3_atHolt 155 = .ok (.aload_n 0, 1) := dk_42 (dk_at dksX3_atHolt_6 16 rfl rfl)
theorem dX3_atHolt_156 : decode cX3_atHolt 156 = .ok (.iload_n 1, 1) := dk_27 (dk_at dksX3_atHolt_6 17 rfl rfl)
theorem dX3_atHolt_157 : decode cX3_atHolt 157 = .ok (.invokevirtual 112, 3) := dk_182 0 112 (dk_at dksX3_atHolt_6 18 rfl rfl)
theorem dX3_atHolt_160 : decode cX3_atHolt 160 = .ok (.bipush 12, 2) := dk_16 12 (dk_at dksX3_atHolt_6 21 rfl rfl)
theorem dX3_atHolt_162 : decode cX3_atHolt 162 = .ok (.idiv, 1) := dk_108 (dk_at dksX3_atHolt_6 23 rfl rfl)
theorem dX3_atHolt_163 : decode cX3_atHolt 163 = .ok (.iadd, 1) := dk_96 (dk_at dksX3_atHolt_7 0 rfl rfl)
theorem dX3_atHolt_164 : decode cX3_atHolt 164 = .ok (.invokestatic 177, 3) := dk_184 0 177 (dk_at dksX3_atHolt_7 1 rfl rfl)
theorem dX3_atHolt_167 : decode cX3_atHolt 167 = .ok (.iastore, 1) := dk_79 (dk_at dksX3_atHolt_7 4 rfl rfl)
theorem dX3_atHolt_168 : decode cX3_atHolt 168 = .ok (.aload_n 0, 1) := dk_42 (dk_at dksX3_atHolt_7 5 rfl rfl)
theorem dX3_atHolt_169 : decode cX3_atHolt 169 = .ok (.getfield 9, 3) := dk_180 0 9 (dk_at dksX3_atHolt_7 6 rfl rfl)
theorem dX3_atHolt_172 : decode cX3_atHolt 172 = .ok (.iload_n 2, 1) := dk_28 (dk_at dksX3_atHolt_7 9 rfl rfl)
theorem dX3_atHolt_173 : decode cX3_atHolt 173 = .ok (.bipush 7, 2) := dk_16 7 (dk_at dksX3_atHolt_7 10 rfl rfl)
theorem dX3_atHolt_175 : decode cX3_atHolt 175 = .ok (.iadd, 1) := dk_96 (dk_at dksX3_atHolt_7 12 rfl rfl)
theorem dX3_atHolt_176 : decode cX3_atHolt 176 = .ok (.aload_n 0, 1) := dk_42 (dk_at dksX3_atHolt_7 13 rfl rfl)
theorem dX3_atHolt_177 : decode cX3_atHolt 177 = .ok (.getfield 9, 3) := dk_180 0 9 (dk_at dksX3_atHolt_7 14 rfl rfl)
theorem dX3_atHolt_180 : decode cX3_atHolt 180 = .ok (.iconst 5, 1) := dk_8 (dk_at dksX3_atHolt_7 17 rfl rfl)
theorem dX3_atHolt_181 : decode cX3_atHolt 181 = .ok (.iaload, 1) := dk_46 (dk_at dksX3_atHolt_7 18 rfl rfl)
theorem dX3_atHolt_182 : decode cX3_atHolt 182 = .ok (.iastore, 1) := dk_79 (dk_at dksX3_atHolt_7 19 rfl rfl)
theorem dX3_atHolt_183 : decode cX3_atHolt 183 = .ok (.aload_n 0, 1) := dk_42 (dk_at dksX3_atHolt_7 20 rfl rfl)
theorem dX3_atHolt_184 : decode cX3_atHolt 184 = .ok (.getfield 9, 3) := dk_180 0 9 (dk_at dksX3_atHolt_7 21 rfl rfl)
theorem dX3_atHolt_187 : decode cX3_atHolt 187 = .ok (.iload_n 2, 1) := dk_28 (dk_at dksX3_atHolt_8 0 rfl rfl)
theorem dX3_atHolt_188 : decode cX3_atHolt 188 = .ok (.bipush 8, 2) := dk_16 8 (dk_at dksX3_atHolt_8 1 rfl rfl)
theorem dX3_atHolt_190 : decode cX3_atHolt 190 = .ok (.iadd, 1) := dk_96 (dk_at dksX3_atHolt_8 3 rfl rfl)
theorem dX3_atHolt_191 : decode cX3_atHolt 191 = .ok (.iload 4, 2) := dk_21 4 (dk_at dksX3_atHolt_8 4 rfl rfl)
theorem dX3_atHolt_193 : decode cX3_atHolt 193 = .ok (.iastore, 1) := dk_79 (dk_at dksX3_atHolt_8 6 rfl rfl)
theorem dX3_atHolt_194 : decode cX3_atHolt 194 = .ok (.aload_n 0, 1) := dk_42 (dk_at dksX3_atHolt_8 7 rfl rfl)
theorem dX3_atHolt_195 : decode cX3_atHolt 195 = .ok (.getfield 9, 3) := dk_180 0 9 (dk_at dksX3_atHolt_8 8 rfl rfl)
theorem dX3_atHolt_198 : decode cX3_atHolt 198 = .ok (.bipush 6, 2) := dk_16 6 (dk_at dksX3_atHolt_8 11 rfl rfl)
theorem dX3_atHolt_200 : decode cX3_atHolt 200 = .ok (.dup2, 1) := dk_92 (dk_at dksX3_atHolt_8 13 rfl rfl)
theorem dX3_atHolt_201 : decode cX3_atHolt 201 = .ok (.iaload, 1) := dk_46 (dk_at dksX3_atHolt_8 14 rfl rfl)
theorem dX3_atHolt_202 : decode cX3_atHolt 202 = .ok (.aload_n 0, 1) := dk_42 (dk_at dksX3_atHolt_8 15 rfl rfl)
theorem dX3_atHolt_203 : decode cX3_atHolt 203 = .ok (.getfield 9, 3) := dk_180 0 9 (dk_at dksX3_atHolt_8 16 rfl rfl)
theorem dX3_atHolt_206 : decode cX3_atHolt 206 = .ok (.iload_n 2, 1) := dk_28 (dk_at dksX3_atHolt_8 19 rfl rfl)
theorem dX3_atHolt_207 : decode cX3_atHolt 207 = .ok (.bipush 6, 2) := dk_16 6 (dk_at dksX3_atHolt_8 20 rfl rfl)
theorem dX3_atHolt_209 : decode cX3_atHolt 209 = .ok (.iadd, 1) := dk_96 (dk_at dksX3_atHolt_8 22 rfl rfl)
theorem dX3_atHolt_210 : decode cX3_atHolt 210 = .ok (.iaload, 1) := dk_46 (dk_at dksX3_atHolt_8 23 rfl rfl)
theorem dX3_atHolt_211 : decode cX3_atHolt 211 = .ok (.iadd, 1) := dk_96 (dk_at dksX3_atHolt_9 0 rfl rfl)
theorem dX3_atHolt_212 : decode cX3_atHolt 212 = .ok (.iastore, 1) := dk_79 (dk_at dksX3_atHolt_9 1 rfl rfl)
theorem dX3_atHolt_213 : decode cX3_atHolt 213 = .ok (.aload_n 0, 1) := dk_42 (dk_at dksX3_atHolt_9 2 rfl rfl)
theorem dX3_atHolt_214 : decode cX3_atHolt 214 = .ok (.getfield 35, 3) := dk_180 0 35 (dk_at dksX3_atHolt_9 3 rfl rfl)
theorem dX3_atHolt_217 : decode cX3_atHolt 217 = .ok (.iload_n 1, 1) := dk_27 (dk_at dksX3_atHolt_9 6 rfl rfl)
theorem dX3_atHolt_218 : decode cX3_atHolt 218 = .ok (.iconst 1, 1) := dk_4 (dk_at dksX3_atHolt_9 7 rfl rfl)
theorem dX3_atHolt_219 : decode cX3_atHolt 219 = .ok (.bastore, 1) := dk_84 (dk_at dksX3_atHolt_9 8 rfl rfl)
theorem dX3_atHolt_220 : decode cX3_atHolt 220 = .ok (.return_, 1) := dk_177 (dk_at dksX3_atHolt_9 9 rfl rfl)
abbrev cX3_growUp : ByteArray := prog_11_method_40_code
def yX3_growUp : MethodName := ⟨RX3, "growUp", "(I)V"⟩
def dkwX3_growUp_3 : List UInt8 := [167, 255, 213, 177]
abbrev dktX3_growUp_3 : List UInt8 := dkwX3_growUp_3 ++ []
def dkwX3_growUp_2 : List UInt8 := [16, 7, 92, 46, 4, 96, 79, 167, 0, 13, 42, 42, 27, 182, 0, 163, 182, 0, 118, 87, 132, 3, 1]
abbrev dktX3_growUp_2 : List UInt8 := dkwX3_growUp_2 ++ dktX3_growUp_3
def dkwX3_growUp_1 : List UInt8 := [3, 79, 3, 62, 29, 28, 162, 0, 44, 42, 180, 0, 9, 4, 46, 16, 30, 160, 0, 17, 42, 180, 0, 9]
abbrev dktX3_growUp_1 : List UInt8 := dkwX3_growUp_1 ++ dktX3_growUp_2
def dkwX3_growUp_0 : List UInt8 := [42, 180, 0, 9, 27, 184, 0, 86, 16, 6, 96, 46, 61, 42, 180, 0, 9, 27, 184, 0, 86, 16, 6, 96]
abbrev dktX3_growUp_0 : List UInt8 := dkwX3_growUp_0 ++ dktX3_growUp_1
theorem dksX3_growUp_0 : cX3_growUp.data.toList.drop 0 = dktX3_growUp_0 := by decide +kernel
theorem dksX3_growUp_1 : cX3_growUp.data.toList.drop 24 = dktX3_growUp_1 := dk_seg dksX3_growUp_0 24 rfl rfl
theorem dksX3_growUp_2 : cX3_growUp.data.toList.drop 48 = dktX3_growUp_2 := dk_seg dksX3_growUp_1 24 rfl rfl
theorem dksX3_growUp_3 : cX3_growUp.data.toList.drop 71 = dktX3_growUp_3 := dk_seg dksX3_growUp_2 23 rfl rfl
theorem dX3_growUp_0 : decode cX3_growUp 0 = .ok (.aload_n 0, 1) := dk_42 (dk_at dksX3_growUp_0 0 rfl rfl)
theorem dX3_growUp_1 : decode cX3_growUp 1 = .ok (.getfield 9, 3) := dk_180 0 9 (dk_at dksX3_growUp_0 1 rfl rfl)
theorem dX3_growUp_4 : decode cX3_growUp 4 = .ok (.iload_n 1, 1) := dk_27 (dk_at dksX3_growUp_0 4 rfl rfl)
theorem dX3_growUp_5 : decode cX3_growUp 5 = .ok (.invokestatic 86, 3) := dk_184 0 86 (dk_at dksX3_growUp_0 5 rfl rfl)
theorem dX3_growUp_8 : decode cX3_growUp 8 = .ok (.bipush 6, 2) := dk_16 6 (dk_at dksX3_growUp_0 8 rfl rfl)
theorem dX3_growUp_10 : decode cX3_growUp 10 = .ok (.iadd, 1) := dk_96 (dk_at dksX3_growUp_0 10 rfl rfl)
theorem dX3_growUp_11 : decode cX3_growUp 11 = .ok (.iaload, 1) := dk_46 (dk_at dksX3_growUp_0 11 rfl rfl)
theorem dX3_growUp_12 : decode cX3_growUp 12 = .ok (.istore_n 2, 1) := dk_61 (dk_at dksX3_growUp_0 12 rfl rfl)
theorem dX3_growUp_13 : decode cX3_growUp 13 = .ok (.aload_n 0, 1) := dk_42 (dk_at dksX3_growUp_0 13 rfl rfl)
theorem dX3_growUp_14 : decode cX3_growUp 14 = .ok (.getfield 9, 3) := dk_180 0 9 (dk_at dksX3_growUp_0 14 rfl rfl)
theorem dX3_growUp_17 : decode cX3_growUp 17 = .ok (.iload_n 1, 1) := dk_27 (dk_at dksX3_growUp_0 17 rfl rfl)
theorem dX3_growUp_18 : decode cX3_growUp 18 = .ok (.invokestatic 86, 3) := dk_184 0 86 (dk_at dksX3_growUp_0 18 rfl rfl)
theorem dX3_growUp_21 : decode cX3_growUp 21 = .ok (.bipush 6, 2) := dk_16 6 (dk_at dksX3_growUp_0 21 rfl rfl)
theorem dX3_growUp_23 : decode cX3_growUp 23 = .ok (.iadd, 1) := dk_96 (dk_at dksX3_growUp_0 23 rfl rfl)
theorem dX3_growUp_24 : decode cX3_growUp 24 = .ok (.iconst 0, 1) := dk_3 (dk_at dksX3_growUp_1 0 rfl rfl)
theorem dX3_growUp_25 : decode cX3_growUp 25 = .ok (.iastore, 1) := dk_79 (dk_at dksX3_growUp_1 1 rfl rfl)
theorem dX3_growUp_26 : decode cX3_growUp 26 = .ok (.iconst 0, 1) := dk_3 (dk_at dksX3_growUp_1 2 rfl rfl)
theorem dX3_growUp_27 : decode cX3_growUp 27 = .ok (.istore_n 3, 1) := dk_62 (dk_at dksX3_growUp_1 3 rfl rfl)
theorem dX3_growUp_28 : decode cX3_growUp 28 = .ok (.iload_n 3, 1) := dk_29 (dk_at dksX3_growUp_1 4 rfl rfl)
theorem dX3_growUp_29 : decode cX3_growUp 29 = .ok (.iload_n 2, 1) := dk_28 (dk_at dksX3_growUp_1 5 rfl rfl)
theorem dX3_growUp_30 : decode cX3_growUp 30 = .ok (.if_icmp .ge 44, 3) := dk_162 0 44 (dk_at dksX3_growUp_1 6 rfl rfl)
theorem dX3_growUp_33 : decode cX3_growUp 33 = .ok (.aload_n 0, 1) := dk_42 (dk_at dksX3_growUp_1 9 rfl rfl)
theorem dX3_growUp_34 : decode cX3_growUp 34 = .ok (.getfield 9, 3) := dk_180 0 9 (dk_at dksX3_growUp_1 10 rfl rfl)
theorem dX3_growUp_37 : decode cX3_growUp 37 = .ok (.iconst 1, 1) := dk_4 (dk_at dksX3_growUp_1 13 rfl rfl)
theorem dX3_growUp_38 : decode cX3_growUp 38 = .ok (.iaload, 1) := dk_46 (dk_at dksX3_growUp_1 14 rfl rfl)
theorem dX3_growUp_39 : decode cX3_growUp 39 = .ok (.bipush 30, 2) := dk_16 30 (dk_at dksX3_growUp_1 15 rfl rfl)
theorem dX3_growUp_41 : decode cX3_growUp 41 = .ok (.if_icmp .ne 17, 3) := dk_160 0 17 (dk_at dksX3_growUp_1 17 rfl rfl)
theorem dX3_growUp_44 : decode cX3_growUp 44 = .ok (.aload_n 0, 1) := dk_42 (dk_at dksX3_growUp_1 20 rfl rfl)
theorem dX3_growUp_45 : decode cX3_growUp 45 = .ok (.getfield 9, 3) := dk_180 0 9 (dk_at dksX3_growUp_1 21 rfl rfl)
theorem dX3_growUp_48 : decode cX3_growUp 48 = .ok (.bipush 7, 2) := dk_16 7 (dk_at dksX3_growUp_2 0 rfl rfl)
theorem dX3_growUp_50 : decode cX3_growUp 50 = .ok (.dup2, 1) := dk_92 (dk_at dksX3_growUp_2 2 rfl rfl)
theorem dX3_growUp_51 : decode cX3_growUp 51 = .ok (.iaload, 1) := dk_46 (dk_at dksX3_growUp_2 3 rfl rfl)
theorem dX3_growUp_52 : decode cX3_growUp 52 = .ok (.iconst 1, 1) := dk_4 (dk_at dksX3_growUp_2 4 rfl rfl)
theorem dX3_growUp_53 : decode cX3_growUp 53 = .ok (.iadd, 1) := dk_96 (dk_at dksX3_growUp_2 5 rfl rfl)
theorem dX3_growUp_54 : decode cX3_growUp 54 = .ok (.iastore, 1) := dk_79 (dk_at dksX3_growUp_2 6 rfl rfl)
theorem dX3_growUp_55 : decode cX3_growUp 55 = .ok (.goto 13, 3) := dk_167 0 13 (dk_at dksX3_growUp_2 7 rfl rfl)
theorem dX3_growUp_58 : decode cX3_growUp 58 = .ok (.aload_n 0, 1) := dk_42 (dk_at dksX3_growUp_2 10 rfl rfl)
theorem dX3_growUp_59 : decode cX3_growUp 59 = .ok (.aload_n 0, 1) := dk_42 (dk_at dksX3_growUp_2 11 rfl rfl)
theorem dX3_growUp_60 : decode cX3_growUp 60 = .ok (.iload_n 1, 1) := dk_27 (dk_at dksX3_growUp_2 12 rfl rfl)
theorem dX3_growUp_61 : decode cX3_growUp 61 = .ok (.invokevirtual 163, 3) := dk_182 0 163 (dk_at dksX3_growUp_2 13 rfl rfl)
theorem dX3_growUp_64 : decode cX3_growUp 64 = .ok (.invokevirtual 118, 3) := dk_182 0 118 (dk_at dksX3_growUp_2 16 rfl rfl)
theorem dX3_growUp_67 : decode cX3_growUp 67 = .ok (.pop, 1) := dk_87 (dk_at dksX3_growUp_2 19 rfl rfl)
theorem dX3_growUp_68 : decode cX3_growUp 68 = .ok (.iinc 3 1, 3) := dk_132 3 1 (dk_at dksX3_growUp_2 20 rfl rfl)
theorem dX3_growUp_71 : decode cX3_growUp 71 = .ok (.goto (-43), 3) := dk_167 255 213 (dk_at dksX3_growUp_3 0 rfl rfl)
theorem dX3_growUp_74 : decode cX3_growUp 74 = .ok (.return_, 1) := dk_177 (dk_at dksX3_growUp_3 3 rfl rfl)
abbrev cX3_refugeOf : ByteArray := prog_11_method_39_code
def yX3_refugeOf : MethodName := ⟨RX3, "refugeOf", "(I)I"⟩
def dkwX3_refugeOf_0 : List UInt8 := [42, 27, 3, 182, 0, 160, 61, 28, 2, 160, 0, 12, 42, 27, 4, 182, 0, 160, 167, 0, 4, 28, 172]
abbrev dktX3_refugeOf_0 : List UInt8 := dkwX3_refugeOf_0 ++ []
theorem dksX3_refugeOf_0 : cX3_refugeOf.data.toList.drop 0 = dktX3_refugeOf_0 := by decide +kernel
theorem dX3_refugeOf_0 : decode cX3_refugeOf 0 = .ok (.aload_n 0, 1) := dk_42 (dk_at dksX3_refugeOf_0 0 rfl rfl)
theorem dX3_refugeOf_1 : decode cX3_refugeOf 1 = .ok (.iload_n 1, 1) := dk_27 (dk_at dksX3_refugeOf_0 1 rfl rfl)
theorem dX3_refugeOf_2 : decode cX3_refugeOf 2 = .ok (.iconst 0, 1) := dk_3 (dk_at dksX3_refugeOf_0 2 rfl rfl)
theorem dX3_refugeOf_3 : decode cX3_refugeOf 3 = .ok (.invokevirtual 160, 3) := dk_182 0 160 (dk_at dksX3_refugeOf_0 3 rfl rfl)
theorem dX3_refugeOf_6 : decode cX3_refugeOf 6 = .ok (.istore_n 2, 1) := dk_61 (dk_at dksX3_refugeOf_0 6 rfl rfl)
theorem dX3_refugeOf_7 : decode cX3_refugeOf 7 = .ok (.iload_n 2, 1) := dk_28 (dk_at dksX3_refugeOf_0 7 rfl rfl)
theorem dX3_refugeOf_8 : decode cX3_refugeOf 8 = .ok (.iconst (-1), 1) := dk_2 (dk_at dksX3_refugeOf_0 8 rfl rfl)
theorem dX3_refugeOf_9 : decode cX3_refugeOf 9 = .ok (.if_icmp .ne 12, 3) := dk_160 0 12 (dk_at dksX3_refugeOf_0 9 rfl rfl)
theorem dX3_refugeOf_12 : decode cX3_refugeOf 12 = .ok (.aload_n 0, 1) := dk_42 (dk_at dksX3_refugeOf_0 12 rfl rfl)
theorem dX3_refugeOf_13 : decode cX3_refugeOf 13 = .ok (.iload_n 1, 1) := dk_27 (dk_at dksX3_refugeOf_0 13 rfl rfl)
theorem dX3_refugeOf_14 : decode cX3_refugeOf 14 = .ok (.iconst 1, 1) := dk_4 (dk_at dksX3_refugeOf_0 14 rfl rfl)
theorem dX3_refugeOf_15 : decode cX3_refugeOf 15 = .ok (.invokevirtual 160, 3) := dk_182 0 160 (dk_at dksX3_refugeOf_0 15 rfl rfl)
theorem dX3_refugeOf_18 : decode cX3_refugeOf 18 = .ok (.goto 4, 3) := dk_167 0 4 (dk_at dksX3_refugeOf_0 18 rfl rfl)
theorem dX3_refugeOf_21 : decode cX3_refugeOf 21 = .ok (.iload_n 2, 1) := dk_28 (dk_at dksX3_refugeOf_0 21 rfl rfl)
theorem dX3_refugeOf_22 : decode cX3_refugeOf 22 = .ok (.ireturn, 1) := dk_172 (dk_at dksX3_refugeOf_0 22 rfl rfl)
abbrev cX3_nearest : ByteArray := prog_11_method_38_code
def yX3_nearest : MethodName := ⟨RX3, "nearest", "(II)I"⟩
def dkwX3_nearest_4 : List UInt8 := [29, 62, 132, 4, 1, 167, 255, 163, 29, 172]
abbrev dktX3_nearest_4 : List UInt8 := dkwX3_nearest_4 ++ []
def dkwX3_nearest_3 : List UInt8 := [159, 0, 19, 21, 4, 27, 100, 184, 0, 155, 29, 27, 100, 184, 0, 155, 162, 0, 8, 21, 4, 167, 0, 4]
abbrev dktX3_nearest_3 : List UInt8 := dkwX3_nearest_3 ++ dktX3_nearest_4
def dkwX3_nearest_2 : List UInt8 := [184, 0, 86, 16, 6, 96, 46, 154, 0, 7, 4, 167, 0, 4, 3, 54, 5, 21, 5, 153, 0, 29, 29, 2]
abbrev dktX3_nearest_2 : List UInt8 := dkwX3_nearest_2 ++ dktX3_nearest_3
def dkwX3_nearest_1 : List UInt8 := [153, 0, 37, 42, 21, 4, 182, 0, 109, 28, 160, 0, 27, 28, 157, 0, 19, 42, 180, 0, 9, 21, 4]
abbrev dktX3_nearest_1 : List UInt8 := dkwX3_nearest_1 ++ dktX3_nearest_2
def dkwX3_nearest_0 : List UInt8 := [2, 62, 3, 54, 4, 21, 4, 42, 180, 0, 9, 3, 46, 162, 0, 88, 42, 21, 4, 182, 0, 106]
abbrev dktX3_nearest_0 : List UInt8 := dkwX3_nearest_0 ++ dktX3_nearest_1
theorem dksX3_nearest_0 : cX3_nearest.data.toList.drop 0 = dktX3_nearest_0 := by decide +kernel
theorem dksX3_nearest_1 : cX3_nearest.data.toList.drop 22 = dktX3_nearest_1 := dk_seg dksX3_nearest_0 22 rfl rfl
theorem dksX3_nearest_2 : cX3_nearest.data.toList.drop 45 = dktX3_nearest_2 := dk_seg dksX3_nearest_1 23 rfl rfl
theorem dksX3_nearest_3 : cX3_nearest.data.toList.drop 69 = dktX3_nearest_3 := dk_seg dksX3_nearest_2 24 rfl rfl
theorem dksX3_nearest_4 : cX3_nearest.data.toList.drop 93 = dktX3_nearest_4 := dk_seg dksX3_nearest_3 24 rfl rfl
theorem dX3_nearest_0 : decode cX3_nearest 0 = .ok (.iconst (-1), 1) := dk_2 (dk_at dksX3_nearest_0 0 rfl rfl)
theorem dX3_nearest_1 : decode cX3_nearest 1 = .ok (.istore_n 3, 1) := dk_62 (dk_at dksX3_nearest_0 1 rfl rfl)
theorem dX3_nearest_2 : decode cX3_nearest 2 = .ok (.iconst 0, 1) := dk_3 (dk_at dksX3_nearest_0 2 rfl rfl)
theorem dX3_nearest_3 : decode cX3_nearest 3 = .ok (.istore 4, 2) := dk_54 4 (dk_at dksX3_nearest_0 3 rfl rfl)
theorem dX3_nearest_5 : decode cX3_nearest 5 = .ok (.iload 4, 2) := dk_21 4 (dk_at dksX3_nearest_0 5 rfl rfl)
theorem dX3_nearest_7 : decode cX3_nearest 7 = .ok (.aload_n 0, 1) := dk_42 (dk_at dksX3_nearest_0 7 rfl rfl)
theorem dX3_nearest_8 : decode cX3_nearest 8 = .ok (.getfield 9, 3) := dk_180 0 9 (dk_at dksX3_nearest_0 8 rfl rfl)
theorem dX3_nearest_11 : decode cX3_nearest 11 = .ok (.iconst 0, 1) := dk_3 (dk_at dksX3_nearest_0 11 rfl rfl)
theorem dX3_nearest_12 : decode cX3_nearest 12 = .ok (.iaload, 1) := dk_46 (dk_at dksX3_nearest_0 12 rfl rfl)
theorem dX3_nearest_13 : decode cX3_nearest 13 = .ok (.if_icmp .ge 88, 3) := dk_162 0 88 (dk_at dksX3_nearest_0 13 rfl rfl)
theorem dX3_nearest_16 : decode cX3_nearest 16 = .ok (.aload_n 0, 1) := dk_42 (dk_at dksX3_nearest_0 16 rfl rfl)
theorem dX3_nearest_17 : decode cX3_nearest 17 = .ok (.iload 4, 2) := dk_21 4 (dk_at dksX3_nearest_0 17 rfl rfl)
theorem dX3_nearest_19 : decode cX3_nearest 19 = .ok (.invokevirtual 106, 3) := dk_182 0 106 (dk_at dksX3_nearest_0 19 rfl rfl)
theorem dX3_nearest_22 : decode cX3_nearest 22 = .ok (.ifCond .eq 37, 3) := dk_153 0 37 (dk_at dksX3_nearest_1 0 rfl rfl)
theorem dX3_nearest_25 : decode cX3_nearest 25 = .ok (.aload_n 0, 1) := dk_42 (dk_at dksX3_nearest_1 3 rfl rfl)
theorem dX3_nearest_26 : decode cX3_nearest 26 = .ok (.iload 4, 2) := dk_21 4 (dk_at dksX3_nearest_1 4 rfl rfl)
theorem dX3_nearest_28 : decode cX3_nearest 28 = .ok (.invokevirtual 109, 3) := dk_182 0 109 (dk_at dksX3_nearest_1 6 rfl rfl)
theorem dX3_nearest_31 : decode cX3_nearest 31 = .ok (.iload_n 2, 1) := dk_28 (dk_at dksX3_nearest_1 9 rfl rfl)
theorem dX3_nearest_32 : decode cX3_nearest 32 = .ok (.if_icmp .ne 27, 3) := dk_160 0 27 (dk_at dksX3_nearest_1 10 rfl rfl)
theorem dX3_nearest_35 : decode cX3_nearest 35 = .ok (.iload_n 2, 1) := dk_28 (dk_at dksX3_nearest_1 13 rfl rfl)
theorem dX3_nearest_36 : decode cX3_nearest 36 = .ok (.ifCond .gt 19, 3) := dk_157 0 19 (dk_at dksX3_nearest_1 14 rfl rfl)
theorem dX3_nearest_39 : decode cX3_nearest 39 = .ok (.aload_n 0, 1) := dk_42 (dk_at dksX3_nearest_1 17 rfl rfl)
theorem dX3_nearest_40 : decode cX3_nearest 40 = .ok (.getfield 9, 3) := dk_180 0 9 (dk_at dksX3_nearest_1 18 rfl rfl)
theorem dX3_nearest_43 : decode cX3_nearest 43 = .ok (.iload 4, 2) := dk_21 4 (dk_at dksX3_nearest_1 21 rfl rfl)
theorem dX3_nearest_45 : decode cX3_nearest 45 = .ok (.invokestatic 86, 3) := dk_184 0 86 (dk_at dksX3_nearest_2 0 rfl rfl)
theorem dX3_nearest_48 : decode cX3_nearest 48 = .ok (.bipush 6, 2) := dk_16 6 (dk_at dksX3_nearest_2 3 rfl rfl)
theorem dX3_nearest_50 : decode cX3_nearest 50 = .ok (.iadd, 1) := dk_96 (dk_at dksX3_nearest_2 5 rfl rfl)
theorem dX3_nearest_51 : decode cX3_nearest 51 = .ok (.iaload, 1) := dk_46 (dk_at dksX3_nearest_2 6 rfl rfl)
theorem dX3_nearest_52 : decode cX3_nearest 52 = .ok (.ifCond .ne 7, 3) := dk_154 0 7 (dk_at dksX3_nearest_2 7 rfl rfl)
theorem dX3_nearest_55 : decode cX3_nearest 55 = .ok (.iconst 1, 1) := dk_4 (dk_at dksX3_nearest_2 10 rfl rfl)
theorem dX3_nearest_56 : decode cX3_nearest 56 = .ok (.goto 4, 3) := dk_167 0 4 (dk_at dksX3_nearest_2 11 rfl rfl)
theorem dX3_nearest_59 : decode cX3_nearest 59 = .ok (.iconst 0, 1) := dk_3 (dk_at dksX3_nearest_2 14 rfl rfl)
theorem dX3_nearest_60 : decode cX3_nearest 60 = .ok (.istore 5, 2) := dk_54 5 (dk_at dksX3_nearest_2 15 rfl rfl)
theorem dX3_nearest_62 : decode cX3_nearest 62 = .ok (.iload 5, 2) := dk_21 5 (dk_at dksX3_nearest_2 17 rfl rfl)
theorem dX3_nearest_64 : decode cX3_nearest 64 = .ok (.ifCond .eq 29, 3) := dk_153 0 29 (dk_at dksX3_nearest_2 19 rfl rfl)
theorem dX3_nearest_67 : decode cX3_nearest 67 = .ok (.iload_n 3, 1) := dk_29 (dk_at dksX3_nearest_2 22 rfl rfl)
theorem dX3_nearest_68 : decode cX3_nearest 68 = .ok (.iconst (-1), 1) := dk_2 (dk_at dksX3_nearest_2 23 rfl rfl)
theorem dX3_nearest_69 : decode cX3_nearest 69 = .ok (.if_icmp .eq 19, 3) := dk_159 0 19 (dk_at dksX3_nearest_3 0 rfl rfl)
theorem dX3_nearest_72 : decode cX3_nearest 72 = .ok (.iload 4, 2) := dk_21 4 (dk_at dksX3_nearest_3 3 rfl rfl)
theorem dX3_nearest_74 : decode cX3_nearest 74 = .ok (.iload_n 1, 1) := dk_27 (dk_at dksX3_nearest_3 5 rfl rfl)
theorem dX3_nearest_75 : decode cX3_nearest 75 = .ok (.isub, 1) := dk_100 (dk_at dksX3_nearest_3 6 rfl rfl)
theorem dX3_nearest_76 : decode cX3_nearest 76 = .ok (.invokestatic 155, 3) := dk_184 0 155 (dk_at dksX3_nearest_3 7 rfl rfl)
theorem dX3_nearest_79 : decode cX3_nearest 79 = .ok (.iload_n 3, 1) := dk_29 (dk_at dksX3_nearest_3 10 rfl rfl)
theorem dX3_nearest_80 : decode cX3_nearest 80 = .ok (.iload_n 1, 1) := dk_27 (dk_at dksX3_nearest_3 11 rfl rfl)
theorem dX3_nearest_81 : decode cX3_nearest 81 = .ok (.isub, 1) := dk_100 (dk_at dksX3_nearest_3 12 rfl rfl)
theorem dX3_nearest_82 : decode cX3_nearest 82 = .ok (.invokestatic 155, 3) := dk_184 0 155 (dk_at dksX3_nearest_3 13 rfl rfl)
theorem dX3_nearest_85 : decode cX3_nearest 85 = .ok (.if_icmp .ge 8, 3) := dk_162 0 8 (dk_at dksX3_nearest_3 16 rfl rfl)
theorem dX3_nearest_88 : decode cX3_nearest 88 = .ok (.iload 4, 2) := dk_21 4 (dk_at dksX3_nearest_3 19 rfl rfl)
theorem dX3_nearest_90 : decode cX3_nearest 90 = .ok (.goto 4, 3) := dk_167 0 4 (dk_at dksX3_nearest_3 21 rfl rfl)
theorem dX3_nearest_93 : decode cX3_nearest 93 = .ok (.iload_n 3, 1) := dk_29 (dk_at dksX3_nearest_4 0 rfl rfl)
theorem dX3_nearest_94 : decode cX3_nearest 94 = .ok (.istore_n 3, 1) := dk_62 (dk_at dksX3_nearest_4 1 rfl rfl)
theorem dX3_nearest_95 : decode cX3_nearest 95 = .ok (.iinc 4 1, 3) := dk_132 4 1 (dk_at dksX3_nearest_4 2 rfl rfl)
theorem dX3_nearest_98 : decode cX3_nearest 98 = .ok (.goto (-93), 3) := dk_167 255 163 (dk_at dksX3_nearest_4 5 rfl rfl)
theorem dX3_nearest_101 : decode cX3_nearest 101 = .ok (.iload_n 3, 1) := dk_29 (dk_at dksX3_nearest_4 8 rfl rfl)
theorem dX3_nearest_102 : decode cX3_nearest 102 = .ok (.ireturn, 1) := dk_172 (dk_at dksX3_nearest_4 9 rfl rfl)
abbrev cX3_month : ByteArray := prog_11_method_41_code
def yX3_month : MethodName := ⟨RX3, "month", "()I"⟩
def dkwX3_month_0 : List UInt8 := [42, 180, 0, 9, 8, 46, 16, 30, 108, 16, 12, 112, 172]
abbrev dktX3_month_0 : List UInt8 := dkwX3_month_0 ++ []
theorem dksX3_month_0 : cX3_month.data.toList.drop 0 = dktX3_month_0 := by decide +kernel
theorem dX3_month_0 : decode cX3_month 0 = .ok (.aload_n 0, 1) := dk_42 (dk_at dksX3_month_0 0 rfl rfl)
theorem dX3_month_1 : decode cX3_month 1 = .ok (.getfield 9, 3) := dk_180 0 9 (dk_at dksX3_month_0 1 rfl rfl)
theorem dX3_month_4 : decode cX3_month 4 = .ok (.iconst 5, 1) := dk_8 (dk_at dksX3_month_0 4 rfl rfl)
theorem dX3_month_5 : decode cX3_month 5 = .ok (.iaload, 1) := dk_46 (dk_at dksX3_month_0 5 rfl rfl)
theorem dX3_month_6 : decode cX3_month 6 = .ok (.bipush 30, 2) := dk_16 30 (dk_at dksX3_month_0 6 rfl rfl)
theorem dX3_month_8 : decode cX3_month 8 = .ok (.idiv, 1) := dk_108 (dk_at dksX3_month_0 8 rfl rfl)
theorem dX3_month_9 : decode cX3_month 9 = .ok (.bipush 12, 2) := dk_16 12 (dk_at dksX3_month_0 9 rfl rfl)
theorem dX3_month_11 : decode cX3_month 11 = .ok (.irem, 1) := dk_112 (dk_at dksX3_month_0 11 rfl rfl)
theorem dX3_month_12 : decode cX3_month 12 = .ok (.ireturn, 1) := dk_172 (dk_at dksX3_month_0 12 rfl rfl)
abbrev cX3_walk : ByteArray := prog_11_method_49_code
def yX3_walk : MethodName := ⟨RX3, "walk", "(I)I"⟩
def dkwX3_walk_0 : List UInt8 := [42, 182, 0, 89, 42, 42, 27, 182, 0, 201, 182, 0, 100, 172]
abbrev dktX3_walk_0 : List UInt8 := dkwX3_walk_0 ++ []
theorem dksX3_walk_0 : cX3_walk.data.toList.drop 0 = dktX3_walk_0 := by decide +kernel
theorem dX3_walk_0 : decode cX3_walk 0 = .ok (.aload_n 0, 1) := dk_42 (dk_at dksX3_walk_0 0 rfl rfl)
theorem dX3_walk_1 : decode cX3_walk 1 = .ok (.invokevirtual 89, 3) := dk_182 0 89 (dk_at dksX3_walk_0 1 rfl rfl)
theorem dX3_walk_4 : decode cX3_walk 4 = .ok (.aload_n 0, 1) := dk_42 (dk_at dksX3_walk_0 4 rfl rfl)
theorem dX3_walk_5 : decode cX3_walk 5 = .ok (.aload_n 0, 1) := dk_42 (dk_at dksX3_walk_0 5 rfl rfl)
theorem dX3_walk_6 : decode cX3_walk 6 = .ok (.iload_n 1, 1) := dk_27 (dk_at dksX3_walk_0 6 rfl rfl)
theorem dX3_walk_7 : decode cX3_walk 7 = .ok (.invokevirtual 201, 3) := dk_182 0 201 (dk_at dksX3_walk_0 7 rfl rfl)
theorem dX3_walk_10 : decode cX3_walk 10 = .ok (.invokevirtual 100, 3) := dk_182 0 100 (dk_at dksX3_walk_0 10 rfl rfl)
theorem dX3_walk_13 : decode cX3_walk 13 = .ok (.ireturn, 1) := dk_172 (dk_at dksX3_walk_0 13 rfl rfl)
abbrev cX3_walkIt : ByteArray := prog_11_method_48_code
def yX3_walkIt : MethodName := ⟨RX3, "walkIt", "(I)I"⟩
def dkwX3_walkIt_9 : List UInt8 := [29, 96, 79, 42, 180, 0, 9, 16, 11, 92, 46, 29, 96, 79, 29, 172]
abbrev dktX3_walkIt_9 : List UInt8 := dkwX3_walkIt_9 ++ []
def dkwX3_walkIt_8 : List UInt8 := [167, 255, 182, 42, 180, 0, 9, 28, 6, 96, 92, 46, 29, 96, 79, 42, 180, 0, 9, 28, 7, 96, 92, 46]
abbrev dktX3_walkIt_8 : List UInt8 := dkwX3_walkIt_8 ++ dktX3_walkIt_9
def dkwX3_walkIt_7 : List UInt8 := [96, 46, 154, 0, 19, 42, 180, 0, 9, 21, 4, 184, 0, 75, 5, 96, 4, 79, 132, 3, 1, 132, 4, 1]
abbrev dktX3_walkIt_7 : List UInt8 := dkwX3_walkIt_7 ++ dktX3_walkIt_8
def dkwX3_walkIt_6 : List UInt8 := [21, 4, 184, 0, 75, 4, 96, 46, 182, 0, 198, 153, 0, 34, 42, 180, 0, 9, 21, 4, 184, 0, 75, 5]
abbrev dktX3_walkIt_6 : List UInt8 := dkwX3_walkIt_6 ++ dktX3_walkIt_7
def dkwX3_walkIt_5 : List UInt8 := [42, 180, 0, 9, 4, 46, 162, 0, 69, 42, 21, 4, 182, 0, 78, 153, 0, 54, 42, 27, 42, 180, 0, 9]
abbrev dktX3_walkIt_5 : List UInt8 := dkwX3_walkIt_5 ++ dktX3_walkIt_6
def dkwX3_walkIt_4 : List UInt8 := [180, 0, 9, 29, 184, 0, 86, 5, 96, 3, 79, 132, 3, 1, 167, 255, 186, 3, 62, 3, 54, 4, 21, 4]
abbrev dktX3_walkIt_4 : List UInt8 := dkwX3_walkIt_4 ++ dktX3_walkIt_5
def dkwX3_walkIt_3 : List UInt8 := [96, 79, 42, 180, 0, 9, 16, 9, 92, 46, 42, 180, 0, 9, 29, 184, 0, 86, 5, 96, 46, 96, 79, 42]
abbrev dktX3_walkIt_3 : List UInt8 := dkwX3_walkIt_3 ++ dktX3_walkIt_4
def dkwX3_walkIt_2 : List UInt8 := [46, 163, 0, 64, 42, 180, 0, 9, 28, 5, 96, 92, 46, 42, 180, 0, 9, 29, 184, 0, 86, 5, 96, 46]
abbrev dktX3_walkIt_2 : List UInt8 := dkwX3_walkIt_2 ++ dktX3_walkIt_3
def dkwX3_walkIt_1 : List UInt8 := [182, 0, 94, 172, 27, 184, 0, 121, 61, 42, 180, 0, 9, 28, 46, 62, 29, 42, 180, 0, 9, 28, 4, 96]
abbrev dktX3_walkIt_1 : List UInt8 := dkwX3_walkIt_1 ++ dktX3_walkIt_2
def dkwX3_walkIt_0 : List UInt8 := [27, 133, 9, 42, 180, 0, 9, 5, 46, 4, 100, 133, 184, 0, 71, 154, 0, 11, 42, 16, 10, 27]
abbrev dktX3_walkIt_0 : List UInt8 := dkwX3_walkIt_0 ++ dktX3_walkIt_1
theorem dksX3_walkIt_0 : cX3_walkIt.data.toList.drop 0 = dktX3_walkIt_0 := by decide +kernel
theorem dksX3_walkIt_1 : cX3_walkIt.data.toList.drop 22 = dktX3_walkIt_1 := dk_seg dksX3_walkIt_0 22 rfl rfl
theorem dksX3_walkIt_2 : cX3_walkIt.data.toList.drop 46 = dktX3_walkIt_2 := dk_seg dksX3_walkIt_1 24 rfl rfl
theorem dksX3_walkIt_3 : cX3_walkIt.data.toList.drop 70 = dktX3_walkIt_3 := dk_seg dksX3_walkIt_2 24 rfl rfl
theorem dksX3_walkIt_4 : cX3_walkIt.data.toList.drop 94 = dktX3_walkIt_4 := dk_seg dksX3_walkIt_3 24 rfl rfl
theorem dksX3_walkIt_5 : cX3_walkIt.data.toList.drop 118 = dktX3_walkIt_5 := dk_seg dksX3_walkIt_4 24 rfl rfl
theorem dksX3_walkIt_6 : cX3_walkIt.data.toList.drop 142 = dktX3_walkIt_6 := dk_seg dksX3_walkIt_5 24 rfl rfl
theorem dksX3_walkIt_7 : cX3_walkIt.data.toList.drop 166 = dktX3_walkIt_7 := dk_seg dksX3_walkIt_6 24 rfl rfl
theorem dksX3_walkIt_8 : cX3_walkIt.data.toList.drop 190 = dktX3_walkIt_8 := dk_seg dksX3_walkIt_7 24 rfl rfl
theorem dksX3_walkIt_9 : cX3_walkIt.data.toList.drop 214 = dktX3_walkIt_9 := dk_seg dksX3_walkIt_8 24 rfl rfl
theorem dX3_walkIt_0 : decode cX3_walkIt 0 = .ok (.iload_n 1, 1) := dk_27 (dk_at dksX3_walkIt_0 0 rfl rfl)
theorem dX3_walkIt_1 : decode cX3_walkIt 1 = .ok (.i2l, 1) := dk_133 (dk_at dksX3_walkIt_0 1 rfl rfl)
theorem dX3_walkIt_2 : decode cX3_walkIt 2 = .ok (.lconst 0, 1) := dk_9 (dk_at dksX3_walkIt_0 2 rfl rfl)
theorem dX3_walkIt_3 : decode cX3_walkIt 3 = .ok (.aload_n 0, 1) := dk_42 (dk_at dksX3_walkIt_0 3 rfl rfl)
theorem dX3_walkIt_4 : decode cX3_walkIt 4 = .ok (.getfield 9, 3) := dk_180 0 9 (dk_at dksX3_walkIt_0 4 rfl rfl)
theorem dX3_walkIt_7 : decode cX3_walkIt 7 = .ok (.iconst 2, 1) := dk_5 (dk_at dksX3_walkIt_0 7 rfl rfl)
theorem dX3_walkIt_8 : decode cX3_walkIt 8 = .ok (.iaload, 1) := dk_46 (dk_at dksX3_walkIt_0 8 rfl rfl)
theorem dX3_walkIt_9 : decode cX3_walkIt 9 = .ok (.iconst 1, 1) := dk_4 (dk_at dksX3_walkIt_0 9 rfl rfl)
theorem dX3_walkIt_10 : decode cX3_walkIt 10 = .ok (.isub, 1) := dk_100 (dk_at dksX3_walkIt_0 10 rfl rfl)
theorem dX3_walkIt_11 : decode cX3_walkIt 11 = .ok (.i2l, 1) := dk_133 (dk_at dksX3_walkIt_0 11 rfl rfl)
theorem dX3_walkIt_12 : decode cX3_walkIt 12 = .ok (.invokestatic 71, 3) := dk_184 0 71 (dk_at dksX3_walkIt_0 12 rfl rfl)
theorem dX3_walkIt_15 : decode cX3_walkIt 15 = .ok (.ifCond .ne 11, 3) := dk_154 0 11 (dk_at dksX3_walkIt_0 15 rfl rfl)
theorem dX3_walkIt_18 : decode cX3_walkIt 18 = .ok (.aload_n 0, 1) := dk_42 (dk_at dksX3_walkIt_0 18 rfl rfl)
theorem dX3_walkIt_19 : decode cX3_walkIt 19 = .ok (.bipush 10, 2) := dk_16 10 (dk_at dksX3_walkIt_0 19 rfl rfl)
theorem dX3_walkIt_21 : decode cX3_walkIt 21 = .ok (.iload_n 1, 1) := dk_27 (dk_at dksX3_walkIt_0 21 rfl rfl)
theorem dX3_walkIt_22 : decode cX3_walkIt 22 = .ok (.invokevirtual 94, 3) := dk_182 0 94 (dk_at dksX3_walkIt_1 0 rfl rfl)
theorem dX3_walkIt_25 : decode cX3_walkIt 25 = .ok (.ireturn, 1) := dk_172 (dk_at dksX3_walkIt_1 3 rfl rfl)
theorem dX3_walkIt_26 : decode cX3_walkIt 26 = .ok (.iload_n 1, 1) := dk_27 (dk_at dksX3_walkIt_1 4 rfl rfl)
theorem dX3_walkIt_27 : decode cX3_walkIt 27 = .ok (.invokestatic 121, 3) := dk_184 0 121 (dk_at dksX3_walkIt_1 5 rfl rfl)
theorem dX3_walkIt_30 : decode cX3_walkIt 30 = .ok (.istore_n 2, 1) := dk_61 (dk_at dksX3_walkIt_1 8 rfl rfl)
theorem dX3_walkIt_31 : decode cX3_walkIt 31 = .ok (.aload_n 0, 1) := dk_42 (dk_at dksX3_walkIt_1 9 rfl rfl)
theorem dX3_walkIt_32 : decode cX3_walkIt 32 = .ok (.getfield 9, 3) := dk_180 0 9 (dk_at dksX3_walkIt_1 10 rfl rfl)
theorem dX3_walkIt_35 : decode cX3_walkIt 35 = .ok (.iload_n 2, 1) := dk_28 (dk_at dksX3_walkIt_1 13 rfl rfl)
theorem dX3_walkIt_36 : decode cX3_walkIt 36 = .ok (.iaload, 1) := dk_46 (dk_at dksX3_walkIt_1 14 rfl rfl)
theorem dX3_walkIt_37 : decode cX3_walkIt 37 = .ok (.istore_n 3, 1) := dk_62 (dk_at dksX3_walkIt_1 15 rfl rfl)
theorem dX3_walkIt_38 : decode cX3_walkIt 38 = .ok (.iload_n 3, 1) := dk_29 (dk_at dksX3_walkIt_1 16 rfl rfl)
theorem dX3_walkIt_39 : decode cX3_walkIt 39 = .ok (.aload_n 0, 1) := dk_42 (dk_at dksX3_walkIt_1 17 rfl rfl)
theorem dX3_walkIt_40 : decode cX3_walkIt 40 = .ok (.getfield 9, 3) := dk_180 0 9 (dk_at dksX3_walkIt_1 18 rfl rfl)
theorem dX3_walkIt_43 : decode cX3_walkIt 43 = .ok (.iload_n 2, 1) := dk_28 (dk_at dksX3_walkIt_1 21 rfl rfl)
theorem dX3_walkIt_44 : decode cX3_walkIt 44 = .ok (.iconst 1, 1) := dk_4 (dk_at dksX3_walkIt_1 22 rfl rfl)
theorem dX3_walkIt_45 : decode cX3_walkIt 45 = .ok (.iadd, 1) := dk_96 (dk_at dksX3_walkIt_1 23 rfl rfl)
theorem dX3_walkIt_46 : decode cX3_walkIt 46 = .ok (.iaload, 1) := dk_46 (dk_at dksX3_walkIt_2 0 rfl rfl)
theorem dX3_walkIt_47 : decode cX3_walkIt 47 = .ok (.if_icmp .gt 64, 3) := dk_163 0 64 (dk_at dksX3_walkIt_2 1 rfl rfl)
theorem dX3_walkIt_50 : decode cX3_walkIt 50 = .ok (.aload_n 0, 1) := dk_42 (dk_at dksX3_walkIt_2 4 rfl rfl)
theorem dX3_walkIt_51 : decode cX3_walkIt 51 = .ok (.getfield 9, 3) := dk_180 0 9 (dk_at dksX3_walkIt_2 5 rfl rfl)
theorem dX3_walkIt_54 : decode cX3_walkIt 54 = .ok (.iload_n 2, 1) := dk_28 (dk_at dksX3_walkIt_2 8 rfl rfl)
theorem dX3_walkIt_55 : decode cX3_walkIt 55 = .ok (.iconst 2, 1) := dk_5 (dk_at dksX3_walkIt_2 9 rfl rfl)
theorem dX3_walkIt_56 : decode cX3_walkIt 56 = .ok (.iadd, 1) := dk_96 (dk_at dksX3_walkIt_2 10 rfl rfl)
theorem dX3_walkIt_57 : decode cX3_walkIt 57 = .ok (.dup2, 1) := dk_92 (dk_at dksX3_walkIt_2 11 rfl rfl)
theorem dX3_walkIt_58 : decode cX3_walkIt 58 = .ok (.iaload, 1) := dk_46 (dk_at dksX3_walkIt_2 12 rfl rfl)
theorem dX3_walkIt_59 : decode cX3_walkIt 59 = .ok (.aload_n 0, 1) := dk_42 (dk_at dksX3_walkIt_2 13 rfl rfl)
theorem dX3_walkIt_60 : decode cX3_walkIt 60 = .ok (.getfield 9, 3) := dk_180 0 9 (dk_at dksX3_walkIt_2 14 rfl rfl)
theorem dX3_walkIt_63 : decode cX3_walkIt 63 = .ok (.iload_n 3, 1) := dk_29 (dk_at dksX3_walkIt_2 17 rfl rfl)
theorem dX3_walkIt_64 : decode cX3_walkIt 64 = .ok (.invokestatic 86, 3) := dk_184 0 86 (dk_at dksX3_walkIt_2 18 rfl rfl)
theorem dX3_walkIt_67 : decode cX3_walkIt 67 = .ok (.iconst 2, 1) := dk_5 (dk_at dksX3_walkIt_2 21 rfl rfl)
theorem dX3_walkIt_68 : decode cX3_walkIt 68 = .ok (.iadd, 1) := dk_96 (dk_at dksX3_walkIt_2 22 rfl rfl)
theorem dX3_walkIt_69 : decode cX3_walkIt 69 = .ok (.iaload, 1) := dk_46 (dk_at dksX3_walkIt_2 23 rfl rfl)
theorem dX3_walkIt_70 : decode cX3_walkIt 70 = .ok (.iadd, 1) := dk_96 (dk_at dksX3_walkIt_3 0 rfl rfl)
theorem dX3_walkIt_71 : decode cX3_walkIt 71 = .ok (.iastore, 1) := dk_79 (dk_at dksX3_walkIt_3 1 rfl rfl)
theorem dX3_walkIt_72 : decode cX3_walkIt 72 = .ok (.aload_n 0, 1) := dk_42 (dk_at dksX3_walkIt_3 2 rfl rfl)
theorem dX3_walkIt_73 : decode cX3_walkIt 73 = .ok (.getfield 9, 3) := dk_180 0 9 (dk_at dksX3_walkIt_3 3 rfl rfl)
theorem dX3_walkIt_76 : decode cX3_walkIt 76 = .ok (.bipush 9, 2) := dk_16 9 (dk_at dksX3_walkIt_3 6 rfl rfl)
theorem dX3_walkIt_78 : decode cX3_walkIt 78 = .ok (.dup2, 1) := dk_92 (dk_at dksX3_walkIt_3 8 rfl rfl)
theorem dX3_walkIt_79 : decode cX3_walkIt 79 = .ok (.iaload, 1) := dk_46 (dk_at dksX3_walkIt_3 9 rfl rfl)
theorem dX3_walkIt_80 : decode cX3_walkIt 80 = .ok (.aload_n 0, 1) := dk_42 (dk_at dksX3_walkIt_3 10 rfl rfl)
theorem dX3_walkIt_81 : decode cX3_walkIt 81 = .ok (.getfield 9, 3) := dk_180 0 9 (dk_at dksX3_walkIt_3 11 rfl rfl)
theorem dX3_walkIt_84 : decode cX3_walkIt 84 = .ok (.iload_n 3, 1) := dk_29 (dk_at dksX3_walkIt_3 14 rfl rfl)
theorem dX3_walkIt_85 : decode cX3_walkIt 85 = .ok (.invokestatic 86, 3) := dk_184 0 86 (dk_at dksX3_walkIt_3 15 rfl rfl)
theorem dX3_walkIt_88 : decode cX3_walkIt 88 = .ok (.iconst 2, 1) := dk_5 (dk_at dksX3_walkIt_3 18 rfl rfl)
theorem dX3_walkIt_89 : decode cX3_walkIt 89 = .ok (.iadd, 1) := dk_96 (dk_at dksX3_walkIt_3 19 rfl rfl)
theorem dX3_walkIt_90 : decode cX3_walkIt 90 = .ok (.iaload, 1) := dk_46 (dk_at dksX3_walkIt_3 20 rfl rfl)
theorem dX3_walkIt_91 : decode cX3_walkIt 91 = .ok (.iadd, 1) := dk_96 (dk_at dksX3_walkIt_3 21 rfl rfl)
theorem dX3_walkIt_92 : decode cX3_walkIt 92 = .ok (.iastore, 1) := dk_79 (dk_at dksX3_walkIt_3 22 rfl rfl)
theorem dX3_walkIt_93 : decode cX3_walkIt 93 = .ok (.aload_n 0, 1) := dk_42 (dk_at dksX3_walkIt_3 23 rfl rfl)
theorem dX3_walkIt_94 : decode cX3_walkIt 94 = .ok (.getfield 9, 3) := dk_180 0 9 (dk_at dksX3_walkIt_4 0 rfl rfl)
theorem dX3_walkIt_97 : decode cX3_walkIt 97 = .ok (.iload_n 3, 1) := dk_29 (dk_at dksX3_walkIt_4 3 rfl rfl)
theorem dX3_walkIt_98 : decode cX3_walkIt 98 = .ok (.invokestatic 86, 3) := dk_184 0 86 (dk_at dksX3_walkIt_4 4 rfl rfl)
theorem dX3_walkIt_101 : decode cX3_walkIt 101 = .ok (.iconst 2, 1) := dk_5 (dk_at dksX3_walkIt_4 7 rfl rfl)
theorem dX3_walkIt_102 : decode cX3_walkIt 102 = .ok (.iadd, 1) := dk_96 (dk_at dksX3_walkIt_4 8 rfl rfl)
theorem dX3_walkIt_103 : decode cX3_walkIt 103 = .ok (.iconst 0, 1) := dk_3 (dk_at dksX3_walkIt_4 9 rfl rfl)
theorem dX3_walkIt_104 : decode cX3_walkIt 104 = .ok (.iastore, 1) := dk_79 (dk_at dksX3_walkIt_4 10 rfl rfl)
theorem dX3_walkIt_105 : decode cX3_walkIt 105 = .ok (.iinc 3 1, 3) := dk_132 3 1 (dk_at dksX3_walkIt_4 11 rfl rfl)
theorem dX3_walkIt_108 : decode cX3_walkIt 108 = .ok (.goto (-70), 3) := dk_167 255 186 (dk_at dksX3_walkIt_4 14 rfl rfl)
theorem dX3_walkIt_111 : decode cX3_walkIt 111 = .ok (.iconst 0, 1) := dk_3 (dk_at dksX3_walkIt_4 17 rfl rfl)
theorem dX3_walkIt_112 : decode cX3_walkIt 112 = .ok (.istore_n 3, 1) := dk_62 (dk_at dksX3_walkIt_4 18 rfl rfl)
theorem dX3_walkIt_113 : decode cX3_walkIt 113 = .ok (.iconst 0, 1) := dk_3 (dk_at dksX3_walkIt_4 19 rfl rfl)
theorem dX3_walkIt_114 : decode cX3_walkIt 114 = .ok (.istore 4, 2) := dk_54 4 (dk_at dksX3_walkIt_4 20 rfl rfl)
theorem dX3_walkIt_116 : decode cX3_walkIt 116 = .ok (.iload 4, 2) := dk_21 4 (dk_at dksX3_walkIt_4 22 rfl rfl)
theorem dX3_walkIt_118 : decode cX3_walkIt 118 = .ok (.aload_n 0, 1) := dk_42 (dk_at dksX3_walkIt_5 0 rfl rfl)
theorem dX3_walkIt_119 : decode cX3_walkIt 119 = .ok (.getfield 9, 3) := dk_180 0 9 (dk_at dksX3_walkIt_5 1 rfl rfl)
theorem dX3_walkIt_122 : decode cX3_walkIt 122 = .ok (.iconst 1, 1) := dk_4 (dk_at dksX3_walkIt_5 4 rfl rfl)
theorem dX3_walkIt_123 : decode cX3_walkIt 123 = .ok (.iaload, 1) := dk_46 (dk_at dksX3_walkIt_5 5 rfl rfl)
theorem dX3_walkIt_124 : decode cX3_walkIt 124 = .ok (.if_icmp .ge 69, 3) := dk_162 0 69 (dk_at dksX3_walkIt_5 6 rfl rfl)
theorem dX3_walkIt_127 : decode cX3_walkIt 127 = .ok (.aload_n 0, 1) := dk_42 (dk_at dksX3_walkIt_5 9 rfl rfl)
theorem dX3_walkIt_128 : decode cX3_walkIt 128 = .ok (.iload 4, 2) := dk_21 4 (dk_at dksX3_walkIt_5 10 rfl rfl)
theorem dX3_walkIt_130 : decode cX3_walkIt 130 = .ok (.invokevirtual 78, 3) := dk_182 0 78 (dk_at dksX3_walkIt_5 12 rfl rfl)
theorem dX3_walkIt_133 : decode cX3_walkIt 133 = .ok (.ifCond .eq 54, 3) := dk_153 0 54 (dk_at dksX3_walkIt_5 15 rfl rfl)
theorem dX3_walkIt_136 : decode cX3_walkIt 136 = .ok (.aload_n 0, 1) := dk_42 (dk_at dksX3_walkIt_5 18 rfl rfl)
theorem dX3_walkIt_137 : decode cX3_walkIt 137 = .ok (.iload_n 1, 1) := dk_27 (dk_at dksX3_walkIt_5 19 rfl rfl)
theorem dX3_walkIt_138 : decode cX3_walkIt 138 = .ok (.aload_n 0, 1) := dk_42 (dk_at dksX3_walkIt_5 20 rfl rfl)
theorem dX3_walkIt_139 : decode cX3_walkIt 139 = .ok (.getfield 9, 3) := dk_180 0 9 (dk_at dksX3_walkIt_5 21 rfl rfl)
theorem dX3_walkIt_142 : decode cX3_walkIt 142 = .ok (.iload 4, 2) := dk_21 4 (dk_at dksX3_walkIt_6 0 rfl rfl)
theorem dX3_walkIt_144 : decode cX3_walkIt 144 = .ok (.invokestatic 75, 3) := dk_184 0 75 (dk_at dksX3_walkIt_6 2 rfl rfl)
theorem dX3_walkIt_147 : decode cX3_walkIt 147 = .ok (.iconst 1, 1) := dk_4 (dk_at dksX3_walkIt_6 5 rfl rfl)
theorem dX3_walkIt_148 : decode cX3_walkIt 148 = .ok (.iadd, 1) := dk_96 (dk_at dksX3_walkIt_6 6 rfl rfl)
theorem dX3_walkIt_149 : decode cX3_walkIt 149 = .ok (.iaload, 1) := dk_46 (dk_at dksX3_walkIt_6 7 rfl rfl)
theorem dX3_walkIt_150 : decode cX3_walkIt 150 = .ok (.invokevirtual 198, 3) := dk_182 0 198 (dk_at dksX3_walkIt_6 8 rfl rfl)
theorem dX3_walkIt_153 : decode cX3_walkIt 153 = .ok (.ifCond .eq 34, 3) := dk_153 0 34 (dk_at dksX3_walkIt_6 11 rfl rfl)
theorem dX3_walkIt_156 : decode cX3_walkIt 156 = .ok (.aload_n 0, 1) := dk_42 (dk_at dksX3_walkIt_6 14 rfl rfl)
theorem dX3_walkIt_157 : decode cX3_walkIt 157 = .ok (.getfield 9, 3) := dk_180 0 9 (dk_at dksX3_walkIt_6 15 rfl rfl)
theorem dX3_walkIt_160 : decode cX3_walkIt 160 = .ok (.iload 4, 2) := dk_21 4 (dk_at dksX3_walkIt_6 18 rfl rfl)
theorem dX3_walkIt_162 : decode cX3_walkIt 162 = .ok (.invokestatic 75, 3) := dk_184 0 75 (dk_at dksX3_walkIt_6 20 rfl rfl)
theorem dX3_walkIt_165 : decode cX3_walkIt 165 = .ok (.iconst 2, 1) := dk_5 (dk_at dksX3_walkIt_6 23 rfl rfl)
theorem dX3_walkIt_166 : decode cX3_walkIt 166 = .ok (.iadd, 1) := dk_96 (dk_at dksX3_walkIt_7 0 rfl rfl)
theorem dX3_walkIt_167 : decode cX3_walkIt 167 = .ok (.iaload, 1) := dk_46 (dk_at dksX3_walkIt_7 1 rfl rfl)
theorem dX3_walkIt_168 : decode cX3_walkIt 168 = .ok (.ifCond .ne 19, 3) := dk_154 0 19 (dk_at dksX3_walkIt_7 2 rfl rfl)
theorem dX3_walkIt_171 : decode cX3_walkIt 171 = .ok (.aload_n 0, 1) := dk_42 (dk_at dksX3_walkIt_7 5 rfl rfl)
theorem dX3_walkIt_172 : decode cX3_walkIt 172 = .ok (.getfield 9, 3) := dk_180 0 9 (dk_at dksX3_walkIt_7 6 rfl rfl)
theorem dX3_walkIt_175 : decode cX3_walkIt 175 = .ok (.iload 4, 2) := dk_21 4 (dk_at dksX3_walkIt_7 9 rfl rfl)
theorem dX3_walkIt_177 : decode cX3_walkIt 177 = .ok (.invokestatic 75, 3) := dk_184 0 75 (dk_at dksX3_walkIt_7 11 rfl rfl)
theorem dX3_walkIt_180 : decode cX3_walkIt 180 = .ok (.iconst 2, 1) := dk_5 (dk_at dksX3_walkIt_7 14 rfl rfl)
theorem dX3_walkIt_181 : decode cX3_walkIt 181 = .ok (.iadd, 1) := dk_96 (dk_at dksX3_walkIt_7 15 rfl rfl)
theorem dX3_walkIt_182 : decode cX3_walkIt 182 = .ok (.iconst 1, 1) := dk_4 (dk_at dksX3_walkIt_7 16 rfl rfl)
theorem dX3_walkIt_183 : decode cX3_walkIt 183 = .ok (.iastore, 1) := dk_79 (dk_at dksX3_walkIt_7 17 rfl rfl)
theorem dX3_walkIt_184 : decode cX3_walkIt 184 = .ok (.iinc 3 1, 3) := dk_132 3 1 (dk_at dksX3_walkIt_7 18 rfl rfl)
theorem dX3_walkIt_187 : decode cX3_walkIt 187 = .ok (.iinc 4 1, 3) := dk_132 4 1 (dk_at dksX3_walkIt_7 21 rfl rfl)
theorem dX3_walkIt_190 : decode cX3_walkIt 190 = .ok (.goto (-74), 3) := dk_167 255 182 (dk_at dksX3_walkIt_8 0 rfl rfl)
theorem dX3_walkIt_193 : decode cX3_walkIt 193 = .ok (.aload_n 0, 1) := dk_42 (dk_at dksX3_walkIt_8 3 rfl rfl)
theorem dX3_walkIt_194 : decode cX3_walkIt 194 = .ok (.getfield 9, 3) := dk_180 0 9 (dk_at dksX3_walkIt_8 4 rfl rfl)
theorem dX3_walkIt_197 : decode cX3_walkIt 197 = .ok (.iload_n 2, 1) := dk_28 (dk_at dksX3_walkIt_8 7 rfl rfl)
theorem dX3_walkIt_198 : decode cX3_walkIt 198 = .ok (.iconst 3, 1) := dk_6 (dk_at dksX3_walkIt_8 8 rfl rfl)
theorem dX3_walkIt_199 : decode cX3_walkIt 199 = .ok (.iadd, 1) := dk_96 (dk_at dksX3_walkIt_8 9 rfl rfl)
theorem dX3_walkIt_200 : decode cX3_walkIt 200 = .ok (.dup2, 1) := dk_92 (dk_at dksX3_walkIt_8 10 rfl rfl)
theorem dX3_walkIt_201 : decode cX3_walkIt 201 = .ok (.iaload, 1) := dk_46 (dk_at dksX3_walkIt_8 11 rfl rfl)
theorem dX3_walkIt_202 : decode cX3_walkIt 202 = .ok (.iload_n 3, 1) := dk_29 (dk_at dksX3_walkIt_8 12 rfl rfl)
theorem dX3_walkIt_203 : decode cX3_walkIt 203 = .ok (.iadd, 1) := dk_96 (dk_at dksX3_walkIt_8 13 rfl rfl)
theorem dX3_walkIt_204 : decode cX3_walkIt 204 = .ok (.iastore, 1) := dk_79 (dk_at dksX3_walkIt_8 14 rfl rfl)
theorem dX3_walkIt_205 : decode cX3_walkIt 205 = .ok (.aload_n 0, 1) := dk_42 (dk_at dksX3_walkIt_8 15 rfl rfl)
theorem dX3_walkIt_206 : decode cX3_walkIt 206 = .ok (.getfield 9, 3) := dk_180 0 9 (dk_at dksX3_walkIt_8 16 rfl rfl)
theorem dX3_walkIt_209 : decode cX3_walkIt 209 = .ok (.iload_n 2, 1) := dk_28 (dk_at dksX3_walkIt_8 19 rfl rfl)
theorem dX3_walkIt_210 : decode cX3_walkIt 210 = .ok (.iconst 4, 1) := dk_7 (dk_at dksX3_walkIt_8 20 rfl rfl)
theorem dX3_walkIt_211 : decode cX3_walkIt 211 = .ok (.iadd, 1) := dk_96 (dk_at dksX3_walkIt_8 21 rfl rfl)
theorem dX3_walkIt_212 : decode cX3_walkIt 212 = .ok (.dup2, 1) := dk_92 (dk_at dksX3_walkIt_8 22 rfl rfl)
theorem dX3_walkIt_213 : decode cX3_walkIt 213 = .ok (.iaload, 1) := dk_46 (dk_at dksX3_walkIt_8 23 rfl rfl)
theorem dX3_walkIt_214 : decode cX3_walkIt 214 = .ok (.iload_n 3, 1) := dk_29 (dk_at dksX3_walkIt_9 0 rfl rfl)
theorem dX3_walkIt_215 : decode cX3_walkIt 215 = .ok (.iadd, 1) := dk_96 (dk_at dksX3_walkIt_9 1 rfl rfl)
theorem dX3_walkIt_216 : decode cX3_walkIt 216 = .ok (.iastore, 1) := dk_79 (dk_at dksX3_walkIt_9 2 rfl rfl)
theorem dX3_walkIt_217 : decode cX3_walkIt 217 = .ok (.aload_n 0, 1) := dk_42 (dk_at dksX3_walkIt_9 3 rfl rfl)
theorem dX3_walkIt_218 : decode cX3_walkIt 218 = .ok (.getfield 9, 3) := dk_180 0 9 (dk_at dksX3_walkIt_9 4 rfl rfl)
theorem dX3_walkIt_221 : decode cX3_walkIt 221 = .ok (.bipush 11, 2) := dk_16 11 (dk_at dksX3_walkIt_9 7 rfl rfl)
theorem dX3_walkIt_223 : decode cX3_walkIt 223 = .ok (.dup2, 1) := dk_92 (dk_at dksX3_walkIt_9 9 rfl rfl)
theorem dX3_walkIt_224 : decode cX3_walkIt 224 = .ok (.iaload, 1) := dk_46 (dk_at dksX3_walkIt_9 10 rfl rfl)
theorem dX3_walkIt_225 : decode cX3_walkIt 225 = .ok (.iload_n 3, 1) := dk_29 (dk_at dksX3_walkIt_9 11 rfl rfl)
theorem dX3_walkIt_226 : decode cX3_walkIt 226 = .ok (.iadd, 1) := dk_96 (dk_at dksX3_walkIt_9 12 rfl rfl)
theorem dX3_walkIt_227 : decode cX3_walkIt 227 = .ok (.iastore, 1) := dk_79 (dk_at dksX3_walkIt_9 13 rfl rfl)
theorem dX3_walkIt_228 : decode cX3_walkIt 228 = .ok (.iload_n 3, 1) := dk_29 (dk_at dksX3_walkIt_9 14 rfl rfl)
theorem dX3_walkIt_229 : decode cX3_walkIt 229 = .ok (.ireturn, 1) := dk_172 (dk_at dksX3_walkIt_9 15 rfl rfl)
abbrev cX3_isInRound : ByteArray := prog_11_method_47_code
def yX3_isInRound : MethodName := ⟨RX3, "isInRound", "(II)Z"⟩
def dkwX3_isInRound_1 : List UInt8 := [184, 0, 71, 172]
abbrev dktX3_isInRound_1 : List UInt8 := dkwX3_isInRound_1 ++ []
def dkwX3_isInRound_0 : List UInt8 := [28, 133, 42, 180, 0, 9, 27, 184, 0, 121, 46, 133, 42, 180, 0, 9, 27, 184, 0, 121, 4, 96, 46, 133]
abbrev dktX3_isInRound_0 : List UInt8 := dkwX3_isInRound_0 ++ dktX3_isInRound_1
theorem dksX3_isInRound_0 : cX3_isInRound.data.toList.drop 0 = dktX3_isInRound_0 := by decide +kernel
theorem dksX3_isInRound_1 : cX3_isInRound.data.toList.drop 24 = dktX3_isInRound_1 := dk_seg dksX3_isInRound_0 24 rfl rfl
theorem dX3_isInRound_0 : decode cX3_isInRound 0 = .ok (.iload_n 2, 1) := dk_28 (dk_at dksX3_isInRound_0 0 rfl rfl)
theorem dX3_isInRound_1 : decode cX3_isInRound 1 = .ok (.i2l, 1) := dk_133 (dk_at dksX3_isInRound_0 1 rfl rfl)
theorem dX3_isInRound_2 : decode cX3_isInRound 2 = .ok (.aload_n 0, 1) := dk_42 (dk_at dksX3_isInRound_0 2 rfl rfl)
theorem dX3_isInRound_3 : decode cX3_isInRound 3 = .ok (.getfield 9, 3) := dk_180 0 9 (dk_at dksX3_isInRound_0 3 rfl rfl)
theorem dX3_isInRound_6 : decode cX3_isInRound 6 = .ok (.iload_n 1, 1) := dk_27 (dk_at dksX3_isInRound_0 6 rfl rfl)
theorem dX3_isInRound_7 : decode cX3_isInRound 7 = .ok (.invokestatic 121, 3) := dk_184 0 121 (dk_at dksX3_isInRound_0 7 rfl rfl)
theorem dX3_isInRound_10 : decode cX3_isInRound 10 = .ok (.iaload, 1) := dk_46 (dk_at dksX3_isInRound_0 10 rfl rfl)
theorem dX3_isInRound_11 : decode cX3_isInRound 11 = .ok (.i2l, 1) := dk_133 (dk_at dksX3_isInRound_0 11 rfl rfl)
theorem dX3_isInRound_12 : decode cX3_isInRound 12 = .ok (.aload_n 0, 1) := dk_42 (dk_at dksX3_isInRound_0 12 rfl rfl)
theorem dX3_isInRound_13 : decode cX3_isInRound 13 = .ok (.getfield 9, 3) := dk_180 0 9 (dk_at dksX3_isInRound_0 13 rfl rfl)
theorem dX3_isInRound_16 : decode cX3_isInRound 16 = .ok (.iload_n 1, 1) := dk_27 (dk_at dksX3_isInRound_0 16 rfl rfl)
theorem dX3_isInRound_17 : decode cX3_isInRound 17 = .ok (.invokestatic 121, 3) := dk_184 0 121 (dk_at dksX3_isInRound_0 17 rfl rfl)
theorem dX3_isInRound_20 : decode cX3_isInRound 20 = .ok (.iconst 1, 1) := dk_4 (dk_at dksX3_isInRound_0 20 rfl rfl)
theorem dX3_isInRound_21 : decode cX3_isInRound 21 = .ok (.iadd, 1) := dk_96 (dk_at dksX3_isInRound_0 21 rfl rfl)
theorem dX3_isInRound_22 : decode cX3_isInRound 22 = .ok (.iaload, 1) := dk_46 (dk_at dksX3_isInRound_0 22 rfl rfl)
theorem dX3_isInRound_23 : decode cX3_isInRound 23 = .ok (.i2l, 1) := dk_133 (dk_at dksX3_isInRound_0 23 rfl rfl)
theorem dX3_isInRound_24 : decode cX3_isInRound 24 = .ok (.invokestatic 71, 3) := dk_184 0 71 (dk_at dksX3_isInRound_1 0 rfl rfl)
theorem dX3_isInRound_27 : decode cX3_isInRound 27 = .ok (.ireturn, 1) := dk_172 (dk_at dksX3_isInRound_1 3 rfl rfl)
abbrev cX3_census : ByteArray := prog_11_method_51_code
def yX3_census : MethodName := ⟨RX3, "census", "()I"⟩
def dkwX3_census_0 : List UInt8 := [42, 182, 0, 89, 42, 42, 182, 0, 204, 182, 0, 100, 172]
abbrev dktX3_census_0 : List UInt8 := dkwX3_census_0 ++ []
theorem dksX3_census_0 : cX3_census.data.toList.drop 0 = dktX3_census_0 := by decide +kernel
theorem dX3_census_0 : decode cX3_census 0 = .ok (.aload_n 0, 1) := dk_42 (dk_at dksX3_census_0 0 rfl rfl)
theorem dX3_census_1 : decode cX3_census 1 = .ok (.invokevirtual 89, 3) := dk_182 0 89 (dk_at dksX3_census_0 1 rfl rfl)
theorem dX3_census_4 : decode cX3_census 4 = .ok (.aload_n 0, 1) := dk_42 (dk_at dksX3_census_0 4 rfl rfl)
theorem dX3_census_5 : decode cX3_census 5 = .ok (.aload_n 0, 1) := dk_42 (dk_at dksX3_census_0 5 rfl rfl)
theorem dX3_census_6 : decode cX3_census 6 = .ok (.invokevirtual 204, 3) := dk_182 0 204 (dk_at dksX3_census_0 6 rfl rfl)
theorem dX3_census_9 : decode cX3_census 9 = .ok (.invokevirtual 100, 3) := dk_182 0 100 (dk_at dksX3_census_0 9 rfl rfl)
theorem dX3_census_12 : decode cX3_census 12 = .ok (.ireturn, 1) := dk_172 (dk_at dksX3_census_0 12 rfl rfl)
abbrev cX3_censusIt : ByteArray := prog_11_method_50_code
def yX3_censusIt : MethodName := ⟨RX3, "censusIt", "()I"⟩
def dkwX3_censusIt_3 : List UInt8 := [132, 2, 1, 167, 255, 231, 27, 172]
abbrev dktX3_censusIt_3 : List UInt8 := dkwX3_censusIt_3 ++ []
def dkwX3_censusIt_2 : List UInt8 := [28, 42, 180, 0, 9, 5, 46, 162, 0, 21, 42, 180, 0, 9, 28, 184, 0, 121, 7, 96, 3, 79]
abbrev dktX3_censusIt_2 : List UInt8 := dkwX3_censusIt_2 ++ dktX3_censusIt_3
def dkwX3_censusIt_1 : List UInt8 := [46, 162, 0, 21, 42, 180, 0, 9, 28, 184, 0, 75, 5, 96, 3, 79, 132, 2, 1, 167, 255, 231, 3, 61]
abbrev dktX3_censusIt_1 : List UInt8 := dkwX3_censusIt_1 ++ dktX3_censusIt_2
def dkwX3_censusIt_0 : List UInt8 := [42, 180, 0, 9, 16, 11, 46, 60, 42, 180, 0, 9, 16, 11, 3, 79, 3, 61, 28, 42, 180, 0, 9, 4]
abbrev dktX3_censusIt_0 : List UInt8 := dkwX3_censusIt_0 ++ dktX3_censusIt_1
theorem dksX3_censusIt_0 : cX3_censusIt.data.toList.drop 0 = dktX3_censusIt_0 := by decide +kernel
theorem dksX3_censusIt_1 : cX3_censusIt.data.toList.drop 24 = dktX3_censusIt_1 := dk_seg dksX3_censusIt_0 24 rfl rfl
theorem dksX3_censusIt_2 : cX3_censusIt.data.toList.drop 48 = dktX3_censusIt_2 := dk_seg dksX3_censusIt_1 24 rfl rfl
theorem dksX3_censusIt_3 : cX3_censusIt.data.toList.drop 70 = dktX3_censusIt_3 := dk_seg dksX3_censusIt_2 22 rfl rfl
theorem dX3_censusIt_0 : decode cX3_censusIt 0 = .ok (.aload_n 0, 1) := dk_42 (dk_at dksX3_censusIt_0 0 rfl rfl)
theorem dX3_censusIt_1 : decode cX3_censusIt 1 = .ok (.getfield 9, 3) := dk_180 0 9 (dk_at dksX3_censusIt_0 1 rfl rfl)
theorem dX3_censusIt_4 : decode cX3_censusIt 4 = .ok (.bipush 11, 2) := dk_16 11 (dk_at dksX3_censusIt_0 4 rfl rfl)
theorem dX3_censusIt_6 : decode cX3_censusIt 6 = .ok (.iaload, 1) := dk_46 (dk_at dksX3_censusIt_0 6 rfl rfl)
theorem dX3_censusIt_7 : decode cX3_censusIt 7 = .ok (.istore_n 1, 1) := dk_60 (dk_at dksX3_censusIt_0 7 rfl rfl)
theorem dX3_censusIt_8 : decode cX3_censusIt 8 = .ok (.aload_n 0, 1) := dk_42 (dk_at dksX3_censusIt_0 8 rfl rfl)
theorem dX3_censusIt_9 : decode cX3_censusIt 9 = .ok (.getfield 9, 3) := dk_180 0 9 (dk_at dksX3_censusIt_0 9 rfl rfl)
theorem dX3_censusIt_12 : decode cX3_censusIt 12 = .ok (.bipush 11, 2) := dk_16 11 (dk_at dksX3_censusIt_0 12 rfl rfl)
theorem dX3_censusIt_14 : decode cX3_censusIt 14 = .ok (.iconst 0, 1) := dk_3 (dk_at dksX3_censusIt_0 14 rfl rfl)
theorem dX3_censusIt_15 : decode cX3_censusIt 15 = .ok (.iastore, 1) := dk_79 (dk_at dksX3_censusIt_0 15 rfl rfl)
theorem dX3_censusIt_16 : decode cX3_censusIt 16 = .ok (.iconst 0, 1) := dk_3 (dk_at dksX3_censusIt_0 16 rfl rfl)
theorem dX3_censusIt_17 : decode cX3_censusIt 17 = .ok (.istore_n 2, 1) := dk_61 (dk_at dksX3_censusIt_0 17 rfl rfl)
theorem dX3_censusIt_18 : decode cX3_censusIt 18 = .ok (.iload_n 2, 1) := dk_28 (dk_at dksX3_censusIt_0 18 rfl rfl)
theorem dX3_censusIt_19 : decode cX3_censusIt 19 = .ok (.aload_n 0, 1) := dk_42 (dk_at dksX3_censusIt_0 19 rfl rfl)
theorem dX3_censusIt_20 : decode cX3_censusIt 20 = .ok (.getfield 9, 3) := dk_180 0 9 (dk_at dksX3_censusIt_0 20 rfl rfl)
theorem dX3_censusIt_23 : decode cX3_censusIt 23 = .ok (.iconst 1, 1) := dk_4 (dk_at dksX3_censusIt_0 23 rfl rfl)
theorem dX3_censusIt_24 : decode cX3_censusIt 24 = .ok (.iaload, 1) := dk_46 (dk_at dksX3_censusIt_1 0 rfl rfl)
theorem dX3_censusIt_25 : decode cX3_censusIt 25 = .ok (.if_icmp .ge 21, 3) := dk_162 0 21 (dk_at dksX3_censusIt_1 1 rfl rfl)
theorem dX3_censusIt_28 : decode cX3_censusIt 28 = .ok (.aload_n 0, 1) := dk_42 (dk_at dksX3_censusIt_1 4 rfl rfl)
theorem dX3_censusIt_29 : decode cX3_censusIt 29 = .ok (.getfield 9, 3) := dk_180 0 9 (dk_at dksX3_censusIt_1 5 rfl rfl)
theorem dX3_censusIt_32 : decode cX3_censusIt 32 = .ok (.iload_n 2, 1) := dk_28 (dk_at dksX3_censusIt_1 8 rfl rfl)
theorem dX3_censusIt_33 : decode cX3_censusIt 33 = .ok (.invokestatic 75, 3) := dk_184 0 75 (dk_at dksX3_censusIt_1 9 rfl rfl)
theorem dX3_censusIt_36 : decode cX3_censusIt 36 = .ok (.iconst 2, 1) := dk_5 (dk_at dksX3_censusIt_1 12 rfl rfl)
theorem dX3_censusIt_37 : decode cX3_censusIt 37 = .ok (.iadd, 1) := dk_96 (dk_at dksX3_censusIt_1 13 rfl rfl)
theorem dX3_censusIt_38 : decode cX3_censusIt 38 = .ok (.iconst 0, 1) := dk_3 (dk_at dksX3_censusIt_1 14 rfl rfl)
theorem dX3_censusIt_39 : decode cX3_censusIt 39 = .ok (.iastore, 1) := dk_79 (dk_at dksX3_censusIt_1 15 rfl rfl)
theorem dX3_censusIt_40 : decode cX3_censusIt 40 = .ok (.iinc 2 1, 3) := dk_132 2 1 (dk_at dksX3_censusIt_1 16 rfl rfl)
theorem dX3_censusIt_43 : decode cX3_censusIt 43 = .ok (.goto (-25), 3) := dk_167 255 231 (dk_at dksX3_censusIt_1 19 rfl rfl)
theorem dX3_censusIt_46 : decode cX3_censusIt 46 = .ok (.iconst 0, 1) := dk_3 (dk_at dksX3_censusIt_1 22 rfl rfl)
theorem dX3_censusIt_47 : decode cX3_censusIt 47 = .ok (.istore_n 2, 1) := dk_61 (dk_at dksX3_censusIt_1 23 rfl rfl)
theorem dX3_censusIt_48 : decode cX3_censusIt 48 = .ok (.iload_n 2, 1) := dk_28 (dk_at dksX3_censusIt_2 0 rfl rfl)
theorem dX3_censusIt_49 : decode cX3_censusIt 49 = .ok (.aload_n 0, 1) := dk_42 (dk_at dksX3_censusIt_2 1 rfl rfl)
theorem dX3_censusIt_50 : decode cX3_censusIt 50 = .ok (.getfield 9, 3) := dk_180 0 9 (dk_at dksX3_censusIt_2 2 rfl rfl)
theorem dX3_censusIt_53 : decode cX3_censusIt 53 = .ok (.iconst 2, 1) := dk_5 (dk_at dksX3_censusIt_2 5 rfl rfl)
theorem dX3_censusIt_54 : decode cX3_censusIt 54 = .ok (.iaload, 1) := dk_46 (dk_at dksX3_censusIt_2 6 rfl rfl)
theorem dX3_censusIt_55 : decode cX3_censusIt 55 = .ok (.if_icmp .ge 21, 3) := dk_162 0 21 (dk_at dksX3_censusIt_2 7 rfl rfl)
theorem dX3_censusIt_58 : decode cX3_censusIt 58 = .ok (.aload_n 0, 1) := dk_42 (dk_at dksX3_censusIt_2 10 rfl rfl)
theorem dX3_censusIt_59 : decode cX3_censusIt 59 = .ok (.getfield 9, 3) := dk_180 0 9 (dk_at dksX3_censusIt_2 11 rfl rfl)
theorem dX3_censusIt_62 : decode cX3_censusIt 62 = .ok (.iload_n 2, 1) := dk_28 (dk_at dksX3_censusIt_2 14 rfl rfl)
theorem dX3_censusIt_63 : decode cX3_censusIt 63 = .ok (.invokestatic 121, 3) := dk_184 0 121 (dk_at dksX3_censusIt_2 15 rfl rfl)
theorem dX3_censusIt_66 : decode cX3_censusIt 66 = .ok (.iconst 4, 1) := dk_7 (dk_at dksX3_censusIt_2 18 rfl rfl)
theorem dX3_censusIt_67 : decode cX3_censusIt 67 = .ok (.iadd, 1) := dk_96 (dk_at dksX3_censusIt_2 19 rfl rfl)
theorem dX3_censusIt_68 : decode cX3_censusIt 68 = .ok (.iconst 0, 1) := dk_3 (dk_at dksX3_censusIt_2 20 rfl rfl)
theorem dX3_censusIt_69 : decode cX3_censusIt 69 = .ok (.iastore, 1) := dk_79 (dk_at dksX3_censusIt_2 21 rfl rfl)
theorem dX3_censusIt_70 : decode cX3_censusIt 70 = .ok (.iinc 2 1, 3) := dk_132 2 1 (dk_at dksX3_censusIt_3 0 rfl rfl)
theorem dX3_censusIt_73 : decode cX3_censusIt 73 = .ok (.goto (-25), 3) := dk_167 255 231 (dk_at dksX3_censusIt_3 3 rfl rfl)
theorem dX3_censusIt_76 : decode cX3_censusIt 76 = .ok (.iload_n 1, 1) := dk_27 (dk_at dksX3_censusIt_3 6 rfl rfl)
theorem dX3_censusIt_77 : decode cX3_censusIt 77 = .ok (.ireturn, 1) := dk_172 (dk_at dksX3_censusIt_3 7 rfl rfl)
abbrev cX3_reachOf : ByteArray := prog_11_method_52_code
def yX3_reachOf : MethodName := ⟨RX3, "reachOf", "(II)I"⟩
def dkwX3_reachOf_5 : List UInt8 := [182, 0, 64, 172]
abbrev dktX3_reachOf_5 : List UInt8 := dkwX3_reachOf_5 ++ []
def dkwX3_reachOf_4 : List UInt8 := [167, 0, 4, 2, 172, 42, 27, 182, 0, 109, 172, 42, 180, 0, 9, 29, 16, 6, 96, 46, 172, 42, 5]
abbrev dktX3_reachOf_4 : List UInt8 := dkwX3_reachOf_4 ++ dktX3_reachOf_5
def dkwX3_reachOf_3 : List UInt8 := [42, 180, 0, 9, 29, 28, 96, 46, 172, 42, 27, 182, 0, 106, 153, 0, 11, 42, 27, 182, 0, 112]
abbrev dktX3_reachOf_3 : List UInt8 := dkwX3_reachOf_3 ++ dktX3_reachOf_4
def dkwX3_reachOf_2 : List UInt8 := [170, 0, 0, 0, 0, 0, 90, 0, 0, 0, 0, 0, 0, 0, 7, 0, 0, 0, 47, 0, 0, 0, 47, 0, 0, 0, 47, 0, 0, 0, 47, 0, 0, 0, 47, 0, 0, 0, 56, 0, 0, 0, 74, 0, 0, 0, 80]
abbrev dktX3_reachOf_2 : List UInt8 := dkwX3_reachOf_2 ++ dktX3_reachOf_3
def dkwX3_reachOf_1 : List UInt8 := [28]
abbrev dktX3_reachOf_1 : List UInt8 := dkwX3_reachOf_1 ++ dktX3_reachOf_2
def dkwX3_reachOf_0 : List UInt8 := [42, 3, 181, 0, 52, 42, 27, 182, 0, 103, 154, 0, 9, 42, 4, 182, 0, 64, 172, 27, 184, 0, 86, 62]
abbrev dktX3_reachOf_0 : List UInt8 := dkwX3_reachOf_0 ++ dktX3_reachOf_1
theorem dksX3_reachOf_0 : cX3_reachOf.data.toList.drop 0 = dktX3_reachOf_0 := by decide +kernel
theorem dksX3_reachOf_1 : cX3_reachOf.data.toList.drop 24 = dktX3_reachOf_1 := dk_seg dksX3_reachOf_0 24 rfl rfl
theorem dksX3_reachOf_2 : cX3_reachOf.data.toList.drop 25 = dktX3_reachOf_2 := dk_seg dksX3_reachOf_1 1 rfl rfl
theorem dksX3_reachOf_3 : cX3_reachOf.data.toList.drop 72 = dktX3_reachOf_3 := dk_seg dksX3_reachOf_2 47 rfl rfl
theorem dksX3_reachOf_4 : cX3_reachOf.data.toList.drop 94 = dktX3_reachOf_4 := dk_seg dksX3_reachOf_3 22 rfl rfl
theorem dksX3_reachOf_5 : cX3_reachOf.data.toList.drop 117 = dktX3_reachOf_5 := dk_seg dksX3_reachOf_4 23 rfl rfl
theorem dX3_reachOf_0 : decode cX3_reachOf 0 = .ok (.aload_n 0, 1) := dk_42 (dk_at dksX3_reachOf_0 0 rfl rfl)
theorem dX3_reachOf_1 : decode cX3_reachOf 1 = .ok (.iconst 0, 1) := dk_3 (dk_at dksX3_reachOf_0 1 rfl rfl)
theorem dX3_reachOf_2 : decode cX3_reachOf 2 = .ok (.putfield 52, 3) := dk_181 0 52 (dk_at dksX3_reachOf_0 2 rfl rfl)
theorem dX3_reachOf_5 : decode cX3_reachOf 5 = .ok (.aload_n 0, 1) := dk_42 (dk_at dksX3_reachOf_0 5 rfl rfl)
theorem dX3_reachOf_6 : decode cX3_reachOf 6 = .ok (.iload_n 1, 1) := dk_27 (dk_at dksX3_reachOf_0 6 rfl rfl)
theorem dX3_reachOf_7 : decode cX3_reachOf 7 = .ok (.invokevirtual 103, 3) := dk_182 0 103 (dk_at dksX3_reachOf_0 7 rfl rfl)
theorem dX3_reachOf_10 : decode cX3_reachOf 10 = .ok (.ifCond .ne 9, 3) := dk_154 0 9 (dk_at dksX3_reachOf_0 10 rfl rfl)
theorem dX3_reachOf_13 : decode cX3_reachOf 13 = .ok (.aload_n 0, 1) := dk_42 (dk_at dksX3_reachOf_0 13 rfl rfl)
theorem dX3_reachOf_14 : decode cX3_reachOf 14 = .ok (.iconst 1, 1) := dk_4 (dk_at dksX3_reachOf_0 14 rfl rfl)
theorem dX3_reachOf_15 : decode cX3_reachOf 15 = .ok (.invokevirtual 64, 3) := dk_182 0 64 (dk_at dksX3_reachOf_0 15 rfl rfl)
theorem dX3_reachOf_18 : decode cX3_reachOf 18 = .ok (.ireturn, 1) := dk_172 (dk_at dksX3_reachOf_0 18 rfl rfl)
theorem dX3_reachOf_19 : decode cX3_reachOf 19 = .ok (.iload_n 1, 1) := dk_27 (dk_at dksX3_reachOf_0 19 rfl rfl)
theorem dX3_reachOf_20 : decode cX3_reachOf 20 = .ok (.invokestatic 86, 3) := dk_184 0 86 (dk_at dksX3_reachOf_0 20 rfl rfl)
theorem dX3_reachOf_23 : decode cX3_reachOf 23 = .ok (.istore_n 3, 1) := dk_62 (dk_at dksX3_reachOf_0 23 rfl rfl)
theorem dX3_reachOf_24 : decode cX3_reachOf 24 = .ok (.iload_n 2, 1) := dk_28 (dk_at dksX3_reachOf_1 0 rfl rfl)
theorem dX3_reachOf_25 : decode cX3_reachOf 25 = .ok (.tableswitch 90 0 7 #[47, 47, 47, 47, 47, 56, 74, 80], 47) := by decide +kernel
theorem dX3_reachOf_72 : decode cX3_reachOf 72 = .ok (.aload_n 0, 1) := dk_42 (dk_at dksX3_reachOf_3 0 rfl rfl)
theorem dX3_reachOf_73 : decode cX3_reachOf 73 = .ok (.getfield 9, 3) := dk_180 0 9 (dk_at dksX3_reachOf_3 1 rfl rfl)
theorem dX3_reachOf_76 : decode cX3_reachOf 76 = .ok (.iload_n 3, 1) := dk_29 (dk_at dksX3_reachOf_3 4 rfl rfl)
theorem dX3_reachOf_77 : decode cX3_reachOf 77 = .ok (.iload_n 2, 1) := dk_28 (dk_at dksX3_reachOf_3 5 rfl rfl)
theorem dX3_reachOf_78 : decode cX3_reachOf 78 = .ok (.iadd, 1) := dk_96 (dk_at dksX3_reachOf_3 6 rfl rfl)
theorem dX3_reachOf_79 : decode cX3_reachOf 79 = .ok (.iaload, 1) := dk_46 (dk_at dksX3_reachOf_3 7 rfl rfl)
theorem dX3_reachOf_80 : decode cX3_reachOf 80 = .ok (.ireturn, 1) := dk_172 (dk_at dksX3_reachOf_3 8 rfl rfl)
theorem dX3_reachOf_81 : decode cX3_reachOf 81 = .ok (.aload_n 0, 1) := dk_42 (dk_at dksX3_reachOf_3 9 rfl rfl)
theorem dX3_reachOf_82 : decode cX3_reachOf 82 = .ok (.iload_n 1, 1) := dk_27 (dk_at dksX3_reachOf_3 10 rfl rfl)
theorem dX3_reachOf_83 : decode cX3_reachOf 83 = .ok (.invokevirtual 106, 3) := dk_182 0 106 (dk_at dksX3_reachOf_3 11 rfl rfl)
theorem dX3_reachOf_86 : decode cX3_reachOf 86 = .ok (.ifCond .eq 11, 3) := dk_153 0 11 (dk_at dksX3_reachOf_3 14 rfl rfl)
theorem dX3_reachOf_89 : decode cX3_reachOf 89 = .ok (.aload_n 0, 1) := dk_42 (dk_at dksX3_reachOf_3 17 rfl rfl)
theorem dX3_reachOf_90 : decode cX3_reachOf 90 = .ok (.iload_n 1, 1) := dk_27 (dk_at dksX3_reachOf_3 18 rfl rfl)
theorem dX3_reachOf_91 : decode cX3_reachOf 91 = .ok (.invokevirtual 112, 3) := dk_182 0 112 (dk_at dksX3_reachOf_3 19 rfl rfl)
theorem dX3_reachOf_94 : decode cX3_reachOf 94 = .ok (.goto 4, 3) := dk_167 0 4 (dk_at dksX3_reachOf_4 0 rfl rfl)
theorem dX3_reachOf_97 : decode cX3_reachOf 97 = .ok (.iconst (-1), 1) := dk_2 (dk_at dksX3_reachOf_4 3 rfl rfl)
theorem dX3_reachOf_98 : decode cX3_reachOf 98 = .ok (.ireturn, 1) := dk_172 (dk_at dksX3_reachOf_4 4 rfl rfl)
theorem dX3_reachOf_99 : decode cX3_reachOf 99 = .ok (.aload_n 0, 1) := dk_42 (dk_at dksX3_reachOf_4 5 rfl rfl)
theorem dX3_reachOf_100 : decode cX3_reachOf 100 = .ok (.iload_n 1, 1) := dk_27 (dk_at dksX3_reachOf_4 6 rfl rfl)
theorem dX3_reachOf_101 : decode cX3_reachOf 101 = .ok (.invokevirtual 109, 3) := dk_182 0 109 (dk_at dksX3_reachOf_4 7 rfl rfl)
theorem dX3_reachOf_104 : decode cX3_reachOf 104 = .ok (.ireturn, 1) := dk_172 (dk_at dksX3_reachOf_4 10 rfl rfl)
theorem dX3_reachOf_105 : decode cX3_reachOf 105 = .ok (.aload_n 0, 1) := dk_42 (dk_at dksX3_reachOf_4 11 rfl rfl)
theorem dX3_reachOf_106 : decode cX3_reachOf 106 = .ok (.getfield 9, 3) := dk_180 0 9 (dk_at dksX3_reachOf_4 12 rfl rfl)
theorem dX3_reachOf_109 : decode cX3_reachOf 109 = .ok (.iload_n 3, 1) := dk_29 (dk_at dksX3_reachOf_4 15 rfl rfl)
theorem dX3_reachOf_110 : decode cX3_reachOf 110 = .ok (.bipush 6, 2) := dk_16 6 (dk_at dksX3_reachOf_4 16 rfl rfl)
theorem dX3_reachOf_112 : decode cX3_reachOf 112 = .ok (.iadd, 1) := dk_96 (dk_at dksX3_reachOf_4 18 rfl rfl)
theorem dX3_reachOf_113 : decode cX3_reachOf 113 = .ok (.iaload, 1) := dk_46 (dk_at dksX3_reachOf_4 19 rfl rfl)
theorem dX3_reachOf_114 : decode cX3_reachOf 114 = .ok (.ireturn, 1) := dk_172 (dk_at dksX3_reachOf_4 20 rfl rfl)
theorem dX3_reachOf_115 : decode cX3_reachOf 115 = .ok (.aload_n 0, 1) := dk_42 (dk_at dksX3_reachOf_4 21 rfl rfl)
theorem dX3_reachOf_116 : decode cX3_reachOf 116 = .ok (.iconst 2, 1) := dk_5 (dk_at dksX3_reachOf_4 22 rfl rfl)
theorem dX3_reachOf_117 : decode cX3_reachOf 117 = .ok (.invokevirtual 64, 3) := dk_182 0 64 (dk_at dksX3_reachOf_5 0 rfl rfl)
theorem dX3_reachOf_120 : decode cX3_reachOf 120 = .ok (.ireturn, 1) := dk_172 (dk_at dksX3_reachOf_5 3 rfl rfl)
abbrev cX3_otterOf : ByteArray := prog_11_method_53_code
def yX3_otterOf : MethodName := ⟨RX3, "otterOf", "(II)I"⟩
def dkwX3_otterOf_2 : List UInt8 := [5, 182, 0, 64, 172]
abbrev dktX3_otterOf_2 : List UInt8 := dkwX3_otterOf_2 ++ []
def dkwX3_otterOf_1 : List UInt8 := [20, 0, 175, 184, 0, 71, 153, 0, 17, 42, 180, 0, 9, 27, 184, 0, 75, 28, 96, 46, 167, 0, 8, 42]
abbrev dktX3_otterOf_1 : List UInt8 := dkwX3_otterOf_1 ++ dktX3_otterOf_2
def dkwX3_otterOf_0 : List UInt8 := [42, 3, 181, 0, 52, 42, 27, 182, 0, 207, 154, 0, 9, 42, 4, 182, 0, 64, 172, 28, 133, 9]
abbrev dktX3_otterOf_0 : List UInt8 := dkwX3_otterOf_0 ++ dktX3_otterOf_1
theorem dksX3_otterOf_0 : cX3_otterOf.data.toList.drop 0 = dktX3_otterOf_0 := by decide +kernel
theorem dksX3_otterOf_1 : cX3_otterOf.data.toList.drop 22 = dktX3_otterOf_1 := dk_seg dksX3_otterOf_0 22 rfl rfl
theorem dksX3_otterOf_2 : cX3_otterOf.data.toList.drop 46 = dktX3_otterOf_2 := dk_seg dksX3_otterOf_1 24 rfl rfl
theorem dX3_otterOf_0 : decode cX3_otterOf 0 = .ok (.aload_n 0, 1) := dk_42 (dk_at dksX3_otterOf_0 0 rfl rfl)
theorem dX3_otterOf_1 : decode cX3_otterOf 1 = .ok (.iconst 0, 1) := dk_3 (dk_at dksX3_otterOf_0 1 rfl rfl)
theorem dX3_otterOf_2 : decode cX3_otterOf 2 = .ok (.putfield 52, 3) := dk_181 0 52 (dk_at dksX3_otterOf_0 2 rfl rfl)
theorem dX3_otterOf_5 : decode cX3_otterOf 5 = .ok (.aload_n 0, 1) := dk_42 (dk_at dksX3_otterOf_0 5 rfl rfl)
theorem dX3_otterOf_6 : decode cX3_otterOf 6 = .ok (.iload_n 1, 1) := dk_27 (dk_at dksX3_otterOf_0 6 rfl rfl)
theorem dX3_otterOf_7 : decode cX3_otterOf 7 = .ok (.invokevirtual 207, 3) := dk_182 0 207 (dk_at dksX3_otterOf_0 7 rfl rfl)
theorem dX3_otterOf_10 : decode cX3_otterOf 10 = .ok (.ifCond .ne 9, 3) := dk_154 0 9 (dk_at dksX3_otterOf_0 10 rfl rfl)
theorem dX3_otterOf_13 : decode cX3_otterOf 13 = .ok (.aload_n 0, 1) := dk_42 (dk_at dksX3_otterOf_0 13 rfl rfl)
theorem dX3_otterOf_14 : decode cX3_otterOf 14 = .ok (.iconst 1, 1) := dk_4 (dk_at dksX3_otterOf_0 14 rfl rfl)
theorem dX3_otterOf_15 : decode cX3_otterOf 15 = .ok (.invokevirtual 64, 3) := dk_182 0 64 (dk_at dksX3_otterOf_0 15 rfl rfl)
theorem dX3_otterOf_18 : decode cX3_otterOf 18 = .ok (.ireturn, 1) := dk_172 (dk_at dksX3_otterOf_0 18 rfl rfl)
theorem dX3_otterOf_19 : decode cX3_otterOf 19 = .ok (.iload_n 2, 1) := dk_28 (dk_at dksX3_otterOf_0 19 rfl rfl)
theorem dX3_otterOf_20 : decode cX3_otterOf 20 = .ok (.i2l, 1) := dk_133 (dk_at dksX3_otterOf_0 20 rfl rfl)
theorem dX3_otterOf_21 : decode cX3_otterOf 21 = .ok (.lconst 0, 1) := dk_9 (dk_at dksX3_otterOf_0 21 rfl rfl)
theorem dX3_otterOf_22 : decode cX3_otterOf 22 = .ok (.ldc2_w 175, 3) := dk_20 0 175 (dk_at dksX3_otterOf_1 0 rfl rfl)
theorem dX3_otterOf_25 : decode cX3_otterOf 25 = .ok (.invokestatic 71, 3) := dk_184 0 71 (dk_at dksX3_otterOf_1 3 rfl rfl)
theorem dX3_otterOf_28 : decode cX3_otterOf 28 = .ok (.ifCond .eq 17, 3) := dk_153 0 17 (dk_at dksX3_otterOf_1 6 rfl rfl)
theorem dX3_otterOf_31 : decode cX3_otterOf 31 = .ok (.aload_n 0, 1) := dk_42 (dk_at dksX3_otterOf_1 9 rfl rfl)
theorem dX3_otterOf_32 : decode cX3_otterOf 32 = .ok (.getfield 9, 3) := dk_180 0 9 (dk_at dksX3_otterOf_1 10 rfl rfl)
theorem dX3_otterOf_35 : decode cX3_otterOf 35 = .ok (.iload_n 1, 1) := dk_27 (dk_at dksX3_otterOf_1 13 rfl rfl)
theorem dX3_otterOf_36 : decode cX3_otterOf 36 = .ok (.invokestatic 75, 3) := dk_184 0 75 (dk_at dksX3_otterOf_1 14 rfl rfl)
theorem dX3_otterOf_39 : decode cX3_otterOf 39 = .ok (.iload_n 2, 1) := dk_28 (dk_at dksX3_otterOf_1 17 rfl rfl)
theorem dX3_otterOf_40 : decode cX3_otterOf 40 = .ok (.iadd, 1) := dk_96 (dk_at dksX3_otterOf_1 18 rfl rfl)
theorem dX3_otterOf_41 : decode cX3_otterOf 41 = .ok (.iaload, 1) := dk_46 (dk_at dksX3_otterOf_1 19 rfl rfl)
theorem dX3_otterOf_42 : decode cX3_otterOf 42 = .ok (.goto 8, 3) := dk_167 0 8 (dk_at dksX3_otterOf_1 20 rfl rfl)
theorem dX3_otterOf_45 : decode cX3_otterOf 45 = .ok (.aload_n 0, 1) := dk_42 (dk_at dksX3_otterOf_1 23 rfl rfl)
theorem dX3_otterOf_46 : decode cX3_otterOf 46 = .ok (.iconst 2, 1) := dk_5 (dk_at dksX3_otterOf_2 0 rfl rfl)
theorem dX3_otterOf_47 : decode cX3_otterOf 47 = .ok (.invokevirtual 64, 3) := dk_182 0 64 (dk_at dksX3_otterOf_2 1 rfl rfl)
theorem dX3_otterOf_50 : decode cX3_otterOf 50 = .ok (.ireturn, 1) := dk_172 (dk_at dksX3_otterOf_2 4 rfl rfl)
abbrev cX3_isOtter : ByteArray := prog_11_method_12_code
def yX3_isOtter : MethodName := ⟨RX3, "isOtter", "(I)Z"⟩
def dkwX3_isOtter_0 : List UInt8 := [27, 133, 9, 42, 180, 0, 9, 4, 46, 4, 100, 133, 184, 0, 71, 172]
abbrev dktX3_isOtter_0 : List UInt8 := dkwX3_isOtter_0 ++ []
theorem dksX3_isOtter_0 : cX3_isOtter.data.toList.drop 0 = dktX3_isOtter_0 := by decide +kernel
theorem dX3_isOtter_0 : decode cX3_isOtter 0 = .ok (.iload_n 1, 1) := dk_27 (dk_at dksX3_isOtter_0 0 rfl rfl)
theorem dX3_isOtter_1 : decode cX3_isOtter 1 = .ok (.i2l, 1) := dk_133 (dk_at dksX3_isOtter_0 1 rfl rfl)
theorem dX3_isOtter_2 : decode cX3_isOtter 2 = .ok (.lconst 0, 1) := dk_9 (dk_at dksX3_isOtter_0 2 rfl rfl)
theorem dX3_isOtter_3 : decode cX3_isOtter 3 = .ok (.aload_n 0, 1) := dk_42 (dk_at dksX3_isOtter_0 3 rfl rfl)
theorem dX3_isOtter_4 : decode cX3_isOtter 4 = .ok (.getfield 9, 3) := dk_180 0 9 (dk_at dksX3_isOtter_0 4 rfl rfl)
theorem dX3_isOtter_7 : decode cX3_isOtter 7 = .ok (.iconst 1, 1) := dk_4 (dk_at dksX3_isOtter_0 7 rfl rfl)
theorem dX3_isOtter_8 : decode cX3_isOtter 8 = .ok (.iaload, 1) := dk_46 (dk_at dksX3_isOtter_0 8 rfl rfl)
theorem dX3_isOtter_9 : decode cX3_isOtter 9 = .ok (.iconst 1, 1) := dk_4 (dk_at dksX3_isOtter_0 9 rfl rfl)
theorem dX3_isOtter_10 : decode cX3_isOtter 10 = .ok (.isub, 1) := dk_100 (dk_at dksX3_isOtter_0 10 rfl rfl)
theorem dX3_isOtter_11 : decode cX3_isOtter 11 = .ok (.i2l, 1) := dk_133 (dk_at dksX3_isOtter_0 11 rfl rfl)
theorem dX3_isOtter_12 : decode cX3_isOtter 12 = .ok (.invokestatic 71, 3) := dk_184 0 71 (dk_at dksX3_isOtter_0 12 rfl rfl)
theorem dX3_isOtter_15 : decode cX3_isOtter 15 = .ok (.ireturn, 1) := dk_172 (dk_at dksX3_isOtter_0 15 rfl rfl)
abbrev cX3_volunteerOf : ByteArray := prog_11_method_54_code
def yX3_volunteerOf : MethodName := ⟨RX3, "volunteerOf", "(II)I"⟩
def dkwX3_volunteerOf_2 : List UInt8 := [184, 0, 121, 28, 96, 46, 167, 0, 8, 42, 5, 182, 0, 64, 172]
abbrev dktX3_volunteerOf_2 : List UInt8 := dkwX3_volunteerOf_2 ++ []
def dkwX3_volunteerOf_1 : List UInt8 := [4, 182, 0, 64, 172, 28, 133, 9, 20, 0, 175, 184, 0, 71, 153, 0, 17, 42, 180, 0, 9, 27]
abbrev dktX3_volunteerOf_1 : List UInt8 := dkwX3_volunteerOf_1 ++ dktX3_volunteerOf_2
def dkwX3_volunteerOf_0 : List UInt8 := [42, 3, 181, 0, 52, 27, 133, 9, 42, 180, 0, 9, 5, 46, 4, 100, 133, 184, 0, 71, 154, 0, 9, 42]
abbrev dktX3_volunteerOf_0 : List UInt8 := dkwX3_volunteerOf_0 ++ dktX3_volunteerOf_1
theorem dksX3_volunteerOf_0 : cX3_volunteerOf.data.toList.drop 0 = dktX3_volunteerOf_0 := by decide +kernel
theorem dksX3_volunteerOf_1 : cX3_volunteerOf.data.toList.drop 24 = dktX3_volunteerOf_1 := dk_seg dksX3_volunteerOf_0 24 rfl rfl
theorem dksX3_volunteerOf_2 : cX3_volunteerOf.data.toList.drop 46 = dktX3_volunteerOf_2 := dk_seg dksX3_volunteerOf_1 22 rfl rfl
theorem dX3_volunteerOf_0 : decode cX3_volunteerOf 0 = .ok (.aload_n 0, 1) := dk_42 (dk_at dksX3_volunteerOf_0 0 rfl rfl)
theorem dX3_volunteerOf_1 : decode cX3_volunteerOf 1 = .ok (.iconst 0, 1) := dk_3 (dk_at dksX3_volunteerOf_0 1 rfl rfl)
theorem dX3_volunteerOf_2 : decode cX3_volunteerOf 2 = .ok (.putfield 52, 3) := dk_181 0 52 (dk_at dksX3_volunteerOf_0 2 rfl rfl)
theorem dX3_volunteerOf_5 : decode cX3_volunteerOf 5 = .ok (.iload_n 1, 1) := dk_27 (dk_at dksX3_volunteerOf_0 5 rfl rfl)
theorem dX3_volunteerOf_6 : decode cX3_volunteerOf 6 = .ok (.i2l, 1) := dk_133 (dk_at dksX3_volunteerOf_0 6 rfl rfl)
theorem dX3_volunteerOf_7 : decode cX3_volunteerOf 7 = .ok (.lconst 0, 1) := dk_9 (dk_at dksX3_volunteerOf_0 7 rfl rfl)
theorem dX3_volunteerOf_8 : decode cX3_volunteerOf 8 = .ok (.aload_n 0, 1) := dk_42 (dk_at dksX3_volunteerOf_0 8 rfl rfl)
theorem dX3_volunteerOf_9 : decode cX3_volunteerOf 9 = .ok (.getfield 9, 3) := dk_180 0 9 (dk_at dksX3_volunteerOf_0 9 rfl rfl)
theorem dX3_volunteerOf_12 : decode cX3_volunteerOf 12 = .ok (.iconst 2, 1) := dk_5 (dk_at dksX3_volunteerOf_0 12 rfl rfl)
theorem dX3_volunteerOf_13 : decode cX3_volunteerOf 13 = .ok (.iaload, 1) := dk_46 (dk_at dksX3_volunteerOf_0 13 rfl rfl)
theorem dX3_volunteerOf_14 : decode cX3_volunteerOf 14 = .ok (.iconst 1, 1) := dk_4 (dk_at dksX3_volunteerOf_0 14 rfl rfl)
theorem dX3_volunteerOf_15 : decode cX3_volunteerOf 15 = .ok (.isub, 1) := dk_100 (dk_at dksX3_volunteerOf_0 15 rfl rfl)
theorem dX3_volunteerOf_16 : decode cX3_volunteerOf 16 = .ok (.i2l, 1) := dk_133 (dk_at dksX3_volunteerOf_0 16 rfl rfl)
theorem dX3_volunteerOf_17 : decode cX3_volunteerOf 17 = .ok (.invokestatic 71, 3) := dk_184 0 71 (dk_at dksX3_volunteerOf_0 17 rfl rfl)
theorem dX3_volunteerOf_20 : decode cX3_volunteerOf 20 = .ok (.ifCond .ne 9, 3) := dk_154 0 9 (dk_at dksX3_volunteerOf_0 20 rfl rfl)
theorem dX3_volunteerOf_23 : decode cX3_volunteerOf 23 = .ok (.aload_n 0, 1) := dk_42 (dk_at dksX3_volunteerOf_0 23 rfl rfl)
theorem dX3_volunteerOf_24 : decode cX3_volunteerOf 24 = .ok (.iconst 1, 1) := dk_4 (dk_at dksX3_volunteerOf_1 0 rfl rfl)
theorem dX3_volunteerOf_25 : decode cX3_volunteerOf 25 = .ok (.invokevirtual 64, 3) := dk_182 0 64 (dk_at dksX3_volunteerOf_1 1 rfl rfl)
theorem dX3_volunteerOf_28 : decode cX3_volunteerOf 28 = .ok (.ireturn, 1) := dk_172 (dk_at dksX3_volunteerOf_1 4 rfl rfl)
theorem dX3_volunteerOf_29 : decode cX3_volunteerOf 29 = .ok (.iload_n 2, 1) := dk_28 (dk_at dksX3_volunteerOf_1 5 rfl rfl)
theorem dX3_volunteerOf_30 : decode cX3_volunteerOf 30 = .ok (.i2l, 1) := dk_133 (dk_at dksX3_volunteerOf_1 6 rfl rfl)
theorem dX3_volunteerOf_31 : decode cX3_volunteerOf 31 = .ok (.lconst 0, 1) := dk_9 (dk_at dksX3_volunteerOf_1 7 rfl rfl)
theorem dX3_volunteerOf_32 : decode cX3_volunteerOf 32 = .ok (.ldc2_w 175, 3) := dk_20 0 175 (dk_at dksX3_volunteerOf_1 8 rfl rfl)
theorem dX3_volunteerOf_35 : decode cX3_volunteerOf 35 = .ok (.invokestatic 71, 3) := dk_184 0 71 (dk_at dksX3_volunteerOf_1 11 rfl rfl)
theorem dX3_volunteerOf_38 : decode cX3_volunteerOf 38 = .ok (.ifCond .eq 17, 3) := dk_153 0 17 (dk_at dksX3_volunteerOf_1 14 rfl rfl)
theorem dX3_volunteerOf_41 : decode cX3_volunteerOf 41 = .ok (.aload_n 0, 1) := dk_42 (dk_at dksX3_volunteerOf_1 17 rfl rfl)
theorem dX3_volunteerOf_42 : decode cX3_volunteerOf 42 = .ok (.getfield 9, 3) := dk_180 0 9 (dk_at dksX3_volunteerOf_1 18 rfl rfl)
theorem dX3_volunteerOf_45 : decode cX3_volunteerOf 45 = .ok (.iload_n 1, 1) := dk_27 (dk_at dksX3_volunteerOf_1 21 rfl rfl)
theorem dX3_volunteerOf_46 : decode cX3_volunteerOf 46 = .ok (.invokestatic 121, 3) := dk_184 0 121 (dk_at dksX3_volunteerOf_2 0 rfl rfl)
theorem dX3_volunteerOf_49 : decode cX3_volunteerOf 49 = .ok (.iload_n 2, 1) := dk_28 (dk_at dksX3_volunteerOf_2 3 rfl rfl)
theorem dX3_volunteerOf_50 : decode cX3_volunteerOf 50 = .ok (.iadd, 1) := dk_96 (dk_at dksX3_volunteerOf_2 4 rfl rfl)
theorem dX3_volunteerOf_51 : decode cX3_volunteerOf 51 = .ok (.iaload, 1) := dk_46 (dk_at dksX3_volunteerOf_2 5 rfl rfl)
theorem dX3_volunteerOf_52 : decode cX3_volunteerOf 52 = .ok (.goto 8, 3) := dk_167 0 8 (dk_at dksX3_volunteerOf_2 6 rfl rfl)
theorem dX3_volunteerOf_55 : decode cX3_volunteerOf 55 = .ok (.aload_n 0, 1) := dk_42 (dk_at dksX3_volunteerOf_2 9 rfl rfl)
theorem dX3_volunteerOf_56 : decode cX3_volunteerOf 56 = .ok (.iconst 2, 1) := dk_5 (dk_at dksX3_volunteerOf_2 10 rfl rfl)
theorem dX3_volunteerOf_57 : decode cX3_volunteerOf 57 = .ok (.invokevirtual 64, 3) := dk_182 0 64 (dk_at dksX3_volunteerOf_2 11 rfl rfl)
theorem dX3_volunteerOf_60 : decode cX3_volunteerOf 60 = .ok (.ireturn, 1) := dk_172 (dk_at dksX3_volunteerOf_2 14 rfl rfl)
abbrev cX3_refuge : ByteArray := prog_11_method_55_code
def yX3_refuge : MethodName := ⟨RX3, "refuge", "(I)I"⟩
def dkwX3_refuge_1 : List UInt8 := [61, 28, 2, 160, 0, 11, 42, 5, 182, 0, 64, 167, 0, 4, 28, 172]
abbrev dktX3_refuge_1 : List UInt8 := dkwX3_refuge_1 ++ []
def dkwX3_refuge_0 : List UInt8 := [42, 3, 181, 0, 52, 42, 27, 182, 0, 103, 154, 0, 9, 42, 4, 182, 0, 64, 172, 42, 27, 182, 0, 163]
abbrev dktX3_refuge_0 : List UInt8 := dkwX3_refuge_0 ++ dktX3_refuge_1
theorem dksX3_refuge_0 : cX3_refuge.data.toList.drop 0 = dktX3_refuge_0 := by decide +kernel
theorem dksX3_refuge_1 : cX3_refuge.data.toList.drop 24 = dktX3_refuge_1 := dk_seg dksX3_refuge_0 24 rfl rfl
theorem dX3_refuge_0 : decode cX3_refuge 0 = .ok (.aload_n 0, 1) := dk_42 (dk_at dksX3_refuge_0 0 rfl rfl)
theorem dX3_refuge_1 : decode cX3_refuge 1 = .ok (.iconst 0, 1) := dk_3 (dk_at dksX3_refuge_0 1 rfl rfl)
theorem dX3_refuge_2 : decode cX3_refuge 2 = .ok (.putfield 52, 3) := dk_181 0 52 (dk_at dksX3_refuge_0 2 rfl rfl)
theorem dX3_refuge_5 : decode cX3_refuge 5 = .ok (.aload_n 0, 1) := dk_42 (dk_at dksX3_refuge_0 5 rfl rfl)
theorem dX3_refuge_6 : decode cX3_refuge 6 = .ok (.iload_n 1, 1) := dk_27 (dk_at dksX3_refuge_0 6 rfl rfl)
theorem dX3_refuge_7 : decode cX3_refuge 7 = .ok (.invokevirtual 103, 3) := dk_182 0 103 (dk_at dksX3_refuge_0 7 rfl rfl)
theorem dX3_refuge_10 : decode cX3_refuge 10 = .ok (.ifCond .ne 9, 3) := dk_154 0 9 (dk_at dksX3_refuge_0 10 rfl rfl)
theorem dX3_refuge_13 : decode cX3_refuge 13 = .ok (.aload_n 0, 1) := dk_42 (dk_at dksX3_refuge_0 13 rfl rfl)
theorem dX3_refuge_14 : decode cX3_refuge 14 = .ok (.iconst 1, 1) := dk_4 (dk_at dksX3_refuge_0 14 rfl rfl)
theorem dX3_refuge_15 : decode cX3_refuge 15 = .ok (.invokevirtual 64, 3) := dk_182 0 64 (dk_at dksX3_refuge_0 15 rfl rfl)
theorem dX3_refuge_18 : decode cX3_refuge 18 = .ok (.ireturn, 1) := dk_172 (dk_at dksX3_refuge_0 18 rfl rfl)
theorem dX3_refuge_19 : decode cX3_refuge 19 = .ok (.aload_n 0, 1) := dk_42 (dk_at dksX3_refuge_0 19 rfl rfl)
theorem dX3_refuge_20 : decode cX3_refuge 20 = .ok (.iload_n 1, 1) := dk_27 (dk_at dksX3_refuge_0 20 rfl rfl)
theorem dX3_refuge_21 : decode cX3_refuge 21 = .ok (.invokevirtual 163, 3) := dk_182 0 163 (dk_at dksX3_refuge_0 21 rfl rfl)
theorem dX3_refuge_24 : decode cX3_refuge 24 = .ok (.istore_n 2, 1) := dk_61 (dk_at dksX3_refuge_1 0 rfl rfl)
theorem dX3_refuge_25 : decode cX3_refuge 25 = .ok (.iload_n 2, 1) := dk_28 (dk_at dksX3_refuge_1 1 rfl rfl)
theorem dX3_refuge_26 : decode cX3_refuge 26 = .ok (.iconst (-1), 1) := dk_2 (dk_at dksX3_refuge_1 2 rfl rfl)
theorem dX3_refuge_27 : decode cX3_refuge 27 = .ok (.if_icmp .ne 11, 3) := dk_160 0 11 (dk_at dksX3_refuge_1 3 rfl rfl)
theorem dX3_refuge_30 : decode cX3_refuge 30 = .ok (.aload_n 0, 1) := dk_42 (dk_at dksX3_refuge_1 6 rfl rfl)
theorem dX3_refuge_31 : decode cX3_refuge 31 = .ok (.iconst 2, 1) := dk_5 (dk_at dksX3_refuge_1 7 rfl rfl)
theorem dX3_refuge_32 : decode cX3_refuge 32 = .ok (.invokevirtual 64, 3) := dk_182 0 64 (dk_at dksX3_refuge_1 8 rfl rfl)
theorem dX3_refuge_35 : decode cX3_refuge 35 = .ok (.goto 4, 3) := dk_167 0 4 (dk_at dksX3_refuge_1 11 rfl rfl)
theorem dX3_refuge_38 : decode cX3_refuge 38 = .ok (.iload_n 2, 1) := dk_28 (dk_at dksX3_refuge_1 14 rfl rfl)
theorem dX3_refuge_39 : decode cX3_refuge 39 = .ok (.ireturn, 1) := dk_172 (dk_at dksX3_refuge_1 15 rfl rfl)
abbrev cX3_refugeAgain : ByteArray := prog_11_method_56_code
def yX3_refugeAgain : MethodName := ⟨RX3, "refugeAgain", "(I)I"⟩
def dkwX3_refugeAgain_0 : List UInt8 := [42, 27, 182, 0, 210, 172]
abbrev dktX3_refugeAgain_0 : List UInt8 := dkwX3_refugeAgain_0 ++ []
theorem dksX3_refugeAgain_0 : cX3_refugeAgain.data.toList.drop 0 = dktX3_refugeAgain_0 := by decide +kernel
theorem dX3_refugeAgain_0 : decode cX3_refugeAgain 0 = .ok (.aload_n 0, 1) := dk_42 (dk_at dksX3_refugeAgain_0 0 rfl rfl)
theorem dX3_refugeAgain_1 : decode cX3_refugeAgain 1 = .ok (.iload_n 1, 1) := dk_27 (dk_at dksX3_refugeAgain_0 1 rfl rfl)
theorem dX3_refugeAgain_2 : decode cX3_refugeAgain 2 = .ok (.invokevirtual 210, 3) := dk_182 0 210 (dk_at dksX3_refugeAgain_0 2 rfl rfl)
theorem dX3_refugeAgain_5 : decode cX3_refugeAgain 5 = .ok (.ireturn, 1) := dk_172 (dk_at dksX3_refugeAgain_0 5 rfl rfl)
abbrev cX3_goal : ByteArray := prog_11_method_57_code
def yX3_goal : MethodName := ⟨RX3, "goal", "(I)I"⟩
def dkwX3_goal_3 : List UInt8 := [184, 0, 142, 104, 96, 184, 0, 177, 184, 0, 213, 172]
abbrev dktX3_goal_3 : List UInt8 := dkwX3_goal_3 ++ []
def dkwX3_goal_2 : List UInt8 := [180, 0, 9, 3, 46, 4, 100, 42, 180, 0, 9, 27, 184, 0, 75, 4, 96, 46, 28, 184, 0, 145, 28]
abbrev dktX3_goal_2 : List UInt8 := dkwX3_goal_2 ++ dktX3_goal_3
def dkwX3_goal_1 : List UInt8 := [154, 0, 9, 42, 5, 182, 0, 64, 172, 42, 180, 0, 9, 8, 46, 4, 96, 27, 96, 61, 3, 42]
abbrev dktX3_goal_1 : List UInt8 := dkwX3_goal_1 ++ dktX3_goal_2
def dkwX3_goal_0 : List UInt8 := [42, 3, 181, 0, 52, 42, 27, 182, 0, 207, 154, 0, 9, 42, 4, 182, 0, 64, 172, 42, 27, 182, 0, 78]
abbrev dktX3_goal_0 : List UInt8 := dkwX3_goal_0 ++ dktX3_goal_1
theorem dksX3_goal_0 : cX3_goal.data.toList.drop 0 = dktX3_goal_0 := by decide +kernel
theorem dksX3_goal_1 : cX3_goal.data.toList.drop 24 = dktX3_goal_1 := dk_seg dksX3_goal_0 24 rfl rfl
theorem dksX3_goal_2 : cX3_goal.data.toList.drop 46 = dktX3_goal_2 := dk_seg dksX3_goal_1 22 rfl rfl
theorem dksX3_goal_3 : cX3_goal.data.toList.drop 69 = dktX3_goal_3 := dk_seg dksX3_goal_2 23 rfl rfl
theorem dX3_goal_0 : decode cX3_goal 0 = .ok (.aload_n 0, 1) := dk_42 (dk_at dksX3_goal_0 0 rfl rfl)
theorem dX3_goal_1 : decode cX3_goal 1 = .ok (.iconst 0, 1) := dk_3 (dk_at dksX3_goal_0 1 rfl rfl)
theorem dX3_goal_2 : decode cX3_goal 2 = .ok (.putfield 52, 3) := dk_181 0 52 (dk_at dksX3_goal_0 2 rfl rfl)
theorem dX3_goal_5 : decode cX3_goal 5 = .ok (.aload_n 0, 1) := dk_42 (dk_at dksX3_goal_0 5 rfl rfl)
theorem dX3_goal_6 : decode cX3_goal 6 = .ok (.iload_n 1, 1) := dk_27 (dk_at dksX3_goal_0 6 rfl rfl)
theorem dX3_goal_7 : decode cX3_goal 7 = .ok (.invokevirtual 207, 3) := dk_182 0 207 (dk_at dksX3_goal_0 7 rfl rfl)
theorem dX3_goal_10 : decode cX3_goal 10 = .ok (.ifCond .ne 9, 3) := dk_154 0 9 (dk_at dksX3_goal_0 10 rfl rfl)
theorem dX3_goal_13 : decode cX3_goal 13 = .ok (.aload_n 0, 1) := dk_42 (dk_at dksX3_goal_0 13 rfl rfl)
theorem dX3_goal_14 : decode cX3_goal 14 = .ok (.iconst 1, 1) := dk_4 (dk_at dksX3_goal_0 14 rfl rfl)
theorem dX3_goal_15 : decode cX3_goal 15 = .ok (.invokevirtual 64, 3) := dk_182 0 64 (dk_at dksX3_goal_0 15 rfl rfl)
theorem dX3_goal_18 : decode cX3_goal 18 = .ok (.ireturn, 1) := dk_172 (dk_at dksX3_goal_0 18 rfl rfl)
theorem dX3_goal_19 : decode cX3_goal 19 = .ok (.aload_n 0, 1) := dk_42 (dk_at dksX3_goal_0 19 rfl rfl)
theorem dX3_goal_20 : decode cX3_goal 20 = .ok (.iload_n 1, 1) := dk_27 (dk_at dksX3_goal_0 20 rfl rfl)
theorem dX3_goal_21 : decode cX3_goal 21 = .ok (.invokevirtual 78, 3) := dk_182 0 78 (dk_at dksX3_goal_0 21 rfl rfl)
theorem dX3_goal_24 : decode cX3_goal 24 = .ok (.ifCond .ne 9, 3) := dk_154 0 9 (dk_at dksX3_goal_1 0 rfl rfl)
theorem dX3_goal_27 : decode cX3_goal 27 = .ok (.aload_n 0, 1) := dk_42 (dk_at dksX3_goal_1 3 rfl rfl)
theorem dX3_goal_28 : decode cX3_goal 28 = .ok (.iconst 2, 1) := dk_5 (dk_at dksX3_goal_1 4 rfl rfl)
theorem dX3_goal_29 : decode cX3_goal 29 = .ok (.invokevirtual 64, 3) := dk_182 0 64 (dk_at dksX3_goal_1 5 rfl rfl)
theorem dX3_goal_32 : decode cX3_goal 32 = .ok (.ireturn, 1) := dk_172 (dk_at dksX3_goal_1 8 rfl rfl)
theorem dX3_goal_33 : decode cX3_goal 33 = .ok (.aload_n 0, 1) := dk_42 (dk_at dksX3_goal_1 9 rfl rfl)
theorem dX3_goal_34 : decode cX3_goal 34 = .ok (.getfield 9, 3) := dk_180 0 9 (dk_at dksX3_goal_1 10 rfl rfl)
theorem dX3_goal_37 : decode cX3_goal 37 = .ok (.iconst 5, 1) := dk_8 (dk_at dksX3_goal_1 13 rfl rfl)
theorem dX3_goal_38 : decode cX3_goal 38 = .ok (.iaload, 1) := dk_46 (dk_at dksX3_goal_1 14 rfl rfl)
theorem dX3_goal_39 : decode cX3_goal 39 = .ok (.iconst 1, 1) := dk_4 (dk_at dksX3_goal_1 15 rfl rfl)
theorem dX3_goal_40 : decode cX3_goal 40 = .ok (.iadd, 1) := dk_96 (dk_at dksX3_goal_1 16 rfl rfl)
theorem dX3_goal_41 : decode cX3_goal 41 = .ok (.iload_n 1, 1) := dk_27 (dk_at dksX3_goal_1 17 rfl rfl)
theorem dX3_goal_42 : decode cX3_goal 42 = .ok (.iadd, 1) := dk_96 (dk_at dksX3_goal_1 18 rfl rfl)
theorem dX3_goal_43 : decode cX3_goal 43 = .ok (.istore_n 2, 1) := dk_61 (dk_at dksX3_goal_1 19 rfl rfl)
theorem dX3_goal_44 : decode cX3_goal 44 = .ok (.iconst 0, 1) := dk_3 (dk_at dksX3_goal_1 20 rfl rfl)
theorem dX3_goal_45 : decode cX3_goal 45 = .ok (.aload_n 0, 1) := dk_42 (dk_at dksX3_goal_1 21 rfl rfl)
theorem dX3_goal_46 : decode cX3_goal 46 = .ok (.getfield 9, 3) := dk_180 0 9 (dk_at dksX3_goal_2 0 rfl rfl)
theorem dX3_goal_49 : decode cX3_goal 49 = .ok (.iconst 0, 1) := dk_3 (dk_at dksX3_goal_2 3 rfl rfl)
theorem dX3_goal_50 : decode cX3_goal 50 = .ok (.iaload, 1) := dk_46 (dk_at dksX3_goal_2 4 rfl rfl)
theorem dX3_goal_51 : decode cX3_goal 51 = .ok (.iconst 1, 1) := dk_4 (dk_at dksX3_goal_2 5 rfl rfl)
theorem dX3_goal_52 : decode cX3_goal 52 = .ok (.isub, 1) := dk_100 (dk_at dksX3_goal_2 6 rfl rfl)
theorem dX3_goal_53 : decode cX3_goal 53 = .ok (.aload_n 0, 1) := dk_42 (dk_at dksX3_goal_2 7 rfl rfl)
theorem dX3_goal_54 : decode cX3_goal 54 = .ok (.getfield 9, 3) := dk_180 0 9 (dk_at dksX3_goal_2 8 rfl rfl)
theorem dX3_goal_57 : decode cX3_goal 57 = .ok (.iload_n 1, 1) := dk_27 (dk_at dksX3_goal_2 11 rfl rfl)
theorem dX3_goal_58 : decode cX3_goal 58 = .ok (.invokestatic 75, 3) := dk_184 0 75 (dk_at dksX3_goal_2 12 rfl rfl)
theorem dX3_goal_61 : decode cX3_goal 61 = .ok (.iconst 1, 1) := dk_4 (dk_at dksX3_goal_2 15 rfl rfl)
theorem dX3_goal_62 : decode cX3_goal 62 = .ok (.iadd, 1) := dk_96 (dk_at dksX3_goal_2 16 rfl rfl)
theorem dX3_goal_63 : decode cX3_goal 63 = .ok (.iaload, 1) := dk_46 (dk_at dksX3_goal_2 17 rfl rfl)
theorem dX3_goal_64 : decode cX3_goal 64 = .ok (.iload_n 2, 1) := dk_28 (dk_at dksX3_goal_2 18 rfl rfl)
theorem dX3_goal_65 : decode cX3_goal 65 = .ok (.invokestatic 145, 3) := dk_184 0 145 (dk_at dksX3_goal_2 19 rfl rfl)
theorem dX3_goal_68 : decode cX3_goal 68 = .ok (.iload_n 2, 1) := dk_28 (dk_at dksX3_goal_2 22 rfl rfl)
theorem dX3_goal_69 : decode cX3_goal 69 = .ok (.invokestatic 142, 3) := dk_184 0 142 (dk_at dksX3_goal_3 0 rfl rfl)
theorem dX3_goal_72 : decode cX3_goal 72 = .ok (.imul, 1) := dk_104 (dk_at dksX3_goal_3 3 rfl rfl)
theorem dX3_goal_73 : decode cX3_goal 73 = .ok (.iadd, 1) := dk_96 (dk_at dksX3_goal_3 4 rfl rfl)
theorem dX3_goal_74 : decode cX3_goal 74 = .ok (.invokestatic 177, 3) := dk_184 0 177 (dk_at dksX3_goal_3 5 rfl rfl)
theorem dX3_goal_77 : decode cX3_goal 77 = .ok (.invokestatic 213, 3) := dk_184 0 213 (dk_at dksX3_goal_3 8 rfl rfl)
theorem dX3_goal_80 : decode cX3_goal 80 = .ok (.ireturn, 1) := dk_172 (dk_at dksX3_goal_3 11 rfl rfl)
abbrev cX3_killedIn : ByteArray := prog_11_method_60_code
def yX3_killedIn : MethodName := ⟨RX3, "killedIn", "(I)I"⟩
def dkwX3_killedIn_3 : List UInt8 := [4, 167, 0, 4, 3, 62, 42, 182, 0, 219, 29, 153, 0, 7, 28, 167, 0, 8, 42, 6, 182, 0, 64, 172]
abbrev dktX3_killedIn_3 : List UInt8 := dkwX3_killedIn_3 ++ []
def dkwX3_killedIn_2 : List UInt8 := [17, 1, 144, 162, 0, 13, 42, 182, 0, 192, 132, 2, 1, 167, 255, 234, 42, 27, 182, 0, 78, 154, 0, 7]
abbrev dktX3_killedIn_2 : List UInt8 := dkwX3_killedIn_2 ++ dktX3_killedIn_3
def dkwX3_killedIn_1 : List UInt8 := [154, 0, 9, 42, 5, 182, 0, 64, 172, 42, 182, 0, 216, 3, 61, 42, 27, 182, 0, 78, 153, 0, 20, 28]
abbrev dktX3_killedIn_1 : List UInt8 := dkwX3_killedIn_1 ++ dktX3_killedIn_2
def dkwX3_killedIn_0 : List UInt8 := [42, 3, 181, 0, 52, 42, 27, 182, 0, 207, 154, 0, 9, 42, 4, 182, 0, 64, 172, 42, 27, 182, 0, 78]
abbrev dktX3_killedIn_0 : List UInt8 := dkwX3_killedIn_0 ++ dktX3_killedIn_1
theorem dksX3_killedIn_0 : cX3_killedIn.data.toList.drop 0 = dktX3_killedIn_0 := by decide +kernel
theorem dksX3_killedIn_1 : cX3_killedIn.data.toList.drop 24 = dktX3_killedIn_1 := dk_seg dksX3_killedIn_0 24 rfl rfl
theorem dksX3_killedIn_2 : cX3_killedIn.data.toList.drop 48 = dktX3_killedIn_2 := dk_seg dksX3_killedIn_1 24 rfl rfl
theorem dksX3_killedIn_3 : cX3_killedIn.data.toList.drop 72 = dktX3_killedIn_3 := dk_seg dksX3_killedIn_2 24 rfl rfl
theorem dX3_killedIn_0 : decode cX3_killedIn 0 = .ok (.aload_n 0, 1) := dk_42 (dk_at dksX3_killedIn_0 0 rfl rfl)
theorem dX3_killedIn_1 : decode cX3_killedIn 1 = .ok (.iconst 0, 1) := dk_3 (dk_at dksX3_killedIn_0 1 rfl rfl)
theorem dX3_killedIn_2 : decode cX3_killedIn 2 = .ok (.putfield 52, 3) := dk_181 0 52 (dk_at dksX3_killedIn_0 2 rfl rfl)
theorem dX3_killedIn_5 : decode cX3_killedIn 5 = .ok (.aload_n 0, 1) := dk_42 (dk_at dksX3_killedIn_0 5 rfl rfl)
theorem dX3_killedIn_6 : decode cX3_killedIn 6 = .ok (.iload_n 1, 1) := dk_27 (dk_at dksX3_killedIn_0 6 rfl rfl)
theorem dX3_killedIn_7 : decode cX3_killedIn 7 = .ok (.invokevirtual 207, 3) := dk_182 0 207 (dk_at dksX3_killedIn_0 7 rfl rfl)
theorem dX3_killedIn_10 : decode cX3_killedIn 10 = .ok (.ifCond .ne 9, 3) := dk_154 0 9 (dk_at dksX3_killedIn_0 10 rfl rfl)
theorem dX3_killedIn_13 : decode cX3_killedIn 13 = .ok (.aload_n 0, 1) := dk_42 (dk_at dksX3_killedIn_0 13 rfl rfl)
theorem dX3_killedIn_14 : decode cX3_killedIn 14 = .ok (.iconst 1, 1) := dk_4 (dk_at dksX3_killedIn_0 14 rfl rfl)
theorem dX3_killedIn_15 : decode cX3_killedIn 15 = .ok (.invokevirtual 64, 3) := dk_182 0 64 (dk_at dksX3_killedIn_0 15 rfl rfl)
theorem dX3_killedIn_18 : decode cX3_killedIn 18 = .ok (.ireturn, 1) := dk_172 (dk_at dksX3_killedIn_0 18 rfl rfl)
theorem dX3_killedIn_19 : decode cX3_killedIn 19 = .ok (.aload_n 0, 1) := dk_42 (dk_at dksX3_killedIn_0 19 rfl rfl)
theorem dX3_killedIn_20 : decode cX3_killedIn 20 = .ok (.iload_n 1, 1) := dk_27 (dk_at dksX3_killedIn_0 20 rfl rfl)
theorem dX3_killedIn_21 : decode cX3_killedIn 21 = .ok (.invokevirtual 78, 3) := dk_182 0 78 (dk_at dksX3_killedIn_0 21 rfl rfl)
theorem dX3_killedIn_24 : decode cX3_killedIn 24 = .ok (.ifCond .ne 9, 3) := dk_154 0 9 (dk_at dksX3_killedIn_1 0 rfl rfl)
theorem dX3_killedIn_27 : decode cX3_killedIn 27 = .ok (.aload_n 0, 1) := dk_42 (dk_at dksX3_killedIn_1 3 rfl rfl)
theorem dX3_killedIn_28 : decode cX3_killedIn 28 = .ok (.iconst 2, 1) := dk_5 (dk_at dksX3_killedIn_1 4 rfl rfl)
theorem dX3_killedIn_29 : decode cX3_killedIn 29 = .ok (.invokevirtual 64, 3) := dk_182 0 64 (dk_at dksX3_killedIn_1 5 rfl rfl)
theorem dX3_killedIn_32 : decode cX3_killedIn 32 = .ok (.ireturn, 1) := dk_172 (dk_at dksX3_killedIn_1 8 rfl rfl)
theorem dX3_killedIn_33 : decode cX3_killedIn 33 = .ok (.aload_n 0, 1) := dk_42 (dk_at dksX3_killedIn_1 9 rfl rfl)
theorem dX3_killedIn_34 : decode cX3_killedIn 34 = .ok (.invokevirtual 216, 3) := dk_182 0 216 (dk_at dksX3_killedIn_1 10 rfl rfl)
theorem dX3_killedIn_37 : decode cX3_killedIn 37 = .ok (.iconst 0, 1) := dk_3 (dk_at dksX3_killedIn_1 13 rfl rfl)
theorem dX3_killedIn_38 : decode cX3_killedIn 38 = .ok (.istore_n 2, 1) := dk_61 (dk_at dksX3_killedIn_1 14 rfl rfl)
theorem dX3_killedIn_39 : decode cX3_killedIn 39 = .ok (.aload_n 0, 1) := dk_42 (dk_at dksX3_killedIn_1 15 rfl rfl)
theorem dX3_killedIn_40 : decode cX3_killedIn 40 = .ok (.iload_n 1, 1) := dk_27 (dk_at dksX3_killedIn_1 16 rfl rfl)
theorem dX3_killedIn_41 : decode cX3_killedIn 41 = .ok (.invokevirtual 78, 3) := dk_182 0 78 (dk_at dksX3_killedIn_1 17 rfl rfl)
theorem dX3_killedIn_44 : decode cX3_killedIn 44 = .ok (.ifCond .eq 20, 3) := dk_153 0 20 (dk_at dksX3_killedIn_1 20 rfl rfl)
theorem dX3_killedIn_47 : decode cX3_killedIn 47 = .ok (.iload_n 2, 1) := dk_28 (dk_at dksX3_killedIn_1 23 rfl rfl)
theorem dX3_killedIn_48 : decode cX3_killedIn 48 = .ok (.sipush 400, 3) := dk_17 1 144 (dk_at dksX3_killedIn_2 0 rfl rfl)
theorem dX3_killedIn_51 : decode cX3_killedIn 51 = .ok (.if_icmp .ge 13, 3) := dk_162 0 13 (dk_at dksX3_killedIn_2 3 rfl rfl)
theorem dX3_killedIn_54 : decode cX3_killedIn 54 = .ok (.aload_n 0, 1) := dk_42 (dk_at dksX3_killedIn_2 6 rfl rfl)
theorem dX3_killedIn_55 : decode cX3_killedIn 55 = .ok (.invokevirtual 192, 3) := dk_182 0 192 (dk_at dksX3_killedIn_2 7 rfl rfl)
theorem dX3_killedIn_58 : decode cX3_killedIn 58 = .ok (.iinc 2 1, 3) := dk_132 2 1 (dk_at dksX3_killedIn_2 10 rfl rfl)
theorem dX3_killedIn_61 : decode cX3_killedIn 61 = .ok (.goto (-22), 3) := dk_167 255 234 (dk_at dksX3_killedIn_2 13 rfl rfl)
theorem dX3_killedIn_64 : decode cX3_killedIn 64 = .ok (.aload_n 0, 1) := dk_42 (dk_at dksX3_killedIn_2 16 rfl rfl)
theorem dX3_killedIn_65 : decode cX3_killedIn 65 = .ok (.iload_n 1, 1) := dk_27 (dk_at dksX3_killedIn_2 17 rfl rfl)
theorem dX3_killedIn_66 : decode cX3_killedIn 66 = .ok (.invokevirtual 78, 3) := dk_182 0 78 (dk_at dksX3_killedIn_2 18 rfl rfl)
theorem dX3_killedIn_69 : decode cX3_killedIn 69 = .ok (.ifCond .ne 7, 3) := dk_154 0 7 (dk_at dksX3_killedIn_2 21 rfl rfl)
theorem dX3_killedIn_72 : decode cX3_killedIn 72 = .ok (.iconst 1, 1) := dk_4 (dk_at dksX3_killedIn_3 0 rfl rfl)
theorem dX3_killedIn_73 : decode cX3_killedIn 73 = .ok (.goto 4, 3) := dk_167 0 4 (dk_at dksX3_killedIn_3 1 rfl rfl)
theorem dX3_killedIn_76 : decode cX3_killedIn 76 = .ok (.iconst 0, 1) := dk_3 (dk_at dksX3_killedIn_3 4 rfl rfl)
theorem dX3_killedIn_77 : decode cX3_killedIn 77 = .ok (.istore_n 3, 1) := dk_62 (dk_at dksX3_killedIn_3 5 rfl rfl)
theorem dX3_killedIn_78 : decode cX3_killedIn 78 = .ok (.aload_n 0, 1) := dk_42 (dk_at dksX3_killedIn_3 6 rfl rfl)
theorem dX3_killedIn_79 : decode cX3_killedIn 79 = .ok (.invokevirtual 219, 3) := dk_182 0 219 (dk_at dksX3_killedIn_3 7 rfl rfl)
theorem dX3_killedIn_82 : decode cX3_killedIn 82 = .ok (.iload_n 3, 1) := dk_29 (dk_at dksX3_killedIn_3 10 rfl rfl)
theorem dX3_killedIn_83 : decode cX3_killedIn 83 = .ok (.ifCond .eq 7, 3) := dk_153 0 7 (dk_at dksX3_killedIn_3 11 rfl rfl)
theorem dX3_killedIn_86 : decode cX3_killedIn 86 = .ok (.iload_n 2, 1) := dk_28 (dk_at dksX3_killedIn_3 14 rfl rfl)
theorem dX3_killedIn_87 : decode cX3_killedIn 87 = .ok (.goto 8, 3) := dk_167 0 8 (dk_at dksX3_killedIn_3 15 rfl rfl)
theorem dX3_killedIn_90 : decode cX3_killedIn 90 = .ok (.aload_n 0, 1) := dk_42 (dk_at dksX3_killedIn_3 18 rfl rfl)
theorem dX3_killedIn_91 : decode cX3_killedIn 91 = .ok (.iconst 3, 1) := dk_6 (dk_at dksX3_killedIn_3 19 rfl rfl)
theorem dX3_killedIn_92 : decode cX3_killedIn 92 = .ok (.invokevirtual 64, 3) := dk_182 0 64 (dk_at dksX3_killedIn_3 20 rfl rfl)
theorem dX3_killedIn_95 : decode cX3_killedIn 95 = .ok (.ireturn, 1) := dk_172 (dk_at dksX3_killedIn_3 23 rfl rfl)
abbrev cX3_thinks : ByteArray := prog_11_method_58_code
def yX3_thinks : MethodName := ⟨RX3, "thinks", "()V"⟩
def dkwX3_thinks_1 : List UInt8 := [167, 255, 234, 177]
abbrev dktX3_thinks_1 : List UInt8 := dkwX3_thinks_1 ++ []
def dkwX3_thinks_0 : List UInt8 := [3, 60, 27, 17, 1, 39, 162, 0, 21, 42, 180, 0, 16, 27, 42, 180, 0, 9, 27, 46, 79, 132, 1, 1]
abbrev dktX3_thinks_0 : List UInt8 := dkwX3_thinks_0 ++ dktX3_thinks_1
theorem dksX3_thinks_0 : cX3_thinks.data.toList.drop 0 = dktX3_thinks_0 := by decide +kernel
theorem dksX3_thinks_1 : cX3_thinks.data.toList.drop 24 = dktX3_thinks_1 := dk_seg dksX3_thinks_0 24 rfl rfl
theorem dX3_thinks_0 : decode cX3_thinks 0 = .ok (.iconst 0, 1) := dk_3 (dk_at dksX3_thinks_0 0 rfl rfl)
theorem dX3_thinks_1 : decode cX3_thinks 1 = .ok (.istore_n 1, 1) := dk_60 (dk_at dksX3_thinks_0 1 rfl rfl)
theorem dX3_thinks_2 : decode cX3_thinks 2 = .ok (.iload_n 1, 1) := dk_27 (dk_at dksX3_thinks_0 2 rfl rfl)
theorem dX3_thinks_3 : decode cX3_thinks 3 = .ok (.sipush 295, 3) := dk_17 1 39 (dk_at dksX3_thinks_0 3 rfl rfl)
theorem dX3_thinks_6 : decode cX3_thinks 6 = .ok (.if_icmp .ge 21, 3) := dk_162 0 21 (dk_at dksX3_thinks_0 6 rfl rfl)
theorem dX3_thinks_9 : decode cX3_thinks 9 = .ok (.aload_n 0, 1) := dk_42 (dk_at dksX3_thinks_0 9 rfl rfl)
theorem dX3_thinks_10 : decode cX3_thinks 10 = .ok (.getfield 16, 3) := dk_180 0 16 (dk_at dksX3_thinks_0 10 rfl rfl)
theorem dX3_thinks_13 : decode cX3_thinks 13 = .ok (.iload_n 1, 1) := dk_27 (dk_at dksX3_thinks_0 13 rfl rfl)
theorem dX3_thinks_14 : decode cX3_thinks 14 = .ok (.aload_n 0, 1) := dk_42 (dk_at dksX3_thinks_0 14 rfl rfl)
theorem dX3_thinks_15 : decode cX3_thinks 15 = .ok (.getfield 9, 3) := dk_180 0 9 (dk_at dksX3_thinks_0 15 rfl rfl)
theorem dX3_thinks_18 : decode cX3_thinks 18 = .ok (.iload_n 1, 1) := dk_27 (dk_at dksX3_thinks_0 18 rfl rfl)
theorem dX3_thinks_19 : decode cX3_thinks 19 = .ok (.iaload, 1) := dk_46 (dk_at dksX3_thinks_0 19 rfl rfl)
theorem dX3_thinks_20 : decode cX3_thinks 20 = .ok (.iastore, 1) := dk_79 (dk_at dksX3_thinks_0 20 rfl rfl)
theorem dX3_thinks_21 : decode cX3_thinks 21 = .ok (.iinc 1 1, 3) := dk_132 1 1 (dk_at dksX3_thinks_0 21 rfl rfl)
theorem dX3_thinks_24 : decode cX3_thinks 24 = .ok (.goto (-22), 3) := dk_167 255 234 (dk_at dksX3_thinks_1 0 rfl rfl)
theorem dX3_thinks_27 : decode cX3_thinks 27 = .ok (.return_, 1) := dk_177 (dk_at dksX3_thinks_1 3 rfl rfl)
abbrev cX3_wakes : ByteArray := prog_11_method_59_code
def yX3_wakes : MethodName := ⟨RX3, "wakes", "()V"⟩
def dkwX3_wakes_1 : List UInt8 := [167, 255, 234, 177]
abbrev dktX3_wakes_1 : List UInt8 := dkwX3_wakes_1 ++ []
def dkwX3_wakes_0 : List UInt8 := [3, 60, 27, 17, 1, 39, 162, 0, 21, 42, 180, 0, 9, 27, 42, 180, 0, 16, 27, 46, 79, 132, 1, 1]
abbrev dktX3_wakes_0 : List UInt8 := dkwX3_wakes_0 ++ dktX3_wakes_1
theorem dksX3_wakes_0 : cX3_wakes.data.toList.drop 0 = dktX3_wakes_0 := by decide +kernel
theorem dksX3_wakes_1 : cX3_wakes.data.toList.drop 24 = dktX3_wakes_1 := dk_seg dksX3_wakes_0 24 rfl rfl
theorem dX3_wakes_0 : decode cX3_wakes 0 = .ok (.iconst 0, 1) := dk_3 (dk_at dksX3_wakes_0 0 rfl rfl)
theorem dX3_wakes_1 : decode cX3_wakes 1 = .ok (.istore_n 1, 1) := dk_60 (dk_at dksX3_wakes_0 1 rfl rfl)
theorem dX3_wakes_2 : decode cX3_wakes 2 = .ok (.iload_n 1, 1) := dk_27 (dk_at dksX3_wakes_0 2 rfl rfl)
theorem dX3_wakes_3 : decode cX3_wakes 3 = .ok (.sipush 295, 3) := dk_17 1 39 (dk_at dksX3_wakes_0 3 rfl rfl)
theorem dX3_wakes_6 : decode cX3_wakes 6 = .ok (.if_icmp .ge 21, 3) := dk_162 0 21 (dk_at dksX3_wakes_0 6 rfl rfl)
theorem dX3_wakes_9 : decode cX3_wakes 9 = .ok (.aload_n 0, 1) := dk_42 (dk_at dksX3_wakes_0 9 rfl rfl)
theorem dX3_wakes_10 : decode cX3_wakes 10 = .ok (.getfield 9, 3) := dk_180 0 9 (dk_at dksX3_wakes_0 10 rfl rfl)
theorem dX3_wakes_13 : decode cX3_wakes 13 = .ok (.iload_n 1, 1) := dk_27 (dk_at dksX3_wakes_0 13 rfl rfl)
theorem dX3_wakes_14 : decode cX3_wakes 14 = .ok (.aload_n 0, 1) := dk_42 (dk_at dksX3_wakes_0 14 rfl rfl)
theorem dX3_wakes_15 : decode cX3_wakes 15 = .ok (.getfield 16, 3) := dk_180 0 16 (dk_at dksX3_wakes_0 15 rfl rfl)
theorem dX3_wakes_18 : decode cX3_wakes 18 = .ok (.iload_n 1, 1) := dk_27 (dk_at dksX3_wakes_0 18 rfl rfl)
theorem dX3_wakes_19 : decode cX3_wakes 19 = .ok (.iaload, 1) := dk_46 (dk_at dksX3_wakes_0 19 rfl rfl)
theorem dX3_wakes_20 : decode cX3_wakes 20 = .ok (.iastore, 1) := dk_79 (dk_at dksX3_wakes_0 20 rfl rfl)
theorem dX3_wakes_21 : decode cX3_wakes 21 = .ok (.iinc 1 1, 3) := dk_132 1 1 (dk_at dksX3_wakes_0 21 rfl rfl)
theorem dX3_wakes_24 : decode cX3_wakes 24 = .ok (.goto (-22), 3) := dk_167 255 234 (dk_at dksX3_wakes_1 0 rfl rfl)
theorem dX3_wakes_27 : decode cX3_wakes 27 = .ok (.return_, 1) := dk_177 (dk_at dksX3_wakes_1 3 rfl rfl)
abbrev cX3_cubsIn : ByteArray := prog_11_method_61_code
def yX3_cubsIn : MethodName := ⟨RX3, "cubsIn", "(I)I"⟩
def dkwX3_cubsIn_4 : List UInt8 := [172]
abbrev dktX3_cubsIn_4 : List UInt8 := dkwX3_cubsIn_4 ++ []
def dkwX3_cubsIn_3 : List UInt8 := [132, 3, 1, 167, 255, 222, 42, 182, 0, 219, 28, 2, 160, 0, 11, 42, 6, 182, 0, 64, 167, 0, 4, 28]
abbrev dktX3_cubsIn_3 : List UInt8 := dkwX3_cubsIn_3 ++ dktX3_cubsIn_4
def dkwX3_cubsIn_2 : List UInt8 := [28, 2, 160, 0, 28, 42, 182, 0, 192, 42, 180, 0, 35, 27, 51, 153, 0, 7, 29, 167, 0, 4, 2, 61]
abbrev dktX3_cubsIn_2 : List UInt8 := dkwX3_cubsIn_2 ++ dktX3_cubsIn_3
def dkwX3_cubsIn_1 : List UInt8 := [154, 0, 9, 42, 5, 182, 0, 64, 172, 42, 182, 0, 216, 2, 61, 4, 62, 29, 17, 1, 144, 163, 0, 33]
abbrev dktX3_cubsIn_1 : List UInt8 := dkwX3_cubsIn_1 ++ dktX3_cubsIn_2
def dkwX3_cubsIn_0 : List UInt8 := [42, 3, 181, 0, 52, 42, 27, 182, 0, 103, 154, 0, 9, 42, 4, 182, 0, 64, 172, 42, 27, 182, 0, 106]
abbrev dktX3_cubsIn_0 : List UInt8 := dkwX3_cubsIn_0 ++ dktX3_cubsIn_1
theorem dksX3_cubsIn_0 : cX3_cubsIn.data.toList.drop 0 = dktX3_cubsIn_0 := by decide +kernel
theorem dksX3_cubsIn_1 : cX3_cubsIn.data.toList.drop 24 = dktX3_cubsIn_1 := dk_seg dksX3_cubsIn_0 24 rfl rfl
theorem dksX3_cubsIn_2 : cX3_cubsIn.data.toList.drop 48 = dktX3_cubsIn_2 := dk_seg dksX3_cubsIn_1 24 rfl rfl
theorem dksX3_cubsIn_3 : cX3_cubsIn.data.toList.drop 72 = dktX3_cubsIn_3 := dk_seg dksX3_cubsIn_2 24 rfl rfl
theorem dksX3_cubsIn_4 : cX3_cubsIn.data.toList.drop 96 = dktX3_cubsIn_4 := dk_seg dksX3_cubsIn_3 24 rfl rfl
theorem dX3_cubsIn_0 : decode cX3_cubsIn 0 = .ok (.aload_n 0, 1) := dk_42 (dk_at dksX3_cubsIn_0 0 rfl rfl)
theorem dX3_cubsIn_1 : decode cX3_cubsIn 1 = .ok (.iconst 0, 1) := dk_3 (dk_at dksX3_cubsIn_0 1 rfl rfl)
theorem dX3_cubsIn_2 : decode cX3_cubsIn 2 = .ok (.putfield 52, 3) := dk_181 0 52 (dk_at dksX3_cubsIn_0 2 rfl rfl)
theorem dX3_cubsIn_5 : decode cX3_cubsIn 5 = .ok (.aload_n 0, 1) := dk_42 (dk_at dksX3_cubsIn_0 5 rfl rfl)
theorem dX3_cubsIn_6 : decode cX3_cubsIn 6 = .ok (.iload_n 1, 1) := dk_27 (dk_at dksX3_cubsIn_0 6 rfl rfl)
theorem dX3_cubsIn_7 : decode cX3_cubsIn 7 = .ok (.invokevirtual 103, 3) := dk_182 0 103 (dk_at dksX3_cubsIn_0 7 rfl rfl)
theorem dX3_cubsIn_10 : decode cX3_cubsIn 10 = .ok (.ifCond .ne 9, 3) := dk_154 0 9 (dk_at dksX3_cubsIn_0 10 rfl rfl)
theorem dX3_cubsIn_13 : decode cX3_cubsIn 13 = .ok (.aload_n 0, 1) := dk_42 (dk_at dksX3_cubsIn_0 13 rfl rfl)
theorem dX3_cubsIn_14 : decode cX3_cubsIn 14 = .ok (.iconst 1, 1) := dk_4 (dk_at dksX3_cubsIn_0 14 rfl rfl)
theorem dX3_cubsIn_15 : decode cX3_cubsIn 15 = .ok (.invokevirtual 64, 3) := dk_182 0 64 (dk_at dksX3_cubsIn_0 15 rfl rfl)
theorem dX3_cubsIn_18 : decode cX3_cubsIn 18 = .ok (.ireturn, 1) := dk_172 (dk_at dksX3_cubsIn_0 18 rfl rfl)
theorem dX3_cubsIn_19 : decode cX3_cubsIn 19 = .ok (.aload_n 0, 1) := dk_42 (dk_at dksX3_cubsIn_0 19 rfl rfl)
theorem dX3_cubsIn_20 : decode cX3_cubsIn 20 = .ok (.iload_n 1, 1) := dk_27 (dk_at dksX3_cubsIn_0 20 rfl rfl)
theorem dX3_cubsIn_21 : decode cX3_cubsIn 21 = .ok (.invokevirtual 106, 3) := dk_182 0 106 (dk_at dksX3_cubsIn_0 21 rfl rfl)
theorem dX3_cubsIn_24 : decode cX3_cubsIn 24 = .ok (.ifCond .ne 9, 3) := dk_154 0 9 (dk_at dksX3_cubsIn_1 0 rfl rfl)
theorem dX3_cubsIn_27 : decode cX3_cubsIn 27 = .ok (.aload_n 0, 1) := dk_42 (dk_at dksX3_cubsIn_1 3 rfl rfl)
theorem dX3_cubsIn_28 : decode cX3_cubsIn 28 = .ok (.iconst 2, 1) := dk_5 (dk_at dksX3_cubsIn_1 4 rfl rfl)
theorem dX3_cubsIn_29 : decode cX3_cubsIn 29 = .ok (.invokevirtual 64, 3) := dk_182 0 64 (dk_at dksX3_cubsIn_1 5 rfl rfl)
theorem dX3_cubsIn_32 : decode cX3_cubsIn 32 = .ok (.ireturn, 1) := dk_172 (dk_at dksX3_cubsIn_1 8 rfl rfl)
theorem dX3_cubsIn_33 : decode cX3_cubsIn 33 = .ok (.aload_n 0, 1) := dk_42 (dk_at dksX3_cubsIn_1 9 rfl rfl)
theorem dX3_cubsIn_34 : decode cX3_cubsIn 34 = .ok (.invokevirtual 216, 3) := dk_182 0 216 (dk_at dksX3_cubsIn_1 10 rfl rfl)
theorem dX3_cubsIn_37 : decode cX3_cubsIn 37 = .ok (.iconst (-1), 1) := dk_2 (dk_at dksX3_cubsIn_1 13 rfl rfl)
theorem dX3_cubsIn_38 : decode cX3_cubsIn 38 = .ok (.istore_n 2, 1) := dk_61 (dk_at dksX3_cubsIn_1 14 rfl rfl)
theorem dX3_cubsIn_39 : decode cX3_cubsIn 39 = .ok (.iconst 1, 1) := dk_4 (dk_at dksX3_cubsIn_1 15 rfl rfl)
theorem dX3_cubsIn_40 : decode cX3_cubsIn 40 = .ok (.istore_n 3, 1) := dk_62 (dk_at dksX3_cubsIn_1 16 rfl rfl)
theorem dX3_cubsIn_41 : decode cX3_cubsIn 41 = .ok (.iload_n 3, 1) := dk_29 (dk_at dksX3_cubsIn_1 17 rfl rfl)
theorem dX3_cubsIn_42 : decode cX3_cubsIn 42 = .ok (.sipush 400, 3) := dk_17 1 144 (dk_at dksX3_cubsIn_1 18 rfl rfl)
theorem dX3_cubsIn_45 : decode cX3_cubsIn 45 = .ok (.if_icmp .gt 33, 3) := dk_163 0 33 (dk_at dksX3_cubsIn_1 21 rfl rfl)
theorem dX3_cubsIn_48 : decode cX3_cubsIn 48 = .ok (.iload_n 2, 1) := dk_28 (dk_at dksX3_cubsIn_2 0 rfl rfl)
theorem dX3_cubsIn_49 : decode cX3_cubsIn 49 = .ok (.iconst (-1), 1) := dk_2 (dk_at dksX3_cubsIn_2 1 rfl rfl)
theorem dX3_cubsIn_50 : decode cX3_cubsIn 50 = .ok (.if_icmp .ne 28, 3) := dk_160 0 28 (dk_at dksX3_cubsIn_2 2 rfl rfl)
theorem dX3_cubsIn_53 : decode cX3_cubsIn 53 = .ok (.aload_n 0, 1) := dk_42 (dk_at dksX3_cubsIn_2 5 rfl rfl)
theorem dX3_cubsIn_54 : decode cX3_cubsIn 54 = .ok (.invokevirtual 192, 3) := dk_182 0 192 (dk_at dksX3_cubsIn_2 6 rfl rfl)
theorem dX3_cubsIn_57 : decode cX3_cubsIn 57 = .ok (.aload_n 0, 1) := dk_42 (dk_at dksX3_cubsIn_2 9 rfl rfl)
theorem dX3_cubsIn_58 : decode cX3_cubsIn 58 = .ok (.getfield 35, 3) := dk_180 0 35 (dk_at dksX3_cubsIn_2 10 rfl rfl)
theorem dX3_cubsIn_61 : decode cX3_cubsIn 61 = .ok (.iload_n 1, 1) := dk_27 (dk_at dksX3_cubsIn_2 13 rfl rfl)
theorem dX3_cubsIn_62 : decode cX3_cubsIn 62 = .ok (.baload, 1) := dk_51 (dk_at dksX3_cubsIn_2 14 rfl rfl)
theorem dX3_cubsIn_63 : decode cX3_cubsIn 63 = .ok (.ifCond .eq 7, 3) := dk_153 0 7 (dk_at dksX3_cubsIn_2 15 rfl rfl)
theorem dX3_cubsIn_66 : decode cX3_cubsIn 66 = .ok (.iload_n 3, 1) := dk_29 (dk_at dksX3_cubsIn_2 18 rfl rfl)
theorem dX3_cubsIn_67 : decode cX3_cubsIn 67 = .ok (.goto 4, 3) := dk_167 0 4 (dk_at dksX3_cubsIn_2 19 rfl rfl)
theorem dX3_cubsIn_70 : decode cX3_cubsIn 70 = .ok (.iconst (-1), 1) := dk_2 (dk_at dksX3_cubsIn_2 22 rfl rfl)
theorem dX3_cubsIn_71 : decode cX3_cubsIn 71 = .ok (.istore_n 2, 1) := dk_61 (dk_at dksX3_cubsIn_2 23 rfl rfl)
theorem dX3_cubsIn_72 : decode cX3_cubsIn 72 = .ok (.iinc 3 1, 3) := dk_132 3 1 (dk_at dksX3_cubsIn_3 0 rfl rfl)
theorem dX3_cubsIn_75 : decode cX3_cubsIn 75 = .ok (.goto (-34), 3) := dk_167 255 222 (dk_at dksX3_cubsIn_3 3 rfl rfl)
theorem dX3_cubsIn_78 : decode cX3_cubsIn 78 = .ok (.aload_n 0, 1) := dk_42 (dk_at dksX3_cubsIn_3 6 rfl rfl)
theorem dX3_cubsIn_79 : decode cX3_cubsIn 79 = .ok (.invokevirtual 219, 3) := dk_182 0 219 (dk_at dksX3_cubsIn_3 7 rfl rfl)
theorem dX3_cubsIn_82 : decode cX3_cubsIn 82 = .ok (.iload_n 2, 1) := dk_28 (dk_at dksX3_cubsIn_3 10 rfl rfl)
theorem dX3_cubsIn_83 : decode cX3_cubsIn 83 = .ok (.iconst (-1), 1) := dk_2 (dk_at dksX3_cubsIn_3 11 rfl rfl)
theorem dX3_cubsIn_84 : decode cX3_cubsIn 84 = .ok (.if_icmp .ne 11, 3) := dk_160 0 11 (dk_at dksX3_cubsIn_3 12 rfl rfl)
theorem dX3_cubsIn_87 : decode cX3_cubsIn 87 = .ok (.aload_n 0, 1) := dk_42 (dk_at dksX3_cubsIn_3 15 rfl rfl)
theorem dX3_cubsIn_88 : decode cX3_cubsIn 88 = .ok (.iconst 3, 1) := dk_6 (dk_at dksX3_cubsIn_3 16 rfl rfl)
theorem dX3_cubsIn_89 : decode cX3_cubsIn 89 = .ok (.invokevirtual 64, 3) := dk_182 0 64 (dk_at dksX3_cubsIn_3 17 rfl rfl)
theorem dX3_cubsIn_92 : decode cX3_cubsIn 92 = .ok (.goto 4, 3) := dk_167 0 4 (dk_at dksX3_cubsIn_3 20 rfl rfl)
theorem dX3_cubsIn_95 : decode cX3_cubsIn 95 = .ok (.iload_n 2, 1) := dk_28 (dk_at dksX3_cubsIn_3 23 rfl rfl)
theorem dX3_cubsIn_96 : decode cX3_cubsIn 96 = .ok (.ireturn, 1) := dk_172 (dk_at dksX3_cubsIn_4 0 rfl rfl)
abbrev cX3_worstDip : ByteArray := prog_11_method_62_code
def yX3_worstDip : MethodName := ⟨RX3, "worstDip", "()I"⟩
def dkwX3_worstDip_4 : List UInt8 := [27, 46, 154, 0, 11, 42, 4, 182, 0, 64, 167, 0, 4, 27, 172]
abbrev dktX3_worstDip_4 : List UInt8 := dkwX3_worstDip_4 ++ []
def dkwX3_worstDip_3 : List UInt8 := [180, 0, 32, 27, 46, 164, 0, 7, 28, 167, 0, 4, 27, 60, 132, 2, 1, 167, 255, 226, 42, 180, 0, 32]
abbrev dktX3_worstDip_3 : List UInt8 := dkwX3_worstDip_3 ++ dktX3_worstDip_4
def dkwX3_worstDip_2 : List UInt8 := [167, 255, 243, 42, 182, 0, 219, 3, 60, 4, 61, 28, 16, 12, 162, 0, 30, 42, 180, 0, 32, 28, 46, 42]
abbrev dktX3_worstDip_2 : List UInt8 := dkwX3_worstDip_2 ++ dktX3_worstDip_3
def dkwX3_worstDip_1 : List UInt8 := [167, 255, 240, 42, 182, 0, 216, 3, 60, 27, 16, 100, 162, 0, 13, 42, 182, 0, 192, 132, 1, 1]
abbrev dktX3_worstDip_1 : List UInt8 := dkwX3_worstDip_1 ++ dktX3_worstDip_2
def dkwX3_worstDip_0 : List UInt8 := [42, 3, 181, 0, 52, 3, 60, 27, 16, 12, 162, 0, 16, 42, 180, 0, 32, 27, 3, 79, 132, 1, 1]
abbrev dktX3_worstDip_0 : List UInt8 := dkwX3_worstDip_0 ++ dktX3_worstDip_1
theorem dksX3_worstDip_0 : cX3_worstDip.data.toList.drop 0 = dktX3_worstDip_0 := by decide +kernel
theorem dksX3_worstDip_1 : cX3_worstDip.data.toList.drop 23 = dktX3_worstDip_1 := dk_seg dksX3_worstDip_0 23 rfl rfl
theorem dksX3_worstDip_2 : cX3_worstDip.data.toList.drop 45 = dktX3_worstDip_2 := dk_seg dksX3_worstDip_1 22 rfl rfl
theorem dksX3_worstDip_3 : cX3_worstDip.data.toList.drop 69 = dktX3_worstDip_3 := dk_seg dksX3_worstDip_2 24 rfl rfl
theorem dksX3_worstDip_4 : cX3_worstDip.data.toList.drop 93 = dktX3_worstDip_4 := dk_seg dksX3_worstDip_3 24 rfl rfl
theorem dX3_worstDip_0 : decode cX3_worstDip 0 = .ok (.aload_n 0, 1) := dk_42 (dk_at dksX3_worstDip_0 0 rfl rfl)
theorem dX3_worstDip_1 : decode cX3_worstDip 1 = .ok (.iconst 0, 1) := dk_3 (dk_at dksX3_worstDip_0 1 rfl rfl)
theorem dX3_worstDip_2 : decode cX3_worstDip 2 = .ok (.putfield 52, 3) := dk_181 0 52 (dk_at dksX3_worstDip_0 2 rfl rfl)
theorem dX3_worstDip_5 : decode cX3_worstDip 5 = .ok (.iconst 0, 1) := dk_3 (dk_at dksX3_worstDip_0 5 rfl rfl)
theorem dX3_worstDip_6 : decode cX3_worstDip 6 = .ok (.istore_n 1, 1) := dk_60 (dk_at dksX3_worstDip_0 6 rfl rfl)
theorem dX3_worstDip_7 : decode cX3_worstDip 7 = .ok (.iload_n 1, 1) := dk_27 (dk_at dksX3_worstDip_0 7 rfl rfl)
theorem dX3_worstDip_8 : decode cX3_worstDip 8 = .ok (.bipush 12, 2) := dk_16 12 (dk_at dksX3_worstDip_0 8 rfl rfl)
theorem dX3_worstDip_10 : decode cX3_worstDip 10 = .ok (.if_icmp .ge 16, 3) := dk_162 0 16 (dk_at dksX3_worstDip_0 10 rfl rfl)
theorem dX3_worstDip_13 : decode cX3_worstDip 13 = .ok (.aload_n 0, 1) := dk_42 (dk_at dksX3_worstDip_0 13 rfl rfl)
theorem dX3_worstDip_14 : decode cX3_worstDip 14 = .ok (.getfield 32, 3) := dk_180 0 32 (dk_at dksX3_worstDip_0 14 rfl rfl)
theorem dX3_worstDip_17 : decode cX3_worstDip 17 = .ok (.iload_n 1, 1) := dk_27 (dk_at dksX3_worstDip_0 17 rfl rfl)
theorem dX3_worstDip_18 : decode cX3_worstDip 18 = .ok (.iconst 0, 1) := dk_3 (dk_at dksX3_worstDip_0 18 rfl rfl)
theorem dX3_worstDip_19 : decode cX3_worstDip 19 = .ok (.iastore, 1) := dk_79 (dk_at dksX3_worstDip_0 19 rfl rfl)
theorem dX3_worstDip_20 : decode cX3_worstDip 20 = .ok (.iinc 1 1, 3) := dk_132 1 1 (dk_at dksX3_worstDip_0 20 rfl rfl)
theorem dX3_worstDip_23 : decode cX3_worstDip 23 = .ok (.goto (-16), 3) := dk_167 255 240 (dk_at dksX3_worstDip_1 0 rfl rfl)
theorem dX3_worstDip_26 : decode cX3_worstDip 26 = .ok (.aload_n 0, 1) := dk_42 (dk_at dksX3_worstDip_1 3 rfl rfl)
theorem dX3_worstDip_27 : decode cX3_worstDip 27 = .ok (.invokevirtual 216, 3) := dk_182 0 216 (dk_at dksX3_worstDip_1 4 rfl rfl)
theorem dX3_worstDip_30 : decode cX3_worstDip 30 = .ok (.iconst 0, 1) := dk_3 (dk_at dksX3_worstDip_1 7 rfl rfl)
theorem dX3_worstDip_31 : decode cX3_worstDip 31 = .ok (.istore_n 1, 1) := dk_60 (dk_at dksX3_worstDip_1 8 rfl rfl)
theorem dX3_worstDip_32 : decode cX3_worstDip 32 = .ok (.iload_n 1, 1) := dk_27 (dk_at dksX3_worstDip_1 9 rfl rfl)
theorem dX3_worstDip_33 : decode cX3_worstDip 33 = .ok (.bipush 100, 2) := dk_16 100 (dk_at dksX3_worstDip_1 10 rfl rfl)
theorem dX3_worstDip_35 : decode cX3_worstDip 35 = .ok (.if_icmp .ge 13, 3) := dk_162 0 13 (dk_at dksX3_worstDip_1 12 rfl rfl)
theorem dX3_worstDip_38 : decode cX3_worstDip 38 = .ok (.aload_n 0, 1) := dk_42 (dk_at dksX3_worstDip_1 15 rfl rfl)
theorem dX3_worstDip_39 : decode cX3_worstDip 39 = .ok (.invokevirtual 192, 3) := dk_182 0 192 (dk_at dksX3_worstDip_1 16 rfl rfl)
theorem dX3_worstDip_42 : decode cX3_worstDip 42 = .ok (.iinc 1 1, 3) := dk_132 1 1 (dk_at dksX3_worstDip_1 19 rfl rfl)
theorem dX3_worstDip_45 : decode cX3_worstDip 45 = .ok (.goto (-13), 3) := dk_167 255 243 (dk_at dksX3_worstDip_2 0 rfl rfl)
theorem dX3_worstDip_48 : decode cX3_worstDip 48 = .ok (.aload_n 0, 1) := dk_42 (dk_at dksX3_worstDip_2 3 rfl rfl)
theorem dX3_worstDip_49 : decode cX3_worstDip 49 = .ok (.invokevirtual 219, 3) := dk_182 0 219 (dk_at dksX3_worstDip_2 4 rfl rfl)
theorem dX3_worstDip_52 : decode cX3_worstDip 52 = .ok (.iconst 0, 1) := dk_3 (dk_at dksX3_worstDip_2 7 rfl rfl)
theorem dX3_worstDip_53 : decode cX3_worstDip 53 = .ok (.istore_n 1, 1) := dk_60 (dk_at dksX3_worstDip_2 8 rfl rfl)
theorem dX3_worstDip_54 : decode cX3_worstDip 54 = .ok (.iconst 1, 1) := dk_4 (dk_at dksX3_worstDip_2 9 rfl rfl)
theorem dX3_worstDip_55 : decode cX3_worstDip 55 = .ok (.istore_n 2, 1) := dk_61 (dk_at dksX3_worstDip_2 10 rfl rfl)
theorem dX3_worstDip_56 : decode cX3_worstDip 56 = .ok (.iload_n 2, 1) := dk_28 (dk_at dksX3_worstDip_2 11 rfl rfl)
theorem dX3_worstDip_57 : decode cX3_worstDip 57 = .ok (.bipush 12, 2) := dk_16 12 (dk_at dksX3_worstDip_2 12 rfl rfl)
theorem dX3_worstDip_59 : decode cX3_worstDip 59 = .ok (.if_icmp .ge 30, 3) := dk_162 0 30 (dk_at dksX3_worstDip_2 14 rfl rfl)
theorem dX3_worstDip_62 : decode cX3_worstDip 62 = .ok (.aload_n 0, 1) := dk_42 (dk_at dksX3_worstDip_2 17 rfl rfl)
theorem dX3_worstDip_63 : decode cX3_worstDip 63 = .ok (.getfield 32, 3) := dk_180 0 32 (dk_at dksX3_worstDip_2 18 rfl rfl)
theorem dX3_worstDip_66 : decode cX3_worstDip 66 = .ok (.iload_n 2, 1) := dk_28 (dk_at dksX3_worstDip_2 21 rfl rfl)
theorem dX3_worstDip_67 : decode cX3_worstDip 67 = .ok (.iaload, 1) := dk_46 (dk_at dksX3_worstDip_2 22 rfl rfl)
theorem dX3_worstDip_68 : decode cX3_worstDip 68 = .ok (.aload_n 0, 1) := dk_42 (dk_at dksX3_worstDip_2 23 rfl rfl)
theorem dX3_worstDip_69 : decode cX3_worstDip 69 = .ok (.getfield 32, 3) := dk_180 0 32 (dk_at dksX3_worstDip_3 0 rfl rfl)
theorem dX3_worstDip_72 : decode cX3_worstDip 72 = .ok (.iload_n 1, 1) := dk_27 (dk_at dksX3_worstDip_3 3 rfl rfl)
theorem dX3_worstDip_73 : decode cX3_worstDip 73 = .ok (.iaload, 1) := dk_46 (dk_at dksX3_worstDip_3 4 rfl rfl)
theorem dX3_worstDip_74 : decode cX3_worstDip 74 = .ok (.if_icmp .le 7, 3) := dk_164 0 7 (dk_at dksX3_worstDip_3 5 rfl rfl)
theorem dX3_worstDip_77 : decode cX3_worstDip 77 = .ok (.iload_n 2, 1) := dk_28 (dk_at dksX3_worstDip_3 8 rfl rfl)
theorem dX3_worstDip_78 : decode cX3_worstDip 78 = .ok (.goto 4, 3) := dk_167 0 4 (dk_at dksX3_worstDip_3 9 rfl rfl)
theorem dX3_worstDip_81 : decode cX3_worstDip 81 = .ok (.iload_n 1, 1) := dk_27 (dk_at dksX3_worstDip_3 12 rfl rfl)
theorem dX3_worstDip_82 : decode cX3_worstDip 82 = .ok (.istore_n 1, 1) := dk_60 (dk_at dksX3_worstDip_3 13 rfl rfl)
theorem dX3_worstDip_83 : decode cX3_worstDip 83 = .ok (.iinc 2 1, 3) := dk_132 2 1 (dk_at dksX3_worstDip_3 14 rfl rfl)
theorem dX3_worstDip_86 : decode cX3_worstDip 86 = .ok (.goto (-30), 3) := dk_167 255 226 (dk_at dksX3_worstDip_3 17 rfl rfl)
theorem dX3_worstDip_89 : decode cX3_worstDip 89 = .ok (.aload_n 0, 1) := dk_42 (dk_at dksX3_worstDip_3 20 rfl rfl)
theorem dX3_worstDip_90 : decode cX3_worstDip 90 = .ok (.getfield 32, 3) := dk_180 0 32 (dk_at dksX3_worstDip_3 21 rfl rfl)
theorem dX3_worstDip_93 : decode cX3_worstDip 93 = .ok (.iload_n 1, 1) := dk_27 (dk_at dksX3_worstDip_4 0 rfl rfl)
theorem dX3_worstDip_94 : decode cX3_worstDip 94 = .ok (.iaload, 1) := dk_46 (dk_at dksX3_worstDip_4 1 rfl rfl)
theorem dX3_worstDip_95 : decode cX3_worstDip 95 = .ok (.ifCond .ne 11, 3) := dk_154 0 11 (dk_at dksX3_worstDip_4 2 rfl rfl)
theorem dX3_worstDip_98 : decode cX3_worstDip 98 = .ok (.aload_n 0, 1) := dk_42 (dk_at dksX3_worstDip_4 5 rfl rfl)
theorem dX3_worstDip_99 : decode cX3_worstDip 99 = .ok (.iconst 1, 1) := dk_4 (dk_at dksX3_worstDip_4 6 rfl rfl)
theorem dX3_worstDip_100 : decode cX3_worstDip 100 = .ok (.invokevirtual 64, 3) := dk_182 0 64 (dk_at dksX3_worstDip_4 7 rfl rfl)
theorem dX3_worstDip_103 : decode cX3_worstDip 103 = .ok (.goto 4, 3) := dk_167 0 4 (dk_at dksX3_worstDip_4 10 rfl rfl)
theorem dX3_worstDip_106 : decode cX3_worstDip 106 = .ok (.iload_n 1, 1) := dk_27 (dk_at dksX3_worstDip_4 13 rfl rfl)
theorem dX3_worstDip_107 : decode cX3_worstDip 107 = .ok (.ireturn, 1) := dk_172 (dk_at dksX3_worstDip_4 14 rfl rfl)
abbrev cX3_unseen : ByteArray := prog_11_method_64_code
def yX3_unseen : MethodName := ⟨RX3, "unseen", "()I"⟩
def dkwX3_unseen_2 : List UInt8 := [182, 0, 222, 2, 159, 0, 7, 4, 167, 0, 4, 3, 96, 60, 132, 2, 1, 167, 255, 204, 27, 172]
abbrev dktX3_unseen_2 : List UInt8 := dkwX3_unseen_2 ++ []
def dkwX3_unseen_1 : List UInt8 := [182, 0, 78, 153, 0, 30, 42, 180, 0, 9, 28, 184, 0, 75, 5, 96, 46, 154, 0, 16, 42, 28]
abbrev dktX3_unseen_1 : List UInt8 := dkwX3_unseen_1 ++ dktX3_unseen_2
def dkwX3_unseen_0 : List UInt8 := [42, 3, 181, 0, 52, 3, 60, 3, 61, 28, 42, 180, 0, 9, 4, 46, 162, 0, 48, 27, 42, 28]
abbrev dktX3_unseen_0 : List UInt8 := dkwX3_unseen_0 ++ dktX3_unseen_1
theorem dksX3_unseen_0 : cX3_unseen.data.toList.drop 0 = dktX3_unseen_0 := by decide +kernel
theorem dksX3_unseen_1 : cX3_unseen.data.toList.drop 22 = dktX3_unseen_1 := dk_seg dksX3_unseen_0 22 rfl rfl
theorem dksX3_unseen_2 : cX3_unseen.data.toList.drop 44 = dktX3_unseen_2 := dk_seg dksX3_unseen_1 22 rfl rfl
theorem dX3_unseen_0 : decode cX3_unseen 0 = .ok (.aload_n 0, 1) := dk_42 (dk_at dksX3_unseen_0 0 rfl rfl)
theorem dX3_unseen_1 : decode cX3_unseen 1 = .ok (.iconst 0, 1) := dk_3 (dk_at dksX3_unseen_0 1 rfl rfl)
theorem dX3_unseen_2 : decode cX3_unseen 2 = .ok (.putfield 52, 3) := dk_181 0 52 (dk_at dksX3_unseen_0 2 rfl rfl)
theorem dX3_unseen_5 : decode cX3_unseen 5 = .ok (.iconst 0, 1) := dk_3 (dk_at dksX3_unseen_0 5 rfl rfl)
theorem dX3_unseen_6 : decode cX3_unseen 6 = .ok (.istore_n 1, 1) := dk_60 (dk_at dksX3_unseen_0 6 rfl rfl)
theorem dX3_unseen_7 : decode cX3_unseen 7 = .ok (.iconst 0, 1) := dk_3 (dk_at dksX3_unseen_0 7 rfl rfl)
theorem dX3_unseen_8 : decode cX3_unseen 8 = .ok (.istore_n 2, 1) := dk_61 (dk_at dksX3_unseen_0 8 rfl rfl)
theorem dX3_unseen_9 : decode cX3_unseen 9 = .ok (.iload_n 2, 1) := dk_28 (dk_at dksX3_unseen_0 9 rfl rfl)
theorem dX3_unseen_10 : decode cX3_unseen 10 = .ok (.aload_n 0, 1) := dk_42 (dk_at dksX3_unseen_0 10 rfl rfl)
theorem dX3_unseen_11 : decode cX3_unseen 11 = .ok (.getfield 9, 3) := dk_180 0 9 (dk_at dksX3_unseen_0 11 rfl rfl)
theorem dX3_unseen_14 : decode cX3_unseen 14 = .ok (.iconst 1, 1) := dk_4 (dk_at dksX3_unseen_0 14 rfl rfl)
theorem dX3_unseen_15 : decode cX3_unseen 15 = .ok (.iaload, 1) := dk_46 (dk_at dksX3_unseen_0 15 rfl rfl)
theorem dX3_unseen_16 : decode cX3_unseen 16 = .ok (.if_icmp .ge 48, 3) := dk_162 0 48 (dk_at dksX3_unseen_0 16 rfl rfl)
theorem dX3_unseen_19 : decode cX3_unseen 19 = .ok (.iload_n 1, 1) := dk_27 (dk_at dksX3_unseen_0 19 rfl rfl)
theorem dX3_unseen_20 : decode cX3_unseen 20 = .ok (.aload_n 0, 1) := dk_42 (dk_at dksX3_unseen_0 20 rfl rfl)
theorem dX3_unseen_21 : decode cX3_unseen 21 = .ok (.iload_n 2, 1) := dk_28 (dk_at dksX3_unseen_0 21 rfl rfl)
theorem dX3_unseen_22 : decode cX3_unseen 22 = .ok (.invokevirtual 78, 3) := dk_182 0 78 (dk_at dksX3_unseen_1 0 rfl rfl)
theorem dX3_unseen_25 : decode cX3_unseen 25 = .ok (.ifCond .eq 30, 3) := dk_153 0 30 (dk_at dksX3_unseen_1 3 rfl rfl)
theorem dX3_unseen_28 : decode cX3_unseen 28 = .ok (.aload_n 0, 1) := dk_42 (dk_at dksX3_unseen_1 6 rfl rfl)
theorem dX3_unseen_29 : decode cX3_unseen 29 = .ok (.getfield 9, 3) := dk_180 0 9 (dk_at dksX3_unseen_1 7 rfl rfl)
theorem dX3_unseen_32 : decode cX3_unseen 32 = .ok (.iload_n 2, 1) := dk_28 (dk_at dksX3_unseen_1 10 rfl rfl)
theorem dX3_unseen_33 : decode cX3_unseen 33 = .ok (.invokestatic 75, 3) := dk_184 0 75 (dk_at dksX3_unseen_1 11 rfl rfl)
theorem dX3_unseen_36 : decode cX3_unseen 36 = .ok (.iconst 2, 1) := dk_5 (dk_at dksX3_unseen_1 14 rfl rfl)
theorem dX3_unseen_37 : decode cX3_unseen 37 = .ok (.iadd, 1) := dk_96 (dk_at dksX3_unseen_1 15 rfl rfl)
theorem dX3_unseen_38 : decode cX3_unseen 38 = .ok (.iaload, 1) := dk_46 (dk_at dksX3_unseen_1 16 rfl rfl)
theorem dX3_unseen_39 : decode cX3_unseen 39 = .ok (.ifCond .ne 16, 3) := dk_154 0 16 (dk_at dksX3_unseen_1 17 rfl rfl)
theorem dX3_unseen_42 : decode cX3_unseen 42 = .ok (.aload_n 0, 1) := dk_42 (dk_at dksX3_unseen_1 20 rfl rfl)
theorem dX3_unseen_43 : decode cX3_unseen 43 = .ok (.iload_n 2, 1) := dk_28 (dk_at dksX3_unseen_1 21 rfl rfl)
theorem dX3_unseen_44 : decode cX3_unseen 44 = .ok (.invokevirtual 222, 3) := dk_182 0 222 (dk_at dksX3_unseen_2 0 rfl rfl)
theorem dX3_unseen_47 : decode cX3_unseen 47 = .ok (.iconst (-1), 1) := dk_2 (dk_at dksX3_unseen_2 3 rfl rfl)
theorem dX3_unseen_48 : decode cX3_unseen 48 = .ok (.if_icmp .eq 7, 3) := dk_159 0 7 (dk_at dksX3_unseen_2 4 rfl rfl)
theorem dX3_unseen_51 : decode cX3_unseen 51 = .ok (.iconst 1, 1) := dk_4 (dk_at dksX3_unseen_2 7 rfl rfl)
theorem dX3_unseen_52 : decode cX3_unseen 52 = .ok (.goto 4, 3) := dk_167 0 4 (dk_at dksX3_unseen_2 8 rfl rfl)
theorem dX3_unseen_55 : decode cX3_unseen 55 = .ok (.iconst 0, 1) := dk_3 (dk_at dksX3_unseen_2 11 rfl rfl)
theorem dX3_unseen_56 : decode cX3_unseen 56 = .ok (.iadd, 1) := dk_96 (dk_at dksX3_unseen_2 12 rfl rfl)
theorem dX3_unseen_57 : decode cX3_unseen 57 = .ok (.istore_n 1, 1) := dk_60 (dk_at dksX3_unseen_2 13 rfl rfl)
theorem dX3_unseen_58 : decode cX3_unseen 58 = .ok (.iinc 2 1, 3) := dk_132 2 1 (dk_at dksX3_unseen_2 14 rfl rfl)
theorem dX3_unseen_61 : decode cX3_unseen 61 = .ok (.goto (-52), 3) := dk_167 255 204 (dk_at dksX3_unseen_2 17 rfl rfl)
theorem dX3_unseen_64 : decode cX3_unseen 64 = .ok (.iload_n 1, 1) := dk_27 (dk_at dksX3_unseen_2 20 rfl rfl)
theorem dX3_unseen_65 : decode cX3_unseen 65 = .ok (.ireturn, 1) := dk_172 (dk_at dksX3_unseen_2 21 rfl rfl)
abbrev cX3_seerOf : ByteArray := prog_11_method_63_code
def yX3_seerOf : MethodName := ⟨RX3, "seerOf", "(I)I"⟩
def dkwX3_seerOf_1 : List UInt8 := [46, 182, 0, 198, 153, 0, 5, 28, 172, 132, 2, 1, 167, 255, 222, 2, 172]
abbrev dktX3_seerOf_1 : List UInt8 := dkwX3_seerOf_1 ++ []
def dkwX3_seerOf_0 : List UInt8 := [3, 61, 28, 42, 180, 0, 9, 5, 46, 162, 0, 30, 42, 28, 42, 180, 0, 9, 27, 184, 0, 75, 4, 96]
abbrev dktX3_seerOf_0 : List UInt8 := dkwX3_seerOf_0 ++ dktX3_seerOf_1
theorem dksX3_seerOf_0 : cX3_seerOf.data.toList.drop 0 = dktX3_seerOf_0 := by decide +kernel
theorem dksX3_seerOf_1 : cX3_seerOf.data.toList.drop 24 = dktX3_seerOf_1 := dk_seg dksX3_seerOf_0 24 rfl rfl
theorem dX3_seerOf_0 : decode cX3_seerOf 0 = .ok (.iconst 0, 1) := dk_3 (dk_at dksX3_seerOf_0 0 rfl rfl)
theorem dX3_seerOf_1 : decode cX3_seerOf 1 = .ok (.istore_n 2, 1) := dk_61 (dk_at dksX3_seerOf_0 1 rfl rfl)
theorem dX3_seerOf_2 : decode cX3_seerOf 2 = .ok (.iload_n 2, 1) := dk_28 (dk_at dksX3_seerOf_0 2 rfl rfl)
theorem dX3_seerOf_3 : decode cX3_seerOf 3 = .ok (.aload_n 0, 1) := dk_42 (dk_at dksX3_seerOf_0 3 rfl rfl)
theorem dX3_seerOf_4 : decode cX3_seerOf 4 = .ok (.getfield 9, 3) := dk_180 0 9 (dk_at dksX3_seerOf_0 4 rfl rfl)
theorem dX3_seerOf_7 : decode cX3_seerOf 7 = .ok (.iconst 2, 1) := dk_5 (dk_at dksX3_seerOf_0 7 rfl rfl)
theorem dX3_seerOf_8 : decode cX3_seerOf 8 = .ok (.iaload, 1) := dk_46 (dk_at dksX3_seerOf_0 8 rfl rfl)
theorem dX3_seerOf_9 : decode cX3_seerOf 9 = .ok (.if_icmp .ge 30, 3) := dk_162 0 30 (dk_at dksX3_seerOf_0 9 rfl rfl)
theorem dX3_seerOf_12 : decode cX3_seerOf 12 = .ok (.aload_n 0, 1) := dk_42 (dk_at dksX3_seerOf_0 12 rfl rfl)
theorem dX3_seerOf_13 : decode cX3_seerOf 13 = .ok (.iload_n 2, 1) := dk_28 (dk_at dksX3_seerOf_0 13 rfl rfl)
theorem dX3_seerOf_14 : decode cX3_seerOf 14 = .ok (.aload_n 0, 1) := dk_42 (dk_at dksX3_seerOf_0 14 rfl rfl)
theorem dX3_seerOf_15 : decode cX3_seerOf 15 = .ok (.getfield 9, 3) := dk_180 0 9 (dk_at dksX3_seerOf_0 15 rfl rfl)
theorem dX3_seerOf_18 : decode cX3_seerOf 18 = .ok (.iload_n 1, 1) := dk_27 (dk_at dksX3_seerOf_0 18 rfl rfl)
theorem dX3_seerOf_19 : decode cX3_seerOf 19 = .ok (.invokestatic 75, 3) := dk_184 0 75 (dk_at dksX3_seerOf_0 19 rfl rfl)
theorem dX3_seerOf_22 : decode cX3_seerOf 22 = .ok (.iconst 1, 1) := dk_4 (dk_at dksX3_seerOf_0 22 rfl rfl)
theorem dX3_seerOf_23 : decode cX3_seerOf 23 = .ok (.iadd, 1) := dk_96 (dk_at dksX3_seerOf_0 23 rfl rfl)
theorem dX3_seerOf_24 : decode cX3_seerOf 24 = .ok (.iaload, 1) := dk_46 (dk_at dksX3_seerOf_1 0 rfl rfl)
theorem dX3_seerOf_25 : decode cX3_seerOf 25 = .ok (.invokevirtual 198, 3) := dk_182 0 198 (dk_at dksX3_seerOf_1 1 rfl rfl)
theorem dX3_seerOf_28 : decode cX3_seerOf 28 = .ok (.ifCond .eq 5, 3) := dk_153 0 5 (dk_at dksX3_seerOf_1 4 rfl rfl)
theorem dX3_seerOf_31 : decode cX3_seerOf 31 = .ok (.iload_n 2, 1) := dk_28 (dk_at dksX3_seerOf_1 7 rfl rfl)
theorem dX3_seerOf_32 : decode cX3_seerOf 32 = .ok (.ireturn, 1) := dk_172 (dk_at dksX3_seerOf_1 8 rfl rfl)
theorem dX3_seerOf_33 : decode cX3_seerOf 33 = .ok (.iinc 2 1, 3) := dk_132 2 1 (dk_at dksX3_seerOf_1 9 rfl rfl)
theorem dX3_seerOf_36 : decode cX3_seerOf 36 = .ok (.goto (-34), 3) := dk_167 255 222 (dk_at dksX3_seerOf_1 12 rfl rfl)
theorem dX3_seerOf_39 : decode cX3_seerOf 39 = .ok (.iconst (-1), 1) := dk_2 (dk_at dksX3_seerOf_1 15 rfl rfl)
theorem dX3_seerOf_40 : decode cX3_seerOf 40 = .ok (.ireturn, 1) := dk_172 (dk_at dksX3_seerOf_1 16 rfl rfl)
abbrev cX3_lonely : ByteArray := prog_11_method_65_code
def yX3_lonely : MethodName := ⟨RX3, "lonely", "()I"⟩
def dkwX3_lonely_1 : List UInt8 := [182, 0, 109, 4, 160, 0, 9, 4, 28, 120, 167, 0, 4, 3, 128, 60, 132, 2, 1, 167, 255, 224, 27, 172]
abbrev dktX3_lonely_1 : List UInt8 := dkwX3_lonely_1 ++ []
def dkwX3_lonely_0 : List UInt8 := [42, 3, 181, 0, 52, 3, 60, 3, 61, 28, 42, 180, 0, 9, 3, 46, 162, 0, 28, 27, 42, 28]
abbrev dktX3_lonely_0 : List UInt8 := dkwX3_lonely_0 ++ dktX3_lonely_1
theorem dksX3_lonely_0 : cX3_lonely.data.toList.drop 0 = dktX3_lonely_0 := by decide +kernel
theorem dksX3_lonely_1 : cX3_lonely.data.toList.drop 22 = dktX3_lonely_1 := dk_seg dksX3_lonely_0 22 rfl rfl
theorem dX3_lonely_0 : decode cX3_lonely 0 = .ok (.aload_n 0, 1) := dk_42 (dk_at dksX3_lonely_0 0 rfl rfl)
theorem dX3_lonely_1 : decode cX3_lonely 1 = .ok (.iconst 0, 1) := dk_3 (dk_at dksX3_lonely_0 1 rfl rfl)
theorem dX3_lonely_2 : decode cX3_lonely 2 = .ok (.putfield 52, 3) := dk_181 0 52 (dk_at dksX3_lonely_0 2 rfl rfl)
theorem dX3_lonely_5 : decode cX3_lonely 5 = .ok (.iconst 0, 1) := dk_3 (dk_at dksX3_lonely_0 5 rfl rfl)
theorem dX3_lonely_6 : decode cX3_lonely 6 = .ok (.istore_n 1, 1) := dk_60 (dk_at dksX3_lonely_0 6 rfl rfl)
theorem dX3_lonely_7 : decode cX3_lonely 7 = .ok (.iconst 0, 1) := dk_3 (dk_at dksX3_lonely_0 7 rfl rfl)
theorem dX3_lonely_8 : decode cX3_lonely 8 = .ok (.istore_n 2, 1) := dk_61 (dk_at dksX3_lonely_0 8 rfl rfl)
theorem dX3_lonely_9 : decode cX3_lonely 9 = .ok (.iload_n 2, 1) := dk_28 (dk_at dksX3_lonely_0 9 rfl rfl)
theorem dX3_lonely_10 : decode cX3_lonely 10 = .ok (.aload_n 0, 1) := dk_42 (dk_at dksX3_lonely_0 10 rfl rfl)
theorem dX3_lonely_11 : decode cX3_lonely 11 = .ok (.getfield 9, 3) := dk_180 0 9 (dk_at dksX3_lonely_0 11 rfl rfl)
theorem dX3_lonely_14 : decode cX3_lonely 14 = .ok (.iconst 0, 1) := dk_3 (dk_at dksX3_lonely_0 14 rfl rfl)
theorem dX3_lonely_15 : decode cX3_lonely 15 = .ok (.iaload, 1) := dk_46 (dk_at dksX3_lonely_0 15 rfl rfl)
theorem dX3_lonely_16 : decode cX3_lonely 16 = .ok (.if_icmp .ge 28, 3) := dk_162 0 28 (dk_at dksX3_lonely_0 16 rfl rfl)
theorem dX3_lonely_19 : decode cX3_lonely 19 = .ok (.iload_n 1, 1) := dk_27 (dk_at dksX3_lonely_0 19 rfl rfl)
theorem dX3_lonely_20 : decode cX3_lonely 20 = .ok (.aload_n 0, 1) := dk_42 (dk_at dksX3_lonely_0 20 rfl rfl)
theorem dX3_lonely_21 : decode cX3_lonely 21 = .ok (.iload_n 2, 1) := dk_28 (dk_at dksX3_lonely_0 21 rfl rfl)
theorem dX3_lonely_22 : decode cX3_lonely 22 = .ok (.invokevirtual 109, 3) := dk_182 0 109 (dk_at dksX3_lonely_1 0 rfl rfl)
theorem dX3_lonely_25 : decode cX3_lonely 25 = .ok (.iconst 1, 1) := dk_4 (dk_at dksX3_lonely_1 3 rfl rfl)
theorem dX3_lonely_26 : decode cX3_lonely 26 = .ok (.if_icmp .ne 9, 3) := dk_160 0 9 (dk_at dksX3_lonely_1 4 rfl rfl)
theorem dX3_lonely_29 : decode cX3_lonely 29 = .ok (.iconst 1, 1) := dk_4 (dk_at dksX3_lonely_1 7 rfl rfl)
theorem dX3_lonely_30 : decode cX3_lonely 30 = .ok (.iload_n 2, 1) := dk_28 (dk_at dksX3_lonely_1 8 rfl rfl)
theorem dX3_lonely_31 : decode cX3_lonely 31 = .ok (.ishl, 1) := dk_120 (dk_at dksX3_lonely_1 9 rfl rfl)
theorem dX3_lonely_32 : decode cX3_lonely 32 = .ok (.goto 4, 3) := dk_167 0 4 (dk_at dksX3_lonely_1 10 rfl rfl)
theorem dX3_lonely_35 : decode cX3_lonely 35 = .ok (.iconst 0, 1) := dk_3 (dk_at dksX3_lonely_1 13 rfl rfl)
theorem dX3_lonely_36 : decode cX3_lonely 36 = .ok (.ior, 1) := dk_128 (dk_at dksX3_lonely_1 14 rfl rfl)
theorem dX3_lonely_37 : decode cX3_lonely 37 = .ok (.istore_n 1, 1) := dk_60 (dk_at dksX3_lonely_1 15 rfl rfl)
theorem dX3_lonely_38 : decode cX3_lonely 38 = .ok (.iinc 2 1, 3) := dk_132 2 1 (dk_at dksX3_lonely_1 16 rfl rfl)
theorem dX3_lonely_41 : decode cX3_lonely 41 = .ok (.goto (-32), 3) := dk_167 255 224 (dk_at dksX3_lonely_1 19 rfl rfl)
theorem dX3_lonely_44 : decode cX3_lonely 44 = .ok (.iload_n 1, 1) := dk_27 (dk_at dksX3_lonely_1 22 rfl rfl)
theorem dX3_lonely_45 : decode cX3_lonely 45 = .ok (.ireturn, 1) := dk_172 (dk_at dksX3_lonely_1 23 rfl rfl)
abbrev cX3_safeLevel : ByteArray := prog_11_method_66_code
def yX3_safeLevel : MethodName := ⟨RX3, "safeLevel", "()I"⟩
def dkwX3_safeLevel_2 : List UInt8 := [184, 0, 177, 167, 0, 4, 27, 60, 132, 2, 1, 167, 255, 208, 27, 4, 100, 172]
abbrev dktX3_safeLevel_2 : List UInt8 := dkwX3_safeLevel_2 ++ []
def dkwX3_safeLevel_1 : List UInt8 := [28, 184, 0, 86, 7, 96, 46, 4, 160, 0, 21, 27, 42, 180, 0, 9, 28, 184, 0, 86, 4, 96, 46]
abbrev dktX3_safeLevel_1 : List UInt8 := dkwX3_safeLevel_1 ++ dktX3_safeLevel_2
def dkwX3_safeLevel_0 : List UInt8 := [42, 3, 181, 0, 52, 16, 10, 60, 3, 61, 28, 42, 180, 0, 9, 3, 46, 162, 0, 44, 42, 180, 0, 9]
abbrev dktX3_safeLevel_0 : List UInt8 := dkwX3_safeLevel_0 ++ dktX3_safeLevel_1
theorem dksX3_safeLevel_0 : cX3_safeLevel.data.toList.drop 0 = dktX3_safeLevel_0 := by decide +kernel
theorem dksX3_safeLevel_1 : cX3_safeLevel.data.toList.drop 24 = dktX3_safeLevel_1 := dk_seg dksX3_safeLevel_0 24 rfl rfl
theorem dksX3_safeLevel_2 : cX3_safeLevel.data.toList.drop 47 = dktX3_safeLevel_2 := dk_seg dksX3_safeLevel_1 23 rfl rfl
theorem dX3_safeLevel_0 : decode cX3_safeLevel 0 = .ok (.aload_n 0, 1) := dk_42 (dk_at dksX3_safeLevel_0 0 rfl rfl)
theorem dX3_safeLevel_1 : decode cX3_safeLevel 1 = .ok (.iconst 0, 1) := dk_3 (dk_at dksX3_safeLevel_0 1 rfl rfl)
theorem dX3_safeLevel_2 : decode cX3_safeLevel 2 = .ok (.putfield 52, 3) := dk_181 0 52 (dk_at dksX3_safeLevel_0 2 rfl rfl)
theorem dX3_safeLevel_5 : decode cX3_safeLevel 5 = .ok (.bipush 10, 2) := dk_16 10 (dk_at dksX3_safeLevel_0 5 rfl rfl)
theorem dX3_safeLevel_7 : decode cX3_safeLevel 7 = .ok (.istore_n 1, 1) := dk_60 (dk_at dksX3_safeLevel_0 7 rfl rfl)
theorem dX3_safeLevel_8 : decode cX3_safeLevel 8 = .ok (.iconst 0, 1) := dk_3 (dk_at dksX3_safeLevel_0 8 rfl rfl)
theorem dX3_safeLevel_9 : decode cX3_safeLevel 9 = .ok (.istore_n 2, 1) := dk_61 (dk_at dksX3_safeLevel_0 9 rfl rfl)
theorem dX3_safeLevel_10 : decode cX3_safeLevel 10 = .ok (.iload_n 2, 1) := dk_28 (dk_at dksX3_safeLevel_0 10 rfl rfl)
theorem dX3_safeLevel_11 : decode cX3_safeLevel 11 = .ok (.aload_n 0, 1) := dk_42 (dk_at dksX3_safeLevel_0 11 rfl rfl)
theorem dX3_safeLevel_12 : decode cX3_safeLevel 12 = .ok (.getfield 9, 3) := dk_180 0 9 (dk_at dksX3_safeLevel_0 12 rfl rfl)
theorem dX3_safeLevel_15 : decode cX3_safeLevel 15 = .ok (.iconst 0, 1) := dk_3 (dk_at dksX3_safeLevel_0 15 rfl rfl)
theorem dX3_safeLevel_16 : decode cX3_safeLevel 16 = .ok (.iaload, 1) := dk_46 (dk_at dksX3_safeLevel_0 16 rfl rfl)
theorem dX3_safeLevel_17 : decode cX3_safeLevel 17 = .ok (.if_icmp .ge 44, 3) := dk_162 0 44 (dk_at dksX3_safeLevel_0 17 rfl rfl)
theorem dX3_safeLevel_20 : decode cX3_safeLevel 20 = .ok (.aload_n 0, 1) := dk_42 (dk_at dksX3_safeLevel_0 20 rfl rfl)
theorem dX3_safeLevel_21 : decode cX3_safeLevel 21 = .ok (.getfield 9, 3) := dk_180 0 9 (dk_at dksX3_safeLevel_0 21 rfl rfl)
theorem dX3_safeLevel_24 : decode cX3_safeLevel 24 = .ok (.iload_n 2, 1) := dk_28 (dk_at dksX3_safeLevel_1 0 rfl rfl)
theorem dX3_safeLevel_25 : decode cX3_safeLevel 25 = .ok (.invokestatic 86, 3) := dk_184 0 86 (dk_at dksX3_safeLevel_1 1 rfl rfl)
theorem dX3_safeLevel_28 : decode cX3_safeLevel 28 = .ok (.iconst 4, 1) := dk_7 (dk_at dksX3_safeLevel_1 4 rfl rfl)
theorem dX3_safeLevel_29 : decode cX3_safeLevel 29 = .ok (.iadd, 1) := dk_96 (dk_at dksX3_safeLevel_1 5 rfl rfl)
theorem dX3_safeLevel_30 : decode cX3_safeLevel 30 = .ok (.iaload, 1) := dk_46 (dk_at dksX3_safeLevel_1 6 rfl rfl)
theorem dX3_safeLevel_31 : decode cX3_safeLevel 31 = .ok (.iconst 1, 1) := dk_4 (dk_at dksX3_safeLevel_1 7 rfl rfl)
theorem dX3_safeLevel_32 : decode cX3_safeLevel 32 = .ok (.if_icmp .ne 21, 3) := dk_160 0 21 (dk_at dksX3_safeLevel_1 8 rfl rfl)
theorem dX3_safeLevel_35 : decode cX3_safeLevel 35 = .ok (.iload_n 1, 1) := dk_27 (dk_at dksX3_safeLevel_1 11 rfl rfl)
theorem dX3_safeLevel_36 : decode cX3_safeLevel 36 = .ok (.aload_n 0, 1) := dk_42 (dk_at dksX3_safeLevel_1 12 rfl rfl)
theorem dX3_safeLevel_37 : decode cX3_safeLevel 37 = .ok (.getfield 9, 3) := dk_180 0 9 (dk_at dksX3_safeLevel_1 13 rfl rfl)
theorem dX3_safeLevel_40 : decode cX3_safeLevel 40 = .ok (.iload_n 2, 1) := dk_28 (dk_at dksX3_safeLevel_1 16 rfl rfl)
theorem dX3_safeLevel_41 : decode cX3_safeLevel 41 = .ok (.invokestatic 86, 3) := dk_184 0 86 (dk_at dksX3_safeLevel_1 17 rfl rfl)
theorem dX3_safeLevel_44 : decode cX3_safeLevel 44 = .ok (.iconst 1, 1) := dk_4 (dk_at dksX3_safeLevel_1 20 rfl rfl)
theorem dX3_safeLevel_45 : decode cX3_safeLevel 45 = .ok (.iadd, 1) := dk_96 (dk_at dksX3_safeLevel_1 21 rfl rfl)
theorem dX3_safeLevel_46 : decode cX3_safeLevel 46 = .ok (.iaload, 1) := dk_46 (dk_at dksX3_safeLevel_1 22 rfl rfl)
theorem dX3_safeLevel_47 : decode cX3_safeLevel 47 = .ok (.invokestatic 177, 3) := dk_184 0 177 (dk_at dksX3_safeLevel_2 0 rfl rfl)
theorem dX3_safeLevel_50 : decode cX3_safeLevel 50 = .ok (.goto 4, 3) := dk_167 0 4 (dk_at dksX3_safeLevel_2 3 rfl rfl)
theorem dX3_safeLevel_53 : decode cX3_safeLevel 53 = .ok (.iload_n 1, 1) := dk_27 (dk_at dksX3_safeLevel_2 6 rfl rfl)
theorem dX3_safeLevel_54 : decode cX3_safeLevel 54 = .ok (.istore_n 1, 1) := dk_60 (dk_at dksX3_safeLevel_2 7 rfl rfl)
theorem dX3_safeLevel_55 : decode cX3_safeLevel 55 = .ok (.iinc 2 1, 3) := dk_132 2 1 (dk_at dksX3_safeLevel_2 8 rfl rfl)
theorem dX3_safeLevel_58 : decode cX3_safeLevel 58 = .ok (.goto (-48), 3) := dk_167 255 208 (dk_at dksX3_safeLevel_2 11 rfl rfl)
theorem dX3_safeLevel_61 : decode cX3_safeLevel 61 = .ok (.iload_n 1, 1) := dk_27 (dk_at dksX3_safeLevel_2 14 rfl rfl)
theorem dX3_safeLevel_62 : decode cX3_safeLevel 62 = .ok (.iconst 1, 1) := dk_4 (dk_at dksX3_safeLevel_2 15 rfl rfl)
theorem dX3_safeLevel_63 : decode cX3_safeLevel 63 = .ok (.isub, 1) := dk_100 (dk_at dksX3_safeLevel_2 16 rfl rfl)
theorem dX3_safeLevel_64 : decode cX3_safeLevel 64 = .ok (.ireturn, 1) := dk_172 (dk_at dksX3_safeLevel_2 17 rfl rfl)
abbrev cX3_seenBy : ByteArray := prog_11_method_67_code
def yX3_seenBy : MethodName := ⟨RX3, "seenBy", "(I)I"⟩
def dkwX3_seenBy_2 : List UInt8 := [182, 0, 64, 167, 0, 4, 28, 172]
abbrev dktX3_seenBy_2 : List UInt8 := dkwX3_seenBy_2 ++ []
def dkwX3_seenBy_1 : List UInt8 := [154, 0, 9, 42, 5, 182, 0, 64, 172, 42, 27, 182, 0, 222, 61, 28, 2, 160, 0, 11, 42, 6]
abbrev dktX3_seenBy_1 : List UInt8 := dkwX3_seenBy_1 ++ dktX3_seenBy_2
def dkwX3_seenBy_0 : List UInt8 := [42, 3, 181, 0, 52, 42, 27, 182, 0, 207, 154, 0, 9, 42, 4, 182, 0, 64, 172, 42, 27, 182, 0, 78]
abbrev dktX3_seenBy_0 : List UInt8 := dkwX3_seenBy_0 ++ dktX3_seenBy_1
theorem dksX3_seenBy_0 : cX3_seenBy.data.toList.drop 0 = dktX3_seenBy_0 := by decide +kernel
theorem dksX3_seenBy_1 : cX3_seenBy.data.toList.drop 24 = dktX3_seenBy_1 := dk_seg dksX3_seenBy_0 24 rfl rfl
theorem dksX3_seenBy_2 : cX3_seenBy.data.toList.drop 46 = dktX3_seenBy_2 := dk_seg dksX3_seenBy_1 22 rfl rfl
theorem dX3_seenBy_0 : decode cX3_seenBy 0 = .ok (.aload_n 0, 1) := dk_42 (dk_at dksX3_seenBy_0 0 rfl rfl)
theorem dX3_seenBy_1 : decode cX3_seenBy 1 = .ok (.iconst 0, 1) := dk_3 (dk_at dksX3_seenBy_0 1 rfl rfl)
theorem dX3_seenBy_2 : decode cX3_seenBy 2 = .ok (.putfield 52, 3) := dk_181 0 52 (dk_at dksX3_seenBy_0 2 rfl rfl)
theorem dX3_seenBy_5 : decode cX3_seenBy 5 = .ok (.aload_n 0, 1) := dk_42 (dk_at dksX3_seenBy_0 5 rfl rfl)
theorem dX3_seenBy_6 : decode cX3_seenBy 6 = .ok (.iload_n 1, 1) := dk_27 (dk_at dksX3_seenBy_0 6 rfl rfl)
theorem dX3_seenBy_7 : decode cX3_seenBy 7 = .ok (.invokevirtual 207, 3) := dk_182 0 207 (dk_at dksX3_seenBy_0 7 rfl rfl)
theorem dX3_seenBy_10 : decode cX3_seenBy 10 = .ok (.ifCond .ne 9, 3) := dk_154 0 9 (dk_at dksX3_seenBy_0 10 rfl rfl)
theorem dX3_seenBy_13 : decode cX3_seenBy 13 = .ok (.aload_n 0, 1) := dk_42 (dk_at dksX3_seenBy_0 13 rfl rfl)
theorem dX3_seenBy_14 : decode cX3_seenBy 14 = .ok (.iconst 1, 1) := dk_4 (dk_at dksX3_seenBy_0 14 rfl rfl)
theorem dX3_seenBy_15 : decode cX3_seenBy 15 = .ok (.invokevirtual 64, 3) := dk_182 0 64 (dk_at dksX3_seenBy_0 15 rfl rfl)
theorem dX3_seenBy_18 : decode cX3_seenBy 18 = .ok (.ireturn, 1) := dk_172 (dk_at dksX3_seenBy_0 18 rfl rfl)
theorem dX3_seenBy_19 : decode cX3_seenBy 19 = .ok (.aload_n 0, 1) := dk_42 (dk_at dksX3_seenBy_0 19 rfl rfl)
theorem dX3_seenBy_20 : decode cX3_seenBy 20 = .ok (.iload_n 1, 1) := dk_27 (dk_at dksX3_seenBy_0 20 rfl rfl)
theorem dX3_seenBy_21 : decode cX3_seenBy 21 = .ok (.invokevirtual 78, 3) := dk_182 0 78 (dk_at dksX3_seenBy_0 21 rfl rfl)
theorem dX3_seenBy_24 : decode cX3_seenBy 24 = .ok (.ifCond .ne 9, 3) := dk_154 0 9 (dk_at dksX3_seenBy_1 0 rfl rfl)
theorem dX3_seenBy_27 : decode cX3_seenBy 27 = .ok (.aload_n 0, 1) := dk_42 (dk_at dksX3_seenBy_1 3 rfl rfl)
theorem dX3_seenBy_28 : decode cX3_seenBy 28 = .ok (.iconst 2, 1) := dk_5 (dk_at dksX3_seenBy_1 4 rfl rfl)
theorem dX3_seenBy_29 : decode cX3_seenBy 29 = .ok (.invokevirtual 64, 3) := dk_182 0 64 (dk_at dksX3_seenBy_1 5 rfl rfl)
theorem dX3_seenBy_32 : decode cX3_seenBy 32 = .ok (.ireturn, 1) := dk_172 (dk_at dksX3_seenBy_1 8 rfl rfl)
theorem dX3_seenBy_33 : decode cX3_seenBy 33 = .ok (.aload_n 0, 1) := dk_42 (dk_at dksX3_seenBy_1 9 rfl rfl)
theorem dX3_seenBy_34 : decode cX3_seenBy 34 = .ok (.iload_n 1, 1) := dk_27 (dk_at dksX3_seenBy_1 10 rfl rfl)
theorem dX3_seenBy_35 : decode cX3_seenBy 35 = .ok (.invokevirtual 222, 3) := dk_182 0 222 (dk_at dksX3_seenBy_1 11 rfl rfl)
theorem dX3_seenBy_38 : decode cX3_seenBy 38 = .ok (.istore_n 2, 1) := dk_61 (dk_at dksX3_seenBy_1 14 rfl rfl)
theorem dX3_seenBy_39 : decode cX3_seenBy 39 = .ok (.iload_n 2, 1) := dk_28 (dk_at dksX3_seenBy_1 15 rfl rfl)
theorem dX3_seenBy_40 : decode cX3_seenBy 40 = .ok (.iconst (-1), 1) := dk_2 (dk_at dksX3_seenBy_1 16 rfl rfl)
theorem dX3_seenBy_41 : decode cX3_seenBy 41 = .ok (.if_icmp .ne 11, 3) := dk_160 0 11 (dk_at dksX3_seenBy_1 17 rfl rfl)
theorem dX3_seenBy_44 : decode cX3_seenBy 44 = .ok (.aload_n 0, 1) := dk_42 (dk_at dksX3_seenBy_1 20 rfl rfl)
theorem dX3_seenBy_45 : decode cX3_seenBy 45 = .ok (.iconst 3, 1) := dk_6 (dk_at dksX3_seenBy_1 21 rfl rfl)
theorem dX3_seenBy_46 : decode cX3_seenBy 46 = .ok (.invokevirtual 64, 3) := dk_182 0 64 (dk_at dksX3_seenBy_2 0 rfl rfl)
theorem dX3_seenBy_49 : decode cX3_seenBy 49 = .ok (.goto 4, 3) := dk_167 0 4 (dk_at dksX3_seenBy_2 3 rfl rfl)
theorem dX3_seenBy_52 : decode cX3_seenBy 52 = .ok (.iload_n 2, 1) := dk_28 (dk_at dksX3_seenBy_2 6 rfl rfl)
theorem dX3_seenBy_53 : decode cX3_seenBy 53 = .ok (.ireturn, 1) := dk_172 (dk_at dksX3_seenBy_2 7 rfl rfl)
abbrev cX3_busiest : ByteArray := prog_11_method_68_code
def yX3_busiest : MethodName := ⟨RX3, "busiest", "()I"⟩
def dkwX3_busiest_3 : List UInt8 := [184, 0, 86, 5, 96, 46, 154, 0, 11, 42, 4, 182, 0, 64, 167, 0, 4, 27, 172]
abbrev dktX3_busiest_3 : List UInt8 := dkwX3_busiest_3 ++ []
def dkwX3_busiest_2 : List UInt8 := [27, 60, 132, 2, 1, 167, 255, 212, 42, 180, 0, 9, 3, 46, 153, 0, 17, 42, 180, 0, 9, 27]
abbrev dktX3_busiest_2 : List UInt8 := dkwX3_busiest_2 ++ dktX3_busiest_3
def dkwX3_busiest_1 : List UInt8 := [184, 0, 86, 5, 96, 46, 42, 180, 0, 9, 27, 184, 0, 86, 5, 96, 46, 164, 0, 7, 28, 167, 0, 4]
abbrev dktX3_busiest_1 : List UInt8 := dkwX3_busiest_1 ++ dktX3_busiest_2
def dkwX3_busiest_0 : List UInt8 := [42, 3, 181, 0, 52, 3, 60, 4, 61, 28, 42, 180, 0, 9, 3, 46, 162, 0, 40, 42, 180, 0, 9, 28]
abbrev dktX3_busiest_0 : List UInt8 := dkwX3_busiest_0 ++ dktX3_busiest_1
theorem dksX3_busiest_0 : cX3_busiest.data.toList.drop 0 = dktX3_busiest_0 := by decide +kernel
theorem dksX3_busiest_1 : cX3_busiest.data.toList.drop 24 = dktX3_busiest_1 := dk_seg dksX3_busiest_0 24 rfl rfl
theorem dksX3_busiest_2 : cX3_busiest.data.toList.drop 48 = dktX3_busiest_2 := dk_seg dksX3_busiest_1 24 rfl rfl
theorem dksX3_busiest_3 : cX3_busiest.data.toList.drop 70 = dktX3_busiest_3 := dk_seg dksX3_busiest_2 22 rfl rfl
theorem dX3_busiest_0 : decode cX3_busiest 0 = .ok (.aload_n 0, 1) := dk_42 (dk_at dksX3_busiest_0 0 rfl rfl)
theorem dX3_busiest_1 : decode cX3_busiest 1 = .ok (.iconst 0, 1) := dk_3 (dk_at dksX3_busiest_0 1 rfl rfl)
theorem dX3_busiest_2 : decode cX3_busiest 2 = .ok (.putfield 52, 3) := dk_181 0 52 (dk_at dksX3_busiest_0 2 rfl rfl)
theorem dX3_busiest_5 : decode cX3_busiest 5 = .ok (.iconst 0, 1) := dk_3 (dk_at dksX3_busiest_0 5 rfl rfl)
theorem dX3_busiest_6 : decode cX3_busiest 6 = .ok (.istore_n 1, 1) := dk_60 (dk_at dksX3_busiest_0 6 rfl rfl)
theorem dX3_busiest_7 : decode cX3_busiest 7 = .ok (.iconst 1, 1) := dk_4 (dk_at dksX3_busiest_0 7 rfl rfl)
theorem dX3_busiest_8 : decode cX3_busiest 8 = .ok (.istore_n 2, 1) := dk_61 (dk_at dksX3_busiest_0 8 rfl rfl)
theorem dX3_busiest_9 : decode cX3_busiest 9 = .ok (.iload_n 2, 1) := dk_28 (dk_at dksX3_busiest_0 9 rfl rfl)
theorem dX3_busiest_10 : decode cX3_busiest 10 = .ok (.aload_n 0, 1) := dk_42 (dk_at dksX3_busiest_0 10 rfl rfl)
theorem dX3_busiest_11 : decode cX3_busiest 11 = .ok (.getfield 9, 3) := dk_180 0 9 (dk_at dksX3_busiest_0 11 rfl rfl)
theorem dX3_busiest_14 : decode cX3_busiest 14 = .ok (.iconst 0, 1) := dk_3 (dk_at dksX3_busiest_0 14 rfl rfl)
theorem dX3_busiest_15 : decode cX3_busiest 15 = .ok (.iaload, 1) := dk_46 (dk_at dksX3_busiest_0 15 rfl rfl)
theorem dX3_busiest_16 : decode cX3_busiest 16 = .ok (.if_icmp .ge 40, 3) := dk_162 0 40 (dk_at dksX3_busiest_0 16 rfl rfl)
theorem dX3_busiest_19 : decode cX3_busiest 19 = .ok (.aload_n 0, 1) := dk_42 (dk_at dksX3_busiest_0 19 rfl rfl)
theorem dX3_busiest_20 : decode cX3_busiest 20 = .ok (.getfield 9, 3) := dk_180 0 9 (dk_at dksX3_busiest_0 20 rfl rfl)
theorem dX3_busiest_23 : decode cX3_busiest 23 = .ok (.iload_n 2, 1) := dk_28 (dk_at dksX3_busiest_0 23 rfl rfl)
theorem dX3_busiest_24 : decode cX3_busiest 24 = .ok (.invokestatic 86, 3) := dk_184 0 86 (dk_at dksX3_busiest_1 0 rfl rfl)
theorem dX3_busiest_27 : decode cX3_busiest 27 = .ok (.iconst 2, 1) := dk_5 (dk_at dksX3_busiest_1 3 rfl rfl)
theorem dX3_busiest_28 : decode cX3_busiest 28 = .ok (.iadd, 1) := dk_96 (dk_at dksX3_busiest_1 4 rfl rfl)
theorem dX3_busiest_29 : decode cX3_busiest 29 = .ok (.iaload, 1) := dk_46 (dk_at dksX3_busiest_1 5 rfl rfl)
theorem dX3_busiest_30 : decode cX3_busiest 30 = .ok (.aload_n 0, 1) := dk_42 (dk_at dksX3_busiest_1 6 rfl rfl)
theorem dX3_busiest_31 : decode cX3_busiest 31 = .ok (.getfield 9, 3) := dk_180 0 9 (dk_at dksX3_busiest_1 7 rfl rfl)
theorem dX3_busiest_34 : decode cX3_busiest 34 = .ok (.iload_n 1, 1) := dk_27 (dk_at dksX3_busiest_1 10 rfl rfl)
theorem dX3_busiest_35 : decode cX3_busiest 35 = .ok (.invokestatic 86, 3) := dk_184 0 86 (dk_at dksX3_busiest_1 11 rfl rfl)
theorem dX3_busiest_38 : decode cX3_busiest 38 = .ok (.iconst 2, 1) := dk_5 (dk_at dksX3_busiest_1 14 rfl rfl)
theorem dX3_busiest_39 : decode cX3_busiest 39 = .ok (.iadd, 1) := dk_96 (dk_at dksX3_busiest_1 15 rfl rfl)
theorem dX3_busiest_40 : decode cX3_busiest 40 = .ok (.iaload, 1) := dk_46 (dk_at dksX3_busiest_1 16 rfl rfl)
theorem dX3_busiest_41 : decode cX3_busiest 41 = .ok (.if_icmp .le 7, 3) := dk_164 0 7 (dk_at dksX3_busiest_1 17 rfl rfl)
theorem dX3_busiest_44 : decode cX3_busiest 44 = .ok (.iload_n 2, 1) := dk_28 (dk_at dksX3_busiest_1 20 rfl rfl)
theorem dX3_busiest_45 : decode cX3_busiest 45 = .ok (.goto 4, 3) := dk_167 0 4 (dk_at dksX3_busiest_1 21 rfl rfl)
theorem dX3_busiest_48 : decode cX3_busiest 48 = .ok (.iload_n 1, 1) := dk_27 (dk_at dksX3_busiest_2 0 rfl rfl)
theorem dX3_busiest_49 : decode cX3_busiest 49 = .ok (.istore_n 1, 1) := dk_60 (dk_at dksX3_busiest_2 1 rfl rfl)
theorem dX3_busiest_50 : decode cX3_busiest 50 = .ok (.iinc 2 1, 3) := dk_132 2 1 (dk_at dksX3_busiest_2 2 rfl rfl)
theorem dX3_busiest_53 : decode cX3_busiest 53 = .ok (.goto (-44), 3) := dk_167 255 212 (dk_at dksX3_busiest_2 5 rfl rfl)
theorem dX3_busiest_56 : decode cX3_busiest 56 = .ok (.aload_n 0, 1) := dk_42 (dk_at dksX3_busiest_2 8 rfl rfl)
theorem dX3_busiest_57 : decode cX3_busiest 57 = .ok (.getfield 9, 3) := dk_180 0 9 (dk_at dksX3_busiest_2 9 rfl rfl)
theorem dX3_busiest_60 : decode cX3_busiest 60 = .ok (.iconst 0, 1) := dk_3 (dk_at dksX3_busiest_2 12 rfl rfl)
theorem dX3_busiest_61 : decode cX3_busiest 61 = .ok (.iaload, 1) := dk_46 (dk_at dksX3_busiest_2 13 rfl rfl)
theorem dX3_busiest_62 : decode cX3_busiest 62 = .ok (.ifCond .eq 17, 3) := dk_153 0 17 (dk_at dksX3_busiest_2 14 rfl rfl)
theorem dX3_busiest_65 : decode cX3_busiest 65 = .ok (.aload_n 0, 1) := dk_42 (dk_at dksX3_busiest_2 17 rfl rfl)
theorem dX3_busiest_66 : decode cX3_busiest 66 = .ok (.getfield 9, 3) := dk_180 0 9 (dk_at dksX3_busiest_2 18 rfl rfl)
theorem dX3_busiest_69 : decode cX3_busiest 69 = .ok (.iload_n 1, 1) := dk_27 (dk_at dksX3_busiest_2 21 rfl rfl)
theorem dX3_busiest_70 : decode cX3_busiest 70 = .ok (.invokestatic 86, 3) := dk_184 0 86 (dk_at dksX3_busiest_3 0 rfl rfl)
theorem dX3_busiest_73 : decode cX3_busiest 73 = .ok (.iconst 2, 1) := dk_5 (dk_at dksX3_busiest_3 3 rfl rfl)
theorem dX3_busiest_74 : decode cX3_busiest 74 = .ok (.iadd, 1) := dk_96 (dk_at dksX3_busiest_3 4 rfl rfl)
theorem dX3_busiest_75 : decode cX3_busiest 75 = .ok (.iaload, 1) := dk_46 (dk_at dksX3_busiest_3 5 rfl rfl)
theorem dX3_busiest_76 : decode cX3_busiest 76 = .ok (.ifCond .ne 11, 3) := dk_154 0 11 (dk_at dksX3_busiest_3 6 rfl rfl)
theorem dX3_busiest_79 : decode cX3_busiest 79 = .ok (.aload_n 0, 1) := dk_42 (dk_at dksX3_busiest_3 9 rfl rfl)
theorem dX3_busiest_80 : decode cX3_busiest 80 = .ok (.iconst 1, 1) := dk_4 (dk_at dksX3_busiest_3 10 rfl rfl)
theorem dX3_busiest_81 : decode cX3_busiest 81 = .ok (.invokevirtual 64, 3) := dk_182 0 64 (dk_at dksX3_busiest_3 11 rfl rfl)
theorem dX3_busiest_84 : decode cX3_busiest 84 = .ok (.goto 4, 3) := dk_167 0 4 (dk_at dksX3_busiest_3 14 rfl rfl)
theorem dX3_busiest_87 : decode cX3_busiest 87 = .ok (.iload_n 1, 1) := dk_27 (dk_at dksX3_busiest_3 17 rfl rfl)
theorem dX3_busiest_88 : decode cX3_busiest 88 = .ok (.ireturn, 1) := dk_172 (dk_at dksX3_busiest_3 18 rfl rfl)
abbrev cX3_ranked : ByteArray := prog_11_method_70_code
def yX3_ranked : MethodName := ⟨RX3, "ranked", "(I)I"⟩
def dkwX3_ranked_2 : List UInt8 := [182, 0, 64, 172]
abbrev dktX3_ranked_2 : List UInt8 := dkwX3_ranked_2 ++ []
def dkwX3_ranked_1 : List UInt8 := [153, 0, 14, 42, 28, 182, 0, 225, 27, 160, 0, 5, 28, 172, 132, 2, 1, 167, 255, 224, 42, 4]
abbrev dktX3_ranked_1 : List UInt8 := dkwX3_ranked_1 ++ dktX3_ranked_2
def dkwX3_ranked_0 : List UInt8 := [42, 3, 181, 0, 52, 3, 61, 28, 42, 180, 0, 9, 3, 46, 162, 0, 28, 42, 28, 182, 0, 106]
abbrev dktX3_ranked_0 : List UInt8 := dkwX3_ranked_0 ++ dktX3_ranked_1
theorem dksX3_ranked_0 : cX3_ranked.data.toList.drop 0 = dktX3_ranked_0 := by decide +kernel
theorem dksX3_ranked_1 : cX3_ranked.data.toList.drop 22 = dktX3_ranked_1 := dk_seg dksX3_ranked_0 22 rfl rfl
theorem dksX3_ranked_2 : cX3_ranked.data.toList.drop 44 = dktX3_ranked_2 := dk_seg dksX3_ranked_1 22 rfl rfl
theorem dX3_ranked_0 : decode cX3_ranked 0 = .ok (.aload_n 0, 1) := dk_42 (dk_at dksX3_ranked_0 0 rfl rfl)
theorem dX3_ranked_1 : decode cX3_ranked 1 = .ok (.iconst 0, 1) := dk_3 (dk_at dksX3_ranked_0 1 rfl rfl)
theorem dX3_ranked_2 : decode cX3_ranked 2 = .ok (.putfield 52, 3) := dk_181 0 52 (dk_at dksX3_ranked_0 2 rfl rfl)
theorem dX3_ranked_5 : decode cX3_ranked 5 = .ok (.iconst 0, 1) := dk_3 (dk_at dksX3_ranked_0 5 rfl rfl)
theorem dX3_ranked_6 : decode cX3_ranked 6 = .ok (.istore_n 2, 1) := dk_61 (dk_at dksX3_ranked_0 6 rfl rfl)
theorem dX3_ranked_7 : decode cX3_ranked 7 = .ok (.iload_n 2, 1) := dk_28 (dk_at dksX3_ranked_0 7 rfl rfl)
theorem dX3_ranked_8 : decode cX3_ranked 8 = .ok (.aload_n 0, 1) := dk_42 (dk_at dksX3_ranked_0 8 rfl rfl)
theorem dX3_ranked_9 : decode cX3_ranked 9 = .ok (.getfield 9, 3) := dk_180 0 9 (dk_at dksX3_ranked_0 9 rfl rfl)
theorem dX3_ranked_12 : decode cX3_ranked 12 = .ok (.iconst 0, 1) := dk_3 (dk_at dksX3_ranked_0 12 rfl rfl)
theorem dX3_ranked_13 : decode cX3_ranked 13 = .ok (.iaload, 1) := dk_46 (dk_at dksX3_ranked_0 13 rfl rfl)
theorem dX3_ranked_14 : decode cX3_ranked 14 = .ok (.if_icmp .ge 28, 3) := dk_162 0 28 (dk_at dksX3_ranked_0 14 rfl rfl)
theorem dX3_ranked_17 : decode cX3_ranked 17 = .ok (.aload_n 0, 1) := dk_42 (dk_at dksX3_ranked_0 17 rfl rfl)
theorem dX3_ranked_18 : decode cX3_ranked 18 = .ok (.iload_n 2, 1) := dk_28 (dk_at dksX3_ranked_0 18 rfl rfl)
theorem dX3_ranked_19 : decode cX3_ranked 19 = .ok (.invokevirtual 106, 3) := dk_182 0 106 (dk_at dksX3_ranked_0 19 rfl rfl)
theorem dX3_ranked_22 : decode cX3_ranked 22 = .ok (.ifCond .eq 14, 3) := dk_153 0 14 (dk_at dksX3_ranked_1 0 rfl rfl)
theorem dX3_ranked_25 : decode cX3_ranked 25 = .ok (.aload_n 0, 1) := dk_42 (dk_at dksX3_ranked_1 3 rfl rfl)
theorem dX3_ranked_26 : decode cX3_ranked 26 = .ok (.iload_n 2, 1) := dk_28 (dk_at dksX3_ranked_1 4 rfl rfl)
theorem dX3_ranked_27 : decode cX3_ranked 27 = .ok (.invokevirtual 225, 3) := dk_182 0 225 (dk_at dksX3_ranked_1 5 rfl rfl)
theorem dX3_ranked_30 : decode cX3_ranked 30 = .ok (.iload_n 1, 1) := dk_27 (dk_at dksX3_ranked_1 8 rfl rfl)
theorem dX3_ranked_31 : decode cX3_ranked 31 = .ok (.if_icmp .ne 5, 3) := dk_160 0 5 (dk_at dksX3_ranked_1 9 rfl rfl)
theorem dX3_ranked_34 : decode cX3_ranked 34 = .ok (.iload_n 2, 1) := dk_28 (dk_at dksX3_ranked_1 12 rfl rfl)
theorem dX3_ranked_35 : decode cX3_ranked 35 = .ok (.ireturn, 1) := dk_172 (dk_at dksX3_ranked_1 13 rfl rfl)
theorem dX3_ranked_36 : decode cX3_ranked 36 = .ok (.iinc 2 1, 3) := dk_132 2 1 (dk_at dksX3_ranked_1 14 rfl rfl)
theorem dX3_ranked_39 : decode cX3_ranked 39 = .ok (.goto (-32), 3) := dk_167 255 224 (dk_at dksX3_ranked_1 17 rfl rfl)
theorem dX3_ranked_42 : decode cX3_ranked 42 = .ok (.aload_n 0, 1) := dk_42 (dk_at dksX3_ranked_1 20 rfl rfl)
theorem dX3_ranked_43 : decode cX3_ranked 43 = .ok (.iconst 1, 1) := dk_4 (dk_at dksX3_ranked_1 21 rfl rfl)
theorem dX3_ranked_44 : decode cX3_ranked 44 = .ok (.invokevirtual 64, 3) := dk_182 0 64 (dk_at dksX3_ranked_2 0 rfl rfl)
theorem dX3_ranked_47 : decode cX3_ranked 47 = .ok (.ireturn, 1) := dk_172 (dk_at dksX3_ranked_2 3 rfl rfl)
abbrev cX3_ahead : ByteArray := prog_11_method_69_code
def yX3_ahead : MethodName := ⟨RX3, "ahead", "(I)I"⟩
def dkwX3_ahead_2 : List UInt8 := [160, 0, 12, 29, 27, 162, 0, 7, 4, 167, 0, 4, 3, 96, 61, 132, 3, 1, 167, 255, 196, 28, 172]
abbrev dktX3_ahead_2 : List UInt8 := dkwX3_ahead_2 ++ []
def dkwX3_ahead_1 : List UInt8 := [29, 182, 0, 112, 42, 27, 182, 0, 112, 163, 0, 21, 42, 29, 182, 0, 112, 42, 27, 182, 0, 112]
abbrev dktX3_ahead_1 : List UInt8 := dkwX3_ahead_1 ++ dktX3_ahead_2
def dkwX3_ahead_0 : List UInt8 := [3, 61, 3, 62, 29, 42, 180, 0, 9, 3, 46, 162, 0, 56, 28, 42, 29, 182, 0, 106, 153, 0, 38, 42]
abbrev dktX3_ahead_0 : List UInt8 := dkwX3_ahead_0 ++ dktX3_ahead_1
theorem dksX3_ahead_0 : cX3_ahead.data.toList.drop 0 = dktX3_ahead_0 := by decide +kernel
theorem dksX3_ahead_1 : cX3_ahead.data.toList.drop 24 = dktX3_ahead_1 := dk_seg dksX3_ahead_0 24 rfl rfl
theorem dksX3_ahead_2 : cX3_ahead.data.toList.drop 46 = dktX3_ahead_2 := dk_seg dksX3_ahead_1 22 rfl rfl
theorem dX3_ahead_0 : decode cX3_ahead 0 = .ok (.iconst 0, 1) := dk_3 (dk_at dksX3_ahead_0 0 rfl rfl)
theorem dX3_ahead_1 : decode cX3_ahead 1 = .ok (.istore_n 2, 1) := dk_61 (dk_at dksX3_ahead_0 1 rfl rfl)
theorem dX3_ahead_2 : decode cX3_ahead 2 = .ok (.iconst 0, 1) := dk_3 (dk_at dksX3_ahead_0 2 rfl rfl)
theorem dX3_ahead_3 : decode cX3_ahead 3 = .ok (.istore_n 3, 1) := dk_62 (dk_at dksX3_ahead_0 3 rfl rfl)
theorem dX3_ahead_4 : decode cX3_ahead 4 = .ok (.iload_n 3, 1) := dk_29 (dk_at dksX3_ahead_0 4 rfl rfl)
theorem dX3_ahead_5 : decode cX3_ahead 5 = .ok (.aload_n 0, 1) := dk_42 (dk_at dksX3_ahead_0 5 rfl rfl)
theorem dX3_ahead_6 : decode cX3_ahead 6 = .ok (.getfield 9, 3) := dk_180 0 9 (dk_at dksX3_ahead_0 6 rfl rfl)
theorem dX3_ahead_9 : decode cX3_ahead 9 = .ok (.iconst 0, 1) := dk_3 (dk_at dksX3_ahead_0 9 rfl rfl)
theorem dX3_ahead_10 : decode cX3_ahead 10 = .ok (.iaload, 1) := dk_46 (dk_at dksX3_ahead_0 10 rfl rfl)
theorem dX3_ahead_11 : decode cX3_ahead 11 = .ok (.if_icmp .ge 56, 3) := dk_162 0 56 (dk_at dksX3_ahead_0 11 rfl rfl)
theorem dX3_ahead_14 : decode cX3_ahead 14 = .ok (.iload_n 2, 1) := dk_28 (dk_at dksX3_ahead_0 14 rfl rfl)
theorem dX3_ahead_15 : decode cX3_ahead 15 = .ok (.aload_n 0, 1) := dk_42 (dk_at dksX3_ahead_0 15 rfl rfl)
theorem dX3_ahead_16 : decode cX3_ahead 16 = .ok (.iload_n 3, 1) := dk_29 (dk_at dksX3_ahead_0 16 rfl rfl)
theorem dX3_ahead_17 : decode cX3_ahead 17 = .ok (.invokevirtual 106, 3) := dk_182 0 106 (dk_at dksX3_ahead_0 17 rfl rfl)
theorem dX3_ahead_20 : decode cX3_ahead 20 = .ok (.ifCond .eq 38, 3) := dk_153 0 38 (dk_at dksX3_ahead_0 20 rfl rfl)
theorem dX3_ahead_23 : decode cX3_ahead 23 = .ok (.aload_n 0, 1) := dk_42 (dk_at dksX3_ahead_0 23 rfl rfl)
theorem dX3_ahead_24 : decode cX3_ahead 24 = .ok (.iload_n 3, 1) := dk_29 (dk_at dksX3_ahead_1 0 rfl rfl)
theorem dX3_ahead_25 : decode cX3_ahead 25 = .ok (.invokevirtual 112, 3) := dk_182 0 112 (dk_at dksX3_ahead_1 1 rfl rfl)
theorem dX3_ahead_28 : decode cX3_ahead 28 = .ok (.aload_n 0, 1) := dk_42 (dk_at dksX3_ahead_1 4 rfl rfl)
theorem dX3_ahead_29 : decode cX3_ahead 29 = .ok (.iload_n 1, 1) := dk_27 (dk_at dksX3_ahead_1 5 rfl rfl)
theorem dX3_ahead_30 : decode cX3_ahead 30 = .ok (.invokevirtual 112, 3) := dk_182 0 112 (dk_at dksX3_ahead_1 6 rfl rfl)
theorem dX3_ahead_33 : decode cX3_ahead 33 = .ok (.if_icmp .gt 21, 3) := dk_163 0 21 (dk_at dksX3_ahead_1 9 rfl rfl)
theorem dX3_ahead_36 : decode cX3_ahead 36 = .ok (.aload_n 0, 1) := dk_42 (dk_at dksX3_ahead_1 12 rfl rfl)
theorem dX3_ahead_37 : decode cX3_ahead 37 = .ok (.iload_n 3, 1) := dk_29 (dk_at dksX3_ahead_1 13 rfl rfl)
theorem dX3_ahead_38 : decode cX3_ahead 38 = .ok (.invokevirtual 112, 3) := dk_182 0 112 (dk_at dksX3_ahead_1 14 rfl rfl)
theorem dX3_ahead_41 : decode cX3_ahead 41 = .ok (.aload_n 0, 1) := dk_42 (dk_at dksX3_ahead_1 17 rfl rfl)
theorem dX3_ahead_42 : decode cX3_ahead 42 = .ok (.iload_n 1, 1) := dk_27 (dk_at dksX3_ahead_1 18 rfl rfl)
theorem dX3_ahead_43 : decode cX3_ahead 43 = .ok (.invokevirtual 112, 3) := dk_182 0 112 (dk_at dksX3_ahead_1 19 rfl rfl)
theorem dX3_ahead_46 : decode cX3_ahead 46 = .ok (.if_icmp .ne 12, 3) := dk_160 0 12 (dk_at dksX3_ahead_2 0 rfl rfl)
theorem dX3_ahead_49 : decode cX3_ahead 49 = .ok (.iload_n 3, 1) := dk_29 (dk_at dksX3_ahead_2 3 rfl rfl)
theorem dX3_ahead_50 : decode cX3_ahead 50 = .ok (.iload_n 1, 1) := dk_27 (dk_at dksX3_ahead_2 4 rfl rfl)
theorem dX3_ahead_51 : decode cX3_ahead 51 = .ok (.if_icmp .ge 7, 3) := dk_162 0 7 (dk_at dksX3_ahead_2 5 rfl rfl)
theorem dX3_ahead_54 : decode cX3_ahead 54 = .ok (.iconst 1, 1) := dk_4 (dk_at dksX3_ahead_2 8 rfl rfl)
theorem dX3_ahead_55 : decode cX3_ahead 55 = .ok (.goto 4, 3) := dk_167 0 4 (dk_at dksX3_ahead_2 9 rfl rfl)
theorem dX3_ahead_58 : decode cX3_ahead 58 = .ok (.iconst 0, 1) := dk_3 (dk_at dksX3_ahead_2 12 rfl rfl)
theorem dX3_ahead_59 : decode cX3_ahead 59 = .ok (.iadd, 1) := dk_96 (dk_at dksX3_ahead_2 13 rfl rfl)
theorem dX3_ahead_60 : decode cX3_ahead 60 = .ok (.istore_n 2, 1) := dk_61 (dk_at dksX3_ahead_2 14 rfl rfl)
theorem dX3_ahead_61 : decode cX3_ahead 61 = .ok (.iinc 3 1, 3) := dk_132 3 1 (dk_at dksX3_ahead_2 15 rfl rfl)
theorem dX3_ahead_64 : decode cX3_ahead 64 = .ok (.goto (-60), 3) := dk_167 255 196 (dk_at dksX3_ahead_2 18 rfl rfl)
theorem dX3_ahead_67 : decode cX3_ahead 67 = .ok (.iload_n 2, 1) := dk_28 (dk_at dksX3_ahead_2 21 rfl rfl)
theorem dX3_ahead_68 : decode cX3_ahead 68 = .ok (.ireturn, 1) := dk_172 (dk_at dksX3_ahead_2 22 rfl rfl)
abbrev cX3_feed : ByteArray := prog_11_method_71_code
def yX3_feed : MethodName := ⟨RX3, "feed", "(C)I"⟩
def dkwX3_feed_1 : List UInt8 := [42, 180, 0, 228, 27, 79, 42, 89, 180, 0, 228, 4, 96, 181, 0, 228, 42, 180, 0, 228, 172]
abbrev dktX3_feed_1 : List UInt8 := dkwX3_feed_1 ++ []
def dkwX3_feed_0 : List UInt8 := [42, 3, 181, 0, 52, 42, 180, 0, 228, 16, 60, 160, 0, 9, 42, 4, 182, 0, 64, 172, 42, 180, 0, 29]
abbrev dktX3_feed_0 : List UInt8 := dkwX3_feed_0 ++ dktX3_feed_1
theorem dksX3_feed_0 : cX3_feed.data.toList.drop 0 = dktX3_feed_0 := by decide +kernel
theorem dksX3_feed_1 : cX3_feed.data.toList.drop 24 = dktX3_feed_1 := dk_seg dksX3_feed_0 24 rfl rfl
theorem dX3_feed_0 : decode cX3_feed 0 = .ok (.aload_n 0, 1) := dk_42 (dk_at dksX3_feed_0 0 rfl rfl)
theorem dX3_feed_1 : decode cX3_feed 1 = .ok (.iconst 0, 1) := dk_3 (dk_at dksX3_feed_0 1 rfl rfl)
theorem dX3_feed_2 : decode cX3_feed 2 = .ok (.putfield 52, 3) := dk_181 0 52 (dk_at dksX3_feed_0 2 rfl rfl)
theorem dX3_feed_5 : decode cX3_feed 5 = .ok (.aload_n 0, 1) := dk_42 (dk_at dksX3_feed_0 5 rfl rfl)
theorem dX3_feed_6 : decode cX3_feed 6 = .ok (.getfield 228, 3) := dk_180 0 228 (dk_at dksX3_feed_0 6 rfl rfl)
theorem dX3_feed_9 : decode cX3_feed 9 = .ok (.bipush 60, 2) := dk_16 60 (dk_at dksX3_feed_0 9 rfl rfl)
theorem dX3_feed_11 : decode cX3_feed 11 = .ok (.if_icmp .ne 9, 3) := dk_160 0 9 (dk_at dksX3_feed_0 11 rfl rfl)
theorem dX3_feed_14 : decode cX3_feed 14 = .ok (.aload_n 0, 1) := dk_42 (dk_at dksX3_feed_0 14 rfl rfl)
theorem dX3_feed_15 : decode cX3_feed 15 = .ok (.iconst 1, 1) := dk_4 (dk_at dksX3_feed_0 15 rfl rfl)
theorem dX3_feed_16 : decode cX3_feed 16 = .ok (.invokevirtual 64, 3) := dk_182 0 64 (dk_at dksX3_feed_0 16 rfl rfl)
theorem dX3_feed_19 : decode cX3_feed 19 = .ok (.ireturn, 1) := dk_172 (dk_at dksX3_feed_0 19 rfl rfl)
theorem dX3_feed_20 : decode cX3_feed 20 = .ok (.aload_n 0, 1) := dk_42 (dk_at dksX3_feed_0 20 rfl rfl)
theorem dX3_feed_21 : decode cX3_feed 21 = .ok (.getfield 29, 3) := dk_180 0 29 (dk_at dksX3_feed_0 21 rfl rfl)
theorem dX3_feed_24 : decode cX3_feed 24 = .ok (.aload_n 0, 1) := dk_42 (dk_at dksX3_feed_1 0 rfl rfl)
theorem dX3_feed_25 : decode cX3_feed 25 = .ok (.getfield 228, 3) := dk_180 0 228 (dk_at dksX3_feed_1 1 rfl rfl)
theorem dX3_feed_28 : decode cX3_feed 28 = .ok (.iload_n 1, 1) := dk_27 (dk_at dksX3_feed_1 4 rfl rfl)
theorem dX3_feed_29 : decode cX3_feed 29 = .ok (.iastore, 1) := dk_79 (dk_at dksX3_feed_1 5 rfl rfl)
theorem dX3_feed_30 : decode cX3_feed 30 = .ok (.aload_n 0, 1) := dk_42 (dk_at dksX3_feed_1 6 rfl rfl)
theorem dX3_feed_31 : decode cX3_feed 31 = .ok (.dup, 1) := dk_89 (dk_at dksX3_feed_1 7 rfl rfl)
theorem dX3_feed_32 : decode cX3_feed 32 = .ok (.getfield 228, 3) := dk_180 0 228 (dk_at dksX3_feed_1 8 rfl rfl)
theorem dX3_feed_35 : decode cX3_feed 35 = .ok (.iconst 1, 1) := dk_4 (dk_at dksX3_feed_1 11 rfl rfl)
theorem dX3_feed_36 : decode cX3_feed 36 = .ok (.iadd, 1) := dk_96 (dk_at dksX3_feed_1 12 rfl rfl)
theorem dX3_feed_37 : decode cX3_feed 37 = .ok (.putfield 228, 3) := dk_181 0 228 (dk_at dksX3_feed_1 13 rfl rfl)
theorem dX3_feed_40 : decode cX3_feed 40 = .ok (.aload_n 0, 1) := dk_42 (dk_at dksX3_feed_1 16 rfl rfl)
theorem dX3_feed_41 : decode cX3_feed 41 = .ok (.getfield 228, 3) := dk_180 0 228 (dk_at dksX3_feed_1 17 rfl rfl)
theorem dX3_feed_44 : decode cX3_feed 44 = .ok (.ireturn, 1) := dk_172 (dk_at dksX3_feed_1 20 rfl rfl)
abbrev cX3_run : ByteArray := prog_11_method_80_code
def yX3_run : MethodName := ⟨RX3, "run", "()I"⟩
def dkwX3_run_5 : List UInt8 := [182, 0, 100, 172]
abbrev dktX3_run_5 : List UInt8 := dkwX3_run_5 ++ []
def dkwX3_run_4 : List UInt8 := [132, 2, 1, 167, 255, 234, 42, 5, 182, 0, 64, 172, 132, 1, 1, 167, 255, 177, 42, 42, 180, 1, 1]
abbrev dktX3_run_4 : List UInt8 := dkwX3_run_4 ++ dktX3_run_5
def dkwX3_run_3 : List UInt8 := [181, 0, 61, 3, 61, 28, 17, 1, 39, 162, 0, 21, 42, 180, 0, 9, 28, 42, 180, 0, 13, 28, 46, 79]
abbrev dktX3_run_3 : List UInt8 := dkwX3_run_3 ++ dktX3_run_4
def dkwX3_run_2 : List UInt8 := [42, 180, 0, 46, 5, 27, 104, 4, 96, 46, 182, 1, 13, 87, 42, 180, 0, 52, 158, 0, 41, 42, 27]
abbrev dktX3_run_2 : List UInt8 := dkwX3_run_2 ++ dktX3_run_3
def dkwX3_run_1 : List UInt8 := [4, 182, 0, 64, 172, 3, 60, 27, 42, 180, 1, 1, 162, 0, 77, 42, 42, 180, 0, 46, 5, 27, 104, 46]
abbrev dktX3_run_1 : List UInt8 := dkwX3_run_1 ++ dktX3_run_2
def dkwX3_run_0 : List UInt8 := [42, 182, 1, 10, 42, 182, 0, 89, 42, 180, 0, 237, 153, 0, 17, 42, 42, 180, 0, 231, 181, 0, 25, 42]
abbrev dktX3_run_0 : List UInt8 := dkwX3_run_0 ++ dktX3_run_1
theorem dksX3_run_0 : cX3_run.data.toList.drop 0 = dktX3_run_0 := by decide +kernel
theorem dksX3_run_1 : cX3_run.data.toList.drop 24 = dktX3_run_1 := dk_seg dksX3_run_0 24 rfl rfl
theorem dksX3_run_2 : cX3_run.data.toList.drop 48 = dktX3_run_2 := dk_seg dksX3_run_1 24 rfl rfl
theorem dksX3_run_3 : cX3_run.data.toList.drop 71 = dktX3_run_3 := dk_seg dksX3_run_2 23 rfl rfl
theorem dksX3_run_4 : cX3_run.data.toList.drop 95 = dktX3_run_4 := dk_seg dksX3_run_3 24 rfl rfl
theorem dksX3_run_5 : cX3_run.data.toList.drop 118 = dktX3_run_5 := dk_seg dksX3_run_4 23 rfl rfl
theorem dX3_run_0 : decode cX3_run 0 = .ok (.aload_n 0, 1) := dk_42 (dk_at dksX3_run_0 0 rfl rfl)
theorem dX3_run_1 : decode cX3_run 1 = .ok (.invokevirtual 266, 3) := dk_182 1 10 (dk_at dksX3_run_0 1 rfl rfl)
theorem dX3_run_4 : decode cX3_run 4 = .ok (.aload_n 0, 1) := dk_42 (dk_at dksX3_run_0 4 rfl rfl)
theorem dX3_run_5 : decode cX3_run 5 = .ok (.invokevirtual 89, 3) := dk_182 0 89 (dk_at dksX3_run_0 5 rfl rfl)
theorem dX3_run_8 : decode cX3_run 8 = .ok (.aload_n 0, 1) := dk_42 (dk_at dksX3_run_0 8 rfl rfl)
theorem dX3_run_9 : decode cX3_run 9 = .ok (.getfield 237, 3) := dk_180 0 237 (dk_at dksX3_run_0 9 rfl rfl)
theorem dX3_run_12 : decode cX3_run 12 = .ok (.ifCond .eq 17, 3) := dk_153 0 17 (dk_at dksX3_run_0 12 rfl rfl)
theorem dX3_run_15 : decode cX3_run 15 = .ok (.aload_n 0, 1) := dk_42 (dk_at dksX3_run_0 15 rfl rfl)
theorem dX3_run_16 : decode cX3_run 16 = .ok (.aload_n 0, 1) := dk_42 (dk_at dksX3_run_0 16 rfl rfl)
theorem dX3_run_17 : decode cX3_run 17 = .ok (.getfield 231, 3) := dk_180 0 231 (dk_at dksX3_run_0 17 rfl rfl)
theorem dX3_run_20 : decode cX3_run 20 = .ok (.putfield 25, 3) := dk_181 0 25 (dk_at dksX3_run_0 20 rfl rfl)
theorem dX3_run_23 : decode cX3_run 23 = .ok (.aload_n 0, 1) := dk_42 (dk_at dksX3_run_0 23 rfl rfl)
theorem dX3_run_24 : decode cX3_run 24 = .ok (.iconst 1, 1) := dk_4 (dk_at dksX3_run_1 0 rfl rfl)
theorem dX3_run_25 : decode cX3_run 25 = .ok (.invokevirtual 64, 3) := dk_182 0 64 (dk_at dksX3_run_1 1 rfl rfl)
theorem dX3_run_28 : decode cX3_run 28 = .ok (.ireturn, 1) := dk_172 (dk_at dksX3_run_1 4 rfl rfl)
theorem dX3_run_29 : decode cX3_run 29 = .ok (.iconst 0, 1) := dk_3 (dk_at dksX3_run_1 5 rfl rfl)
theorem dX3_run_30 : decode cX3_run 30 = .ok (.istore_n 1, 1) := dk_60 (dk_at dksX3_run_1 6 rfl rfl)
theorem dX3_run_31 : decode cX3_run 31 = .ok (.iload_n 1, 1) := dk_27 (dk_at dksX3_run_1 7 rfl rfl)
theorem dX3_run_32 : decode cX3_run 32 = .ok (.aload_n 0, 1) := dk_42 (dk_at dksX3_run_1 8 rfl rfl)
theorem dX3_run_33 : decode cX3_run 33 = .ok (.getfield 257, 3) := dk_180 1 1 (dk_at dksX3_run_1 9 rfl rfl)
theorem dX3_run_36 : decode cX3_run 36 = .ok (.if_icmp .ge 77, 3) := dk_162 0 77 (dk_at dksX3_run_1 12 rfl rfl)
theorem dX3_run_39 : decode cX3_run 39 = .ok (.aload_n 0, 1) := dk_42 (dk_at dksX3_run_1 15 rfl rfl)
theorem dX3_run_40 : decode cX3_run 40 = .ok (.aload_n 0, 1) := dk_42 (dk_at dksX3_run_1 16 rfl rfl)
theorem dX3_run_41 : decode cX3_run 41 = .ok (.getfield 46, 3) := dk_180 0 46 (dk_at dksX3_run_1 17 rfl rfl)
theorem dX3_run_44 : decode cX3_run 44 = .ok (.iconst 2, 1) := dk_5 (dk_at dksX3_run_1 20 rfl rfl)
theorem dX3_run_45 : decode cX3_run 45 = .ok (.iload_n 1, 1) := dk_27 (dk_at dksX3_run_1 21 rfl rfl)
theorem dX3_run_46 : decode cX3_run 46 = .ok (.imul, 1) := dk_104 (dk_at dksX3_run_1 22 rfl rfl)
theorem dX3_run_47 : decode cX3_run 47 = .ok (.iaload, 1) := dk_46 (dk_at dksX3_run_1 23 rfl rfl)
theorem dX3_run_48 : decode cX3_run 48 = .ok (.aload_n 0, 1) := dk_42 (dk_at dksX3_run_2 0 rfl rfl)
theorem dX3_run_49 : decode cX3_run 49 = .ok (.getfield 46, 3) := dk_180 0 46 (dk_at dksX3_run_2 1 rfl rfl)
theorem dX3_run_52 : decode cX3_run 52 = .ok (.iconst 2, 1) := dk_5 (dk_at dksX3_run_2 4 rfl rfl)
theorem dX3_run_53 : decode cX3_run 53 = .ok (.iload_n 1, 1) := dk_27 (dk_at dksX3_run_2 5 rfl rfl)
theorem dX3_run_54 : decode cX3_run 54 = .ok (.imul, 1) := dk_104 (dk_at dksX3_run_2 6 rfl rfl)
theorem dX3_run_55 : decode cX3_run 55 = .ok (.iconst 1, 1) := dk_4 (dk_at dksX3_run_2 7 rfl rfl)
theorem dX3_run_56 : decode cX3_run 56 = .ok (.iadd, 1) := dk_96 (dk_at dksX3_run_2 8 rfl rfl)
theorem dX3_run_57 : decode cX3_run 57 = .ok (.iaload, 1) := dk_46 (dk_at dksX3_run_2 9 rfl rfl)
theorem dX3_run_58 : decode cX3_run 58 = .ok (.invokevirtual 269, 3) := dk_182 1 13 (dk_at dksX3_run_2 10 rfl rfl)
theorem dX3_run_61 : decode cX3_run 61 = .ok (.pop, 1) := dk_87 (dk_at dksX3_run_2 13 rfl rfl)
theorem dX3_run_62 : decode cX3_run 62 = .ok (.aload_n 0, 1) := dk_42 (dk_at dksX3_run_2 14 rfl rfl)
theorem dX3_run_63 : decode cX3_run 63 = .ok (.getfield 52, 3) := dk_180 0 52 (dk_at dksX3_run_2 15 rfl rfl)
theorem dX3_run_66 : decode cX3_run 66 = .ok (.ifCond .le 41, 3) := dk_158 0 41 (dk_at dksX3_run_2 18 rfl rfl)
theorem dX3_run_69 : decode cX3_run 69 = .ok (.aload_n 0, 1) := dk_42 (dk_at dksX3_run_2 21 rfl rfl)
theorem dX3_run_70 : decode cX3_run 70 = .ok (.iload_n 1, 1) := dk_27 (dk_at dksX3_run_2 22 rfl rfl)
theorem dX3_run_71 : decode cX3_run 71 = .ok (.putfield 61, 3) := dk_181 0 61 (dk_at dksX3_run_3 0 rfl rfl)
theorem dX3_run_74 : decode cX3_run 74 = .ok (.iconst 0, 1) := dk_3 (dk_at dksX3_run_3 3 rfl rfl)
theorem dX3_run_75 : decode cX3_run 75 = .ok (.istore_n 2, 1) := dk_61 (dk_at dksX3_run_3 4 rfl rfl)
theorem dX3_run_76 : decode cX3_run 76 = .ok (.iload_n 2, 1) := dk_28 (dk_at dksX3_run_3 5 rfl rfl)
theorem dX3_run_77 : decode cX3_run 77 = .ok (.sipush 295, 3) := dk_17 1 39 (dk_at dksX3_run_3 6 rfl rfl)
theorem dX3_run_80 : decode cX3_run 80 = .ok (.if_icmp .ge 21, 3) := dk_162 0 21 (dk_at dksX3_run_3 9 rfl rfl)
theorem dX3_run_83 : decode cX3_run 83 = .ok (.aload_n 0, 1) := dk_42 (dk_at dksX3_run_3 12 rfl rfl)
theorem dX3_run_84 : decode cX3_run 84 = .ok (.getfield 9, 3) := dk_180 0 9 (dk_at dksX3_run_3 13 rfl rfl)
theorem dX3_run_87 : decode cX3_run 87 = .ok (.iload_n 2, 1) := dk_28 (dk_at dksX3_run_3 16 rfl rfl)
theorem dX3_run_88 : decode cX3_run 88 = .ok (.aload_n 0, 1) := dk_42 (dk_at dksX3_run_3 17 rfl rfl)
theorem dX3_run_89 : decode cX3_run 89 = .ok (.getfield 13, 3) := dk_180 0 13 (dk_at dksX3_run_3 18 rfl rfl)
theorem dX3_run_92 : decode cX3_run 92 = .ok (.iload_n 2, 1) := dk_28 (dk_at dksX3_run_3 21 rfl rfl)
theorem dX3_run_93 : decode cX3_run 93 = .ok (.iaload, 1) := dk_46 (dk_at dksX3_run_3 22 rfl rfl)
theorem dX3_run_94 : decode cX3_run 94 = .ok (.iastore, 1) := dk_79 (dk_at dksX3_run_3 23 rfl rfl)
theorem dX3_run_95 : decode cX3_run 95 = .ok (.iinc 2 1, 3) := dk_132 2 1 (dk_at dksX3_run_4 0 rfl rfl)
theorem dX3_run_98 : decode cX3_run 98 = .ok (.goto (-22), 3) := dk_167 255 234 (dk_at dksX3_run_4 3 rfl rfl)
theorem dX3_run_101 : decode cX3_run 101 = .ok (.aload_n 0, 1) := dk_42 (dk_at dksX3_run_4 6 rfl rfl)
theorem dX3_run_102 : decode cX3_run 102 = .ok (.iconst 2, 1) := dk_5 (dk_at dksX3_run_4 7 rfl rfl)
theorem dX3_run_103 : decode cX3_run 103 = .ok (.invokevirtual 64, 3) := dk_182 0 64 (dk_at dksX3_run_4 8 rfl rfl)
theorem dX3_run_106 : decode cX3_run 106 = .ok (.ireturn, 1) := dk_172 (dk_at dksX3_run_4 11 rfl rfl)
theorem dX3_run_107 : decode cX3_run 107 = .ok (.iinc 1 1, 3) := dk_132 1 1 (dk_at dksX3_run_4 12 rfl rfl)
theorem dX3_run_110 : decode cX3_run 110 = .ok (.goto (-79), 3) := dk_167 255 177 (dk_at dksX3_run_4 15 rfl rfl)
theorem dX3_run_113 : decode cX3_run 113 = .ok (.aload_n 0, 1) := dk_42 (dk_at dksX3_run_4 18 rfl rfl)
theorem dX3_run_114 : decode cX3_run 114 = .ok (.aload_n 0, 1) := dk_42 (dk_at dksX3_run_4 19 rfl rfl)
theorem dX3_run_115 : decode cX3_run 115 = .ok (.getfield 257, 3) := dk_180 1 1 (dk_at dksX3_run_4 20 rfl rfl)
theorem dX3_run_118 : decode cX3_run 118 = .ok (.invokevirtual 100, 3) := dk_182 0 100 (dk_at dksX3_run_5 0 rfl rfl)
theorem dX3_run_121 : decode cX3_run 121 = .ok (.ireturn, 1) := dk_172 (dk_at dksX3_run_5 3 rfl rfl)
abbrev cX3_readAll : ByteArray := prog_11_method_78_code
def yX3_readAll : MethodName := ⟨RX3, "readAll", "()V"⟩
def dkwX3_readAll_3 : List UInt8 := [182, 0, 254, 42, 180, 0, 237, 154, 0, 7, 4, 167, 0, 4, 3, 60, 167, 255, 201, 177]
abbrev dktX3_readAll_3 : List UInt8 := dkwX3_readAll_3 ++ []
def dkwX3_readAll_2 : List UInt8 := [180, 0, 231, 42, 180, 0, 234, 162, 0, 7, 4, 167, 0, 4, 3, 60, 27, 153, 255, 223, 42, 16, 44]
abbrev dktX3_readAll_2 : List UInt8 := dkwX3_readAll_2 ++ dktX3_readAll_3
def dkwX3_readAll_1 : List UInt8 := [3, 181, 0, 237, 4, 60, 27, 153, 0, 57, 42, 182, 1, 7, 42, 180, 0, 237, 154, 0, 18, 42]
abbrev dktX3_readAll_1 : List UInt8 := dkwX3_readAll_1 ++ dktX3_readAll_2
def dkwX3_readAll_0 : List UInt8 := [42, 42, 180, 0, 228, 181, 0, 234, 42, 3, 181, 0, 228, 42, 3, 181, 0, 231, 42, 3, 181, 1, 1, 42]
abbrev dktX3_readAll_0 : List UInt8 := dkwX3_readAll_0 ++ dktX3_readAll_1
theorem dksX3_readAll_0 : cX3_readAll.data.toList.drop 0 = dktX3_readAll_0 := by decide +kernel
theorem dksX3_readAll_1 : cX3_readAll.data.toList.drop 24 = dktX3_readAll_1 := dk_seg dksX3_readAll_0 24 rfl rfl
theorem dksX3_readAll_2 : cX3_readAll.data.toList.drop 46 = dktX3_readAll_2 := dk_seg dksX3_readAll_1 22 rfl rfl
theorem dksX3_readAll_3 : cX3_readAll.data.toList.drop 69 = dktX3_readAll_3 := dk_seg dksX3_readAll_2 23 rfl rfl
theorem dX3_readAll_0 : decode cX3_readAll 0 = .ok (.aload_n 0, 1) := dk_42 (dk_at dksX3_readAll_0 0 rfl rfl)
theorem dX3_readAll_1 : decode cX3_readAll 1 = .ok (.aload_n 0, 1) := dk_42 (dk_at dksX3_readAll_0 1 rfl rfl)
theorem dX3_readAll_2 : decode cX3_readAll 2 = .ok (.getfield 228, 3) := dk_180 0 228 (dk_at dksX3_readAll_0 2 rfl rfl)
theorem dX3_readAll_5 : decode cX3_readAll 5 = .ok (.putfield 234, 3) := dk_181 0 234 (dk_at dksX3_readAll_0 5 rfl rfl)
theorem dX3_readAll_8 : decode cX3_readAll 8 = .ok (.aload_n 0, 1) := dk_42 (dk_at dksX3_readAll_0 8 rfl rfl)
theorem dX3_readAll_9 : decode cX3_readAll 9 = .ok (.iconst 0, 1) := dk_3 (dk_at dksX3_readAll_0 9 rfl rfl)
theorem dX3_readAll_10 : decode cX3_readAll 10 = .ok (.putfield 228, 3) := dk_181 0 228 (dk_at dksX3_readAll_0 10 rfl rfl)
theorem dX3_readAll_13 : decode cX3_readAll 13 = .ok (.aload_n 0, 1) := dk_42 (dk_at dksX3_readAll_0 13 rfl rfl)
theorem dX3_readAll_14 : decode cX3_readAll 14 = .ok (.iconst 0, 1) := dk_3 (dk_at dksX3_readAll_0 14 rfl rfl)
theorem dX3_readAll_15 : decode cX3_readAll 15 = .ok (.putfield 231, 3) := dk_181 0 231 (dk_at dksX3_readAll_0 15 rfl rfl)
theorem dX3_readAll_18 : decode cX3_readAll 18 = .ok (.aload_n 0, 1) := dk_42 (dk_at dksX3_readAll_0 18 rfl rfl)
theorem dX3_readAll_19 : decode cX3_readAll 19 = .ok (.iconst 0, 1) := dk_3 (dk_at dksX3_readAll_0 19 rfl rfl)
theorem dX3_readAll_20 : decode cX3_readAll 20 = .ok (.putfield 257, 3) := dk_181 1 1 (dk_at dksX3_readAll_0 20 rfl rfl)
theorem dX3_readAll_23 : decode cX3_readAll 23 = .ok (.aload_n 0, 1) := dk_42 (dk_at dksX3_readAll_0 23 rfl rfl)
theorem dX3_readAll_24 : decode cX3_readAll 24 = .ok (.iconst 0, 1) := dk_3 (dk_at dksX3_readAll_1 0 rfl rfl)
theorem dX3_readAll_25 : decode cX3_readAll 25 = .ok (.putfield 237, 3) := dk_181 0 237 (dk_at dksX3_readAll_1 1 rfl rfl)
theorem dX3_readAll_28 : decode cX3_readAll 28 = .ok (.iconst 1, 1) := dk_4 (dk_at dksX3_readAll_1 4 rfl rfl)
theorem dX3_readAll_29 : decode cX3_readAll 29 = .ok (.istore_n 1, 1) := dk_60 (dk_at dksX3_readAll_1 5 rfl rfl)
theorem dX3_readAll_30 : decode cX3_readAll 30 = .ok (.iload_n 1, 1) := dk_27 (dk_at dksX3_readAll_1 6 rfl rfl)
theorem dX3_readAll_31 : decode cX3_readAll 31 = .ok (.ifCond .eq 57, 3) := dk_153 0 57 (dk_at dksX3_readAll_1 7 rfl rfl)
theorem dX3_readAll_34 : decode cX3_readAll 34 = .ok (.aload_n 0, 1) := dk_42 (dk_at dksX3_readAll_1 10 rfl rfl)
theorem dX3_readAll_35 : decode cX3_readAll 35 = .ok (.invokevirtual 263, 3) := dk_182 1 7 (dk_at dksX3_readAll_1 11 rfl rfl)
theorem dX3_readAll_38 : decode cX3_readAll 38 = .ok (.aload_n 0, 1) := dk_42 (dk_at dksX3_readAll_1 14 rfl rfl)
theorem dX3_readAll_39 : decode cX3_readAll 39 = .ok (.getfield 237, 3) := dk_180 0 237 (dk_at dksX3_readAll_1 15 rfl rfl)
theorem dX3_readAll_42 : decode cX3_readAll 42 = .ok (.ifCond .ne 18, 3) := dk_154 0 18 (dk_at dksX3_readAll_1 18 rfl rfl)
theorem dX3_readAll_45 : decode cX3_readAll 45 = .ok (.aload_n 0, 1) := dk_42 (dk_at dksX3_readAll_1 21 rfl rfl)
theorem dX3_readAll_46 : decode cX3_readAll 46 = .ok (.getfield 231, 3) := dk_180 0 231 (dk_at dksX3_readAll_2 0 rfl rfl)
theorem dX3_readAll_49 : decode cX3_readAll 49 = .ok (.aload_n 0, 1) := dk_42 (dk_at dksX3_readAll_2 3 rfl rfl)
theorem dX3_readAll_50 : decode cX3_readAll 50 = .ok (.getfield 234, 3) := dk_180 0 234 (dk_at dksX3_readAll_2 4 rfl rfl)
theorem dX3_readAll_53 : decode cX3_readAll 53 = .ok (.if_icmp .ge 7, 3) := dk_162 0 7 (dk_at dksX3_readAll_2 7 rfl rfl)
theorem dX3_readAll_56 : decode cX3_readAll 56 = .ok (.iconst 1, 1) := dk_4 (dk_at dksX3_readAll_2 10 rfl rfl)
theorem dX3_readAll_57 : decode cX3_readAll 57 = .ok (.goto 4, 3) := dk_167 0 4 (dk_at dksX3_readAll_2 11 rfl rfl)
theorem dX3_readAll_60 : decode cX3_readAll 60 = .ok (.iconst 0, 1) := dk_3 (dk_at dksX3_readAll_2 14 rfl rfl)
theorem dX3_readAll_61 : decode cX3_readAll 61 = .ok (.istore_n 1, 1) := dk_60 (dk_at dksX3_readAll_2 15 rfl rfl)
theorem dX3_readAll_62 : decode cX3_readAll 62 = .ok (.iload_n 1, 1) := dk_27 (dk_at dksX3_readAll_2 16 rfl rfl)
theorem dX3_readAll_63 : decode cX3_readAll 63 = .ok (.ifCond .eq (-33), 3) := dk_153 255 223 (dk_at dksX3_readAll_2 17 rfl rfl)
theorem dX3_readAll_66 : decode cX3_readAll 66 = .ok (.aload_n 0, 1) := dk_42 (dk_at dksX3_readAll_2 20 rfl rfl)
theorem dX3_readAll_67 : decode cX3_readAll 67 = .ok (.bipush 44, 2) := dk_16 44 (dk_at dksX3_readAll_2 21 rfl rfl)
theorem dX3_readAll_69 : decode cX3_readAll 69 = .ok (.invokevirtual 254, 3) := dk_182 0 254 (dk_at dksX3_readAll_3 0 rfl rfl)
theorem dX3_readAll_72 : decode cX3_readAll 72 = .ok (.aload_n 0, 1) := dk_42 (dk_at dksX3_readAll_3 3 rfl rfl)
theorem dX3_readAll_73 : decode cX3_readAll 73 = .ok (.getfield 237, 3) := dk_180 0 237 (dk_at dksX3_readAll_3 4 rfl rfl)
theorem dX3_readAll_76 : decode cX3_readAll 76 = .ok (.ifCond .ne 7, 3) := dk_154 0 7 (dk_at dksX3_readAll_3 7 rfl rfl)
theorem dX3_readAll_79 : decode cX3_readAll 79 = .ok (.iconst 1, 1) := dk_4 (dk_at dksX3_readAll_3 10 rfl rfl)
theorem dX3_readAll_80 : decode cX3_readAll 80 = .ok (.goto 4, 3) := dk_167 0 4 (dk_at dksX3_readAll_3 11 rfl rfl)
theorem dX3_readAll_83 : decode cX3_readAll 83 = .ok (.iconst 0, 1) := dk_3 (dk_at dksX3_readAll_3 14 rfl rfl)
theorem dX3_readAll_84 : decode cX3_readAll 84 = .ok (.istore_n 1, 1) := dk_60 (dk_at dksX3_readAll_3 15 rfl rfl)
theorem dX3_readAll_85 : decode cX3_readAll 85 = .ok (.goto (-55), 3) := dk_167 255 201 (dk_at dksX3_readAll_3 16 rfl rfl)
theorem dX3_readAll_88 : decode cX3_readAll 88 = .ok (.return_, 1) := dk_177 (dk_at dksX3_readAll_3 19 rfl rfl)
abbrev cX3_readOrder : ByteArray := prog_11_method_77_code
def yX3_readOrder : MethodName := ⟨RX3, "readOrder", "()V"⟩
def dkwX3_readOrder_5 : List UInt8 := [180, 1, 1, 4, 96, 181, 1, 1, 177]
abbrev dktX3_readOrder_5 : List UInt8 := dkwX3_readOrder_5 ++ []
def dkwX3_readOrder_4 : List UInt8 := [27, 153, 0, 8, 27, 6, 160, 0, 10, 42, 182, 0, 248, 167, 0, 7, 42, 182, 1, 4, 79, 42, 89]
abbrev dktX3_readOrder_4 : List UInt8 := dkwX3_readOrder_4 ++ dktX3_readOrder_5
def dkwX3_readOrder_3 : List UInt8 := [104, 27, 79, 42, 180, 0, 46, 5, 42, 180, 1, 1, 104, 4, 96, 27, 8, 160, 0, 7, 3, 167, 0, 23]
abbrev dktX3_readOrder_3 : List UInt8 := dkwX3_readOrder_3 ++ dktX3_readOrder_4
def dkwX3_readOrder_2 : List UInt8 := [42, 180, 0, 39, 28, 52, 182, 0, 254, 132, 2, 1, 167, 255, 231, 42, 180, 0, 46, 5, 42, 180, 1, 1]
abbrev dktX3_readOrder_2 : List UInt8 := dkwX3_readOrder_2 ++ dktX3_readOrder_3
def dkwX3_readOrder_1 : List UInt8 := [153, 0, 4, 177, 42, 180, 0, 43, 27, 46, 61, 28, 42, 180, 0, 43, 27, 4, 96, 46, 162, 0, 19, 42]
abbrev dktX3_readOrder_1 : List UInt8 := dkwX3_readOrder_1 ++ dktX3_readOrder_2
def dkwX3_readOrder_0 : List UInt8 := [42, 182, 0, 251, 60, 42, 27, 2, 160, 0, 7, 4, 167, 0, 4, 3, 181, 0, 237, 42, 180, 0, 237]
abbrev dktX3_readOrder_0 : List UInt8 := dkwX3_readOrder_0 ++ dktX3_readOrder_1
theorem dksX3_readOrder_0 : cX3_readOrder.data.toList.drop 0 = dktX3_readOrder_0 := by decide +kernel
theorem dksX3_readOrder_1 : cX3_readOrder.data.toList.drop 23 = dktX3_readOrder_1 := dk_seg dksX3_readOrder_0 23 rfl rfl
theorem dksX3_readOrder_2 : cX3_readOrder.data.toList.drop 47 = dktX3_readOrder_2 := dk_seg dksX3_readOrder_1 24 rfl rfl
theorem dksX3_readOrder_3 : cX3_readOrder.data.toList.drop 71 = dktX3_readOrder_3 := dk_seg dksX3_readOrder_2 24 rfl rfl
theorem dksX3_readOrder_4 : cX3_readOrder.data.toList.drop 95 = dktX3_readOrder_4 := dk_seg dksX3_readOrder_3 24 rfl rfl
theorem dksX3_readOrder_5 : cX3_readOrder.data.toList.drop 118 = dktX3_readOrder_5 := dk_seg dksX3_readOrder_4 23 rfl rfl
theorem dX3_readOrder_0 : decode cX3_readOrder 0 = .ok (.aload_n 0, 1) := dk_42 (dk_at dksX3_readOrder_0 0 rfl rfl)
theorem dX3_readOrder_1 : decode cX3_readOrder 1 = .ok (.invokevirtual 251, 3) := dk_182 0 251 (dk_at dksX3_readOrder_0 1 rfl rfl)
theorem dX3_readOrder_4 : decode cX3_readOrder 4 = .ok (.istore_n 1, 1) := dk_60 (dk_at dksX3_readOrder_0 4 rfl rfl)
theorem dX3_readOrder_5 : decode cX3_readOrder 5 = .ok (.aload_n 0, 1) := dk_42 (dk_at dksX3_readOrder_0 5 rfl rfl)
theorem dX3_readOrder_6 : decode cX3_readOrder 6 = .ok (.iload_n 1, 1) := dk_27 (dk_at dksX3_readOrder_0 6 rfl rfl)
theorem dX3_readOrder_7 : decode cX3_readOrder 7 = .ok (.iconst (-1), 1) := dk_2 (dk_at dksX3_readOrder_0 7 rfl rfl)
theorem dX3_readOrder_8 : decode cX3_readOrder 8 = .ok (.if_icmp .ne 7, 3) := dk_160 0 7 (dk_at dksX3_readOrder_0 8 rfl rfl)
theorem dX3_readOrder_11 : decode cX3_readOrder 11 = .ok (.iconst 1, 1) := dk_4 (dk_at dksX3_readOrder_0 11 rfl rfl)
theorem dX3_readOrder_12 : decode cX3_readOrder 12 = .ok (.goto 4, 3) := dk_167 0 4 (dk_at dksX3_readOrder_0 12 rfl rfl)
theorem dX3_readOrder_15 : decode cX3_readOrder 15 = .ok (.iconst 0, 1) := dk_3 (dk_at dksX3_readOrder_0 15 rfl rfl)
theorem dX3_readOrder_16 : decode cX3_readOrder 16 = .ok (.putfield 237, 3) := dk_181 0 237 (dk_at dksX3_readOrder_0 16 rfl rfl)
theorem dX3_readOrder_19 : decode cX3_readOrder 19 = .ok (.aload_n 0, 1) := dk_42 (dk_at dksX3_readOrder_0 19 rfl rfl)
theorem dX3_readOrder_20 : decode cX3_readOrder 20 = .ok (.getfield 237, 3) := dk_180 0 237 (dk_at dksX3_readOrder_0 20 rfl rfl)
theorem dX3_readOrder_23 : decode cX3_readOrder 23 = .ok (.ifCond .eq 4, 3) := dk_153 0 4 (dk_at dksX3_readOrder_1 0 rfl rfl)
theorem dX3_readOrder_26 : decode cX3_readOrder 26 = .ok (.return_, 1) := dk_177 (dk_at dksX3_readOrder_1 3 rfl rfl)
theorem dX3_readOrder_27 : decode cX3_readOrder 27 = .ok (.aload_n 0, 1) := dk_42 (dk_at dksX3_readOrder_1 4 rfl rfl)
theorem dX3_readOrder_28 : decode cX3_readOrder 28 = .ok (.getfield 43, 3) := dk_180 0 43 (dk_at dksX3_readOrder_1 5 rfl rfl)
theorem dX3_readOrder_31 : decode cX3_readOrder 31 = .ok (.iload_n 1, 1) := dk_27 (dk_at dksX3_readOrder_1 8 rfl rfl)
theorem dX3_readOrder_32 : decode cX3_readOrder 32 = .ok (.iaload, 1) := dk_46 (dk_at dksX3_readOrder_1 9 rfl rfl)
theorem dX3_readOrder_33 : decode cX3_readOrder 33 = .ok (.istore_n 2, 1) := dk_61 (dk_at dksX3_readOrder_1 10 rfl rfl)
theorem dX3_readOrder_34 : decode cX3_readOrder 34 = .ok (.iload_n 2, 1) := dk_28 (dk_at dksX3_readOrder_1 11 rfl rfl)
theorem dX3_readOrder_35 : decode cX3_readOrder 35 = .ok (.aload_n 0, 1) := dk_42 (dk_at dksX3_readOrder_1 12 rfl rfl)
theorem dX3_readOrder_36 : decode cX3_readOrder 36 = .ok (.getfield 43, 3) := dk_180 0 43 (dk_at dksX3_readOrder_1 13 rfl rfl)
theorem dX3_readOrder_39 : decode cX3_readOrder 39 = .ok (.iload_n 1, 1) := dk_27 (dk_at dksX3_readOrder_1 16 rfl rfl)
theorem dX3_readOrder_40 : decode cX3_readOrder 40 = .ok (.iconst 1, 1) := dk_4 (dk_at dksX3_readOrder_1 17 rfl rfl)
theorem dX3_readOrder_41 : decode cX3_readOrder 41 = .ok (.iadd, 1) := dk_96 (dk_at dksX3_readOrder_1 18 rfl rfl)
theorem dX3_readOrder_42 : decode cX3_readOrder 42 = .ok (.iaload, 1) := dk_46 (dk_at dksX3_readOrder_1 19 rfl rfl)
theorem dX3_readOrder_43 : decode cX3_readOrder 43 = .ok (.if_icmp .ge 19, 3) := dk_162 0 19 (dk_at dksX3_readOrder_1 20 rfl rfl)
theorem dX3_readOrder_46 : decode cX3_readOrder 46 = .ok (.aload_n 0, 1) := dk_42 (dk_at dksX3_readOrder_1 23 rfl rfl)
theorem dX3_readOrder_47 : decode cX3_readOrder 47 = .ok (.aload_n 0, 1) := dk_42 (dk_at dksX3_readOrder_2 0 rfl rfl)
theorem dX3_readOrder_48 : decode cX3_readOrder 48 = .ok (.getfield 39, 3) := dk_180 0 39 (dk_at dksX3_readOrder_2 1 rfl rfl)
theorem dX3_readOrder_51 : decode cX3_readOrder 51 = .ok (.iload_n 2, 1) := dk_28 (dk_at dksX3_readOrder_2 4 rfl rfl)
theorem dX3_readOrder_52 : decode cX3_readOrder 52 = .ok (.caload, 1) := dk_52 (dk_at dksX3_readOrder_2 5 rfl rfl)
theorem dX3_readOrder_53 : decode cX3_readOrder 53 = .ok (.invokevirtual 254, 3) := dk_182 0 254 (dk_at dksX3_readOrder_2 6 rfl rfl)
theorem dX3_readOrder_56 : decode cX3_readOrder 56 = .ok (.iinc 2 1, 3) := dk_132 2 1 (dk_at dksX3_readOrder_2 9 rfl rfl)
theorem dX3_readOrder_59 : decode cX3_readOrder 59 = .ok (.goto (-25), 3) := dk_167 255 231 (dk_at dksX3_readOrder_2 12 rfl rfl)
theorem dX3_readOrder_62 : decode cX3_readOrder 62 = .ok (.aload_n 0, 1) := dk_42 (dk_at dksX3_readOrder_2 15 rfl rfl)
theorem dX3_readOrder_63 : decode cX3_readOrder 63 = .ok (.getfield 46, 3) := dk_180 0 46 (dk_at dksX3_readOrder_2 16 rfl rfl)
theorem dX3_readOrder_66 : decode cX3_readOrder 66 = .ok (.iconst 2, 1) := dk_5 (dk_at dksX3_readOrder_2 19 rfl rfl)
theorem dX3_readOrder_67 : decode cX3_readOrder 67 = .ok (.aload_n 0, 1) := dk_42 (dk_at dksX3_readOrder_2 20 rfl rfl)
theorem dX3_readOrder_68 : decode cX3_readOrder 68 = .ok (.getfield 257, 3) := dk_180 1 1 (dk_at dksX3_readOrder_2 21 rfl rfl)
theorem dX3_readOrder_71 : decode cX3_readOrder 71 = .ok (.imul, 1) := dk_104 (dk_at dksX3_readOrder_3 0 rfl rfl)
theorem dX3_readOrder_72 : decode cX3_readOrder 72 = .ok (.iload_n 1, 1) := dk_27 (dk_at dksX3_readOrder_3 1 rfl rfl)
theorem dX3_readOrder_73 : decode cX3_readOrder 73 = .ok (.iastore, 1) := dk_79 (dk_at dksX3_readOrder_3 2 rfl rfl)
theorem dX3_readOrder_74 : decode cX3_readOrder 74 = .ok (.aload_n 0, 1) := dk_42 (dk_at dksX3_readOrder_3 3 rfl rfl)
theorem dX3_readOrder_75 : decode cX3_readOrder 75 = .ok (.getfield 46, 3) := dk_180 0 46 (dk_at dksX3_readOrder_3 4 rfl rfl)
theorem dX3_readOrder_78 : decode cX3_readOrder 78 = .ok (.iconst 2, 1) := dk_5 (dk_at dksX3_readOrder_3 7 rfl rfl)
theorem dX3_readOrder_79 : decode cX3_readOrder 79 = .ok (.aload_n 0, 1) := dk_42 (dk_at dksX3_readOrder_3 8 rfl rfl)
theorem dX3_readOrder_80 : decode cX3_readOrder 80 = .ok (.getfield 257, 3) := dk_180 1 1 (dk_at dksX3_readOrder_3 9 rfl rfl)
theorem dX3_readOrder_83 : decode cX3_readOrder 83 = .ok (.imul, 1) := dk_104 (dk_at dksX3_readOrder_3 12 rfl rfl)
theorem dX3_readOrder_84 : decode cX3_readOrder 84 = .ok (.iconst 1, 1) := dk_4 (dk_at dksX3_readOrder_3 13 rfl rfl)
theorem dX3_readOrder_85 : decode cX3_readOrder 85 = .ok (.iadd, 1) := dk_96 (dk_at dksX3_readOrder_3 14 rfl rfl)
theorem dX3_readOrder_86 : decode cX3_readOrder 86 = .ok (.iload_n 1, 1) := dk_27 (dk_at dksX3_readOrder_3 15 rfl rfl)
theorem dX3_readOrder_87 : decode cX3_readOrder 87 = .ok (.iconst 5, 1) := dk_8 (dk_at dksX3_readOrder_3 16 rfl rfl)
theorem dX3_readOrder_88 : decode cX3_readOrder 88 = .ok (.if_icmp .ne 7, 3) := dk_160 0 7 (dk_at dksX3_readOrder_3 17 rfl rfl)
theorem dX3_readOrder_91 : decode cX3_readOrder 91 = .ok (.iconst 0, 1) := dk_3 (dk_at dksX3_readOrder_3 20 rfl rfl)
theorem dX3_readOrder_92 : decode cX3_readOrder 92 = .ok (.goto 23, 3) := dk_167 0 23 (dk_at dksX3_readOrder_3 21 rfl rfl)
theorem dX3_readOrder_95 : decode cX3_readOrder 95 = .ok (.iload_n 1, 1) := dk_27 (dk_at dksX3_readOrder_4 0 rfl rfl)
theorem dX3_readOrder_96 : decode cX3_readOrder 96 = .ok (.ifCond .eq 8, 3) := dk_153 0 8 (dk_at dksX3_readOrder_4 1 rfl rfl)
theorem dX3_readOrder_99 : decode cX3_readOrder 99 = .ok (.iload_n 1, 1) := dk_27 (dk_at dksX3_readOrder_4 4 rfl rfl)
theorem dX3_readOrder_100 : decode cX3_readOrder 100 = .ok (.iconst 3, 1) := dk_6 (dk_at dksX3_readOrder_4 5 rfl rfl)
theorem dX3_readOrder_101 : decode cX3_readOrder 101 = .ok (.if_icmp .ne 10, 3) := dk_160 0 10 (dk_at dksX3_readOrder_4 6 rfl rfl)
theorem dX3_readOrder_104 : decode cX3_readOrder 104 = .ok (.aload_n 0, 1) := dk_42 (dk_at dksX3_readOrder_4 9 rfl rfl)
theorem dX3_readOrder_105 : decode cX3_readOrder 105 = .ok (.invokevirtual 248, 3) := dk_182 0 248 (dk_at dksX3_readOrder_4 10 rfl rfl)
theorem dX3_readOrder_108 : decode cX3_readOrder 108 = .ok (.goto 7, 3) := dk_167 0 7 (dk_at dksX3_readOrder_4 13 rfl rfl)
theorem dX3_readOrder_111 : decode cX3_readOrder 111 = .ok (.aload_n 0, 1) := dk_42 (dk_at dksX3_readOrder_4 16 rfl rfl)
theorem dX3_readOrder_112 : decode cX3_readOrder 112 = .ok (.invokevirtual 260, 3) := dk_182 1 4 (dk_at dksX3_readOrder_4 17 rfl rfl)
theorem dX3_readOrder_115 : decode cX3_readOrder 115 = .ok (.iastore, 1) := dk_79 (dk_at dksX3_readOrder_4 20 rfl rfl)
theorem dX3_readOrder_116 : decode cX3_readOrder 116 = .ok (.aload_n 0, 1) := dk_42 (dk_at dksX3_readOrder_4 21 rfl rfl)
theorem dX3_readOrder_117 : decode cX3_readOrder 117 = .ok (.dup, 1) := dk_89 (dk_at dksX3_readOrder_4 22 rfl rfl)
theorem dX3_readOrder_118 : decode cX3_readOrder 118 = .ok (.getfield 257, 3) := dk_180 1 1 (dk_at dksX3_readOrder_5 0 rfl rfl)
theorem dX3_readOrder_121 : decode cX3_readOrder 121 = .ok (.iconst 1, 1) := dk_4 (dk_at dksX3_readOrder_5 3 rfl rfl)
theorem dX3_readOrder_122 : decode cX3_readOrder 122 = .ok (.iadd, 1) := dk_96 (dk_at dksX3_readOrder_5 4 rfl rfl)
theorem dX3_readOrder_123 : decode cX3_readOrder 123 = .ok (.putfield 257, 3) := dk_181 1 1 (dk_at dksX3_readOrder_5 5 rfl rfl)
theorem dX3_readOrder_126 : decode cX3_readOrder 126 = .ok (.return_, 1) := dk_177 (dk_at dksX3_readOrder_5 8 rfl rfl)
abbrev cX3_wordHere : ByteArray := prog_11_method_76_code
def yX3_wordHere : MethodName := ⟨RX3, "wordHere", "()I"⟩
def dkwX3_wordHere_1 : List UInt8 := [52, 160, 0, 7, 28, 167, 0, 4, 27, 60, 132, 2, 1, 167, 255, 223, 27, 172]
abbrev dktX3_wordHere_1 : List UInt8 := dkwX3_wordHere_1 ++ []
def dkwX3_wordHere_0 : List UInt8 := [2, 60, 3, 61, 28, 16, 6, 162, 0, 33, 42, 182, 0, 241, 42, 180, 0, 39, 42, 180, 0, 43, 28, 46]
abbrev dktX3_wordHere_0 : List UInt8 := dkwX3_wordHere_0 ++ dktX3_wordHere_1
theorem dksX3_wordHere_0 : cX3_wordHere.data.toList.drop 0 = dktX3_wordHere_0 := by decide +kernel
theorem dksX3_wordHere_1 : cX3_wordHere.data.toList.drop 24 = dktX3_wordHere_1 := dk_seg dksX3_wordHere_0 24 rfl rfl
theorem dX3_wordHere_0 : decode cX3_wordHere 0 = .ok (.iconst (-1), 1) := dk_2 (dk_at dksX3_wordHere_0 0 rfl rfl)
theorem dX3_wordHere_1 : decode cX3_wordHere 1 = .ok (.istore_n 1, 1) := dk_60 (dk_at dksX3_wordHere_0 1 rfl rfl)
theorem dX3_wordHere_2 : decode cX3_wordHere 2 = .ok (.iconst 0, 1) := dk_3 (dk_at dksX3_wordHere_0 2 rfl rfl)
theorem dX3_wordHere_3 : decode cX3_wordHere 3 = .ok (.istore_n 2, 1) := dk_61 (dk_at dksX3_wordHere_0 3 rfl rfl)
theorem dX3_wordHere_4 : decode cX3_wordHere 4 = .ok (.iload_n 2, 1) := dk_28 (dk_at dksX3_wordHere_0 4 rfl rfl)
theorem dX3_wordHere_5 : decode cX3_wordHere 5 = .ok (.bipush 6, 2) := dk_16 6 (dk_at dksX3_wordHere_0 5 rfl rfl)
theorem dX3_wordHere_7 : decode cX3_wordHere 7 = .ok (.if_icmp .ge 33, 3) := dk_162 0 33 (dk_at dksX3_wordHere_0 7 rfl rfl)
theorem dX3_wordHere_10 : decode cX3_wordHere 10 = .ok (.aload_n 0, 1) := dk_42 (dk_at dksX3_wordHere_0 10 rfl rfl)
theorem dX3_wordHere_11 : decode cX3_wordHere 11 = .ok (.invokevirtual 241, 3) := dk_182 0 241 (dk_at dksX3_wordHere_0 11 rfl rfl)
theorem dX3_wordHere_14 : decode cX3_wordHere 14 = .ok (.aload_n 0, 1) := dk_42 (dk_at dksX3_wordHere_0 14 rfl rfl)
theorem dX3_wordHere_15 : decode cX3_wordHere 15 = .ok (.getfield 39, 3) := dk_180 0 39 (dk_at dksX3_wordHere_0 15 rfl rfl)
theorem dX3_wordHere_18 : decode cX3_wordHere 18 = .ok (.aload_n 0, 1) := dk_42 (dk_at dksX3_wordHere_0 18 rfl rfl)
theorem dX3_wordHere_19 : decode cX3_wordHere 19 = .ok (.getfield 43, 3) := dk_180 0 43 (dk_at dksX3_wordHere_0 19 rfl rfl)
theorem dX3_wordHere_22 : decode cX3_wordHere 22 = .ok (.iload_n 2, 1) := dk_28 (dk_at dksX3_wordHere_0 22 rfl rfl)
theorem dX3_wordHere_23 : decode cX3_wordHere 23 = .ok (.iaload, 1) := dk_46 (dk_at dksX3_wordHere_0 23 rfl rfl)
theorem dX3_wordHere_24 : decode cX3_wordHere 24 = .ok (.caload, 1) := dk_52 (dk_at dksX3_wordHere_1 0 rfl rfl)
theorem dX3_wordHere_25 : decode cX3_wordHere 25 = .ok (.if_icmp .ne 7, 3) := dk_160 0 7 (dk_at dksX3_wordHere_1 1 rfl rfl)
theorem dX3_wordHere_28 : decode cX3_wordHere 28 = .ok (.iload_n 2, 1) := dk_28 (dk_at dksX3_wordHere_1 4 rfl rfl)
theorem dX3_wordHere_29 : decode cX3_wordHere 29 = .ok (.goto 4, 3) := dk_167 0 4 (dk_at dksX3_wordHere_1 5 rfl rfl)
theorem dX3_wordHere_32 : decode cX3_wordHere 32 = .ok (.iload_n 1, 1) := dk_27 (dk_at dksX3_wordHere_1 8 rfl rfl)
theorem dX3_wordHere_33 : decode cX3_wordHere 33 = .ok (.istore_n 1, 1) := dk_60 (dk_at dksX3_wordHere_1 9 rfl rfl)
theorem dX3_wordHere_34 : decode cX3_wordHere 34 = .ok (.iinc 2 1, 3) := dk_132 2 1 (dk_at dksX3_wordHere_1 10 rfl rfl)
theorem dX3_wordHere_37 : decode cX3_wordHere 37 = .ok (.goto (-33), 3) := dk_167 255 223 (dk_at dksX3_wordHere_1 13 rfl rfl)
theorem dX3_wordHere_40 : decode cX3_wordHere 40 = .ok (.iload_n 1, 1) := dk_27 (dk_at dksX3_wordHere_1 16 rfl rfl)
theorem dX3_wordHere_41 : decode cX3_wordHere 41 = .ok (.ireturn, 1) := dk_172 (dk_at dksX3_wordHere_1 17 rfl rfl)
abbrev cX3_here : ByteArray := prog_11_method_72_code
def yX3_here : MethodName := ⟨RX3, "here", "()I"⟩
def dkwX3_here_1 : List UInt8 := [172]
abbrev dktX3_here_1 : List UInt8 := dkwX3_here_1 ++ []
def dkwX3_here_0 : List UInt8 := [42, 180, 0, 231, 42, 180, 0, 234, 162, 0, 15, 42, 180, 0, 29, 42, 180, 0, 231, 46, 167, 0, 4, 2]
abbrev dktX3_here_0 : List UInt8 := dkwX3_here_0 ++ dktX3_here_1
theorem dksX3_here_0 : cX3_here.data.toList.drop 0 = dktX3_here_0 := by decide +kernel
theorem dksX3_here_1 : cX3_here.data.toList.drop 24 = dktX3_here_1 := dk_seg dksX3_here_0 24 rfl rfl
theorem dX3_here_0 : decode cX3_here 0 = .ok (.aload_n 0, 1) := dk_42 (dk_at dksX3_here_0 0 rfl rfl)
theorem dX3_here_1 : decode cX3_here 1 = .ok (.getfield 231, 3) := dk_180 0 231 (dk_at dksX3_here_0 1 rfl rfl)
theorem dX3_here_4 : decode cX3_here 4 = .ok (.aload_n 0, 1) := dk_42 (dk_at dksX3_here_0 4 rfl rfl)
theorem dX3_here_5 : decode cX3_here 5 = .ok (.getfield 234, 3) := dk_180 0 234 (dk_at dksX3_here_0 5 rfl rfl)
theorem dX3_here_8 : decode cX3_here 8 = .ok (.if_icmp .ge 15, 3) := dk_162 0 15 (dk_at dksX3_here_0 8 rfl rfl)
theorem dX3_here_11 : decode cX3_here 11 = .ok (.aload_n 0, 1) := dk_42 (dk_at dksX3_here_0 11 rfl rfl)
theorem dX3_here_12 : decode cX3_here 12 = .ok (.getfield 29, 3) := dk_180 0 29 (dk_at dksX3_here_0 12 rfl rfl)
theorem dX3_here_15 : decode cX3_here 15 = .ok (.aload_n 0, 1) := dk_42 (dk_at dksX3_here_0 15 rfl rfl)
theorem dX3_here_16 : decode cX3_here 16 = .ok (.getfield 231, 3) := dk_180 0 231 (dk_at dksX3_here_0 16 rfl rfl)
theorem dX3_here_19 : decode cX3_here 19 = .ok (.iaload, 1) := dk_46 (dk_at dksX3_here_0 19 rfl rfl)
theorem dX3_here_20 : decode cX3_here 20 = .ok (.goto 4, 3) := dk_167 0 4 (dk_at dksX3_here_0 20 rfl rfl)
theorem dX3_here_23 : decode cX3_here 23 = .ok (.iconst (-1), 1) := dk_2 (dk_at dksX3_here_0 23 rfl rfl)
theorem dX3_here_24 : decode cX3_here 24 = .ok (.ireturn, 1) := dk_172 (dk_at dksX3_here_1 0 rfl rfl)
abbrev cX3_takes : ByteArray := prog_11_method_73_code
def yX3_takes : MethodName := ⟨RX3, "takes", "(I)V"⟩
def dkwX3_takes_1 : List UInt8 := [42, 89, 180, 0, 231, 42, 180, 0, 237, 153, 0, 7, 3, 167, 0, 4, 4, 96, 181, 0, 231, 177]
abbrev dktX3_takes_1 : List UInt8 := dkwX3_takes_1 ++ []
def dkwX3_takes_0 : List UInt8 := [42, 42, 180, 0, 237, 154, 0, 11, 42, 182, 0, 241, 27, 159, 0, 7, 4, 167, 0, 4, 3, 181, 0, 237]
abbrev dktX3_takes_0 : List UInt8 := dkwX3_takes_0 ++ dktX3_takes_1
theorem dksX3_takes_0 : cX3_takes.data.toList.drop 0 = dktX3_takes_0 := by decide +kernel
theorem dksX3_takes_1 : cX3_takes.data.toList.drop 24 = dktX3_takes_1 := dk_seg dksX3_takes_0 24 rfl rfl
theorem dX3_takes_0 : decode cX3_takes 0 = .ok (.aload_n 0, 1) := dk_42 (dk_at dksX3_takes_0 0 rfl rfl)
theorem dX3_takes_1 : decode cX3_takes 1 = .ok (.aload_n 0, 1) := dk_42 (dk_at dksX3_takes_0 1 rfl rfl)
theorem dX3_takes_2 : decode cX3_takes 2 = .ok (.getfield 237, 3) := dk_180 0 237 (dk_at dksX3_takes_0 2 rfl rfl)
theorem dX3_takes_5 : decode cX3_takes 5 = .ok (.ifCond .ne 11, 3) := dk_154 0 11 (dk_at dksX3_takes_0 5 rfl rfl)
theorem dX3_takes_8 : decode cX3_takes 8 = .ok (.aload_n 0, 1) := dk_42 (dk_at dksX3_takes_0 8 rfl rfl)
theorem dX3_takes_9 : decode cX3_takes 9 = .ok (.invokevirtual 241, 3) := dk_182 0 241 (dk_at dksX3_takes_0 9 rfl rfl)
theorem dX3_takes_12 : decode cX3_takes 12 = .ok (.iload_n 1, 1) := dk_27 (dk_at dksX3_takes_0 12 rfl rfl)
theorem dX3_takes_13 : decode cX3_takes 13 = .ok (.if_icmp .eq 7, 3) := dk_159 0 7 (dk_at dksX3_takes_0 13 rfl rfl)
theorem dX3_takes_16 : decode cX3_takes 16 = .ok (.iconst 1, 1) := dk_4 (dk_at dksX3_takes_0 16 rfl rfl)
theorem dX3_takes_17 : decode cX3_takes 17 = .ok (.goto 4, 3) := dk_167 0 4 (dk_at dksX3_takes_0 17 rfl rfl)
theorem dX3_takes_20 : decode cX3_takes 20 = .ok (.iconst 0, 1) := dk_3 (dk_at dksX3_takes_0 20 rfl rfl)
theorem dX3_takes_21 : decode cX3_takes 21 = .ok (.putfield 237, 3) := dk_181 0 237 (dk_at dksX3_takes_0 21 rfl rfl)
theorem dX3_takes_24 : decode cX3_takes 24 = .ok (.aload_n 0, 1) := dk_42 (dk_at dksX3_takes_1 0 rfl rfl)
theorem dX3_takes_25 : decode cX3_takes 25 = .ok (.dup, 1) := dk_89 (dk_at dksX3_takes_1 1 rfl rfl)
theorem dX3_takes_26 : decode cX3_takes 26 = .ok (.getfield 231, 3) := dk_180 0 231 (dk_at dksX3_takes_1 2 rfl rfl)
theorem dX3_takes_29 : decode cX3_takes 29 = .ok (.aload_n 0, 1) := dk_42 (dk_at dksX3_takes_1 5 rfl rfl)
theorem dX3_takes_30 : decode cX3_takes 30 = .ok (.getfield 237, 3) := dk_180 0 237 (dk_at dksX3_takes_1 6 rfl rfl)
theorem dX3_takes_33 : decode cX3_takes 33 = .ok (.ifCond .eq 7, 3) := dk_153 0 7 (dk_at dksX3_takes_1 9 rfl rfl)
theorem dX3_takes_36 : decode cX3_takes 36 = .ok (.iconst 0, 1) := dk_3 (dk_at dksX3_takes_1 12 rfl rfl)
theorem dX3_takes_37 : decode cX3_takes 37 = .ok (.goto 4, 3) := dk_167 0 4 (dk_at dksX3_takes_1 13 rfl rfl)
theorem dX3_takes_40 : decode cX3_takes 40 = .ok (.iconst 1, 1) := dk_4 (dk_at dksX3_takes_1 16 rfl rfl)
theorem dX3_takes_41 : decode cX3_takes 41 = .ok (.iadd, 1) := dk_96 (dk_at dksX3_takes_1 17 rfl rfl)
theorem dX3_takes_42 : decode cX3_takes 42 = .ok (.putfield 231, 3) := dk_181 0 231 (dk_at dksX3_takes_1 18 rfl rfl)
theorem dX3_takes_45 : decode cX3_takes 45 = .ok (.return_, 1) := dk_177 (dk_at dksX3_takes_1 21 rfl rfl)
abbrev cX3_digit : ByteArray := prog_11_method_74_code
def yX3_digit : MethodName := ⟨RX3, "digit", "()I"⟩
def dkwX3_digit_3 : List UInt8 := [96, 181, 0, 231, 27, 172]
abbrev dktX3_digit_3 : List UInt8 := dkwX3_digit_3 ++ []
def dkwX3_digit_2 : List UInt8 := [182, 0, 241, 16, 48, 100, 60, 42, 89, 180, 0, 231, 42, 180, 0, 237, 153, 0, 7, 3, 167, 0, 4, 4]
abbrev dktX3_digit_2 : List UInt8 := dkwX3_digit_2 ++ dktX3_digit_3
def dkwX3_digit_1 : List UInt8 := [154, 0, 7, 4, 167, 0, 4, 3, 181, 0, 237, 42, 180, 0, 237, 153, 0, 7, 3, 167, 0, 10, 42]
abbrev dktX3_digit_1 : List UInt8 := dkwX3_digit_1 ++ dktX3_digit_2
def dkwX3_digit_0 : List UInt8 := [42, 42, 180, 0, 237, 154, 0, 20, 42, 182, 0, 241, 133, 20, 0, 244, 20, 0, 246, 184, 0, 71]
abbrev dktX3_digit_0 : List UInt8 := dkwX3_digit_0 ++ dktX3_digit_1
theorem dksX3_digit_0 : cX3_digit.data.toList.drop 0 = dktX3_digit_0 := by decide +kernel
theorem dksX3_digit_1 : cX3_digit.data.toList.drop 22 = dktX3_digit_1 := dk_seg dksX3_digit_0 22 rfl rfl
theorem dksX3_digit_2 : cX3_digit.data.toList.drop 45 = dktX3_digit_2 := dk_seg dksX3_digit_1 23 rfl rfl
theorem dksX3_digit_3 : cX3_digit.data.toList.drop 69 = dktX3_digit_3 := dk_seg dksX3_digit_2 24 rfl rfl
theorem dX3_digit_0 : decode cX3_digit 0 = .ok (.aload_n 0, 1) := dk_42 (dk_at dksX3_digit_0 0 rfl rfl)
theorem dX3_digit_1 : decode cX3_digit 1 = .ok (.aload_n 0, 1) := dk_42 (dk_at dksX3_digit_0 1 rfl rfl)
theorem dX3_digit_2 : decode cX3_digit 2 = .ok (.getfield 237, 3) := dk_180 0 237 (dk_at dksX3_digit_0 2 rfl rfl)
theorem dX3_digit_5 : decode cX3_digit 5 = .ok (.ifCond .ne 20, 3) := dk_154 0 20 (dk_at dksX3_digit_0 5 rfl rfl)
theorem dX3_digit_8 : decode cX3_digit 8 = .ok (.aload_n 0, 1) := dk_42 (dk_at dksX3_digit_0 8 rfl rfl)
theorem dX3_digit_9 : decode cX3_digit 9 = .ok (.invokevirtual 241, 3) := dk_182 0 241 (dk_at dksX3_digit_0 9 rfl rfl)
theorem dX3_digit_12 : decode cX3_digit 12 = .ok (.i2l, 1) := dk_133 (dk_at dksX3_digit_0 12 rfl rfl)
theorem dX3_digit_13 : decode cX3_digit 13 = .ok (.ldc2_w 244, 3) := dk_20 0 244 (dk_at dksX3_digit_0 13 rfl rfl)
theorem dX3_digit_16 : decode cX3_digit 16 = .ok (.ldc2_w 246, 3) := dk_20 0 246 (dk_at dksX3_digit_0 16 rfl rfl)
theorem dX3_digit_19 : decode cX3_digit 19 = .ok (.invokestatic 71, 3) := dk_184 0 71 (dk_at dksX3_digit_0 19 rfl rfl)
theorem dX3_digit_22 : decode cX3_digit 22 = .ok (.ifCond .ne 7, 3) := dk_154 0 7 (dk_at dksX3_digit_1 0 rfl rfl)
theorem dX3_digit_25 : decode cX3_digit 25 = .ok (.iconst 1, 1) := dk_4 (dk_at dksX3_digit_1 3 rfl rfl)
theorem dX3_digit_26 : decode cX3_digit 26 = .ok (.goto 4, 3) := dk_167 0 4 (dk_at dksX3_digit_1 4 rfl rfl)
theorem dX3_digit_29 : decode cX3_digit 29 = .ok (.iconst 0, 1) := dk_3 (dk_at dksX3_digit_1 7 rfl rfl)
theorem dX3_digit_30 : decode cX3_digit 30 = .ok (.putfield 237, 3) := dk_181 0 237 (dk_at dksX3_digit_1 8 rfl rfl)
theorem dX3_digit_33 : decode cX3_digit 33 = .ok (.aload_n 0, 1) := dk_42 (dk_at dksX3_digit_1 11 rfl rfl)
theorem dX3_digit_34 : decode cX3_digit 34 = .ok (.getfield 237, 3) := dk_180 0 237 (dk_at dksX3_digit_1 12 rfl rfl)
theorem dX3_digit_37 : decode cX3_digit 37 = .ok (.ifCond .eq 7, 3) := dk_153 0 7 (dk_at dksX3_digit_1 15 rfl rfl)
theorem dX3_digit_40 : decode cX3_digit 40 = .ok (.iconst 0, 1) := dk_3 (dk_at dksX3_digit_1 18 rfl rfl)
theorem dX3_digit_41 : decode cX3_digit 41 = .ok (.goto 10, 3) := dk_167 0 10 (dk_at dksX3_digit_1 19 rfl rfl)
theorem dX3_digit_44 : decode cX3_digit 44 = .ok (.aload_n 0, 1) := dk_42 (dk_at dksX3_digit_1 22 rfl rfl)
theorem dX3_digit_45 : decode cX3_digit 45 = .ok (.invokevirtual 241, 3) := dk_182 0 241 (dk_at dksX3_digit_2 0 rfl rfl)
theorem dX3_digit_48 : decode cX3_digit 48 = .ok (.bipush 48, 2) := dk_16 48 (dk_at dksX3_digit_2 3 rfl rfl)
theorem dX3_digit_50 : decode cX3_digit 50 = .ok (.isub, 1) := dk_100 (dk_at dksX3_digit_2 5 rfl rfl)
theorem dX3_digit_51 : decode cX3_digit 51 = .ok (.istore_n 1, 1) := dk_60 (dk_at dksX3_digit_2 6 rfl rfl)
theorem dX3_digit_52 : decode cX3_digit 52 = .ok (.aload_n 0, 1) := dk_42 (dk_at dksX3_digit_2 7 rfl rfl)
theorem dX3_digit_53 : decode cX3_digit 53 = .ok (.dup, 1) := dk_89 (dk_at dksX3_digit_2 8 rfl rfl)
theorem dX3_digit_54 : decode cX3_digit 54 = .ok (.getfield 231, 3) := dk_180 0 231 (dk_at dksX3_digit_2 9 rfl rfl)
theorem dX3_digit_57 : decode cX3_digit 57 = .ok (.aload_n 0, 1) := dk_42 (dk_at dksX3_digit_2 12 rfl rfl)
theorem dX3_digit_58 : decode cX3_digit 58 = .ok (.getfield 237, 3) := dk_180 0 237 (dk_at dksX3_digit_2 13 rfl rfl)
theorem dX3_digit_61 : decode cX3_digit 61 = .ok (.ifCond .eq 7, 3) := dk_153 0 7 (dk_at dksX3_digit_2 16 rfl rfl)
theorem dX3_digit_64 : decode cX3_digit 64 = .ok (.iconst 0, 1) := dk_3 (dk_at dksX3_digit_2 19 rfl rfl)
theorem dX3_digit_65 : decode cX3_digit 65 = .ok (.goto 4, 3) := dk_167 0 4 (dk_at dksX3_digit_2 20 rfl rfl)
theorem dX3_digit_68 : decode cX3_digit 68 = .ok (.iconst 1, 1) := dk_4 (dk_at dksX3_digit_2 23 rfl rfl)
theorem dX3_digit_69 : decode cX3_digit 69 = .ok (.iadd, 1) := dk_96 (dk_at dksX3_digit_3 0 rfl rfl)
theorem dX3_digit_70 : decode cX3_digit 70 = .ok (.putfield 231, 3) := dk_181 0 231 (dk_at dksX3_digit_3 1 rfl rfl)
theorem dX3_digit_73 : decode cX3_digit 73 = .ok (.iload_n 1, 1) := dk_27 (dk_at dksX3_digit_3 4 rfl rfl)
theorem dX3_digit_74 : decode cX3_digit 74 = .ok (.ireturn, 1) := dk_172 (dk_at dksX3_digit_3 5 rfl rfl)
abbrev cX3_number : ByteArray := prog_11_method_75_code
def yX3_number : MethodName := ⟨RX3, "number", "()I"⟩
def dkwX3_number_1 : List UInt8 := [184, 0, 71, 153, 0, 15, 16, 10, 27, 104, 42, 182, 0, 248, 96, 167, 0, 4, 27, 172]
abbrev dktX3_number_1 : List UInt8 := dkwX3_number_1 ++ []
def dkwX3_number_0 : List UInt8 := [42, 182, 0, 248, 60, 42, 180, 0, 237, 154, 0, 32, 42, 182, 0, 241, 133, 20, 0, 244, 20, 0, 246]
abbrev dktX3_number_0 : List UInt8 := dkwX3_number_0 ++ dktX3_number_1
theorem dksX3_number_0 : cX3_number.data.toList.drop 0 = dktX3_number_0 := by decide +kernel
theorem dksX3_number_1 : cX3_number.data.toList.drop 23 = dktX3_number_1 := dk_seg dksX3_number_0 23 rfl rfl
theorem dX3_number_0 : decode cX3_number 0 = .ok (.aload_n 0, 1) := dk_42 (dk_at dksX3_number_0 0 rfl rfl)
theorem dX3_number_1 : decode cX3_number 1 = .ok (.invokevirtual 248, 3) := dk_182 0 248 (dk_at dksX3_number_0 1 rfl rfl)
theorem dX3_number_4 : decode cX3_number 4 = .ok (.istore_n 1, 1) := dk_60 (dk_at dksX3_number_0 4 rfl rfl)
theorem dX3_number_5 : decode cX3_number 5 = .ok (.aload_n 0, 1) := dk_42 (dk_at dksX3_number_0 5 rfl rfl)
theorem dX3_number_6 : decode cX3_number 6 = .ok (.getfield 237, 3) := dk_180 0 237 (dk_at dksX3_number_0 6 rfl rfl)
theorem dX3_number_9 : decode cX3_number 9 = .ok (.ifCond .ne 32, 3) := dk_154 0 32 (dk_at dksX3_number_0 9 rfl rfl)
theorem dX3_number_12 : decode cX3_number 12 = .ok (.aload_n 0, 1) := dk_42 (dk_at dksX3_number_0 12 rfl rfl)
theorem dX3_number_13 : decode cX3_number 13 = .ok (.invokevirtual 241, 3) := dk_182 0 241 (dk_at dksX3_number_0 13 rfl rfl)
theorem dX3_number_16 : decode cX3_number 16 = .ok (.i2l, 1) := dk_133 (dk_at dksX3_number_0 16 rfl rfl)
theorem dX3_number_17 : decode cX3_number 17 = .ok (.ldc2_w 244, 3) := dk_20 0 244 (dk_at dksX3_number_0 17 rfl rfl)
theorem dX3_number_20 : decode cX3_number 20 = .ok (.ldc2_w 246, 3) := dk_20 0 246 (dk_at dksX3_number_0 20 rfl rfl)
theorem dX3_number_23 : decode cX3_number 23 = .ok (.invokestatic 71, 3) := dk_184 0 71 (dk_at dksX3_number_1 0 rfl rfl)
theorem dX3_number_26 : decode cX3_number 26 = .ok (.ifCond .eq 15, 3) := dk_153 0 15 (dk_at dksX3_number_1 3 rfl rfl)
theorem dX3_number_29 : decode cX3_number 29 = .ok (.bipush 10, 2) := dk_16 10 (dk_at dksX3_number_1 6 rfl rfl)
theorem dX3_number_31 : decode cX3_number 31 = .ok (.iload_n 1, 1) := dk_27 (dk_at dksX3_number_1 8 rfl rfl)
theorem dX3_number_32 : decode cX3_number 32 = .ok (.imul, 1) := dk_104 (dk_at dksX3_number_1 9 rfl rfl)
theorem dX3_number_33 : decode cX3_number 33 = .ok (.aload_n 0, 1) := dk_42 (dk_at dksX3_number_1 10 rfl rfl)
theorem dX3_number_34 : decode cX3_number 34 = .ok (.invokevirtual 248, 3) := dk_182 0 248 (dk_at dksX3_number_1 11 rfl rfl)
theorem dX3_number_37 : decode cX3_number 37 = .ok (.iadd, 1) := dk_96 (dk_at dksX3_number_1 14 rfl rfl)
theorem dX3_number_38 : decode cX3_number 38 = .ok (.goto 4, 3) := dk_167 0 4 (dk_at dksX3_number_1 15 rfl rfl)
theorem dX3_number_41 : decode cX3_number 41 = .ok (.iload_n 1, 1) := dk_27 (dk_at dksX3_number_1 18 rfl rfl)
theorem dX3_number_42 : decode cX3_number 42 = .ok (.ireturn, 1) := dk_172 (dk_at dksX3_number_1 19 rfl rfl)
abbrev cX3_does : ByteArray := prog_11_method_79_code
def yX3_does : MethodName := ⟨RX3, "does", "(II)I"⟩
def dkwX3_does_3 : List UInt8 := [42, 28, 182, 0, 129, 172, 42, 182, 0, 204, 172]
abbrev dktX3_does_3 : List UInt8 := dkwX3_does_3 ++ []
def dkwX3_does_2 : List UInt8 := [42, 28, 182, 0, 201, 172, 42, 28, 182, 0, 195, 172, 42, 28, 182, 0, 139, 172, 42, 28, 182, 0, 124, 172]
abbrev dktX3_does_2 : List UInt8 := dkwX3_does_2 ++ dktX3_does_3
def dkwX3_does_1 : List UInt8 := [170, 0, 0, 0, 0, 0, 65, 0, 0, 0, 0, 0, 0, 0, 4, 0, 0, 0, 35, 0, 0, 0, 41, 0, 0, 0, 47, 0, 0, 0, 53, 0, 0, 0, 59]
abbrev dktX3_does_1 : List UInt8 := dkwX3_does_1 ++ dktX3_does_2
def dkwX3_does_0 : List UInt8 := [27]
abbrev dktX3_does_0 : List UInt8 := dkwX3_does_0 ++ dktX3_does_1
theorem dksX3_does_0 : cX3_does.data.toList.drop 0 = dktX3_does_0 := by decide +kernel
theorem dksX3_does_1 : cX3_does.data.toList.drop 1 = dktX3_does_1 := dk_seg dksX3_does_0 1 rfl rfl
theorem dksX3_does_2 : cX3_does.data.toList.drop 36 = dktX3_does_2 := dk_seg dksX3_does_1 35 rfl rfl
theorem dksX3_does_3 : cX3_does.data.toList.drop 60 = dktX3_does_3 := dk_seg dksX3_does_2 24 rfl rfl
theorem dX3_does_0 : decode cX3_does 0 = .ok (.iload_n 1, 1) := dk_27 (dk_at dksX3_does_0 0 rfl rfl)
theorem dX3_does_1 : decode cX3_does 1 = .ok (.tableswitch 65 0 4 #[35, 41, 47, 53, 59], 35) := by decide +kernel
theorem dX3_does_36 : decode cX3_does 36 = .ok (.aload_n 0, 1) := dk_42 (dk_at dksX3_does_2 0 rfl rfl)
theorem dX3_does_37 : decode cX3_does 37 = .ok (.iload_n 2, 1) := dk_28 (dk_at dksX3_does_2 1 rfl rfl)
theorem dX3_does_38 : decode cX3_does 38 = .ok (.invokevirtual 201, 3) := dk_182 0 201 (dk_at dksX3_does_2 2 rfl rfl)
theorem dX3_does_41 : decode cX3_does 41 = .ok (.ireturn, 1) := dk_172 (dk_at dksX3_does_2 5 rfl rfl)
theorem dX3_does_42 : decode cX3_does 42 = .ok (.aload_n 0, 1) := dk_42 (dk_at dksX3_does_2 6 rfl rfl)
theorem dX3_does_43 : decode cX3_does 43 = .ok (.iload_n 2, 1) := dk_28 (dk_at dksX3_does_2 7 rfl rfl)
theorem dX3_does_44 : decode cX3_does 44 = .ok (.invokevirtual 195, 3) := dk_182 0 195 (dk_at dksX3_does_2 8 rfl rfl)
theorem dX3_does_47 : decode cX3_does 47 = .ok (.ireturn, 1) := dk_172 (dk_at dksX3_does_2 11 rfl rfl)
theorem dX3_does_48 : decode cX3_does 48 = .ok (.aload_n 0, 1) := dk_42 (dk_at dksX3_does_2 12 rfl rfl)
theorem dX3_does_49 : decode cX3_does 49 = .ok (.iload_n 2, 1) := dk_28 (dk_at dksX3_does_2 13 rfl rfl)
theorem dX3_does_50 : decode cX3_does 50 = .ok (.invokevirtual 139, 3) := dk_182 0 139 (dk_at dksX3_does_2 14 rfl rfl)
theorem dX3_does_53 : decode cX3_does 53 = .ok (.ireturn, 1) := dk_172 (dk_at dksX3_does_2 17 rfl rfl)
theorem dX3_does_54 : decode cX3_does 54 = .ok (.aload_n 0, 1) := dk_42 (dk_at dksX3_does_2 18 rfl rfl)
theorem dX3_does_55 : decode cX3_does 55 = .ok (.iload_n 2, 1) := dk_28 (dk_at dksX3_does_2 19 rfl rfl)
theorem dX3_does_56 : decode cX3_does 56 = .ok (.invokevirtual 124, 3) := dk_182 0 124 (dk_at dksX3_does_2 20 rfl rfl)
theorem dX3_does_59 : decode cX3_does 59 = .ok (.ireturn, 1) := dk_172 (dk_at dksX3_does_2 23 rfl rfl)
theorem dX3_does_60 : decode cX3_does 60 = .ok (.aload_n 0, 1) := dk_42 (dk_at dksX3_does_3 0 rfl rfl)
theorem dX3_does_61 : decode cX3_does 61 = .ok (.iload_n 2, 1) := dk_28 (dk_at dksX3_does_3 1 rfl rfl)
theorem dX3_does_62 : decode cX3_does 62 = .ok (.invokevirtual 129, 3) := dk_182 0 129 (dk_at dksX3_does_3 2 rfl rfl)
theorem dX3_does_65 : decode cX3_does 65 = .ok (.ireturn, 1) := dk_172 (dk_at dksX3_does_3 5 rfl rfl)
theorem dX3_does_66 : decode cX3_does 66 = .ok (.aload_n 0, 1) := dk_42 (dk_at dksX3_does_3 6 rfl rfl)
theorem dX3_does_67 : decode cX3_does 67 = .ok (.invokevirtual 204, 3) := dk_182 0 204 (dk_at dksX3_does_3 7 rfl rfl)
theorem dX3_does_70 : decode cX3_does 70 = .ok (.ireturn, 1) := dk_172 (dk_at dksX3_does_3 10 rfl rfl)
abbrev cX3_faultPosition : ByteArray := prog_11_method_81_code
def yX3_faultPosition : MethodName := ⟨RX3, "faultPosition", "()I"⟩
def dkwX3_faultPosition_1 : List UInt8 := [180, 0, 25, 172]
abbrev dktX3_faultPosition_1 : List UInt8 := dkwX3_faultPosition_1 ++ []
def dkwX3_faultPosition_0 : List UInt8 := [42, 3, 181, 0, 52, 42, 180, 0, 25, 2, 160, 0, 11, 42, 4, 182, 0, 64, 167, 0, 7, 42]
abbrev dktX3_faultPosition_0 : List UInt8 := dkwX3_faultPosition_0 ++ dktX3_faultPosition_1
theorem dksX3_faultPosition_0 : cX3_faultPosition.data.toList.drop 0 = dktX3_faultPosition_0 := by decide +kernel
theorem dksX3_faultPosition_1 : cX3_faultPosition.data.toList.drop 22 = dktX3_faultPosition_1 := dk_seg dksX3_faultPosition_0 22 rfl rfl
theorem dX3_faultPosition_0 : decode cX3_faultPosition 0 = .ok (.aload_n 0, 1) := dk_42 (dk_at dksX3_faultPosition_0 0 rfl rfl)
theorem dX3_faultPosition_1 : decode cX3_faultPosition 1 = .ok (.iconst 0, 1) := dk_3 (dk_at dksX3_faultPosition_0 1 rfl rfl)
theorem dX3_faultPosition_2 : decode cX3_faultPosition 2 = .ok (.putfield 52, 3) := dk_181 0 52 (dk_at dksX3_faultPosition_0 2 rfl rfl)
theorem dX3_faultPosition_5 : decode cX3_faultPosition 5 = .ok (.aload_n 0, 1) := dk_42 (dk_at dksX3_faultPosition_0 5 rfl rfl)
theorem dX3_faultPosition_6 : decode cX3_faultPosition 6 = .ok (.getfield 25, 3) := dk_180 0 25 (dk_at dksX3_faultPosition_0 6 rfl rfl)
theorem dX3_faultPosition_9 : decode cX3_faultPosition 9 = .ok (.iconst (-1), 1) := dk_2 (dk_at dksX3_faultPosition_0 9 rfl rfl)
theorem dX3_faultPosition_10 : decode cX3_faultPosition 10 = .ok (.if_icmp .ne 11, 3) := dk_160 0 11 (dk_at dksX3_faultPosition_0 10 rfl rfl)
theorem dX3_faultPosition_13 : decode cX3_faultPosition 13 = .ok (.aload_n 0, 1) := dk_42 (dk_at dksX3_faultPosition_0 13 rfl rfl)
theorem dX3_faultPosition_14 : decode cX3_faultPosition 14 = .ok (.iconst 1, 1) := dk_4 (dk_at dksX3_faultPosition_0 14 rfl rfl)
theorem dX3_faultPosition_15 : decode cX3_faultPosition 15 = .ok (.invokevirtual 64, 3) := dk_182 0 64 (dk_at dksX3_faultPosition_0 15 rfl rfl)
theorem dX3_faultPosition_18 : decode cX3_faultPosition 18 = .ok (.goto 7, 3) := dk_167 0 7 (dk_at dksX3_faultPosition_0 18 rfl rfl)
theorem dX3_faultPosition_21 : decode cX3_faultPosition 21 = .ok (.aload_n 0, 1) := dk_42 (dk_at dksX3_faultPosition_0 21 rfl rfl)
theorem dX3_faultPosition_22 : decode cX3_faultPosition 22 = .ok (.getfield 25, 3) := dk_180 0 25 (dk_at dksX3_faultPosition_1 0 rfl rfl)
theorem dX3_faultPosition_25 : decode cX3_faultPosition 25 = .ok (.ireturn, 1) := dk_172 (dk_at dksX3_faultPosition_1 3 rfl rfl)
abbrev cX3_reason : ByteArray := prog_11_method_82_code
def yX3_reason : MethodName := ⟨RX3, "reason", "(I)I"⟩
def dkwX3_reason_2 : List UInt8 := [4, 160, 0, 10, 42, 180, 0, 58, 167, 0, 7, 42, 180, 0, 61, 172]
abbrev dktX3_reason_2 : List UInt8 := dkwX3_reason_2 ++ []
def dkwX3_reason_1 : List UInt8 := [180, 0, 55, 154, 0, 9, 42, 5, 182, 0, 64, 172, 27, 154, 0, 10, 42, 180, 0, 55, 167, 0, 19, 27]
abbrev dktX3_reason_1 : List UInt8 := dkwX3_reason_1 ++ dktX3_reason_2
def dkwX3_reason_0 : List UInt8 := [42, 3, 181, 0, 52, 27, 133, 9, 20, 0, 173, 184, 0, 71, 154, 0, 9, 42, 4, 182, 0, 64, 172, 42]
abbrev dktX3_reason_0 : List UInt8 := dkwX3_reason_0 ++ dktX3_reason_1
theorem dksX3_reason_0 : cX3_reason.data.toList.drop 0 = dktX3_reason_0 := by decide +kernel
theorem dksX3_reason_1 : cX3_reason.data.toList.drop 24 = dktX3_reason_1 := dk_seg dksX3_reason_0 24 rfl rfl
theorem dksX3_reason_2 : cX3_reason.data.toList.drop 48 = dktX3_reason_2 := dk_seg dksX3_reason_1 24 rfl rfl
theorem dX3_reason_0 : decode cX3_reason 0 = .ok (.aload_n 0, 1) := dk_42 (dk_at dksX3_reason_0 0 rfl rfl)
theorem dX3_reason_1 : decode cX3_reason 1 = .ok (.iconst 0, 1) := dk_3 (dk_at dksX3_reason_0 1 rfl rfl)
theorem dX3_reason_2 : decode cX3_reason 2 = .ok (.putfield 52, 3) := dk_181 0 52 (dk_at dksX3_reason_0 2 rfl rfl)
theorem dX3_reason_5 : decode cX3_reason 5 = .ok (.iload_n 1, 1) := dk_27 (dk_at dksX3_reason_0 5 rfl rfl)
theorem dX3_reason_6 : decode cX3_reason 6 = .ok (.i2l, 1) := dk_133 (dk_at dksX3_reason_0 6 rfl rfl)
theorem dX3_reason_7 : decode cX3_reason 7 = .ok (.lconst 0, 1) := dk_9 (dk_at dksX3_reason_0 7 rfl rfl)
theorem dX3_reason_8 : decode cX3_reason 8 = .ok (.ldc2_w 173, 3) := dk_20 0 173 (dk_at dksX3_reason_0 8 rfl rfl)
theorem dX3_reason_11 : decode cX3_reason 11 = .ok (.invokestatic 71, 3) := dk_184 0 71 (dk_at dksX3_reason_0 11 rfl rfl)
theorem dX3_reason_14 : decode cX3_reason 14 = .ok (.ifCond .ne 9, 3) := dk_154 0 9 (dk_at dksX3_reason_0 14 rfl rfl)
theorem dX3_reason_17 : decode cX3_reason 17 = .ok (.aload_n 0, 1) := dk_42 (dk_at dksX3_reason_0 17 rfl rfl)
theorem dX3_reason_18 : decode cX3_reason 18 = .ok (.iconst 1, 1) := dk_4 (dk_at dksX3_reason_0 18 rfl rfl)
theorem dX3_reason_19 : decode cX3_reason 19 = .ok (.invokevirtual 64, 3) := dk_182 0 64 (dk_at dksX3_reason_0 19 rfl rfl)
theorem dX3_reason_22 : decode cX3_reason 22 = .ok (.ireturn, 1) := dk_172 (dk_at dksX3_reason_0 22 rfl rfl)
theorem dX3_reason_23 : decode cX3_reason 23 = .ok (.aload_n 0, 1) := dk_42 (dk_at dksX3_reason_0 23 rfl rfl)
theorem dX3_reason_24 : decode cX3_reason 24 = .ok (.getfield 55, 3) := dk_180 0 55 (dk_at dksX3_reason_1 0 rfl rfl)
theorem dX3_reason_27 : decode cX3_reason 27 = .ok (.ifCond .ne 9, 3) := dk_154 0 9 (dk_at dksX3_reason_1 3 rfl rfl)
theorem dX3_reason_30 : decode cX3_reason 30 = .ok (.aload_n 0, 1) := dk_42 (dk_at dksX3_reason_1 6 rfl rfl)
theorem dX3_reason_31 : decode cX3_reason 31 = .ok (.iconst 2, 1) := dk_5 (dk_at dksX3_reason_1 7 rfl rfl)
theorem dX3_reason_32 : decode cX3_reason 32 = .ok (.invokevirtual 64, 3) := dk_182 0 64 (dk_at dksX3_reason_1 8 rfl rfl)
theorem dX3_reason_35 : decode cX3_reason 35 = .ok (.ireturn, 1) := dk_172 (dk_at dksX3_reason_1 11 rfl rfl)
theorem dX3_reason_36 : decode cX3_reason 36 = .ok (.iload_n 1, 1) := dk_27 (dk_at dksX3_reason_1 12 rfl rfl)
theorem dX3_reason_37 : decode cX3_reason 37 = .ok (.ifCond .ne 10, 3) := dk_154 0 10 (dk_at dksX3_reason_1 13 rfl rfl)
theorem dX3_reason_40 : decode cX3_reason 40 = .ok (.aload_n 0, 1) := dk_42 (dk_at dksX3_reason_1 16 rfl rfl)
theorem dX3_reason_41 : decode cX3_reason 41 = .ok (.getfield 55, 3) := dk_180 0 55 (dk_at dksX3_reason_1 17 rfl rfl)
theorem dX3_reason_44 : decode cX3_reason 44 = .ok (.goto 19, 3) := dk_167 0 19 (dk_at dksX3_reason_1 20 rfl rfl)
theorem dX3_reason_47 : decode cX3_reason 47 = .ok (.iload_n 1, 1) := dk_27 (dk_at dksX3_reason_1 23 rfl rfl)
theorem dX3_reason_48 : decode cX3_reason 48 = .ok (.iconst 1, 1) := dk_4 (dk_at dksX3_reason_2 0 rfl rfl)
theorem dX3_reason_49 : decode cX3_reason 49 = .ok (.if_icmp .ne 10, 3) := dk_160 0 10 (dk_at dksX3_reason_2 1 rfl rfl)
theorem dX3_reason_52 : decode cX3_reason 52 = .ok (.aload_n 0, 1) := dk_42 (dk_at dksX3_reason_2 4 rfl rfl)
theorem dX3_reason_53 : decode cX3_reason 53 = .ok (.getfield 58, 3) := dk_180 0 58 (dk_at dksX3_reason_2 5 rfl rfl)
theorem dX3_reason_56 : decode cX3_reason 56 = .ok (.goto 7, 3) := dk_167 0 7 (dk_at dksX3_reason_2 8 rfl rfl)
theorem dX3_reason_59 : decode cX3_reason 59 = .ok (.aload_n 0, 1) := dk_42 (dk_at dksX3_reason_2 11 rfl rfl)
theorem dX3_reason_60 : decode cX3_reason 60 = .ok (.getfield 61, 3) := dk_180 0 61 (dk_at dksX3_reason_2 12 rfl rfl)
theorem dX3_reason_63 : decode cX3_reason 63 = .ok (.ireturn, 1) := dk_172 (dk_at dksX3_reason_2 15 rfl rfl)
abbrev cX3_line : ByteArray := prog_11_method_84_code
def yX3_line : MethodName := ⟨RX3, "line", "()I"⟩
def dkwX3_line_4 : List UInt8 := [132, 1, 1, 167, 255, 174, 42, 180, 1, 16, 172]
abbrev dktX3_line_4 : List UInt8 := dkwX3_line_4 ++ []
def dkwX3_line_3 : List UInt8 := [184, 0, 86, 16, 6, 96, 46, 162, 0, 15, 42, 16, 39, 182, 1, 19, 132, 2, 1, 167, 255, 231]
abbrev dktX3_line_3 : List UInt8 := dkwX3_line_3 ++ dktX3_line_4
def dkwX3_line_2 : List UInt8 := [153, 0, 45, 42, 16, 48, 42, 27, 182, 0, 109, 96, 182, 1, 19, 3, 61, 28, 42, 180, 0, 9, 27]
abbrev dktX3_line_2 : List UInt8 := dkwX3_line_2 ++ dktX3_line_3
def dkwX3_line_1 : List UInt8 := [27, 182, 0, 132, 153, 0, 8, 16, 61, 167, 0, 5, 16, 126, 182, 1, 19, 42, 27, 182, 0, 106]
abbrev dktX3_line_1 : List UInt8 := dkwX3_line_1 ++ dktX3_line_2
def dkwX3_line_0 : List UInt8 := [42, 3, 181, 0, 52, 42, 3, 181, 1, 16, 3, 60, 27, 42, 180, 0, 9, 3, 46, 162, 0, 78, 42, 42]
abbrev dktX3_line_0 : List UInt8 := dkwX3_line_0 ++ dktX3_line_1
theorem dksX3_line_0 : cX3_line.data.toList.drop 0 = dktX3_line_0 := by decide +kernel
theorem dksX3_line_1 : cX3_line.data.toList.drop 24 = dktX3_line_1 := dk_seg dksX3_line_0 24 rfl rfl
theorem dksX3_line_2 : cX3_line.data.toList.drop 46 = dktX3_line_2 := dk_seg dksX3_line_1 22 rfl rfl
theorem dksX3_line_3 : cX3_line.data.toList.drop 69 = dktX3_line_3 := dk_seg dksX3_line_2 23 rfl rfl
theorem dksX3_line_4 : cX3_line.data.toList.drop 91 = dktX3_line_4 := dk_seg dksX3_line_3 22 rfl rfl
theorem dX3_line_0 : decode cX3_line 0 = .ok (.aload_n 0, 1) := dk_42 (dk_at dksX3_line_0 0 rfl rfl)
theorem dX3_line_1 : decode cX3_line 1 = .ok (.iconst 0, 1) := dk_3 (dk_at dksX3_line_0 1 rfl rfl)
theorem dX3_line_2 : decode cX3_line 2 = .ok (.putfield 52, 3) := dk_181 0 52 (dk_at dksX3_line_0 2 rfl rfl)
theorem dX3_line_5 : decode cX3_line 5 = .ok (.aload_n 0, 1) := dk_42 (dk_at dksX3_line_0 5 rfl rfl)
theorem dX3_line_6 : decode cX3_line 6 = .ok (.iconst 0, 1) := dk_3 (dk_at dksX3_line_0 6 rfl rfl)
theorem dX3_line_7 : decode cX3_line 7 = .ok (.putfield 272, 3) := dk_181 1 16 (dk_at dksX3_line_0 7 rfl rfl)
theorem dX3_line_10 : decode cX3_line 10 = .ok (.iconst 0, 1) := dk_3 (dk_at dksX3_line_0 10 rfl rfl)
theorem dX3_line_11 : decode cX3_line 11 = .ok (.istore_n 1, 1) := dk_60 (dk_at dksX3_line_0 11 rfl rfl)
theorem dX3_line_12 : decode cX3_line 12 = .ok (.iload_n 1, 1) := dk_27 (dk_at dksX3_line_0 12 rfl rfl)
theorem dX3_line_13 : decode cX3_line 13 = .ok (.aload_n 0, 1) := dk_42 (dk_at dksX3_line_0 13 rfl rfl)
theorem dX3_line_14 : decode cX3_line 14 = .ok (.getfield 9, 3) := dk_180 0 9 (dk_at dksX3_line_0 14 rfl rfl)
theorem dX3_line_17 : decode cX3_line 17 = .ok (.iconst 0, 1) := dk_3 (dk_at dksX3_line_0 17 rfl rfl)
theorem dX3_line_18 : decode cX3_line 18 = .ok (.iaload, 1) := dk_46 (dk_at dksX3_line_0 18 rfl rfl)
theorem dX3_line_19 : decode cX3_line 19 = .ok (.if_icmp .ge 78, 3) := dk_162 0 78 (dk_at dksX3_line_0 19 rfl rfl)
theorem dX3_line_22 : decode cX3_line 22 = .ok (.aload_n 0, 1) := dk_42 (dk_at dksX3_line_0 22 rfl rfl)
theorem dX3_line_23 : decode cX3_line 23 = .ok (.aload_n 0, 1) := dk_42 (dk_at dksX3_line_0 23 rfl rfl)
theorem dX3_line_24 : decode cX3_line 24 = .ok (.iload_n 1, 1) := dk_27 (dk_at dksX3_line_1 0 rfl rfl)
theorem dX3_line_25 : decode cX3_line 25 = .ok (.invokevirtual 132, 3) := dk_182 0 132 (dk_at dksX3_line_1 1 rfl rfl)
theorem dX3_line_28 : decode cX3_line 28 = .ok (.ifCond .eq 8, 3) := dk_153 0 8 (dk_at dksX3_line_1 4 rfl rfl)
theorem dX3_line_31 : decode cX3_line 31 = .ok (.bipush 61, 2) := dk_16 61 (dk_at dksX3_line_1 7 rfl rfl)
theorem dX3_line_33 : decode cX3_line 33 = .ok (.goto 5, 3) := dk_167 0 5 (dk_at dksX3_line_1 9 rfl rfl)
theorem dX3_line_36 : decode cX3_line 36 = .ok (.bipush 126, 2) := dk_16 126 (dk_at dksX3_line_1 12 rfl rfl)
theorem dX3_line_38 : decode cX3_line 38 = .ok (.invokevirtual 275, 3) := dk_182 1 19 (dk_at dksX3_line_1 14 rfl rfl)
theorem dX3_line_41 : decode cX3_line 41 = .ok (.aload_n 0, 1) := dk_42 (dk_at dksX3_line_1 17 rfl rfl)
theorem dX3_line_42 : decode cX3_line 42 = .ok (.iload_n 1, 1) := dk_27 (dk_at dksX3_line_1 18 rfl rfl)
theorem dX3_line_43 : decode cX3_line 43 = .ok (.invokevirtual 106, 3) := dk_182 0 106 (dk_at dksX3_line_1 19 rfl rfl)
theorem dX3_line_46 : decode cX3_line 46 = .ok (.ifCond .eq 45, 3) := dk_153 0 45 (dk_at dksX3_line_2 0 rfl rfl)
theorem dX3_line_49 : decode cX3_line 49 = .ok (.aload_n 0, 1) := dk_42 (dk_at dksX3_line_2 3 rfl rfl)
theorem dX3_line_50 : decode cX3_line 50 = .ok (.bipush 48, 2) := dk_16 48 (dk_at dksX3_line_2 4 rfl rfl)
theorem dX3_line_52 : decode cX3_line 52 = .ok (.aload_n 0, 1) := dk_42 (dk_at dksX3_line_2 6 rfl rfl)
theorem dX3_line_53 : decode cX3_line 53 = .ok (.iload_n 1, 1) := dk_27 (dk_at dksX3_line_2 7 rfl rfl)
theorem dX3_line_54 : decode cX3_line 54 = .ok (.invokevirtual 109, 3) := dk_182 0 109 (dk_at dksX3_line_2 8 rfl rfl)
theorem dX3_line_57 : decode cX3_line 57 = .ok (.iadd, 1) := dk_96 (dk_at dksX3_line_2 11 rfl rfl)
theorem dX3_line_58 : decode cX3_line 58 = .ok (.invokevirtual 275, 3) := dk_182 1 19 (dk_at dksX3_line_2 12 rfl rfl)
theorem dX3_line_61 : decode cX3_line 61 = .ok (.iconst 0, 1) := dk_3 (dk_at dksX3_line_2 15 rfl rfl)
theorem dX3_line_62 : decode cX3_line 62 = .ok (.istore_n 2, 1) := dk_61 (dk_at dksX3_line_2 16 rfl rfl)
theorem dX3_line_63 : decode cX3_line 63 = .ok (.iload_n 2, 1) := dk_28 (dk_at dksX3_line_2 17 rfl rfl)
theorem dX3_line_64 : decode cX3_line 64 = .ok (.aload_n 0, 1) := dk_42 (dk_at dksX3_line_2 18 rfl rfl)
theorem dX3_line_65 : decode cX3_line 65 = .ok (.getfield 9, 3) := dk_180 0 9 (dk_at dksX3_line_2 19 rfl rfl)
theorem dX3_line_68 : decode cX3_line 68 = .ok (.iload_n 1, 1) := dk_27 (dk_at dksX3_line_2 22 rfl rfl)
theorem dX3_line_69 : decode cX3_line 69 = .ok (.invokestatic 86, 3) := dk_184 0 86 (dk_at dksX3_line_3 0 rfl rfl)
theorem dX3_line_72 : decode cX3_line 72 = .ok (.bipush 6, 2) := dk_16 6 (dk_at dksX3_line_3 3 rfl rfl)
theorem dX3_line_74 : decode cX3_line 74 = .ok (.iadd, 1) := dk_96 (dk_at dksX3_line_3 5 rfl rfl)
theorem dX3_line_75 : decode cX3_line 75 = .ok (.iaload, 1) := dk_46 (dk_at dksX3_line_3 6 rfl rfl)
theorem dX3_line_76 : decode cX3_line 76 = .ok (.if_icmp .ge 15, 3) := dk_162 0 15 (dk_at dksX3_line_3 7 rfl rfl)
theorem dX3_line_79 : decode cX3_line 79 = .ok (.aload_n 0, 1) := dk_42 (dk_at dksX3_line_3 10 rfl rfl)
theorem dX3_line_80 : decode cX3_line 80 = .ok (.bipush 39, 2) := dk_16 39 (dk_at dksX3_line_3 11 rfl rfl)
theorem dX3_line_82 : decode cX3_line 82 = .ok (.invokevirtual 275, 3) := dk_182 1 19 (dk_at dksX3_line_3 13 rfl rfl)
theorem dX3_line_85 : decode cX3_line 85 = .ok (.iinc 2 1, 3) := dk_132 2 1 (dk_at dksX3_line_3 16 rfl rfl)
theorem dX3_line_88 : decode cX3_line 88 = .ok (.goto (-25), 3) := dk_167 255 231 (dk_at dksX3_line_3 19 rfl rfl)
theorem dX3_line_91 : decode cX3_line 91 = .ok (.iinc 1 1, 3) := dk_132 1 1 (dk_at dksX3_line_4 0 rfl rfl)
theorem dX3_line_94 : decode cX3_line 94 = .ok (.goto (-82), 3) := dk_167 255 174 (dk_at dksX3_line_4 3 rfl rfl)
theorem dX3_line_97 : decode cX3_line 97 = .ok (.aload_n 0, 1) := dk_42 (dk_at dksX3_line_4 6 rfl rfl)
theorem dX3_line_98 : decode cX3_line 98 = .ok (.getfield 272, 3) := dk_180 1 16 (dk_at dksX3_line_4 7 rfl rfl)
theorem dX3_line_101 : decode cX3_line 101 = .ok (.ireturn, 1) := dk_172 (dk_at dksX3_line_4 10 rfl rfl)
abbrev cX3_sign : ByteArray := prog_11_method_83_code
def yX3_sign : MethodName := ⟨RX3, "sign", "(I)V"⟩
def dkwX3_sign_0 : List UInt8 := [42, 180, 0, 49, 42, 180, 1, 16, 27, 79, 42, 89, 180, 1, 16, 4, 96, 181, 1, 16, 177]
abbrev dktX3_sign_0 : List UInt8 := dkwX3_sign_0 ++ []
theorem dksX3_sign_0 : cX3_sign.data.toList.drop 0 = dktX3_sign_0 := by decide +kernel
theorem dX3_sign_0 : decode cX3_sign 0 = .ok (.aload_n 0, 1) := dk_42 (dk_at dksX3_sign_0 0 rfl rfl)
theorem dX3_sign_1 : decode cX3_sign 1 = .ok (.getfield 49, 3) := dk_180 0 49 (dk_at dksX3_sign_0 1 rfl rfl)
theorem dX3_sign_4 : decode cX3_sign 4 = .ok (.aload_n 0, 1) := dk_42 (dk_at dksX3_sign_0 4 rfl rfl)
theorem dX3_sign_5 : decode cX3_sign 5 = .ok (.getfield 272, 3) := dk_180 1 16 (dk_at dksX3_sign_0 5 rfl rfl)
theorem dX3_sign_8 : decode cX3_sign 8 = .ok (.iload_n 1, 1) := dk_27 (dk_at dksX3_sign_0 8 rfl rfl)
theorem dX3_sign_9 : decode cX3_sign 9 = .ok (.iastore, 1) := dk_79 (dk_at dksX3_sign_0 9 rfl rfl)
theorem dX3_sign_10 : decode cX3_sign 10 = .ok (.aload_n 0, 1) := dk_42 (dk_at dksX3_sign_0 10 rfl rfl)
theorem dX3_sign_11 : decode cX3_sign 11 = .ok (.dup, 1) := dk_89 (dk_at dksX3_sign_0 11 rfl rfl)
theorem dX3_sign_12 : decode cX3_sign 12 = .ok (.getfield 272, 3) := dk_180 1 16 (dk_at dksX3_sign_0 12 rfl rfl)
theorem dX3_sign_15 : decode cX3_sign 15 = .ok (.iconst 1, 1) := dk_4 (dk_at dksX3_sign_0 15 rfl rfl)
theorem dX3_sign_16 : decode cX3_sign 16 = .ok (.iadd, 1) := dk_96 (dk_at dksX3_sign_0 16 rfl rfl)
theorem dX3_sign_17 : decode cX3_sign 17 = .ok (.putfield 272, 3) := dk_181 1 16 (dk_at dksX3_sign_0 17 rfl rfl)
theorem dX3_sign_20 : decode cX3_sign 20 = .ok (.return_, 1) := dk_177 (dk_at dksX3_sign_0 20 rfl rfl)
abbrev cX3_character : ByteArray := prog_11_method_85_code
def yX3_character : MethodName := ⟨RX3, "character", "(I)C"⟩
def dkwX3_character_1 : List UInt8 := [182, 0, 64, 87, 16, 97, 172, 42, 180, 0, 49, 27, 46, 146, 172]
abbrev dktX3_character_1 : List UInt8 := dkwX3_character_1 ++ []
def dkwX3_character_0 : List UInt8 := [42, 3, 181, 0, 52, 27, 133, 9, 42, 180, 1, 16, 4, 100, 133, 184, 0, 71, 154, 0, 12, 42, 4]
abbrev dktX3_character_0 : List UInt8 := dkwX3_character_0 ++ dktX3_character_1
theorem dksX3_character_0 : cX3_character.data.toList.drop 0 = dktX3_character_0 := by decide +kernel
theorem dksX3_character_1 : cX3_character.data.toList.drop 23 = dktX3_character_1 := dk_seg dksX3_character_0 23 rfl rfl
theorem dX3_character_0 : decode cX3_character 0 = .ok (.aload_n 0, 1) := dk_42 (dk_at dksX3_character_0 0 rfl rfl)
theorem dX3_character_1 : decode cX3_character 1 = .ok (.iconst 0, 1) := dk_3 (dk_at dksX3_character_0 1 rfl rfl)
theorem dX3_character_2 : decode cX3_character 2 = .ok (.putfield 52, 3) := dk_181 0 52 (dk_at dksX3_character_0 2 rfl rfl)
theorem dX3_character_5 : decode cX3_character 5 = .ok (.iload_n 1, 1) := dk_27 (dk_at dksX3_character_0 5 rfl rfl)
theorem dX3_character_6 : decode cX3_character 6 = .ok (.i2l, 1) := dk_133 (dk_at dksX3_character_0 6 rfl rfl)
theorem dX3_character_7 : decode cX3_character 7 = .ok (.lconst 0, 1) := dk_9 (dk_at dksX3_character_0 7 rfl rfl)
theorem dX3_character_8 : decode cX3_character 8 = .ok (.aload_n 0, 1) := dk_42 (dk_at dksX3_character_0 8 rfl rfl)
theorem dX3_character_9 : decode cX3_character 9 = .ok (.getfield 272, 3) := dk_180 1 16 (dk_at dksX3_character_0 9 rfl rfl)
theorem dX3_character_12 : decode cX3_character 12 = .ok (.iconst 1, 1) := dk_4 (dk_at dksX3_character_0 12 rfl rfl)
theorem dX3_character_13 : decode cX3_character 13 = .ok (.isub, 1) := dk_100 (dk_at dksX3_character_0 13 rfl rfl)
theorem dX3_character_14 : decode cX3_character 14 = .ok (.i2l, 1) := dk_133 (dk_at dksX3_character_0 14 rfl rfl)
theorem dX3_character_15 : decode cX3_character 15 = .ok (.invokestatic 71, 3) := dk_184 0 71 (dk_at dksX3_character_0 15 rfl rfl)
theorem dX3_character_18 : decode cX3_character 18 = .ok (.ifCond .ne 12, 3) := dk_154 0 12 (dk_at dksX3_character_0 18 rfl rfl)
theorem dX3_character_21 : decode cX3_character 21 = .ok (.aload_n 0, 1) := dk_42 (dk_at dksX3_character_0 21 rfl rfl)
theorem dX3_character_22 : decode cX3_character 22 = .ok (.iconst 1, 1) := dk_4 (dk_at dksX3_character_0 22 rfl rfl)
theorem dX3_character_23 : decode cX3_character 23 = .ok (.invokevirtual 64, 3) := dk_182 0 64 (dk_at dksX3_character_1 0 rfl rfl)
theorem dX3_character_26 : decode cX3_character 26 = .ok (.pop, 1) := dk_87 (dk_at dksX3_character_1 3 rfl rfl)
theorem dX3_character_27 : decode cX3_character 27 = .ok (.bipush 97, 2) := dk_16 97 (dk_at dksX3_character_1 4 rfl rfl)
theorem dX3_character_29 : decode cX3_character 29 = .ok (.ireturn, 1) := dk_172 (dk_at dksX3_character_1 6 rfl rfl)
theorem dX3_character_30 : decode cX3_character 30 = .ok (.aload_n 0, 1) := dk_42 (dk_at dksX3_character_1 7 rfl rfl)
theorem dX3_character_31 : decode cX3_character 31 = .ok (.getfield 49, 3) := dk_180 0 49 (dk_at dksX3_character_1 8 rfl rfl)
theorem dX3_character_34 : decode cX3_character 34 = .ok (.iload_n 1, 1) := dk_27 (dk_at dksX3_character_1 11 rfl rfl)
theorem dX3_character_35 : decode cX3_character 35 = .ok (.iaload, 1) := dk_46 (dk_at dksX3_character_1 12 rfl rfl)
theorem dX3_character_36 : decode cX3_character 36 = .ok (.i2c, 1) := dk_146 (dk_at dksX3_character_1 13 rfl rfl)
theorem dX3_character_37 : decode cX3_character 37 = .ok (.ireturn, 1) := dk_172 (dk_at dksX3_character_1 14 rfl rfl)
abbrev cX3_meanQuality : ByteArray := prog_11_method_87_code
def yX3_meanQuality : MethodName := ⟨RX3, "meanQuality", "()D"⟩
def dkwX3_meanQuality_2 : List UInt8 := [8, 182, 1, 22, 61, 28, 154, 0, 11, 42, 4, 182, 0, 64, 87, 14, 175, 27, 135, 28, 135, 111, 175]
abbrev dktX3_meanQuality_2 : List UInt8 := dkwX3_meanQuality_2 ++ []
def dkwX3_meanQuality_1 : List UInt8 := [182, 0, 106, 153, 0, 11, 42, 28, 182, 0, 112, 167, 0, 4, 3, 96, 60, 132, 2, 1, 167, 255, 223, 42]
abbrev dktX3_meanQuality_1 : List UInt8 := dkwX3_meanQuality_1 ++ dktX3_meanQuality_2
def dkwX3_meanQuality_0 : List UInt8 := [42, 3, 181, 0, 52, 3, 60, 3, 61, 28, 42, 180, 0, 9, 3, 46, 162, 0, 29, 27, 42, 28]
abbrev dktX3_meanQuality_0 : List UInt8 := dkwX3_meanQuality_0 ++ dktX3_meanQuality_1
theorem dksX3_meanQuality_0 : cX3_meanQuality.data.toList.drop 0 = dktX3_meanQuality_0 := by decide +kernel
theorem dksX3_meanQuality_1 : cX3_meanQuality.data.toList.drop 22 = dktX3_meanQuality_1 := dk_seg dksX3_meanQuality_0 22 rfl rfl
theorem dksX3_meanQuality_2 : cX3_meanQuality.data.toList.drop 46 = dktX3_meanQuality_2 := dk_seg dksX3_meanQuality_1 24 rfl rfl
theorem dX3_meanQuality_0 : decode cX3_meanQuality 0 = .ok (.aload_n 0, 1) := dk_42 (dk_at dksX3_meanQuality_0 0 rfl rfl)
theorem dX3_meanQuality_1 : decode cX3_meanQuality 1 = .ok (.iconst 0, 1) := dk_3 (dk_at dksX3_meanQuality_0 1 rfl rfl)
theorem dX3_meanQuality_2 : decode cX3_meanQuality 2 = .ok (.putfield 52, 3) := dk_181 0 52 (dk_at dksX3_meanQuality_0 2 rfl rfl)
theorem dX3_meanQuality_5 : decode cX3_meanQuality 5 = .ok (.iconst 0, 1) := dk_3 (dk_at dksX3_meanQuality_0 5 rfl rfl)
theorem dX3_meanQuality_6 : decode cX3_meanQuality 6 = .ok (.istore_n 1, 1) := dk_60 (dk_at dksX3_meanQuality_0 6 rfl rfl)
theorem dX3_meanQuality_7 : decode cX3_meanQuality 7 = .ok (.iconst 0, 1) := dk_3 (dk_at dksX3_meanQuality_0 7 rfl rfl)
theorem dX3_meanQuality_8 : decode cX3_meanQuality 8 = .ok (.istore_n 2, 1) := dk_61 (dk_at dksX3_meanQuality_0 8 rfl rfl)
theorem dX3_meanQuality_9 : decode cX3_meanQuality 9 = .ok (.iload_n 2, 1) := dk_28 (dk_at dksX3_meanQuality_0 9 rfl rfl)
theorem dX3_meanQuality_10 : decode cX3_meanQuality 10 = .ok (.aload_n 0, 1) := dk_42 (dk_at dksX3_meanQuality_0 10 rfl rfl)
theorem dX3_meanQuality_11 : decode cX3_meanQuality 11 = .ok (.getfield 9, 3) := dk_180 0 9 (dk_at dksX3_meanQuality_0 11 rfl rfl)
theorem dX3_meanQuality_14 : decode cX3_meanQuality 14 = .ok (.iconst 0, 1) := dk_3 (dk_at dksX3_meanQuality_0 14 rfl rfl)
theorem dX3_meanQuality_15 : decode cX3_meanQuality 15 = .ok (.iaload, 1) := dk_46 (dk_at dksX3_meanQuality_0 15 rfl rfl)
theorem dX3_meanQuality_16 : decode cX3_meanQuality 16 = .ok (.if_icmp .ge 29, 3) := dk_162 0 29 (dk_at dksX3_meanQuality_0 16 rfl rfl)
theorem dX3_meanQuality_19 : decode cX3_meanQuality 19 = .ok (.iload_n 1, 1) := dk_27 (dk_at dksX3_meanQuality_0 19 rfl rfl)
theorem dX3_meanQuality_20 : decode cX3_meanQuality 20 = .ok (.aload_n 0, 1) := dk_42 (dk_at dksX3_meanQuality_0 20 rfl rfl)
theorem dX3_meanQuality_21 : decode cX3_meanQuality 21 = .ok (.iload_n 2, 1) := dk_28 (dk_at dksX3_meanQuality_0 21 rfl rfl)
theorem dX3_meanQuality_22 : decode cX3_meanQuality 22 = .ok (.invokevirtual 106, 3) := dk_182 0 106 (dk_at dksX3_meanQuality_1 0 rfl rfl)
theorem dX3_meanQuality_25 : decode cX3_meanQuality 25 = .ok (.ifCond .eq 11, 3) := dk_153 0 11 (dk_at dksX3_meanQuality_1 3 rfl rfl)
theorem dX3_meanQuality_28 : decode cX3_meanQuality 28 = .ok (.aload_n 0, 1) := dk_42 (dk_at dksX3_meanQuality_1 6 rfl rfl)
theorem dX3_meanQuality_29 : decode cX3_meanQuality 29 = .ok (.iload_n 2, 1) := dk_28 (dk_at dksX3_meanQuality_1 7 rfl rfl)
theorem dX3_meanQuality_30 : decode cX3_meanQuality 30 = .ok (.invokevirtual 112, 3) := dk_182 0 112 (dk_at dksX3_meanQuality_1 8 rfl rfl)
theorem dX3_meanQuality_33 : decode cX3_meanQuality 33 = .ok (.goto 4, 3) := dk_167 0 4 (dk_at dksX3_meanQuality_1 11 rfl rfl)
theorem dX3_meanQuality_36 : decode cX3_meanQuality 36 = .ok (.iconst 0, 1) := dk_3 (dk_at dksX3_meanQuality_1 14 rfl rfl)
theorem dX3_meanQuality_37 : decode cX3_meanQuality 37 = .ok (.iadd, 1) := dk_96 (dk_at dksX3_meanQuality_1 15 rfl rfl)
theorem dX3_meanQuality_38 : decode cX3_meanQuality 38 = .ok (.istore_n 1, 1) := dk_60 (dk_at dksX3_meanQuality_1 16 rfl rfl)
theorem dX3_meanQuality_39 : decode cX3_meanQuality 39 = .ok (.iinc 2 1, 3) := dk_132 2 1 (dk_at dksX3_meanQuality_1 17 rfl rfl)
theorem dX3_meanQuality_42 : decode cX3_meanQuality 42 = .ok (.goto (-33), 3) := dk_167 255 223 (dk_at dksX3_meanQuality_1 20 rfl rfl)
theorem dX3_meanQuality_45 : decode cX3_meanQuality 45 = .ok (.aload_n 0, 1) := dk_42 (dk_at dksX3_meanQuality_1 23 rfl rfl)
theorem dX3_meanQuality_46 : decode cX3_meanQuality 46 = .ok (.iconst 5, 1) := dk_8 (dk_at dksX3_meanQuality_2 0 rfl rfl)
theorem dX3_meanQuality_47 : decode cX3_meanQuality 47 = .ok (.invokevirtual 278, 3) := dk_182 1 22 (dk_at dksX3_meanQuality_2 1 rfl rfl)
theorem dX3_meanQuality_50 : decode cX3_meanQuality 50 = .ok (.istore_n 2, 1) := dk_61 (dk_at dksX3_meanQuality_2 4 rfl rfl)
theorem dX3_meanQuality_51 : decode cX3_meanQuality 51 = .ok (.iload_n 2, 1) := dk_28 (dk_at dksX3_meanQuality_2 5 rfl rfl)
theorem dX3_meanQuality_52 : decode cX3_meanQuality 52 = .ok (.ifCond .ne 11, 3) := dk_154 0 11 (dk_at dksX3_meanQuality_2 6 rfl rfl)
theorem dX3_meanQuality_55 : decode cX3_meanQuality 55 = .ok (.aload_n 0, 1) := dk_42 (dk_at dksX3_meanQuality_2 9 rfl rfl)
theorem dX3_meanQuality_56 : decode cX3_meanQuality 56 = .ok (.iconst 1, 1) := dk_4 (dk_at dksX3_meanQuality_2 10 rfl rfl)
theorem dX3_meanQuality_57 : decode cX3_meanQuality 57 = .ok (.invokevirtual 64, 3) := dk_182 0 64 (dk_at dksX3_meanQuality_2 11 rfl rfl)
theorem dX3_meanQuality_60 : decode cX3_meanQuality 60 = .ok (.pop, 1) := dk_87 (dk_at dksX3_meanQuality_2 14 rfl rfl)
theorem dX3_meanQuality_61 : decode cX3_meanQuality 61 = .ok (.dconst 0, 1) := dk_14 (dk_at dksX3_meanQuality_2 15 rfl rfl)
theorem dX3_meanQuality_62 : decode cX3_meanQuality 62 = .ok (.dreturn, 1) := dk_175 (dk_at dksX3_meanQuality_2 16 rfl rfl)
theorem dX3_meanQuality_63 : decode cX3_meanQuality 63 = .ok (.iload_n 1, 1) := dk_27 (dk_at dksX3_meanQuality_2 17 rfl rfl)
theorem dX3_meanQuality_64 : decode cX3_meanQuality 64 = .ok (.i2d, 1) := dk_135 (dk_at dksX3_meanQuality_2 18 rfl rfl)
theorem dX3_meanQuality_65 : decode cX3_meanQuality 65 = .ok (.iload_n 2, 1) := dk_28 (dk_at dksX3_meanQuality_2 19 rfl rfl)
theorem dX3_meanQuality_66 : decode cX3_meanQuality 66 = .ok (.i2d, 1) := dk_135 (dk_at dksX3_meanQuality_2 20 rfl rfl)
theorem dX3_meanQuality_67 : decode cX3_meanQuality 67 = .ok (.ddiv, 1) := dk_111 (dk_at dksX3_meanQuality_2 21 rfl rfl)
theorem dX3_meanQuality_68 : decode cX3_meanQuality 68 = .ok (.dreturn, 1) := dk_175 (dk_at dksX3_meanQuality_2 22 rfl rfl)
abbrev cX3_ofReaches : ByteArray := prog_11_method_86_code
def yX3_ofReaches : MethodName := ⟨RX3, "ofReaches", "(I)I"⟩
def dkwX3_ofReaches_1 : List UInt8 := [96, 46, 96, 61, 132, 3, 1, 167, 255, 229, 28, 172]
abbrev dktX3_ofReaches_1 : List UInt8 := dkwX3_ofReaches_1 ++ []
def dkwX3_ofReaches_0 : List UInt8 := [3, 61, 3, 62, 29, 42, 180, 0, 9, 3, 46, 162, 0, 23, 28, 42, 180, 0, 9, 29, 184, 0, 86, 27]
abbrev dktX3_ofReaches_0 : List UInt8 := dkwX3_ofReaches_0 ++ dktX3_ofReaches_1
theorem dksX3_ofReaches_0 : cX3_ofReaches.data.toList.drop 0 = dktX3_ofReaches_0 := by decide +kernel
theorem dksX3_ofReaches_1 : cX3_ofReaches.data.toList.drop 24 = dktX3_ofReaches_1 := dk_seg dksX3_ofReaches_0 24 rfl rfl
theorem dX3_ofReaches_0 : decode cX3_ofReaches 0 = .ok (.iconst 0, 1) := dk_3 (dk_at dksX3_ofReaches_0 0 rfl rfl)
theorem dX3_ofReaches_1 : decode cX3_ofReaches 1 = .ok (.istore_n 2, 1) := dk_61 (dk_at dksX3_ofReaches_0 1 rfl rfl)
theorem dX3_ofReaches_2 : decode cX3_ofReaches 2 = .ok (.iconst 0, 1) := dk_3 (dk_at dksX3_ofReaches_0 2 rfl rfl)
theorem dX3_ofReaches_3 : decode cX3_ofReaches 3 = .ok (.istore_n 3, 1) := dk_62 (dk_at dksX3_ofReaches_0 3 rfl rfl)
theorem dX3_ofReaches_4 : decode cX3_ofReaches 4 = .ok (.iload_n 3, 1) := dk_29 (dk_at dksX3_ofReaches_0 4 rfl rfl)
theorem dX3_ofReaches_5 : decode cX3_ofReaches 5 = .ok (.aload_n 0, 1) := dk_42 (dk_at dksX3_ofReaches_0 5 rfl rfl)
theorem dX3_ofReaches_6 : decode cX3_ofReaches 6 = .ok (.getfield 9, 3) := dk_180 0 9 (dk_at dksX3_ofReaches_0 6 rfl rfl)
theorem dX3_ofReaches_9 : decode cX3_ofReaches 9 = .ok (.iconst 0, 1) := dk_3 (dk_at dksX3_ofReaches_0 9 rfl rfl)
theorem dX3_ofReaches_10 : decode cX3_ofReaches 10 = .ok (.iaload, 1) := dk_46 (dk_at dksX3_ofReaches_0 10 rfl rfl)
theorem dX3_ofReaches_11 : decode cX3_ofReaches 11 = .ok (.if_icmp .ge 23, 3) := dk_162 0 23 (dk_at dksX3_ofReaches_0 11 rfl rfl)
theorem dX3_ofReaches_14 : decode cX3_ofReaches 14 = .ok (.iload_n 2, 1) := dk_28 (dk_at dksX3_ofReaches_0 14 rfl rfl)
theorem dX3_ofReaches_15 : decode cX3_ofReaches 15 = .ok (.aload_n 0, 1) := dk_42 (dk_at dksX3_ofReaches_0 15 rfl rfl)
theorem dX3_ofReaches_16 : decode cX3_ofReaches 16 = .ok (.getfield 9, 3) := dk_180 0 9 (dk_at dksX3_ofReaches_0 16 rfl rfl)
theorem dX3_ofReaches_19 : decode cX3_ofReaches 19 = .ok (.iload_n 3, 1) := dk_29 (dk_at dksX3_ofReaches_0 19 rfl rfl)
theorem dX3_ofReaches_20 : decode cX3_ofReaches 20 = .ok (.invokestatic 86, 3) := dk_184 0 86 (dk_at dksX3_ofReaches_0 20 rfl rfl)
theorem dX3_ofReaches_23 : decode cX3_ofReaches 23 = .ok (.iload_n 1, 1) := dk_27 (dk_at dksX3_ofReaches_0 23 rfl rfl)
theorem dX3_ofReaches_24 : decode cX3_ofReaches 24 = .ok (.iadd, 1) := dk_96 (dk_at dksX3_ofReaches_1 0 rfl rfl)
theorem dX3_ofReaches_25 : decode cX3_ofReaches 25 = .ok (.iaload, 1) := dk_46 (dk_at dksX3_ofReaches_1 1 rfl rfl)
theorem dX3_ofReaches_26 : decode cX3_ofReaches 26 = .ok (.iadd, 1) := dk_96 (dk_at dksX3_ofReaches_1 2 rfl rfl)
theorem dX3_ofReaches_27 : decode cX3_ofReaches 27 = .ok (.istore_n 2, 1) := dk_61 (dk_at dksX3_ofReaches_1 3 rfl rfl)
theorem dX3_ofReaches_28 : decode cX3_ofReaches 28 = .ok (.iinc 3 1, 3) := dk_132 3 1 (dk_at dksX3_ofReaches_1 4 rfl rfl)
theorem dX3_ofReaches_31 : decode cX3_ofReaches 31 = .ok (.goto (-27), 3) := dk_167 255 229 (dk_at dksX3_ofReaches_1 7 rfl rfl)
theorem dX3_ofReaches_34 : decode cX3_ofReaches 34 = .ok (.iload_n 2, 1) := dk_28 (dk_at dksX3_ofReaches_1 10 rfl rfl)
theorem dX3_ofReaches_35 : decode cX3_ofReaches 35 = .ok (.ireturn, 1) := dk_172 (dk_at dksX3_ofReaches_1 11 rfl rfl)
abbrev cX3_countedShare : ByteArray := prog_11_method_88_code
def yX3_countedShare : MethodName := ⟨RX3, "countedShare", "()F"⟩
def dkwX3_countedShare_1 : List UInt8 := [180, 0, 9, 16, 9, 46, 134, 42, 180, 0, 9, 16, 8, 46, 134, 110, 174]
abbrev dktX3_countedShare_1 : List UInt8 := dkwX3_countedShare_1 ++ []
def dkwX3_countedShare_0 : List UInt8 := [42, 3, 181, 0, 52, 42, 180, 0, 9, 16, 8, 46, 154, 0, 11, 42, 4, 182, 0, 64, 87, 11, 174, 42]
abbrev dktX3_countedShare_0 : List UInt8 := dkwX3_countedShare_0 ++ dktX3_countedShare_1
theorem dksX3_countedShare_0 : cX3_countedShare.data.toList.drop 0 = dktX3_countedShare_0 := by decide +kernel
theorem dksX3_countedShare_1 : cX3_countedShare.data.toList.drop 24 = dktX3_countedShare_1 := dk_seg dksX3_countedShare_0 24 rfl rfl
theorem dX3_countedShare_0 : decode cX3_countedShare 0 = .ok (.aload_n 0, 1) := dk_42 (dk_at dksX3_countedShare_0 0 rfl rfl)
theorem dX3_countedShare_1 : decode cX3_countedShare 1 = .ok (.iconst 0, 1) := dk_3 (dk_at dksX3_countedShare_0 1 rfl rfl)
theorem dX3_countedShare_2 : decode cX3_countedShare 2 = .ok (.putfield 52, 3) := dk_181 0 52 (dk_at dksX3_countedShare_0 2 rfl rfl)
theorem dX3_countedShare_5 : decode cX3_countedShare 5 = .ok (.aload_n 0, 1) := dk_42 (dk_at dksX3_countedShare_0 5 rfl rfl)
theorem dX3_countedShare_6 : decode cX3_countedShare 6 = .ok (.getfield 9, 3) := dk_180 0 9 (dk_at dksX3_countedShare_0 6 rfl rfl)
theorem dX3_countedShare_9 : decode cX3_countedShare 9 = .ok (.bipush 8, 2) := dk_16 8 (dk_at dksX3_countedShare_0 9 rfl rfl)
theorem dX3_countedShare_11 : decode cX3_countedShare 11 = .ok (.iaload, 1) := dk_46 (dk_at dksX3_countedShare_0 11 rfl rfl)
theorem dX3_countedShare_12 : decode cX3_countedShare 12 = .ok (.ifCond .ne 11, 3) := dk_154 0 11 (dk_at dksX3_countedShare_0 12 rfl rfl)
theorem dX3_countedShare_15 : decode cX3_countedShare 15 = .ok (.aload_n 0, 1) := dk_42 (dk_at dksX3_countedShare_0 15 rfl rfl)
theorem dX3_countedShare_16 : decode cX3_countedShare 16 = .ok (.iconst 1, 1) := dk_4 (dk_at dksX3_countedShare_0 16 rfl rfl)
theorem dX3_countedShare_17 : decode cX3_countedShare 17 = .ok (.invokevirtual 64, 3) := dk_182 0 64 (dk_at dksX3_countedShare_0 17 rfl rfl)
theorem dX3_countedShare_20 : decode cX3_countedShare 20 = .ok (.pop, 1) := dk_87 (dk_at dksX3_countedShare_0 20 rfl rfl)
theorem dX3_countedShare_21 : decode cX3_countedShare 21 = .ok (.fconst 0, 1) := dk_11 (dk_at dksX3_countedShare_0 21 rfl rfl)
theorem dX3_countedShare_22 : decode cX3_countedShare 22 = .ok (.freturn, 1) := dk_174 (dk_at dksX3_countedShare_0 22 rfl rfl)
theorem dX3_countedShare_23 : decode cX3_countedShare 23 = .ok (.aload_n 0, 1) := dk_42 (dk_at dksX3_countedShare_0 23 rfl rfl)
theorem dX3_countedShare_24 : decode cX3_countedShare 24 = .ok (.getfield 9, 3) := dk_180 0 9 (dk_at dksX3_countedShare_1 0 rfl rfl)
theorem dX3_countedShare_27 : decode cX3_countedShare 27 = .ok (.bipush 9, 2) := dk_16 9 (dk_at dksX3_countedShare_1 3 rfl rfl)
theorem dX3_countedShare_29 : decode cX3_countedShare 29 = .ok (.iaload, 1) := dk_46 (dk_at dksX3_countedShare_1 5 rfl rfl)
theorem dX3_countedShare_30 : decode cX3_countedShare 30 = .ok (.i2f, 1) := dk_134 (dk_at dksX3_countedShare_1 6 rfl rfl)
theorem dX3_countedShare_31 : decode cX3_countedShare 31 = .ok (.aload_n 0, 1) := dk_42 (dk_at dksX3_countedShare_1 7 rfl rfl)
theorem dX3_countedShare_32 : decode cX3_countedShare 32 = .ok (.getfield 9, 3) := dk_180 0 9 (dk_at dksX3_countedShare_1 8 rfl rfl)
theorem dX3_countedShare_35 : decode cX3_countedShare 35 = .ok (.bipush 8, 2) := dk_16 8 (dk_at dksX3_countedShare_1 11 rfl rfl)
theorem dX3_countedShare_37 : decode cX3_countedShare 37 = .ok (.iaload, 1) := dk_46 (dk_at dksX3_countedShare_1 13 rfl rfl)
theorem dX3_countedShare_38 : decode cX3_countedShare 38 = .ok (.i2f, 1) := dk_134 (dk_at dksX3_countedShare_1 14 rfl rfl)
theorem dX3_countedShare_39 : decode cX3_countedShare 39 = .ok (.fdiv, 1) := dk_110 (dk_at dksX3_countedShare_1 15 rfl rfl)
theorem dX3_countedShare_40 : decode cX3_countedShare 40 = .ok (.freturn, 1) := dk_174 (dk_at dksX3_countedShare_1 16 rfl rfl)
abbrev cX3_account : ByteArray := prog_11_method_90_code
def yX3_account : MethodName := ⟨RX3, "account", "(I)I"⟩
def dkwX3_account_7 : List UInt8 := [172, 42, 180, 0, 68, 172, 42, 4, 182, 0, 64, 172]
abbrev dktX3_account_7 : List UInt8 := dkwX3_account_7 ++ []
def dkwX3_account_6 : List UInt8 := [16, 9, 46, 172, 42, 180, 0, 9, 16, 10, 46, 172, 42, 180, 0, 9, 16, 11, 46, 172, 42, 180, 0, 228]
abbrev dktX3_account_6 : List UInt8 := dkwX3_account_6 ++ dktX3_account_7
def dkwX3_account_5 : List UInt8 := [180, 0, 9, 7, 46, 172, 42, 5, 182, 1, 22, 172, 42, 180, 0, 9, 16, 8, 46, 172, 42, 180, 0, 9]
abbrev dktX3_account_5 : List UInt8 := dkwX3_account_5 ++ dktX3_account_6
def dkwX3_account_4 : List UInt8 := [16, 7, 46, 172, 42, 180, 0, 9, 8, 46, 172, 42, 182, 0, 170, 172, 42, 180, 0, 9, 6, 46, 172, 42]
abbrev dktX3_account_4 : List UInt8 := dkwX3_account_4 ++ dktX3_account_5
def dkwX3_account_3 : List UInt8 := [182, 0, 189, 172, 42, 16, 6, 182, 1, 22, 172, 42, 180, 0, 9, 16, 6, 46, 172, 42, 180, 0, 9]
abbrev dktX3_account_3 : List UInt8 := dkwX3_account_3 ++ dktX3_account_4
def dkwX3_account_2 : List UInt8 := [42, 180, 0, 9, 3, 46, 172, 42, 8, 182, 1, 22, 172, 42, 180, 0, 9, 4, 46, 172, 42, 27, 6, 100]
abbrev dktX3_account_2 : List UInt8 := dkwX3_account_2 ++ dktX3_account_3
def dkwX3_account_1 : List UInt8 := [170, 0, 0, 0, 0, 219, 0, 0, 0, 0, 0, 0, 0, 19, 0, 0, 0, 94, 0, 0, 0, 101, 0, 0, 0, 107, 0, 0, 0, 114, 0, 0, 0, 114, 0, 0, 0, 114, 0, 0, 0, 122, 0, 0, 0, 129, 0, 0, 0, 137, 0, 0, 0, 145, 0, 0, 0, 152, 0, 0, 0, 157, 0, 0, 0, 164, 0, 0, 0, 171, 0, 0, 0, 177, 0, 0, 0, 185, 0, 0, 0, 193, 0, 0, 0, 201, 0, 0, 0, 209, 0, 0, 0, 214]
abbrev dktX3_account_1 : List UInt8 := dkwX3_account_1 ++ dktX3_account_2
def dkwX3_account_0 : List UInt8 := [42, 3, 181, 0, 52, 27]
abbrev dktX3_account_0 : List UInt8 := dkwX3_account_0 ++ dktX3_account_1
theorem dksX3_account_0 : cX3_account.data.toList.drop 0 = dktX3_account_0 := by decide +kernel
theorem dksX3_account_1 : cX3_account.data.toList.drop 6 = dktX3_account_1 := dk_seg dksX3_account_0 6 rfl rfl
theorem dksX3_account_2 : cX3_account.data.toList.drop 100 = dktX3_account_2 := dk_seg dksX3_account_1 94 rfl rfl
theorem dksX3_account_3 : cX3_account.data.toList.drop 124 = dktX3_account_3 := dk_seg dksX3_account_2 24 rfl rfl
theorem dksX3_account_4 : cX3_account.data.toList.drop 147 = dktX3_account_4 := dk_seg dksX3_account_3 23 rfl rfl
theorem dksX3_account_5 : cX3_account.data.toList.drop 171 = dktX3_account_5 := dk_seg dksX3_account_4 24 rfl rfl
theorem dksX3_account_6 : cX3_account.data.toList.drop 195 = dktX3_account_6 := dk_seg dksX3_account_5 24 rfl rfl
theorem dksX3_account_7 : cX3_account.data.toList.drop 219 = dktX3_account_7 := dk_seg dksX3_account_6 24 rfl rfl
theorem dX3_account_0 : decode cX3_account 0 = .ok (.aload_n 0, 1) := dk_42 (dk_at dksX3_account_0 0 rfl rfl)
theorem dX3_account_1 : decode cX3_account 1 = .ok (.iconst 0, 1) := dk_3 (dk_at dksX3_account_0 1 rfl rfl)
theorem dX3_account_2 : decode cX3_account 2 = .ok (.putfield 52, 3) := dk_181 0 52 (dk_at dksX3_account_0 2 rfl rfl)
theorem dX3_account_5 : decode cX3_account 5 = .ok (.iload_n 1, 1) := dk_27 (dk_at dksX3_account_0 5 rfl rfl)
theorem dX3_account_6 : decode cX3_account 6 = .ok (.tableswitch 219 0 19 #[94, 101, 107, 114, 114, 114, 122, 129, 137, 145, 152, 157, 164, 171, 177, 185, 193, 201, 209, 214], 94) := by decide +kernel
theorem dX3_account_100 : decode cX3_account 100 = .ok (.aload_n 0, 1) := dk_42 (dk_at dksX3_account_2 0 rfl rfl)
theorem dX3_account_101 : decode cX3_account 101 = .ok (.getfield 9, 3) := dk_180 0 9 (dk_at dksX3_account_2 1 rfl rfl)
theorem dX3_account_104 : decode cX3_account 104 = .ok (.iconst 0, 1) := dk_3 (dk_at dksX3_account_2 4 rfl rfl)
theorem dX3_account_105 : decode cX3_account 105 = .ok (.iaload, 1) := dk_46 (dk_at dksX3_account_2 5 rfl rfl)
theorem dX3_account_106 : decode cX3_account 106 = .ok (.ireturn, 1) := dk_172 (dk_at dksX3_account_2 6 rfl rfl)
theorem dX3_account_107 : decode cX3_account 107 = .ok (.aload_n 0, 1) := dk_42 (dk_at dksX3_account_2 7 rfl rfl)
theorem dX3_account_108 : decode cX3_account 108 = .ok (.iconst 5, 1) := dk_8 (dk_at dksX3_account_2 8 rfl rfl)
theorem dX3_account_109 : decode cX3_account 109 = .ok (.invokevirtual 278, 3) := dk_182 1 22 (dk_at dksX3_account_2 9 rfl rfl)
theorem dX3_account_112 : decode cX3_account 112 = .ok (.ireturn, 1) := dk_172 (dk_at dksX3_account_2 12 rfl rfl)
theorem dX3_account_113 : decode cX3_account 113 = .ok (.aload_n 0, 1) := dk_42 (dk_at dksX3_account_2 13 rfl rfl)
theorem dX3_account_114 : decode cX3_account 114 = .ok (.getfield 9, 3) := dk_180 0 9 (dk_at dksX3_account_2 14 rfl rfl)
theorem dX3_account_117 : decode cX3_account 117 = .ok (.iconst 1, 1) := dk_4 (dk_at dksX3_account_2 17 rfl rfl)
theorem dX3_account_118 : decode cX3_account 118 = .ok (.iaload, 1) := dk_46 (dk_at dksX3_account_2 18 rfl rfl)
theorem dX3_account_119 : decode cX3_account 119 = .ok (.ireturn, 1) := dk_172 (dk_at dksX3_account_2 19 rfl rfl)
theorem dX3_account_120 : decode cX3_account 120 = .ok (.aload_n 0, 1) := dk_42 (dk_at dksX3_account_2 20 rfl rfl)
theorem dX3_account_121 : decode cX3_account 121 = .ok (.iload_n 1, 1) := dk_27 (dk_at dksX3_account_2 21 rfl rfl)
theorem dX3_account_122 : decode cX3_account 122 = .ok (.iconst 3, 1) := dk_6 (dk_at dksX3_account_2 22 rfl rfl)
theorem dX3_account_123 : decode cX3_account 123 = .ok (.isub, 1) := dk_100 (dk_at dksX3_account_2 23 rfl rfl)
theorem dX3_account_124 : decode cX3_account 124 = .ok (.invokevirtual 189, 3) := dk_182 0 189 (dk_at dksX3_account_3 0 rfl rfl)
theorem dX3_account_127 : decode cX3_account 127 = .ok (.ireturn, 1) := dk_172 (dk_at dksX3_account_3 3 rfl rfl)
theorem dX3_account_128 : decode cX3_account 128 = .ok (.aload_n 0, 1) := dk_42 (dk_at dksX3_account_3 4 rfl rfl)
theorem dX3_account_129 : decode cX3_account 129 = .ok (.bipush 6, 2) := dk_16 6 (dk_at dksX3_account_3 5 rfl rfl)
theorem dX3_account_131 : decode cX3_account 131 = .ok (.invokevirtual 278, 3) := dk_182 1 22 (dk_at dksX3_account_3 7 rfl rfl)
theorem dX3_account_134 : decode cX3_account 134 = .ok (.ireturn, 1) := dk_172 (dk_at dksX3_account_3 10 rfl rfl)
theorem dX3_account_135 : decode cX3_account 135 = .ok (.aload_n 0, 1) := dk_42 (dk_at dksX3_account_3 11 rfl rfl)
theorem dX3_account_136 : decode cX3_account 136 = .ok (.getfield 9, 3) := dk_180 0 9 (dk_at dksX3_account_3 12 rfl rfl)
theorem dX3_account_139 : decode cX3_account 139 = .ok (.bipush 6, 2) := dk_16 6 (dk_at dksX3_account_3 15 rfl rfl)
theorem dX3_account_141 : decode cX3_account 141 = .ok (.iaload, 1) := dk_46 (dk_at dksX3_account_3 17 rfl rfl)
theorem dX3_account_142 : decode cX3_account 142 = .ok (.ireturn, 1) := dk_172 (dk_at dksX3_account_3 18 rfl rfl)
theorem dX3_account_143 : decode cX3_account 143 = .ok (.aload_n 0, 1) := dk_42 (dk_at dksX3_account_3 19 rfl rfl)
theorem dX3_account_144 : decode cX3_account 144 = .ok (.getfield 9, 3) := dk_180 0 9 (dk_at dksX3_account_3 20 rfl rfl)
theorem dX3_account_147 : decode cX3_account 147 = .ok (.bipush 7, 2) := dk_16 7 (dk_at dksX3_account_4 0 rfl rfl)
theorem dX3_account_149 : decode cX3_account 149 = .ok (.iaload, 1) := dk_46 (dk_at dksX3_account_4 2 rfl rfl)
theorem dX3_account_150 : decode cX3_account 150 = .ok (.ireturn, 1) := dk_172 (dk_at dksX3_account_4 3 rfl rfl)
theorem dX3_account_151 : decode cX3_account 151 = .ok (.aload_n 0, 1) := dk_42 (dk_at dksX3_account_4 4 rfl rfl)
theorem dX3_account_152 : decode cX3_account 152 = .ok (.getfield 9, 3) := dk_180 0 9 (dk_at dksX3_account_4 5 rfl rfl)
theorem dX3_account_155 : decode cX3_account 155 = .ok (.iconst 5, 1) := dk_8 (dk_at dksX3_account_4 8 rfl rfl)
theorem dX3_account_156 : decode cX3_account 156 = .ok (.iaload, 1) := dk_46 (dk_at dksX3_account_4 9 rfl rfl)
theorem dX3_account_157 : decode cX3_account 157 = .ok (.ireturn, 1) := dk_172 (dk_at dksX3_account_4 10 rfl rfl)
theorem dX3_account_158 : decode cX3_account 158 = .ok (.aload_n 0, 1) := dk_42 (dk_at dksX3_account_4 11 rfl rfl)
theorem dX3_account_159 : decode cX3_account 159 = .ok (.invokevirtual 170, 3) := dk_182 0 170 (dk_at dksX3_account_4 12 rfl rfl)
theorem dX3_account_162 : decode cX3_account 162 = .ok (.ireturn, 1) := dk_172 (dk_at dksX3_account_4 15 rfl rfl)
theorem dX3_account_163 : decode cX3_account 163 = .ok (.aload_n 0, 1) := dk_42 (dk_at dksX3_account_4 16 rfl rfl)
theorem dX3_account_164 : decode cX3_account 164 = .ok (.getfield 9, 3) := dk_180 0 9 (dk_at dksX3_account_4 17 rfl rfl)
theorem dX3_account_167 : decode cX3_account 167 = .ok (.iconst 3, 1) := dk_6 (dk_at dksX3_account_4 20 rfl rfl)
theorem dX3_account_168 : decode cX3_account 168 = .ok (.iaload, 1) := dk_46 (dk_at dksX3_account_4 21 rfl rfl)
theorem dX3_account_169 : decode cX3_account 169 = .ok (.ireturn, 1) := dk_172 (dk_at dksX3_account_4 22 rfl rfl)
theorem dX3_account_170 : decode cX3_account 170 = .ok (.aload_n 0, 1) := dk_42 (dk_at dksX3_account_4 23 rfl rfl)
theorem dX3_account_171 : decode cX3_account 171 = .ok (.getfield 9, 3) := dk_180 0 9 (dk_at dksX3_account_5 0 rfl rfl)
theorem dX3_account_174 : decode cX3_account 174 = .ok (.iconst 4, 1) := dk_7 (dk_at dksX3_account_5 3 rfl rfl)
theorem dX3_account_175 : decode cX3_account 175 = .ok (.iaload, 1) := dk_46 (dk_at dksX3_account_5 4 rfl rfl)
theorem dX3_account_176 : decode cX3_account 176 = .ok (.ireturn, 1) := dk_172 (dk_at dksX3_account_5 5 rfl rfl)
theorem dX3_account_177 : decode cX3_account 177 = .ok (.aload_n 0, 1) := dk_42 (dk_at dksX3_account_5 6 rfl rfl)
theorem dX3_account_178 : decode cX3_account 178 = .ok (.iconst 2, 1) := dk_5 (dk_at dksX3_account_5 7 rfl rfl)
theorem dX3_account_179 : decode cX3_account 179 = .ok (.invokevirtual 278, 3) := dk_182 1 22 (dk_at dksX3_account_5 8 rfl rfl)
theorem dX3_account_182 : decode cX3_account 182 = .ok (.ireturn, 1) := dk_172 (dk_at dksX3_account_5 11 rfl rfl)
theorem dX3_account_183 : decode cX3_account 183 = .ok (.aload_n 0, 1) := dk_42 (dk_at dksX3_account_5 12 rfl rfl)
theorem dX3_account_184 : decode cX3_account 184 = .ok (.getfield 9, 3) := dk_180 0 9 (dk_at dksX3_account_5 13 rfl rfl)
theorem dX3_account_187 : decode cX3_account 187 = .ok (.bipush 8, 2) := dk_16 8 (dk_at dksX3_account_5 16 rfl rfl)
theorem dX3_account_189 : decode cX3_account 189 = .ok (.iaload, 1) := dk_46 (dk_at dksX3_account_5 18 rfl rfl)
theorem dX3_account_190 : decode cX3_account 190 = .ok (.ireturn, 1) := dk_172 (dk_at dksX3_account_5 19 rfl rfl)
theorem dX3_account_191 : decode cX3_account 191 = .ok (.aload_n 0, 1) := dk_42 (dk_at dksX3_account_5 20 rfl rfl)
theorem dX3_account_192 : decode cX3_account 192 = .ok (.getfield 9, 3) := dk_180 0 9 (dk_at dksX3_account_5 21 rfl rfl)
theorem dX3_account_195 : decode cX3_account 195 = .ok (.bipush 9, 2) := dk_16 9 (dk_at dksX3_account_6 0 rfl rfl)
theorem dX3_account_197 : decode cX3_account 197 = .ok (.iaload, 1) := dk_46 (dk_at dksX3_account_6 2 rfl rfl)
theorem dX3_account_198 : decode cX3_account 198 = .ok (.ireturn, 1) := dk_172 (dk_at dksX3_account_6 3 rfl rfl)
theorem dX3_account_199 : decode cX3_account 199 = .ok (.aload_n 0, 1) := dk_42 (dk_at dksX3_account_6 4 rfl rfl)
theorem dX3_account_200 : decode cX3_account 200 = .ok (.getfield 9, 3) := dk_180 0 9 (dk_at dksX3_account_6 5 rfl rfl)
theorem dX3_account_203 : decode cX3_account 203 = .ok (.bipush 10, 2) := dk_16 10 (dk_at dksX3_account_6 8 rfl rfl)
theorem dX3_account_205 : decode cX3_account 205 = .ok (.iaload, 1) := dk_46 (dk_at dksX3_account_6 10 rfl rfl)
theorem dX3_account_206 : decode cX3_account 206 = .ok (.ireturn, 1) := dk_172 (dk_at dksX3_account_6 11 rfl rfl)
theorem dX3_account_207 : decode cX3_account 207 = .ok (.aload_n 0, 1) := dk_42 (dk_at dksX3_account_6 12 rfl rfl)
theorem dX3_account_208 : decode cX3_account 208 = .ok (.getfield 9, 3) := dk_180 0 9 (dk_at dksX3_account_6 13 rfl rfl)
theorem dX3_account_211 : decode cX3_account 211 = .ok (.bipush 11, 2) := dk_16 11 (dk_at dksX3_account_6 16 rfl rfl)
theorem dX3_account_213 : decode cX3_account 213 = .ok (.iaload, 1) := dk_46 (dk_at dksX3_account_6 18 rfl rfl)
theorem dX3_account_214 : decode cX3_account 214 = .ok (.ireturn, 1) := dk_172 (dk_at dksX3_account_6 19 rfl rfl)
theorem dX3_account_215 : decode cX3_account 215 = .ok (.aload_n 0, 1) := dk_42 (dk_at dksX3_account_6 20 rfl rfl)
theorem dX3_account_216 : decode cX3_account 216 = .ok (.getfield 228, 3) := dk_180 0 228 (dk_at dksX3_account_6 21 rfl rfl)
theorem dX3_account_219 : decode cX3_account 219 = .ok (.ireturn, 1) := dk_172 (dk_at dksX3_account_7 0 rfl rfl)
theorem dX3_account_220 : decode cX3_account 220 = .ok (.aload_n 0, 1) := dk_42 (dk_at dksX3_account_7 1 rfl rfl)
theorem dX3_account_221 : decode cX3_account 221 = .ok (.getfield 68, 3) := dk_180 0 68 (dk_at dksX3_account_7 2 rfl rfl)
theorem dX3_account_224 : decode cX3_account 224 = .ok (.ireturn, 1) := dk_172 (dk_at dksX3_account_7 5 rfl rfl)
theorem dX3_account_225 : decode cX3_account 225 = .ok (.aload_n 0, 1) := dk_42 (dk_at dksX3_account_7 6 rfl rfl)
theorem dX3_account_226 : decode cX3_account 226 = .ok (.iconst 1, 1) := dk_4 (dk_at dksX3_account_7 7 rfl rfl)
theorem dX3_account_227 : decode cX3_account 227 = .ok (.invokevirtual 64, 3) := dk_182 0 64 (dk_at dksX3_account_7 8 rfl rfl)
theorem dX3_account_230 : decode cX3_account 230 = .ok (.ireturn, 1) := dk_172 (dk_at dksX3_account_7 11 rfl rfl)
abbrev cX3_countedAgain : ByteArray := prog_11_method_91_code
def yX3_countedAgain : MethodName := ⟨RX3, "countedAgain", "()I"⟩
def dkwX3_countedAgain_0 : List UInt8 := [42, 3, 181, 0, 52, 42, 182, 1, 25, 172]
abbrev dktX3_countedAgain_0 : List UInt8 := dkwX3_countedAgain_0 ++ []
theorem dksX3_countedAgain_0 : cX3_countedAgain.data.toList.drop 0 = dktX3_countedAgain_0 := by decide +kernel
theorem dX3_countedAgain_0 : decode cX3_countedAgain 0 = .ok (.aload_n 0, 1) := dk_42 (dk_at dksX3_countedAgain_0 0 rfl rfl)
theorem dX3_countedAgain_1 : decode cX3_countedAgain 1 = .ok (.iconst 0, 1) := dk_3 (dk_at dksX3_countedAgain_0 1 rfl rfl)
theorem dX3_countedAgain_2 : decode cX3_countedAgain 2 = .ok (.putfield 52, 3) := dk_181 0 52 (dk_at dksX3_countedAgain_0 2 rfl rfl)
theorem dX3_countedAgain_5 : decode cX3_countedAgain 5 = .ok (.aload_n 0, 1) := dk_42 (dk_at dksX3_countedAgain_0 5 rfl rfl)
theorem dX3_countedAgain_6 : decode cX3_countedAgain 6 = .ok (.invokevirtual 281, 3) := dk_182 1 25 (dk_at dksX3_countedAgain_0 6 rfl rfl)
theorem dX3_countedAgain_9 : decode cX3_countedAgain 9 = .ok (.ireturn, 1) := dk_172 (dk_at dksX3_countedAgain_0 9 rfl rfl)
abbrev cX3_marks : ByteArray := prog_11_method_89_code
def yX3_marks : MethodName := ⟨RX3, "marks", "()I"⟩
def dkwX3_marks_1 : List UInt8 := [96, 46, 96, 60, 132, 2, 1, 167, 255, 229, 27, 172]
abbrev dktX3_marks_1 : List UInt8 := dkwX3_marks_1 ++ []
def dkwX3_marks_0 : List UInt8 := [3, 60, 3, 61, 28, 42, 180, 0, 9, 4, 46, 162, 0, 23, 27, 42, 180, 0, 9, 28, 184, 0, 75, 5]
abbrev dktX3_marks_0 : List UInt8 := dkwX3_marks_0 ++ dktX3_marks_1
theorem dksX3_marks_0 : cX3_marks.data.toList.drop 0 = dktX3_marks_0 := by decide +kernel
theorem dksX3_marks_1 : cX3_marks.data.toList.drop 24 = dktX3_marks_1 := dk_seg dksX3_marks_0 24 rfl rfl
theorem dX3_marks_0 : decode cX3_marks 0 = .ok (.iconst 0, 1) := dk_3 (dk_at dksX3_marks_0 0 rfl rfl)
theorem dX3_marks_1 : decode cX3_marks 1 = .ok (.istore_n 1, 1) := dk_60 (dk_at dksX3_marks_0 1 rfl rfl)
theorem dX3_marks_2 : decode cX3_marks 2 = .ok (.iconst 0, 1) := dk_3 (dk_at dksX3_marks_0 2 rfl rfl)
theorem dX3_marks_3 : decode cX3_marks 3 = .ok (.istore_n 2, 1) := dk_61 (dk_at dksX3_marks_0 3 rfl rfl)
theorem dX3_marks_4 : decode cX3_marks 4 = .ok (.iload_n 2, 1) := dk_28 (dk_at dksX3_marks_0 4 rfl rfl)
theorem dX3_marks_5 : decode cX3_marks 5 = .ok (.aload_n 0, 1) := dk_42 (dk_at dksX3_marks_0 5 rfl rfl)
theorem dX3_marks_6 : decode cX3_marks 6 = .ok (.getfield 9, 3) := dk_180 0 9 (dk_at dksX3_marks_0 6 rfl rfl)
theorem dX3_marks_9 : decode cX3_marks 9 = .ok (.iconst 1, 1) := dk_4 (dk_at dksX3_marks_0 9 rfl rfl)
theorem dX3_marks_10 : decode cX3_marks 10 = .ok (.iaload, 1) := dk_46 (dk_at dksX3_marks_0 10 rfl rfl)
theorem dX3_marks_11 : decode cX3_marks 11 = .ok (.if_icmp .ge 23, 3) := dk_162 0 23 (dk_at dksX3_marks_0 11 rfl rfl)
theorem dX3_marks_14 : decode cX3_marks 14 = .ok (.iload_n 1, 1) := dk_27 (dk_at dksX3_marks_0 14 rfl rfl)
theorem dX3_marks_15 : decode cX3_marks 15 = .ok (.aload_n 0, 1) := dk_42 (dk_at dksX3_marks_0 15 rfl rfl)
theorem dX3_marks_16 : decode cX3_marks 16 = .ok (.getfield 9, 3) := dk_180 0 9 (dk_at dksX3_marks_0 16 rfl rfl)
theorem dX3_marks_19 : decode cX3_marks 19 = .ok (.iload_n 2, 1) := dk_28 (dk_at dksX3_marks_0 19 rfl rfl)
theorem dX3_marks_20 : decode cX3_marks 20 = .ok (.invokestatic 75, 3) := dk_184 0 75 (dk_at dksX3_marks_0 20 rfl rfl)
theorem dX3_marks_23 : decode cX3_marks 23 = .ok (.iconst 2, 1) := dk_5 (dk_at dksX3_marks_0 23 rfl rfl)
theorem dX3_marks_24 : decode cX3_marks 24 = .ok (.iadd, 1) := dk_96 (dk_at dksX3_marks_1 0 rfl rfl)
theorem dX3_marks_25 : decode cX3_marks 25 = .ok (.iaload, 1) := dk_46 (dk_at dksX3_marks_1 1 rfl rfl)
theorem dX3_marks_26 : decode cX3_marks 26 = .ok (.iadd, 1) := dk_96 (dk_at dksX3_marks_1 2 rfl rfl)
theorem dX3_marks_27 : decode cX3_marks 27 = .ok (.istore_n 1, 1) := dk_60 (dk_at dksX3_marks_1 3 rfl rfl)
theorem dX3_marks_28 : decode cX3_marks 28 = .ok (.iinc 2 1, 3) := dk_132 2 1 (dk_at dksX3_marks_1 4 rfl rfl)
theorem dX3_marks_31 : decode cX3_marks 31 = .ok (.goto (-27), 3) := dk_167 255 229 (dk_at dksX3_marks_1 7 rfl rfl)
theorem dX3_marks_34 : decode cX3_marks 34 = .ok (.iload_n 1, 1) := dk_27 (dk_at dksX3_marks_1 10 rfl rfl)
theorem dX3_marks_35 : decode cX3_marks 35 = .ok (.ireturn, 1) := dk_172 (dk_at dksX3_marks_1 11 rfl rfl)
abbrev cX3_undo : ByteArray := prog_11_method_92_code
def yX3_undo : MethodName := ⟨RX3, "undo", "()I"⟩
def dkwX3_undo_2 : List UInt8 := [17, 1, 39, 42, 180, 0, 68, 104, 27, 96, 46, 79, 132, 1, 1, 167, 255, 225, 42, 180, 0, 68, 172]
abbrev dktX3_undo_2 : List UInt8 := dkwX3_undo_2 ++ []
def dkwX3_undo_1 : List UInt8 := [100, 181, 0, 68, 3, 60, 27, 17, 1, 39, 162, 0, 30, 42, 180, 0, 9, 27, 42, 180, 0, 22]
abbrev dktX3_undo_1 : List UInt8 := dkwX3_undo_1 ++ dktX3_undo_2
def dkwX3_undo_0 : List UInt8 := [42, 3, 181, 0, 52, 42, 180, 0, 68, 154, 0, 9, 42, 4, 182, 0, 64, 172, 42, 89, 180, 0, 68, 4]
abbrev dktX3_undo_0 : List UInt8 := dkwX3_undo_0 ++ dktX3_undo_1
theorem dksX3_undo_0 : cX3_undo.data.toList.drop 0 = dktX3_undo_0 := by decide +kernel
theorem dksX3_undo_1 : cX3_undo.data.toList.drop 24 = dktX3_undo_1 := dk_seg dksX3_undo_0 24 rfl rfl
theorem dksX3_undo_2 : cX3_undo.data.toList.drop 46 = dktX3_undo_2 := dk_seg dksX3_undo_1 22 rfl rfl
theorem dX3_undo_0 : decode cX3_undo 0 = .ok (.aload_n 0, 1) := dk_42 (dk_at dksX3_undo_0 0 rfl rfl)
theorem dX3_undo_1 : decode cX3_undo 1 = .ok (.iconst 0, 1) := dk_3 (dk_at dksX3_undo_0 1 rfl rfl)
theorem dX3_undo_2 : decode cX3_undo 2 = .ok (.putfield 52, 3) := dk_181 0 52 (dk_at dksX3_undo_0 2 rfl rfl)
theorem dX3_undo_5 : decode cX3_undo 5 = .ok (.aload_n 0, 1) := dk_42 (dk_at dksX3_undo_0 5 rfl rfl)
theorem dX3_undo_6 : decode cX3_undo 6 = .ok (.getfield 68, 3) := dk_180 0 68 (dk_at dksX3_undo_0 6 rfl rfl)
theorem dX3_undo_9 : decode cX3_undo 9 = .ok (.ifCond .ne 9, 3) := dk_154 0 9 (dk_at dksX3_undo_0 9 rfl rfl)
theorem dX3_undo_12 : decode cX3_undo 12 = .ok (.aload_n 0, 1) := dk_42 (dk_at dksX3_undo_0 12 rfl rfl)
theorem dX3_undo_13 : decode cX3_undo 13 = .ok (.iconst 1, 1) := dk_4 (dk_at dksX3_undo_0 13 rfl rfl)
theorem dX3_undo_14 : decode cX3_undo 14 = .ok (.invokevirtual 64, 3) := dk_182 0 64 (dk_at dksX3_undo_0 14 rfl rfl)
theorem dX3_undo_17 : decode cX3_undo 17 = .ok (.ireturn, 1) := dk_172 (dk_at dksX3_undo_0 17 rfl rfl)
theorem dX3_undo_18 : decode cX3_undo 18 = .ok (.aload_n 0, 1) := dk_42 (dk_at dksX3_undo_0 18 rfl rfl)
theorem dX3_undo_19 : decode cX3_undo 19 = .ok (.dup, 1) := dk_89 (dk_at dksX3_undo_0 19 rfl rfl)
theorem dX3_undo_20 : decode cX3_undo 20 = .ok (.getfield 68, 3) := dk_180 0 68 (dk_at dksX3_undo_0 20 rfl rfl)
theorem dX3_undo_23 : decode cX3_undo 23 = .ok (.iconst 1, 1) := dk_4 (dk_at dksX3_undo_0 23 rfl rfl)
theorem dX3_undo_24 : decode cX3_undo 24 = .ok (.isub, 1) := dk_100 (dk_at dksX3_undo_1 0 rfl rfl)
theorem dX3_undo_25 : decode cX3_undo 25 = .ok (.putfield 68, 3) := dk_181 0 68 (dk_at dksX3_undo_1 1 rfl rfl)
theorem dX3_undo_28 : decode cX3_undo 28 = .ok (.iconst 0, 1) := dk_3 (dk_at dksX3_undo_1 4 rfl rfl)
theorem dX3_undo_29 : decode cX3_undo 29 = .ok (.istore_n 1, 1) := dk_60 (dk_at dksX3_undo_1 5 rfl rfl)
theorem dX3_undo_30 : decode cX3_undo 30 = .ok (.iload_n 1, 1) := dk_27 (dk_at dksX3_undo_1 6 rfl rfl)
theorem dX3_undo_31 : decode cX3_undo 31 = .ok (.sipush 295, 3) := dk_17 1 39 (dk_at dksX3_undo_1 7 rfl rfl)
theorem dX3_undo_34 : decode cX3_undo 34 = .ok (.if_icmp .ge 30, 3) := dk_162 0 30 (dk_at dksX3_undo_1 10 rfl rfl)
theorem dX3_undo_37 : decode cX3_undo 37 = .ok (.aload_n 0, 1) := dk_42 (dk_at dksX3_undo_1 13 rfl rfl)
theorem dX3_undo_38 : decode cX3_undo 38 = .ok (.getfield 9, 3) := dk_180 0 9 (dk_at dksX3_undo_1 14 rfl rfl)
theorem dX3_undo_41 : decode cX3_undo 41 = .ok (.iload_n 1, 1) := dk_27 (dk_at dksX3_undo_1 17 rfl rfl)
theorem dX3_undo_42 : decode cX3_undo 42 = .ok (.aload_n 0, 1) := dk_42 (dk_at dksX3_undo_1 18 rfl rfl)
theorem dX3_undo_43 : decode cX3_undo 43 = .ok (.getfield 22, 3) := dk_180 0 22 (dk_at dksX3_undo_1 19 rfl rfl)
theorem dX3_undo_46 : decode cX3_undo 46 = .ok (.sipush 295, 3) := dk_17 1 39 (dk_at dksX3_undo_2 0 rfl rfl)
theorem dX3_undo_49 : decode cX3_undo 49 = .ok (.aload_n 0, 1) := dk_42 (dk_at dksX3_undo_2 3 rfl rfl)
theorem dX3_undo_50 : decode cX3_undo 50 = .ok (.getfield 68, 3) := dk_180 0 68 (dk_at dksX3_undo_2 4 rfl rfl)
theorem dX3_undo_53 : decode cX3_undo 53 = .ok (.imul, 1) := dk_104 (dk_at dksX3_undo_2 7 rfl rfl)
theorem dX3_undo_54 : decode cX3_undo 54 = .ok (.iload_n 1, 1) := dk_27 (dk_at dksX3_undo_2 8 rfl rfl)
theorem dX3_undo_55 : decode cX3_undo 55 = .ok (.iadd, 1) := dk_96 (dk_at dksX3_undo_2 9 rfl rfl)
theorem dX3_undo_56 : decode cX3_undo 56 = .ok (.iaload, 1) := dk_46 (dk_at dksX3_undo_2 10 rfl rfl)
theorem dX3_undo_57 : decode cX3_undo 57 = .ok (.iastore, 1) := dk_79 (dk_at dksX3_undo_2 11 rfl rfl)
theorem dX3_undo_58 : decode cX3_undo 58 = .ok (.iinc 1 1, 3) := dk_132 1 1 (dk_at dksX3_undo_2 12 rfl rfl)
theorem dX3_undo_61 : decode cX3_undo 61 = .ok (.goto (-31), 3) := dk_167 255 225 (dk_at dksX3_undo_2 15 rfl rfl)
theorem dX3_undo_64 : decode cX3_undo 64 = .ok (.aload_n 0, 1) := dk_42 (dk_at dksX3_undo_2 18 rfl rfl)
theorem dX3_undo_65 : decode cX3_undo 65 = .ok (.getfield 68, 3) := dk_180 0 68 (dk_at dksX3_undo_2 19 rfl rfl)
theorem dX3_undo_68 : decode cX3_undo 68 = .ok (.ireturn, 1) := dk_172 (dk_at dksX3_undo_2 22 rfl rfl)
abbrev cX3_save : ByteArray := prog_11_method_93_code
def yX3_save : MethodName := ⟨RX3, "save", "()I"⟩
def dkwX3_save_1 : List UInt8 := [46, 79, 132, 1, 1, 167, 255, 234, 42, 4, 181, 1, 28, 42, 180, 0, 9, 8, 46, 172]
abbrev dktX3_save_1 : List UInt8 := dkwX3_save_1 ++ []
def dkwX3_save_0 : List UInt8 := [42, 3, 181, 0, 52, 3, 60, 27, 17, 1, 39, 162, 0, 21, 42, 180, 0, 19, 27, 42, 180, 0, 9, 27]
abbrev dktX3_save_0 : List UInt8 := dkwX3_save_0 ++ dktX3_save_1
theorem dksX3_save_0 : cX3_save.data.toList.drop 0 = dktX3_save_0 := by decide +kernel
theorem dksX3_save_1 : cX3_save.data.toList.drop 24 = dktX3_save_1 := dk_seg dksX3_save_0 24 rfl rfl
theorem dX3_save_0 : decode cX3_save 0 = .ok (.aload_n 0, 1) := dk_42 (dk_at dksX3_save_0 0 rfl rfl)
theorem dX3_save_1 : decode cX3_save 1 = .ok (.iconst 0, 1) := dk_3 (dk_at dksX3_save_0 1 rfl rfl)
theorem dX3_save_2 : decode cX3_save 2 = .ok (.putfield 52, 3) := dk_181 0 52 (dk_at dksX3_save_0 2 rfl rfl)
theorem dX3_save_5 : decode cX3_save 5 = .ok (.iconst 0, 1) := dk_3 (dk_at dksX3_save_0 5 rfl rfl)
theorem dX3_save_6 : decode cX3_save 6 = .ok (.istore_n 1, 1) := dk_60 (dk_at dksX3_save_0 6 rfl rfl)
theorem dX3_save_7 : decode cX3_save 7 = .ok (.iload_n 1, 1) := dk_27 (dk_at dksX3_save_0 7 rfl rfl)
theorem dX3_save_8 : decode cX3_save 8 = .ok (.sipush 295, 3) := dk_17 1 39 (dk_at dksX3_save_0 8 rfl rfl)
theorem dX3_save_11 : decode cX3_save 11 = .ok (.if_icmp .ge 21, 3) := dk_162 0 21 (dk_at dksX3_save_0 11 rfl rfl)
theorem dX3_save_14 : decode cX3_save 14 = .ok (.aload_n 0, 1) := dk_42 (dk_at dksX3_save_0 14 rfl rfl)
theorem dX3_save_15 : decode cX3_save 15 = .ok (.getfield 19, 3) := dk_180 0 19 (dk_at dksX3_save_0 15 rfl rfl)
theorem dX3_save_18 : decode cX3_save 18 = .ok (.iload_n 1, 1) := dk_27 (dk_at dksX3_save_0 18 rfl rfl)
theorem dX3_save_19 : decode cX3_save 19 = .ok (.aload_n 0, 1) := dk_42 (dk_at dksX3_save_0 19 rfl rfl)
theorem dX3_save_20 : decode cX3_save 20 = .ok (.getfield 9, 3) := dk_180 0 9 (dk_at dksX3_save_0 20 rfl rfl)
theorem dX3_save_23 : decode cX3_save 23 = .ok (.iload_n 1, 1) := dk_27 (dk_at dksX3_save_0 23 rfl rfl)
theorem dX3_save_24 : decode cX3_save 24 = .ok (.iaload, 1) := dk_46 (dk_at dksX3_save_1 0 rfl rfl)
theorem dX3_save_25 : decode cX3_save 25 = .ok (.iastore, 1) := dk_79 (dk_at dksX3_save_1 1 rfl rfl)
theorem dX3_save_26 : decode cX3_save 26 = .ok (.iinc 1 1, 3) := dk_132 1 1 (dk_at dksX3_save_1 2 rfl rfl)
theorem dX3_save_29 : decode cX3_save 29 = .ok (.goto (-22), 3) := dk_167 255 234 (dk_at dksX3_save_1 5 rfl rfl)
theorem dX3_save_32 : decode cX3_save 32 = .ok (.aload_n 0, 1) := dk_42 (dk_at dksX3_save_1 8 rfl rfl)
theorem dX3_save_33 : decode cX3_save 33 = .ok (.iconst 1, 1) := dk_4 (dk_at dksX3_save_1 9 rfl rfl)
theorem dX3_save_34 : decode cX3_save 34 = .ok (.putfield 284, 3) := dk_181 1 28 (dk_at dksX3_save_1 10 rfl rfl)
theorem dX3_save_37 : decode cX3_save 37 = .ok (.aload_n 0, 1) := dk_42 (dk_at dksX3_save_1 13 rfl rfl)
theorem dX3_save_38 : decode cX3_save 38 = .ok (.getfield 9, 3) := dk_180 0 9 (dk_at dksX3_save_1 14 rfl rfl)
theorem dX3_save_41 : decode cX3_save 41 = .ok (.iconst 5, 1) := dk_8 (dk_at dksX3_save_1 17 rfl rfl)
theorem dX3_save_42 : decode cX3_save 42 = .ok (.iaload, 1) := dk_46 (dk_at dksX3_save_1 18 rfl rfl)
theorem dX3_save_43 : decode cX3_save 43 = .ok (.ireturn, 1) := dk_172 (dk_at dksX3_save_1 19 rfl rfl)
abbrev cX3_restore : ByteArray := prog_11_method_94_code
def yX3_restore : MethodName := ⟨RX3, "restore", "()I"⟩
def dkwX3_restore_2 : List UInt8 := [181, 0, 68, 42, 180, 0, 9, 8, 46, 172]
abbrev dktX3_restore_2 : List UInt8 := dkwX3_restore_2 ++ []
def dkwX3_restore_1 : List UInt8 := [162, 0, 21, 42, 180, 0, 9, 27, 42, 180, 0, 19, 27, 46, 79, 132, 1, 1, 167, 255, 234, 42, 3]
abbrev dktX3_restore_1 : List UInt8 := dkwX3_restore_1 ++ dktX3_restore_2
def dkwX3_restore_0 : List UInt8 := [42, 3, 181, 0, 52, 42, 180, 1, 28, 154, 0, 9, 42, 4, 182, 0, 64, 172, 3, 60, 27, 17, 1, 39]
abbrev dktX3_restore_0 : List UInt8 := dkwX3_restore_0 ++ dktX3_restore_1
theorem dksX3_restore_0 : cX3_restore.data.toList.drop 0 = dktX3_restore_0 := by decide +kernel
theorem dksX3_restore_1 : cX3_restore.data.toList.drop 24 = dktX3_restore_1 := dk_seg dksX3_restore_0 24 rfl rfl
theorem dksX3_restore_2 : cX3_restore.data.toList.drop 47 = dktX3_restore_2 := dk_seg dksX3_restore_1 23 rfl rfl
theorem dX3_restore_0 : decode cX3_restore 0 = .ok (.aload_n 0, 1) := dk_42 (dk_at dksX3_restore_0 0 rfl rfl)
theorem dX3_restore_1 : decode cX3_restore 1 = .ok (.iconst 0, 1) := dk_3 (dk_at dksX3_restore_0 1 rfl rfl)
theorem dX3_restore_2 : decode cX3_restore 2 = .ok (.putfield 52, 3) := dk_181 0 52 (dk_at dksX3_restore_0 2 rfl rfl)
theorem dX3_restore_5 : decode cX3_restore 5 = .ok (.aload_n 0, 1) := dk_42 (dk_at dksX3_restore_0 5 rfl rfl)
theorem dX3_restore_6 : decode cX3_restore 6 = .ok (.getfield 284, 3) := dk_180 1 28 (dk_at dksX3_restore_0 6 rfl rfl)
theorem dX3_restore_9 : decode cX3_restore 9 = .ok (.ifCond .ne 9, 3) := dk_154 0 9 (dk_at dksX3_restore_0 9 rfl rfl)
theorem dX3_restore_12 : decode cX3_restore 12 = .ok (.aload_n 0, 1) := dk_42 (dk_at dksX3_restore_0 12 rfl rfl)
theorem dX3_restore_13 : decode cX3_restore 13 = .ok (.iconst 1, 1) := dk_4 (dk_at dksX3_restore_0 13 rfl rfl)
theorem dX3_restore_14 : decode cX3_restore 14 = .ok (.invokevirtual 64, 3) := dk_182 0 64 (dk_at dksX3_restore_0 14 rfl rfl)
theorem dX3_restore_17 : decode cX3_restore 17 = .ok (.ireturn, 1) := dk_172 (dk_at dksX3_restore_0 17 rfl rfl)
theorem dX3_restore_18 : decode cX3_restore 18 = .ok (.iconst 0, 1) := dk_3 (dk_at dksX3_restore_0 18 rfl rfl)
theorem dX3_restore_19 : decode cX3_restore 19 = .ok (.istore_n 1, 1) := dk_60 (dk_at dksX3_restore_0 19 rfl rfl)
theorem dX3_restore_20 : decode cX3_restore 20 = .ok (.iload_n 1, 1) := dk_27 (dk_at dksX3_restore_0 20 rfl rfl)
theorem dX3_restore_21 : decode cX3_restore 21 = .ok (.sipush 295, 3) := dk_17 1 39 (dk_at dksX3_restore_0 21 rfl rfl)
theorem dX3_restore_24 : decode cX3_restore 24 = .ok (.if_icmp .ge 21, 3) := dk_162 0 21 (dk_at dksX3_restore_1 0 rfl rfl)
theorem dX3_restore_27 : decode cX3_restore 27 = .ok (.aload_n 0, 1) := dk_42 (dk_at dksX3_restore_1 3 rfl rfl)
theorem dX3_restore_28 : decode cX3_restore 28 = .ok (.getfield 9, 3) := dk_180 0 9 (dk_at dksX3_restore_1 4 rfl rfl)
theorem dX3_restore_31 : decode cX3_restore 31 = .ok (.iload_n 1, 1) := dk_27 (dk_at dksX3_restore_1 7 rfl rfl)
theorem dX3_restore_32 : decode cX3_restore 32 = .ok (.aload_n 0, 1) := dk_42 (dk_at dksX3_restore_1 8 rfl rfl)
theorem dX3_restore_33 : decode cX3_restore 33 = .ok (.getfield 19, 3) := dk_180 0 19 (dk_at dksX3_restore_1 9 rfl rfl)
theorem dX3_restore_36 : decode cX3_restore 36 = .ok (.iload_n 1, 1) := dk_27 (dk_at dksX3_restore_1 12 rfl rfl)
theorem dX3_restore_37 : decode cX3_restore 37 = .ok (.iaload, 1) := dk_46 (dk_at dksX3_restore_1 13 rfl rfl)
theorem dX3_restore_38 : decode cX3_restore 38 = .ok (.iastore, 1) := dk_79 (dk_at dksX3_restore_1 14 rfl rfl)
theorem dX3_restore_39 : decode cX3_restore 39 = .ok (.iinc 1 1, 3) := dk_132 1 1 (dk_at dksX3_restore_1 15 rfl rfl)
theorem dX3_restore_42 : decode cX3_restore 42 = .ok (.goto (-22), 3) := dk_167 255 234 (dk_at dksX3_restore_1 18 rfl rfl)
theorem dX3_restore_45 : decode cX3_restore 45 = .ok (.aload_n 0, 1) := dk_42 (dk_at dksX3_restore_1 21 rfl rfl)
theorem dX3_restore_46 : decode cX3_restore 46 = .ok (.iconst 0, 1) := dk_3 (dk_at dksX3_restore_1 22 rfl rfl)
theorem dX3_restore_47 : decode cX3_restore 47 = .ok (.putfield 68, 3) := dk_181 0 68 (dk_at dksX3_restore_2 0 rfl rfl)
theorem dX3_restore_50 : decode cX3_restore 50 = .ok (.aload_n 0, 1) := dk_42 (dk_at dksX3_restore_2 3 rfl rfl)
theorem dX3_restore_51 : decode cX3_restore 51 = .ok (.getfield 9, 3) := dk_180 0 9 (dk_at dksX3_restore_2 4 rfl rfl)
theorem dX3_restore_54 : decode cX3_restore 54 = .ok (.iconst 5, 1) := dk_8 (dk_at dksX3_restore_2 7 rfl rfl)
theorem dX3_restore_55 : decode cX3_restore 55 = .ok (.iaload, 1) := dk_46 (dk_at dksX3_restore_2 8 rfl rfl)
theorem dX3_restore_56 : decode cX3_restore 56 = .ok (.ireturn, 1) := dk_172 (dk_at dksX3_restore_2 9 rfl rfl)
theorem q102 : (Jvm.Cond.initialized "OtterTrustModel") ∈ lw_all := lw_g (lw_at lw_m1 12 rfl) rfl
theorem q843 : (Jvm.Cond.selects "OtterTrustModel" ({ cls := "java/lang/Object", name := "getClass", desc := "()Ljava/lang/Class;" } : Jvm.MethodName) ({ cls := "java/lang/Object", name := "getClass", desc := "()Ljava/lang/Class;" } : Jvm.MethodName)) ∈ lw_all := lw_g (lw_at lw_m4 33 rfl) rfl
theorem q2057 : (Jvm.Cond.instantiable "OtterTrustModel" (25 : Nat)) ∈ lw_all := lw_g (lw_at lw_m9 47 rfl) rfl
theorem q2059 : (Jvm.Cond.instanceMethod ({ cls := "OtterTrustModel", name := "<init>", desc := "()V" } : Jvm.MethodName)) ∈ lw_all := lw_g (lw_at lw_m9 49 rfl) rfl
theorem q2060 : (Jvm.Cond.code ({ cls := "OtterTrustModel", name := "<init>", desc := "()V" } : Jvm.MethodName) prog_11_method_1_code (1 : Nat) (Option.none : Option Jvm.ClassFile.FieldType)) ∈ lw_all := lw_g (lw_at lw_m9 50 rfl) rfl
theorem q2061 : (Jvm.Cond.methodLink "OtterTrustModel" (1 : Nat) ({ cls := "java/lang/Object", name := "<init>", desc := "()V" } : Jvm.MethodName)) ∈ lw_all := lw_g (lw_at lw_m9 51 rfl) rfl
theorem q2062 : (Jvm.Cond.fieldLink "OtterTrustModel" (9 : Nat) "OtterTrustModel" "m" "[I") ∈ lw_all := lw_g (lw_at lw_m9 52 rfl) rfl
theorem q2063 : (Jvm.Cond.fieldLink "OtterTrustModel" (13 : Nat) "OtterTrustModel" "aside" "[I") ∈ lw_all := lw_g (lw_at lw_m9 53 rfl) rfl
theorem q2064 : (Jvm.Cond.fieldLink "OtterTrustModel" (16 : Nat) "OtterTrustModel" "before" "[I") ∈ lw_all := lw_g (lw_at lw_m9 54 rfl) rfl
theorem q2065 : (Jvm.Cond.fieldLink "OtterTrustModel" (19 : Nat) "OtterTrustModel" "saved" "[I") ∈ lw_all := lw_g (lw_at lw_m9 55 rfl) rfl
theorem q2066 : (Jvm.Cond.fieldLink "OtterTrustModel" (284 : Nat) "OtterTrustModel" "isSaved" "Z") ∈ lw_all := lw_g (lw_at lw_m9 56 rfl) rfl
theorem q2067 : (Jvm.Cond.fieldLink "OtterTrustModel" (22 : Nat) "OtterTrustModel" "past" "[I") ∈ lw_all := lw_g (lw_at lw_m9 57 rfl) rfl
theorem q2068 : (Jvm.Cond.fieldLink "OtterTrustModel" (68 : Nat) "OtterTrustModel" "changes" "I") ∈ lw_all := lw_g (lw_at lw_m9 58 rfl) rfl
theorem q2069 : (Jvm.Cond.fieldLink "OtterTrustModel" (52 : Nat) "OtterTrustModel" "thrown" "I") ∈ lw_all := lw_g (lw_at lw_m9 59 rfl) rfl
theorem q2070 : (Jvm.Cond.fieldLink "OtterTrustModel" (55 : Nat) "OtterTrustModel" "why" "I") ∈ lw_all := lw_g (lw_at lw_m9 60 rfl) rfl
theorem q2071 : (Jvm.Cond.fieldLink "OtterTrustModel" (58 : Nat) "OtterTrustModel" "detail" "I") ∈ lw_all := lw_g (lw_at lw_m9 61 rfl) rfl
theorem q2072 : (Jvm.Cond.fieldLink "OtterTrustModel" (61 : Nat) "OtterTrustModel" "whyPlace" "I") ∈ lw_all := lw_g (lw_at lw_m9 62 rfl) rfl
theorem q2073 : (Jvm.Cond.fieldLink "OtterTrustModel" (25 : Nat) "OtterTrustModel" "faultAt" "I") ∈ lw_all := lw_g (lw_at lw_m9 63 rfl) rfl
theorem q2074 : (Jvm.Cond.fieldLink "OtterTrustModel" (29 : Nat) "OtterTrustModel" "tape" "[I") ∈ lw_all := lw_g (lw_at lw_m9 64 rfl) rfl
theorem q2075 : (Jvm.Cond.fieldLink "OtterTrustModel" (228 : Nat) "OtterTrustModel" "tapeMany" "I") ∈ lw_all := lw_g (lw_at lw_m9 65 rfl) rfl
theorem q2076 : (Jvm.Cond.fieldLink "OtterTrustModel" (32 : Nat) "OtterTrustModel" "killedAt" "[I") ∈ lw_all := lw_g (lw_at lw_m9 66 rfl) rfl
theorem q2077 : (Jvm.Cond.fieldLink "OtterTrustModel" (35 : Nat) "OtterTrustModel" "wasBirth" "[Z") ∈ lw_all := lw_g (lw_at lw_m9 67 rfl) rfl
theorem q2078 : (Jvm.Cond.fieldLink "OtterTrustModel" (39 : Nat) "OtterTrustModel" "letters" "[C") ∈ lw_all := lw_g (lw_at lw_m9 68 rfl) rfl
theorem q2079 : (Jvm.Cond.fieldLink "OtterTrustModel" (43 : Nat) "OtterTrustModel" "begins" "[I") ∈ lw_all := lw_g (lw_at lw_m9 69 rfl) rfl
theorem q2080 : (Jvm.Cond.fieldLink "OtterTrustModel" (46 : Nat) "OtterTrustModel" "orders" "[I") ∈ lw_all := lw_g (lw_at lw_m9 70 rfl) rfl
theorem q2081 : (Jvm.Cond.fieldLink "OtterTrustModel" (257 : Nat) "OtterTrustModel" "orderMany" "I") ∈ lw_all := lw_g (lw_at lw_m9 71 rfl) rfl
theorem q2082 : (Jvm.Cond.fieldLink "OtterTrustModel" (231 : Nat) "OtterTrustModel" "place" "I") ∈ lw_all := lw_g (lw_at lw_m9 72 rfl) rfl
theorem q2083 : (Jvm.Cond.fieldLink "OtterTrustModel" (234 : Nat) "OtterTrustModel" "size" "I") ∈ lw_all := lw_g (lw_at lw_m9 73 rfl) rfl
theorem q2084 : (Jvm.Cond.fieldLink "OtterTrustModel" (237 : Nat) "OtterTrustModel" "isWrong" "Z") ∈ lw_all := lw_g (lw_at lw_m9 74 rfl) rfl
theorem q2085 : (Jvm.Cond.fieldLink "OtterTrustModel" (49 : Nat) "OtterTrustModel" "signs" "[I") ∈ lw_all := lw_g (lw_at lw_m9 75 rfl) rfl
theorem q2086 : (Jvm.Cond.fieldLink "OtterTrustModel" (272 : Nat) "OtterTrustModel" "signMany" "I") ∈ lw_all := lw_g (lw_at lw_m9 76 rfl) rfl
theorem q2087 : (Jvm.Cond.laysFinal "OtterTrustModel" "OtterTrustModel" "m" "[I") ∈ lw_all := lw_g (lw_at lw_m9 77 rfl) rfl
theorem q2088 : (Jvm.Cond.soleField "OtterTrustModel" "m") ∈ lw_all := lw_g (lw_at lw_m9 78 rfl) rfl
theorem q2089 : (Jvm.Cond.laysFinal "OtterTrustModel" "OtterTrustModel" "aside" "[I") ∈ lw_all := lw_g (lw_at lw_m9 79 rfl) rfl
theorem q2090 : (Jvm.Cond.soleField "OtterTrustModel" "aside") ∈ lw_all := lw_g (lw_at lw_m9 80 rfl) rfl
theorem q2091 : (Jvm.Cond.laysFinal "OtterTrustModel" "OtterTrustModel" "before" "[I") ∈ lw_all := lw_g (lw_at lw_m9 81 rfl) rfl
theorem q2092 : (Jvm.Cond.soleField "OtterTrustModel" "before") ∈ lw_all := lw_g (lw_at lw_m9 82 rfl) rfl
theorem q2093 : (Jvm.Cond.laysFinal "OtterTrustModel" "OtterTrustModel" "saved" "[I") ∈ lw_all := lw_g (lw_at lw_m9 83 rfl) rfl
theorem q2094 : (Jvm.Cond.soleField "OtterTrustModel" "saved") ∈ lw_all := lw_g (lw_at lw_m9 84 rfl) rfl
theorem q2095 : (Jvm.Cond.lays "OtterTrustModel" "OtterTrustModel" "isSaved" "Z") ∈ lw_all := lw_g (lw_at lw_m9 85 rfl) rfl
theorem q2096 : (Jvm.Cond.soleField "OtterTrustModel" "isSaved") ∈ lw_all := lw_g (lw_at lw_m9 86 rfl) rfl
theorem q2097 : (Jvm.Cond.laysFinal "OtterTrustModel" "OtterTrustModel" "past" "[I") ∈ lw_all := lw_g (lw_at lw_m9 87 rfl) rfl
theorem q2098 : (Jvm.Cond.soleField "OtterTrustModel" "past") ∈ lw_all := lw_g (lw_at lw_m9 88 rfl) rfl
theorem q2099 : (Jvm.Cond.lays "OtterTrustModel" "OtterTrustModel" "changes" "I") ∈ lw_all := lw_g (lw_at lw_m9 89 rfl) rfl
theorem q2100 : (Jvm.Cond.soleField "OtterTrustModel" "changes") ∈ lw_all := lw_g (lw_at lw_m9 90 rfl) rfl
theorem q2101 : (Jvm.Cond.lays "OtterTrustModel" "OtterTrustModel" "thrown" "I") ∈ lw_all := lw_g (lw_at lw_m9 91 rfl) rfl
theorem q2102 : (Jvm.Cond.soleField "OtterTrustModel" "thrown") ∈ lw_all := lw_g (lw_at lw_m9 92 rfl) rfl
theorem q2103 : (Jvm.Cond.lays "OtterTrustModel" "OtterTrustModel" "why" "I") ∈ lw_all := lw_g (lw_at lw_m9 93 rfl) rfl
theorem q2104 : (Jvm.Cond.soleField "OtterTrustModel" "why") ∈ lw_all := lw_g (lw_at lw_m9 94 rfl) rfl
theorem q2105 : (Jvm.Cond.lays "OtterTrustModel" "OtterTrustModel" "detail" "I") ∈ lw_all := lw_g (lw_at lw_m9 95 rfl) rfl
theorem q2106 : (Jvm.Cond.soleField "OtterTrustModel" "detail") ∈ lw_all := lw_g (lw_at lw_m9 96 rfl) rfl
theorem q2107 : (Jvm.Cond.lays "OtterTrustModel" "OtterTrustModel" "whyPlace" "I") ∈ lw_all := lw_g (lw_at lw_m9 97 rfl) rfl
theorem q2108 : (Jvm.Cond.soleField "OtterTrustModel" "whyPlace") ∈ lw_all := lw_g (lw_at lw_m9 98 rfl) rfl
theorem q2109 : (Jvm.Cond.lays "OtterTrustModel" "OtterTrustModel" "faultAt" "I") ∈ lw_all := lw_g (lw_at lw_m9 99 rfl) rfl
theorem q2110 : (Jvm.Cond.soleField "OtterTrustModel" "faultAt") ∈ lw_all := lw_g (lw_at lw_m9 100 rfl) rfl
theorem q2111 : (Jvm.Cond.laysFinal "OtterTrustModel" "OtterTrustModel" "tape" "[I") ∈ lw_all := lw_g (lw_at lw_m9 101 rfl) rfl
theorem q2112 : (Jvm.Cond.soleField "OtterTrustModel" "tape") ∈ lw_all := lw_g (lw_at lw_m9 102 rfl) rfl
theorem q2113 : (Jvm.Cond.lays "OtterTrustModel" "OtterTrustModel" "tapeMany" "I") ∈ lw_all := lw_g (lw_at lw_m9 103 rfl) rfl
theorem q2114 : (Jvm.Cond.soleField "OtterTrustModel" "tapeMany") ∈ lw_all := lw_g (lw_at lw_m9 104 rfl) rfl
theorem q2115 : (Jvm.Cond.laysFinal "OtterTrustModel" "OtterTrustModel" "killedAt" "[I") ∈ lw_all := lw_g (lw_at lw_m9 105 rfl) rfl
theorem q2116 : (Jvm.Cond.soleField "OtterTrustModel" "killedAt") ∈ lw_all := lw_g (lw_at lw_m9 106 rfl) rfl
theorem q2117 : (Jvm.Cond.laysFinal "OtterTrustModel" "OtterTrustModel" "wasBirth" "[Z") ∈ lw_all := lw_g (lw_at lw_m9 107 rfl) rfl
theorem q2118 : (Jvm.Cond.soleField "OtterTrustModel" "wasBirth") ∈ lw_all := lw_g (lw_at lw_m9 108 rfl) rfl
theorem q2119 : (Jvm.Cond.laysFinal "OtterTrustModel" "OtterTrustModel" "letters" "[C") ∈ lw_all := lw_g (lw_at lw_m9 109 rfl) rfl
theorem q2120 : (Jvm.Cond.soleField "OtterTrustModel" "letters") ∈ lw_all := lw_g (lw_at lw_m9 110 rfl) rfl
theorem q2121 : (Jvm.Cond.laysFinal "OtterTrustModel" "OtterTrustModel" "begins" "[I") ∈ lw_all := lw_g (lw_at lw_m9 111 rfl) rfl
theorem q2122 : (Jvm.Cond.soleField "OtterTrustModel" "begins") ∈ lw_all := lw_g (lw_at lw_m9 112 rfl) rfl
theorem q2123 : (Jvm.Cond.laysFinal "OtterTrustModel" "OtterTrustModel" "orders" "[I") ∈ lw_all := lw_g (lw_at lw_m9 113 rfl) rfl
theorem q2124 : (Jvm.Cond.soleField "OtterTrustModel" "orders") ∈ lw_all := lw_g (lw_at lw_m9 114 rfl) rfl
theorem q2125 : (Jvm.Cond.lays "OtterTrustModel" "OtterTrustModel" "orderMany" "I") ∈ lw_all := lw_g (lw_at lw_m9 115 rfl) rfl
theorem q2126 : (Jvm.Cond.soleField "OtterTrustModel" "orderMany") ∈ lw_all := lw_g (lw_at lw_m9 116 rfl) rfl
theorem q2127 : (Jvm.Cond.lays "OtterTrustModel" "OtterTrustModel" "place" "I") ∈ lw_all := lw_g (lw_at lw_m9 117 rfl) rfl
theorem q2128 : (Jvm.Cond.soleField "OtterTrustModel" "place") ∈ lw_all := lw_g (lw_at lw_m9 118 rfl) rfl
theorem q2129 : (Jvm.Cond.lays "OtterTrustModel" "OtterTrustModel" "size" "I") ∈ lw_all := lw_g (lw_at lw_m9 119 rfl) rfl
theorem q2130 : (Jvm.Cond.soleField "OtterTrustModel" "size") ∈ lw_all := lw_g (lw_at lw_m9 120 rfl) rfl
theorem q2131 : (Jvm.Cond.lays "OtterTrustModel" "OtterTrustModel" "isWrong" "Z") ∈ lw_all := lw_g (lw_at lw_m9 121 rfl) rfl
theorem q2132 : (Jvm.Cond.soleField "OtterTrustModel" "isWrong") ∈ lw_all := lw_g (lw_at lw_m9 122 rfl) rfl
theorem q2133 : (Jvm.Cond.laysFinal "OtterTrustModel" "OtterTrustModel" "signs" "[I") ∈ lw_all := lw_g (lw_at lw_m9 123 rfl) rfl
theorem q2134 : (Jvm.Cond.soleField "OtterTrustModel" "signs") ∈ lw_all := lw_g (lw_at lw_m9 124 rfl) rfl
theorem q2135 : (Jvm.Cond.lays "OtterTrustModel" "OtterTrustModel" "signMany" "I") ∈ lw_all := lw_g (lw_at lw_m9 125 rfl) rfl
theorem q2136 : (Jvm.Cond.soleField "OtterTrustModel" "signMany") ∈ lw_all := lw_g (lw_at lw_m9 126 rfl) rfl
theorem q2137 : (Jvm.Cond.superclass "OtterTrustModel" "java/lang/Object") ∈ lw_all := lw_g (lw_at lw_m9 127 rfl) rfl
theorem q2142 : (Jvm.Cond.instanceMethod ({ cls := "OtterTrustModel", name := "thrown", desc := "()I" } : Jvm.MethodName)) ∈ lw_all := lw_g (lw_at lw_m9 132 rfl) rfl
theorem q2143 : (Jvm.Cond.selects "OtterTrustModel" ({ cls := "OtterTrustModel", name := "thrown", desc := "()I" } : Jvm.MethodName) ({ cls := "OtterTrustModel", name := "thrown", desc := "()I" } : Jvm.MethodName)) ∈ lw_all := lw_g (lw_at lw_m9 133 rfl) rfl
theorem q2144 : (Jvm.Cond.code ({ cls := "OtterTrustModel", name := "thrown", desc := "()I" } : Jvm.MethodName) prog_11_method_2_code (1 : Nat) (Option.some Jvm.ClassFile.FieldType.int)) ∈ lw_all := lw_g (lw_at lw_m9 134 rfl) rfl
theorem q2146 : (Jvm.Cond.instanceMethod ({ cls := "OtterTrustModel", name := "reach", desc := "(II)I" } : Jvm.MethodName)) ∈ lw_all := lw_g (lw_at lw_m9 136 rfl) rfl
theorem q2147 : (Jvm.Cond.selects "OtterTrustModel" ({ cls := "OtterTrustModel", name := "reach", desc := "(II)I" } : Jvm.MethodName) ({ cls := "OtterTrustModel", name := "reach", desc := "(II)I" } : Jvm.MethodName)) ∈ lw_all := lw_g (lw_at lw_m9 137 rfl) rfl
theorem q2148 : (Jvm.Cond.code ({ cls := "OtterTrustModel", name := "reach", desc := "(II)I" } : Jvm.MethodName) prog_11_method_19_code (5 : Nat) (Option.some Jvm.ClassFile.FieldType.int)) ∈ lw_all := lw_g (lw_at lw_m9 138 rfl) rfl
theorem q2149 : (Jvm.Cond.methodLink "OtterTrustModel" (89 : Nat) ({ cls := "OtterTrustModel", name := "layAside", desc := "()V" } : Jvm.MethodName)) ∈ lw_all := lw_g (lw_at lw_m9 139 rfl) rfl
theorem q2150 : (Jvm.Cond.privateMethod ({ cls := "OtterTrustModel", name := "layAside", desc := "()V" } : Jvm.MethodName)) ∈ lw_tbl := lw_at lw_m9 140 rfl
theorem q2151 : (Jvm.Cond.instanceMethod ({ cls := "OtterTrustModel", name := "layAside", desc := "()V" } : Jvm.MethodName)) ∈ lw_all := lw_g (lw_at lw_m9 141 rfl) rfl
theorem q2152 : (Jvm.Cond.code ({ cls := "OtterTrustModel", name := "layAside", desc := "()V" } : Jvm.MethodName) prog_11_method_6_code (2 : Nat) (Option.none : Option Jvm.ClassFile.FieldType)) ∈ lw_all := lw_g (lw_at lw_m9 142 rfl) rfl
theorem q2153 : (Jvm.Cond.constantLong "OtterTrustModel" (92 : Nat) (9 : Int64)) ∈ lw_all := lw_g (lw_at lw_m9 143 rfl) rfl
theorem q2154 : (Jvm.Cond.methodLink "OtterTrustModel" (71 : Nat) ({ cls := "OtterTrustModel", name := "in", desc := "(JJJ)Z" } : Jvm.MethodName)) ∈ lw_all := lw_g (lw_at lw_m9 144 rfl) rfl
theorem q2155 : (Jvm.Cond.static ({ cls := "OtterTrustModel", name := "in", desc := "(JJJ)Z" } : Jvm.MethodName)) ∈ lw_all := lw_g (lw_at lw_m9 145 rfl) rfl
theorem q2156 : (Jvm.Cond.code ({ cls := "OtterTrustModel", name := "in", desc := "(JJJ)Z" } : Jvm.MethodName) prog_11_method_3_code (6 : Nat) (Option.some Jvm.ClassFile.FieldType.boolean)) ∈ lw_all := lw_g (lw_at lw_m9 146 rfl) rfl
theorem q2157 : (Jvm.Cond.methodLink "OtterTrustModel" (94 : Nat) ({ cls := "OtterTrustModel", name := "refuse", desc := "(II)I" } : Jvm.MethodName)) ∈ lw_all := lw_g (lw_at lw_m9 147 rfl) rfl
theorem q2158 : (Jvm.Cond.privateMethod ({ cls := "OtterTrustModel", name := "refuse", desc := "(II)I" } : Jvm.MethodName)) ∈ lw_tbl := lw_at lw_m9 148 rfl
theorem q2159 : (Jvm.Cond.instanceMethod ({ cls := "OtterTrustModel", name := "refuse", desc := "(II)I" } : Jvm.MethodName)) ∈ lw_all := lw_g (lw_at lw_m9 149 rfl) rfl
theorem q2160 : (Jvm.Cond.code ({ cls := "OtterTrustModel", name := "refuse", desc := "(II)I" } : Jvm.MethodName) prog_11_method_5_code (3 : Nat) (Option.some Jvm.ClassFile.FieldType.int)) ∈ lw_all := lw_g (lw_at lw_m9 150 rfl) rfl
theorem q2161 : (Jvm.Cond.methodLink "OtterTrustModel" (64 : Nat) ({ cls := "OtterTrustModel", name := "throwing", desc := "(I)I" } : Jvm.MethodName)) ∈ lw_all := lw_g (lw_at lw_m9 151 rfl) rfl
theorem q2162 : (Jvm.Cond.privateMethod ({ cls := "OtterTrustModel", name := "throwing", desc := "(I)I" } : Jvm.MethodName)) ∈ lw_tbl := lw_at lw_m9 152 rfl
theorem q2163 : (Jvm.Cond.instanceMethod ({ cls := "OtterTrustModel", name := "throwing", desc := "(I)I" } : Jvm.MethodName)) ∈ lw_all := lw_g (lw_at lw_m9 153 rfl) rfl
theorem q2164 : (Jvm.Cond.code ({ cls := "OtterTrustModel", name := "throwing", desc := "(I)I" } : Jvm.MethodName) prog_11_method_4_code (2 : Nat) (Option.some Jvm.ClassFile.FieldType.int)) ∈ lw_all := lw_g (lw_at lw_m9 154 rfl) rfl
theorem q2165 : (Jvm.Cond.constantLong "OtterTrustModel" (98 : Nat) (-1 : Int64)) ∈ lw_all := lw_g (lw_at lw_m9 155 rfl) rfl
theorem q2166 : (Jvm.Cond.methodLink "OtterTrustModel" (86 : Nat) ({ cls := "OtterTrustModel", name := "at", desc := "(I)I" } : Jvm.MethodName)) ∈ lw_all := lw_g (lw_at lw_m9 156 rfl) rfl
theorem q2167 : (Jvm.Cond.static ({ cls := "OtterTrustModel", name := "at", desc := "(I)I" } : Jvm.MethodName)) ∈ lw_all := lw_g (lw_at lw_m9 157 rfl) rfl
theorem q2168 : (Jvm.Cond.code ({ cls := "OtterTrustModel", name := "at", desc := "(I)I" } : Jvm.MethodName) prog_11_method_8_code (1 : Nat) (Option.some Jvm.ClassFile.FieldType.int)) ∈ lw_all := lw_g (lw_at lw_m9 158 rfl) rfl
theorem q2169 : (Jvm.Cond.methodLink "OtterTrustModel" (100 : Nat) ({ cls := "OtterTrustModel", name := "changed", desc := "(I)I" } : Jvm.MethodName)) ∈ lw_all := lw_g (lw_at lw_m9 159 rfl) rfl
theorem q2170 : (Jvm.Cond.privateMethod ({ cls := "OtterTrustModel", name := "changed", desc := "(I)I" } : Jvm.MethodName)) ∈ lw_tbl := lw_at lw_m9 160 rfl
theorem q2171 : (Jvm.Cond.instanceMethod ({ cls := "OtterTrustModel", name := "changed", desc := "(I)I" } : Jvm.MethodName)) ∈ lw_all := lw_g (lw_at lw_m9 161 rfl) rfl
theorem q2172 : (Jvm.Cond.code ({ cls := "OtterTrustModel", name := "changed", desc := "(I)I" } : Jvm.MethodName) prog_11_method_7_code (3 : Nat) (Option.some Jvm.ClassFile.FieldType.int)) ∈ lw_all := lw_g (lw_at lw_m9 162 rfl) rfl
theorem q2174 : (Jvm.Cond.instanceMethod ({ cls := "OtterTrustModel", name := "holt", desc := "(I)I" } : Jvm.MethodName)) ∈ lw_all := lw_g (lw_at lw_m9 164 rfl) rfl
theorem q2175 : (Jvm.Cond.selects "OtterTrustModel" ({ cls := "OtterTrustModel", name := "holt", desc := "(I)I" } : Jvm.MethodName) ({ cls := "OtterTrustModel", name := "holt", desc := "(I)I" } : Jvm.MethodName)) ∈ lw_all := lw_g (lw_at lw_m9 165 rfl) rfl
theorem q2176 : (Jvm.Cond.code ({ cls := "OtterTrustModel", name := "holt", desc := "(I)I" } : Jvm.MethodName) prog_11_method_20_code (2 : Nat) (Option.some Jvm.ClassFile.FieldType.int)) ∈ lw_all := lw_g (lw_at lw_m9 166 rfl) rfl
theorem q2177 : (Jvm.Cond.methodLink "OtterTrustModel" (103 : Nat) ({ cls := "OtterTrustModel", name := "isReach", desc := "(I)Z" } : Jvm.MethodName)) ∈ lw_all := lw_g (lw_at lw_m9 167 rfl) rfl
theorem q2178 : (Jvm.Cond.privateMethod ({ cls := "OtterTrustModel", name := "isReach", desc := "(I)Z" } : Jvm.MethodName)) ∈ lw_tbl := lw_at lw_m9 168 rfl
theorem q2179 : (Jvm.Cond.instanceMethod ({ cls := "OtterTrustModel", name := "isReach", desc := "(I)Z" } : Jvm.MethodName)) ∈ lw_all := lw_g (lw_at lw_m9 169 rfl) rfl
theorem q2180 : (Jvm.Cond.code ({ cls := "OtterTrustModel", name := "isReach", desc := "(I)Z" } : Jvm.MethodName) prog_11_method_11_code (2 : Nat) (Option.some Jvm.ClassFile.FieldType.boolean)) ∈ lw_all := lw_g (lw_at lw_m9 170 rfl) rfl
theorem q2181 : (Jvm.Cond.methodLink "OtterTrustModel" (106 : Nat) ({ cls := "OtterTrustModel", name := "hasHolt", desc := "(I)Z" } : Jvm.MethodName)) ∈ lw_all := lw_g (lw_at lw_m9 171 rfl) rfl
theorem q2182 : (Jvm.Cond.privateMethod ({ cls := "OtterTrustModel", name := "hasHolt", desc := "(I)Z" } : Jvm.MethodName)) ∈ lw_tbl := lw_at lw_m9 172 rfl
theorem q2183 : (Jvm.Cond.instanceMethod ({ cls := "OtterTrustModel", name := "hasHolt", desc := "(I)Z" } : Jvm.MethodName)) ∈ lw_all := lw_g (lw_at lw_m9 173 rfl) rfl
theorem q2184 : (Jvm.Cond.code ({ cls := "OtterTrustModel", name := "hasHolt", desc := "(I)Z" } : Jvm.MethodName) prog_11_method_16_code (2 : Nat) (Option.some Jvm.ClassFile.FieldType.boolean)) ∈ lw_all := lw_g (lw_at lw_m9 174 rfl) rfl
theorem q2185 : (Jvm.Cond.methodLink "OtterTrustModel" (109 : Nat) ({ cls := "OtterTrustModel", name := "otters", desc := "(I)I" } : Jvm.MethodName)) ∈ lw_all := lw_g (lw_at lw_m9 175 rfl) rfl
theorem q2186 : (Jvm.Cond.privateMethod ({ cls := "OtterTrustModel", name := "otters", desc := "(I)I" } : Jvm.MethodName)) ∈ lw_tbl := lw_at lw_m9 176 rfl
theorem q2187 : (Jvm.Cond.instanceMethod ({ cls := "OtterTrustModel", name := "otters", desc := "(I)I" } : Jvm.MethodName)) ∈ lw_all := lw_g (lw_at lw_m9 177 rfl) rfl
theorem q2188 : (Jvm.Cond.code ({ cls := "OtterTrustModel", name := "otters", desc := "(I)I" } : Jvm.MethodName) prog_11_method_15_code (4 : Nat) (Option.some Jvm.ClassFile.FieldType.int)) ∈ lw_all := lw_g (lw_at lw_m9 178 rfl) rfl
theorem q2189 : (Jvm.Cond.methodLink "OtterTrustModel" (82 : Nat) ({ cls := "OtterTrustModel", name := "livesAt", desc := "(II)Z" } : Jvm.MethodName)) ∈ lw_all := lw_g (lw_at lw_m9 179 rfl) rfl
theorem q2190 : (Jvm.Cond.privateMethod ({ cls := "OtterTrustModel", name := "livesAt", desc := "(II)Z" } : Jvm.MethodName)) ∈ lw_tbl := lw_at lw_m9 180 rfl
theorem q2191 : (Jvm.Cond.instanceMethod ({ cls := "OtterTrustModel", name := "livesAt", desc := "(II)Z" } : Jvm.MethodName)) ∈ lw_all := lw_g (lw_at lw_m9 181 rfl) rfl
theorem q2192 : (Jvm.Cond.code ({ cls := "OtterTrustModel", name := "livesAt", desc := "(II)Z" } : Jvm.MethodName) prog_11_method_14_code (3 : Nat) (Option.some Jvm.ClassFile.FieldType.boolean)) ∈ lw_all := lw_g (lw_at lw_m9 182 rfl) rfl
theorem q2193 : (Jvm.Cond.methodLink "OtterTrustModel" (78 : Nat) ({ cls := "OtterTrustModel", name := "lives", desc := "(I)Z" } : Jvm.MethodName)) ∈ lw_all := lw_g (lw_at lw_m9 183 rfl) rfl
theorem q2194 : (Jvm.Cond.privateMethod ({ cls := "OtterTrustModel", name := "lives", desc := "(I)Z" } : Jvm.MethodName)) ∈ lw_tbl := lw_at lw_m9 184 rfl
theorem q2195 : (Jvm.Cond.instanceMethod ({ cls := "OtterTrustModel", name := "lives", desc := "(I)Z" } : Jvm.MethodName)) ∈ lw_all := lw_g (lw_at lw_m9 185 rfl) rfl
theorem q2196 : (Jvm.Cond.code ({ cls := "OtterTrustModel", name := "lives", desc := "(I)Z" } : Jvm.MethodName) prog_11_method_13_code (2 : Nat) (Option.some Jvm.ClassFile.FieldType.boolean)) ∈ lw_all := lw_g (lw_at lw_m9 186 rfl) rfl
theorem q2197 : (Jvm.Cond.methodLink "OtterTrustModel" (75 : Nat) ({ cls := "OtterTrustModel", name := "of", desc := "(I)I" } : Jvm.MethodName)) ∈ lw_all := lw_g (lw_at lw_m9 187 rfl) rfl
theorem q2198 : (Jvm.Cond.static ({ cls := "OtterTrustModel", name := "of", desc := "(I)I" } : Jvm.MethodName)) ∈ lw_all := lw_g (lw_at lw_m9 188 rfl) rfl
theorem q2199 : (Jvm.Cond.code ({ cls := "OtterTrustModel", name := "of", desc := "(I)I" } : Jvm.MethodName) prog_11_method_9_code (1 : Nat) (Option.some Jvm.ClassFile.FieldType.int)) ∈ lw_all := lw_g (lw_at lw_m9 189 rfl) rfl
theorem q2200 : (Jvm.Cond.methodLink "OtterTrustModel" (112 : Nat) ({ cls := "OtterTrustModel", name := "quality", desc := "(I)I" } : Jvm.MethodName)) ∈ lw_all := lw_g (lw_at lw_m9 190 rfl) rfl
theorem q2201 : (Jvm.Cond.privateMethod ({ cls := "OtterTrustModel", name := "quality", desc := "(I)I" } : Jvm.MethodName)) ∈ lw_tbl := lw_at lw_m9 191 rfl
theorem q2202 : (Jvm.Cond.instanceMethod ({ cls := "OtterTrustModel", name := "quality", desc := "(I)I" } : Jvm.MethodName)) ∈ lw_all := lw_g (lw_at lw_m9 192 rfl) rfl
theorem q2203 : (Jvm.Cond.code ({ cls := "OtterTrustModel", name := "quality", desc := "(I)I" } : Jvm.MethodName) prog_11_method_18_code (3 : Nat) (Option.some Jvm.ClassFile.FieldType.int)) ∈ lw_all := lw_g (lw_at lw_m9 193 rfl) rfl
theorem q2205 : (Jvm.Cond.instanceMethod ({ cls := "OtterTrustModel", name := "otter", desc := "(I)I" } : Jvm.MethodName)) ∈ lw_all := lw_g (lw_at lw_m9 195 rfl) rfl
theorem q2206 : (Jvm.Cond.selects "OtterTrustModel" ({ cls := "OtterTrustModel", name := "otter", desc := "(I)I" } : Jvm.MethodName) ({ cls := "OtterTrustModel", name := "otter", desc := "(I)I" } : Jvm.MethodName)) ∈ lw_all := lw_g (lw_at lw_m9 196 rfl) rfl
theorem q2207 : (Jvm.Cond.code ({ cls := "OtterTrustModel", name := "otter", desc := "(I)I" } : Jvm.MethodName) prog_11_method_23_code (2 : Nat) (Option.some Jvm.ClassFile.FieldType.int)) ∈ lw_all := lw_g (lw_at lw_m9 197 rfl) rfl
theorem q2208 : (Jvm.Cond.methodLink "OtterTrustModel" (115 : Nat) ({ cls := "OtterTrustModel", name := "lowestAt", desc := "(I)I" } : Jvm.MethodName)) ∈ lw_all := lw_g (lw_at lw_m9 198 rfl) rfl
theorem q2209 : (Jvm.Cond.privateMethod ({ cls := "OtterTrustModel", name := "lowestAt", desc := "(I)I" } : Jvm.MethodName)) ∈ lw_tbl := lw_at lw_m9 199 rfl
theorem q2210 : (Jvm.Cond.instanceMethod ({ cls := "OtterTrustModel", name := "lowestAt", desc := "(I)I" } : Jvm.MethodName)) ∈ lw_all := lw_g (lw_at lw_m9 200 rfl) rfl
theorem q2211 : (Jvm.Cond.code ({ cls := "OtterTrustModel", name := "lowestAt", desc := "(I)I" } : Jvm.MethodName) prog_11_method_22_code (3 : Nat) (Option.some Jvm.ClassFile.FieldType.int)) ∈ lw_all := lw_g (lw_at lw_m9 201 rfl) rfl
theorem q2212 : (Jvm.Cond.methodLink "OtterTrustModel" (118 : Nat) ({ cls := "OtterTrustModel", name := "comes", desc := "(I)I" } : Jvm.MethodName)) ∈ lw_all := lw_g (lw_at lw_m9 202 rfl) rfl
theorem q2213 : (Jvm.Cond.privateMethod ({ cls := "OtterTrustModel", name := "comes", desc := "(I)I" } : Jvm.MethodName)) ∈ lw_tbl := lw_at lw_m9 203 rfl
theorem q2214 : (Jvm.Cond.instanceMethod ({ cls := "OtterTrustModel", name := "comes", desc := "(I)I" } : Jvm.MethodName)) ∈ lw_all := lw_g (lw_at lw_m9 204 rfl) rfl
theorem q2215 : (Jvm.Cond.code ({ cls := "OtterTrustModel", name := "comes", desc := "(I)I" } : Jvm.MethodName) prog_11_method_21_code (3 : Nat) (Option.some Jvm.ClassFile.FieldType.int)) ∈ lw_all := lw_g (lw_at lw_m9 205 rfl) rfl
theorem q2217 : (Jvm.Cond.instanceMethod ({ cls := "OtterTrustModel", name := "volunteer", desc := "(II)I" } : Jvm.MethodName)) ∈ lw_all := lw_g (lw_at lw_m9 207 rfl) rfl
theorem q2218 : (Jvm.Cond.selects "OtterTrustModel" ({ cls := "OtterTrustModel", name := "volunteer", desc := "(II)I" } : Jvm.MethodName) ({ cls := "OtterTrustModel", name := "volunteer", desc := "(II)I" } : Jvm.MethodName)) ∈ lw_all := lw_g (lw_at lw_m9 208 rfl) rfl
theorem q2219 : (Jvm.Cond.code ({ cls := "OtterTrustModel", name := "volunteer", desc := "(II)I" } : Jvm.MethodName) prog_11_method_24_code (4 : Nat) (Option.some Jvm.ClassFile.FieldType.int)) ∈ lw_all := lw_g (lw_at lw_m9 209 rfl) rfl
theorem q2220 : (Jvm.Cond.methodLink "OtterTrustModel" (121 : Nat) ({ cls := "OtterTrustModel", name := "by", desc := "(I)I" } : Jvm.MethodName)) ∈ lw_all := lw_g (lw_at lw_m9 210 rfl) rfl
theorem q2221 : (Jvm.Cond.static ({ cls := "OtterTrustModel", name := "by", desc := "(I)I" } : Jvm.MethodName)) ∈ lw_all := lw_g (lw_at lw_m9 211 rfl) rfl
theorem q2222 : (Jvm.Cond.code ({ cls := "OtterTrustModel", name := "by", desc := "(I)I" } : Jvm.MethodName) prog_11_method_10_code (1 : Nat) (Option.some Jvm.ClassFile.FieldType.int)) ∈ lw_all := lw_g (lw_at lw_m9 212 rfl) rfl
theorem q2224 : (Jvm.Cond.instanceMethod ({ cls := "OtterTrustModel", name := "level", desc := "(I)I" } : Jvm.MethodName)) ∈ lw_all := lw_g (lw_at lw_m9 214 rfl) rfl
theorem q2225 : (Jvm.Cond.selects "OtterTrustModel" ({ cls := "OtterTrustModel", name := "level", desc := "(I)I" } : Jvm.MethodName) ({ cls := "OtterTrustModel", name := "level", desc := "(I)I" } : Jvm.MethodName)) ∈ lw_all := lw_g (lw_at lw_m9 215 rfl) rfl
theorem q2226 : (Jvm.Cond.code ({ cls := "OtterTrustModel", name := "level", desc := "(I)I" } : Jvm.MethodName) prog_11_method_26_code (2 : Nat) (Option.some Jvm.ClassFile.FieldType.int)) ∈ lw_all := lw_g (lw_at lw_m9 216 rfl) rfl
theorem q2227 : (Jvm.Cond.methodLink "OtterTrustModel" (124 : Nat) ({ cls := "OtterTrustModel", name := "levelIt", desc := "(I)I" } : Jvm.MethodName)) ∈ lw_all := lw_g (lw_at lw_m9 217 rfl) rfl
theorem q2228 : (Jvm.Cond.privateMethod ({ cls := "OtterTrustModel", name := "levelIt", desc := "(I)I" } : Jvm.MethodName)) ∈ lw_tbl := lw_at lw_m9 218 rfl
theorem q2229 : (Jvm.Cond.instanceMethod ({ cls := "OtterTrustModel", name := "levelIt", desc := "(I)I" } : Jvm.MethodName)) ∈ lw_all := lw_g (lw_at lw_m9 219 rfl) rfl
theorem q2230 : (Jvm.Cond.code ({ cls := "OtterTrustModel", name := "levelIt", desc := "(I)I" } : Jvm.MethodName) prog_11_method_25_code (3 : Nat) (Option.some Jvm.ClassFile.FieldType.int)) ∈ lw_all := lw_g (lw_at lw_m9 220 rfl) rfl
theorem q2232 : (Jvm.Cond.instanceMethod ({ cls := "OtterTrustModel", name := "give", desc := "(I)I" } : Jvm.MethodName)) ∈ lw_all := lw_g (lw_at lw_m9 222 rfl) rfl
theorem q2233 : (Jvm.Cond.selects "OtterTrustModel" ({ cls := "OtterTrustModel", name := "give", desc := "(I)I" } : Jvm.MethodName) ({ cls := "OtterTrustModel", name := "give", desc := "(I)I" } : Jvm.MethodName)) ∈ lw_all := lw_g (lw_at lw_m9 223 rfl) rfl
theorem q2234 : (Jvm.Cond.code ({ cls := "OtterTrustModel", name := "give", desc := "(I)I" } : Jvm.MethodName) prog_11_method_28_code (2 : Nat) (Option.some Jvm.ClassFile.FieldType.int)) ∈ lw_all := lw_g (lw_at lw_m9 224 rfl) rfl
theorem q2235 : (Jvm.Cond.methodLink "OtterTrustModel" (129 : Nat) ({ cls := "OtterTrustModel", name := "giveIt", desc := "(I)I" } : Jvm.MethodName)) ∈ lw_all := lw_g (lw_at lw_m9 225 rfl) rfl
theorem q2236 : (Jvm.Cond.privateMethod ({ cls := "OtterTrustModel", name := "giveIt", desc := "(I)I" } : Jvm.MethodName)) ∈ lw_tbl := lw_at lw_m9 226 rfl
theorem q2237 : (Jvm.Cond.instanceMethod ({ cls := "OtterTrustModel", name := "giveIt", desc := "(I)I" } : Jvm.MethodName)) ∈ lw_all := lw_g (lw_at lw_m9 227 rfl) rfl
theorem q2238 : (Jvm.Cond.code ({ cls := "OtterTrustModel", name := "giveIt", desc := "(I)I" } : Jvm.MethodName) prog_11_method_27_code (2 : Nat) (Option.some Jvm.ClassFile.FieldType.int)) ∈ lw_all := lw_g (lw_at lw_m9 228 rfl) rfl
theorem q2239 : (Jvm.Cond.constantLong "OtterTrustModel" (127 : Nat) (99 : Int64)) ∈ lw_all := lw_g (lw_at lw_m9 229 rfl) rfl
theorem q2241 : (Jvm.Cond.instanceMethod ({ cls := "OtterTrustModel", name := "shut", desc := "(I)I" } : Jvm.MethodName)) ∈ lw_all := lw_g (lw_at lw_m9 231 rfl) rfl
theorem q2242 : (Jvm.Cond.selects "OtterTrustModel" ({ cls := "OtterTrustModel", name := "shut", desc := "(I)I" } : Jvm.MethodName) ({ cls := "OtterTrustModel", name := "shut", desc := "(I)I" } : Jvm.MethodName)) ∈ lw_all := lw_g (lw_at lw_m9 232 rfl) rfl
theorem q2243 : (Jvm.Cond.code ({ cls := "OtterTrustModel", name := "shut", desc := "(I)I" } : Jvm.MethodName) prog_11_method_31_code (2 : Nat) (Option.some Jvm.ClassFile.FieldType.int)) ∈ lw_all := lw_g (lw_at lw_m9 233 rfl) rfl
theorem q2244 : (Jvm.Cond.methodLink "OtterTrustModel" (139 : Nat) ({ cls := "OtterTrustModel", name := "shutIt", desc := "(I)I" } : Jvm.MethodName)) ∈ lw_all := lw_g (lw_at lw_m9 234 rfl) rfl
theorem q2245 : (Jvm.Cond.privateMethod ({ cls := "OtterTrustModel", name := "shutIt", desc := "(I)I" } : Jvm.MethodName)) ∈ lw_tbl := lw_at lw_m9 235 rfl
theorem q2246 : (Jvm.Cond.instanceMethod ({ cls := "OtterTrustModel", name := "shutIt", desc := "(I)I" } : Jvm.MethodName)) ∈ lw_all := lw_g (lw_at lw_m9 236 rfl) rfl
theorem q2247 : (Jvm.Cond.code ({ cls := "OtterTrustModel", name := "shutIt", desc := "(I)I" } : Jvm.MethodName) prog_11_method_30_code (3 : Nat) (Option.some Jvm.ClassFile.FieldType.int)) ∈ lw_all := lw_g (lw_at lw_m9 237 rfl) rfl
theorem q2248 : (Jvm.Cond.methodLink "OtterTrustModel" (132 : Nat) ({ cls := "OtterTrustModel", name := "hasBridge", desc := "(I)Z" } : Jvm.MethodName)) ∈ lw_all := lw_g (lw_at lw_m9 238 rfl) rfl
theorem q2249 : (Jvm.Cond.privateMethod ({ cls := "OtterTrustModel", name := "hasBridge", desc := "(I)Z" } : Jvm.MethodName)) ∈ lw_tbl := lw_at lw_m9 239 rfl
theorem q2250 : (Jvm.Cond.instanceMethod ({ cls := "OtterTrustModel", name := "hasBridge", desc := "(I)Z" } : Jvm.MethodName)) ∈ lw_all := lw_g (lw_at lw_m10 0 rfl) rfl
theorem q2251 : (Jvm.Cond.code ({ cls := "OtterTrustModel", name := "hasBridge", desc := "(I)Z" } : Jvm.MethodName) prog_11_method_17_code (2 : Nat) (Option.some Jvm.ClassFile.FieldType.boolean)) ∈ lw_all := lw_g (lw_at lw_m10 1 rfl) rfl
theorem q2252 : (Jvm.Cond.methodLink "OtterTrustModel" (135 : Nat) ({ cls := "OtterTrustModel", name := "openDips", desc := "()I" } : Jvm.MethodName)) ∈ lw_all := lw_g (lw_at lw_m10 2 rfl) rfl
theorem q2253 : (Jvm.Cond.privateMethod ({ cls := "OtterTrustModel", name := "openDips", desc := "()I" } : Jvm.MethodName)) ∈ lw_tbl := lw_at lw_m10 3 rfl
theorem q2254 : (Jvm.Cond.instanceMethod ({ cls := "OtterTrustModel", name := "openDips", desc := "()I" } : Jvm.MethodName)) ∈ lw_all := lw_g (lw_at lw_m10 4 rfl) rfl
theorem q2255 : (Jvm.Cond.code ({ cls := "OtterTrustModel", name := "openDips", desc := "()I" } : Jvm.MethodName) prog_11_method_29_code (3 : Nat) (Option.some Jvm.ClassFile.FieldType.int)) ∈ lw_all := lw_g (lw_at lw_m10 5 rfl) rfl
theorem q2257 : (Jvm.Cond.instanceMethod ({ cls := "OtterTrustModel", name := "pass", desc := "(I)I" } : Jvm.MethodName)) ∈ lw_all := lw_g (lw_at lw_m10 7 rfl) rfl
theorem q2258 : (Jvm.Cond.selects "OtterTrustModel" ({ cls := "OtterTrustModel", name := "pass", desc := "(I)I" } : Jvm.MethodName) ({ cls := "OtterTrustModel", name := "pass", desc := "(I)I" } : Jvm.MethodName)) ∈ lw_all := lw_g (lw_at lw_m10 8 rfl) rfl
theorem q2259 : (Jvm.Cond.code ({ cls := "OtterTrustModel", name := "pass", desc := "(I)I" } : Jvm.MethodName) prog_11_method_46_code (2 : Nat) (Option.some Jvm.ClassFile.FieldType.int)) ∈ lw_all := lw_g (lw_at lw_m10 9 rfl) rfl
theorem q2260 : (Jvm.Cond.methodLink "OtterTrustModel" (195 : Nat) ({ cls := "OtterTrustModel", name := "passIt", desc := "(I)I" } : Jvm.MethodName)) ∈ lw_all := lw_g (lw_at lw_m10 10 rfl) rfl
theorem q2261 : (Jvm.Cond.privateMethod ({ cls := "OtterTrustModel", name := "passIt", desc := "(I)I" } : Jvm.MethodName)) ∈ lw_tbl := lw_at lw_m10 11 rfl
theorem q2262 : (Jvm.Cond.instanceMethod ({ cls := "OtterTrustModel", name := "passIt", desc := "(I)I" } : Jvm.MethodName)) ∈ lw_all := lw_g (lw_at lw_m10 12 rfl) rfl
theorem q2263 : (Jvm.Cond.code ({ cls := "OtterTrustModel", name := "passIt", desc := "(I)I" } : Jvm.MethodName) prog_11_method_45_code (4 : Nat) (Option.some Jvm.ClassFile.FieldType.int)) ∈ lw_all := lw_g (lw_at lw_m10 13 rfl) rfl
theorem q2264 : (Jvm.Cond.methodLink "OtterTrustModel" (189 : Nat) ({ cls := "OtterTrustModel", name := "inState", desc := "(I)I" } : Jvm.MethodName)) ∈ lw_all := lw_g (lw_at lw_m10 14 rfl) rfl
theorem q2265 : (Jvm.Cond.privateMethod ({ cls := "OtterTrustModel", name := "inState", desc := "(I)I" } : Jvm.MethodName)) ∈ lw_tbl := lw_at lw_m10 15 rfl
theorem q2266 : (Jvm.Cond.instanceMethod ({ cls := "OtterTrustModel", name := "inState", desc := "(I)I" } : Jvm.MethodName)) ∈ lw_all := lw_g (lw_at lw_m10 16 rfl) rfl
theorem q2267 : (Jvm.Cond.code ({ cls := "OtterTrustModel", name := "inState", desc := "(I)I" } : Jvm.MethodName) prog_11_method_44_code (4 : Nat) (Option.some Jvm.ClassFile.FieldType.int)) ∈ lw_all := lw_g (lw_at lw_m10 17 rfl) rfl
theorem q2268 : (Jvm.Cond.methodLink "OtterTrustModel" (192 : Nat) ({ cls := "OtterTrustModel", name := "night", desc := "()V" } : Jvm.MethodName)) ∈ lw_all := lw_g (lw_at lw_m10 18 rfl) rfl
theorem q2269 : (Jvm.Cond.privateMethod ({ cls := "OtterTrustModel", name := "night", desc := "()V" } : Jvm.MethodName)) ∈ lw_tbl := lw_at lw_m10 19 rfl
theorem q2270 : (Jvm.Cond.instanceMethod ({ cls := "OtterTrustModel", name := "night", desc := "()V" } : Jvm.MethodName)) ∈ lw_all := lw_g (lw_at lw_m10 20 rfl) rfl
theorem q2271 : (Jvm.Cond.code ({ cls := "OtterTrustModel", name := "night", desc := "()V" } : Jvm.MethodName) prog_11_method_43_code (2 : Nat) (Option.none : Option Jvm.ClassFile.FieldType)) ∈ lw_all := lw_g (lw_at lw_m10 21 rfl) rfl
theorem q2272 : (Jvm.Cond.methodLink "OtterTrustModel" (180 : Nat) ({ cls := "OtterTrustModel", name := "goesOut", desc := "(I)V" } : Jvm.MethodName)) ∈ lw_all := lw_g (lw_at lw_m10 22 rfl) rfl
theorem q2273 : (Jvm.Cond.privateMethod ({ cls := "OtterTrustModel", name := "goesOut", desc := "(I)V" } : Jvm.MethodName)) ∈ lw_tbl := lw_at lw_m10 23 rfl
theorem q2274 : (Jvm.Cond.instanceMethod ({ cls := "OtterTrustModel", name := "goesOut", desc := "(I)V" } : Jvm.MethodName)) ∈ lw_all := lw_g (lw_at lw_m10 24 rfl) rfl
theorem q2275 : (Jvm.Cond.code ({ cls := "OtterTrustModel", name := "goesOut", desc := "(I)V" } : Jvm.MethodName) prog_11_method_36_code (5 : Nat) (Option.none : Option Jvm.ClassFile.FieldType)) ∈ lw_all := lw_g (lw_at lw_m10 25 rfl) rfl
theorem q2276 : (Jvm.Cond.methodLink "OtterTrustModel" (142 : Nat) ({ cls := "OtterTrustModel", name := "waysOf", desc := "(I)I" } : Jvm.MethodName)) ∈ lw_all := lw_g (lw_at lw_m10 26 rfl) rfl
theorem q2277 : (Jvm.Cond.static ({ cls := "OtterTrustModel", name := "waysOf", desc := "(I)I" } : Jvm.MethodName)) ∈ lw_all := lw_g (lw_at lw_m10 27 rfl) rfl
theorem q2278 : (Jvm.Cond.code ({ cls := "OtterTrustModel", name := "waysOf", desc := "(I)I" } : Jvm.MethodName) prog_11_method_33_code (1 : Nat) (Option.some Jvm.ClassFile.FieldType.int)) ∈ lw_all := lw_g (lw_at lw_m10 28 rfl) rfl
theorem q2279 : (Jvm.Cond.methodLink "OtterTrustModel" (145 : Nat) ({ cls := "OtterTrustModel", name := "sideOf", desc := "(I)I" } : Jvm.MethodName)) ∈ lw_all := lw_g (lw_at lw_m10 29 rfl) rfl
theorem q2280 : (Jvm.Cond.static ({ cls := "OtterTrustModel", name := "sideOf", desc := "(I)I" } : Jvm.MethodName)) ∈ lw_all := lw_g (lw_at lw_m10 30 rfl) rfl
theorem q2281 : (Jvm.Cond.code ({ cls := "OtterTrustModel", name := "sideOf", desc := "(I)I" } : Jvm.MethodName) prog_11_method_32_code (1 : Nat) (Option.some Jvm.ClassFile.FieldType.int)) ∈ lw_all := lw_g (lw_at lw_m10 31 rfl) rfl
theorem q2282 : (Jvm.Cond.methodLink "OtterTrustModel" (148 : Nat) ({ cls := "OtterTrustModel", name := "isKilledAt", desc := "(I)Z" } : Jvm.MethodName)) ∈ lw_all := lw_g (lw_at lw_m10 32 rfl) rfl
theorem q2283 : (Jvm.Cond.privateMethod ({ cls := "OtterTrustModel", name := "isKilledAt", desc := "(I)Z" } : Jvm.MethodName)) ∈ lw_tbl := lw_at lw_m10 33 rfl
theorem q2284 : (Jvm.Cond.instanceMethod ({ cls := "OtterTrustModel", name := "isKilledAt", desc := "(I)Z" } : Jvm.MethodName)) ∈ lw_all := lw_g (lw_at lw_m10 34 rfl) rfl
theorem q2285 : (Jvm.Cond.code ({ cls := "OtterTrustModel", name := "isKilledAt", desc := "(I)Z" } : Jvm.MethodName) prog_11_method_34_code (3 : Nat) (Option.some Jvm.ClassFile.FieldType.boolean)) ∈ lw_all := lw_g (lw_at lw_m10 35 rfl) rfl
theorem q2286 : (Jvm.Cond.methodLink "OtterTrustModel" (151 : Nat) ({ cls := "OtterTrustModel", name := "leavesSpraint", desc := "(II)V" } : Jvm.MethodName)) ∈ lw_all := lw_g (lw_at lw_m10 36 rfl) rfl
theorem q2287 : (Jvm.Cond.privateMethod ({ cls := "OtterTrustModel", name := "leavesSpraint", desc := "(II)V" } : Jvm.MethodName)) ∈ lw_tbl := lw_at lw_m10 37 rfl
theorem q2288 : (Jvm.Cond.instanceMethod ({ cls := "OtterTrustModel", name := "leavesSpraint", desc := "(II)V" } : Jvm.MethodName)) ∈ lw_all := lw_g (lw_at lw_m10 38 rfl) rfl
theorem q2289 : (Jvm.Cond.code ({ cls := "OtterTrustModel", name := "leavesSpraint", desc := "(II)V" } : Jvm.MethodName) prog_11_method_35_code (3 : Nat) (Option.none : Option Jvm.ClassFile.FieldType)) ∈ lw_all := lw_g (lw_at lw_m10 39 rfl) rfl
theorem q2290 : (Jvm.Cond.methodLink "OtterTrustModel" (183 : Nat) ({ cls := "OtterTrustModel", name := "washes", desc := "()V" } : Jvm.MethodName)) ∈ lw_all := lw_g (lw_at lw_m10 40 rfl) rfl
theorem q2291 : (Jvm.Cond.privateMethod ({ cls := "OtterTrustModel", name := "washes", desc := "()V" } : Jvm.MethodName)) ∈ lw_tbl := lw_at lw_m10 41 rfl
theorem q2292 : (Jvm.Cond.instanceMethod ({ cls := "OtterTrustModel", name := "washes", desc := "()V" } : Jvm.MethodName)) ∈ lw_all := lw_g (lw_at lw_m10 42 rfl) rfl
theorem q2293 : (Jvm.Cond.code ({ cls := "OtterTrustModel", name := "washes", desc := "()V" } : Jvm.MethodName) prog_11_method_37_code (3 : Nat) (Option.none : Option Jvm.ClassFile.FieldType)) ∈ lw_all := lw_g (lw_at lw_m10 43 rfl) rfl
theorem q2294 : (Jvm.Cond.methodLink "OtterTrustModel" (186 : Nat) ({ cls := "OtterTrustModel", name := "atHolt", desc := "(I)V" } : Jvm.MethodName)) ∈ lw_all := lw_g (lw_at lw_m10 44 rfl) rfl
theorem q2295 : (Jvm.Cond.privateMethod ({ cls := "OtterTrustModel", name := "atHolt", desc := "(I)V" } : Jvm.MethodName)) ∈ lw_tbl := lw_at lw_m10 45 rfl
theorem q2296 : (Jvm.Cond.instanceMethod ({ cls := "OtterTrustModel", name := "atHolt", desc := "(I)V" } : Jvm.MethodName)) ∈ lw_all := lw_g (lw_at lw_m10 46 rfl) rfl
theorem q2297 : (Jvm.Cond.code ({ cls := "OtterTrustModel", name := "atHolt", desc := "(I)V" } : Jvm.MethodName) prog_11_method_42_code (5 : Nat) (Option.none : Option Jvm.ClassFile.FieldType)) ∈ lw_all := lw_g (lw_at lw_m10 47 rfl) rfl
theorem q2298 : (Jvm.Cond.methodLink "OtterTrustModel" (166 : Nat) ({ cls := "OtterTrustModel", name := "growUp", desc := "(I)V" } : Jvm.MethodName)) ∈ lw_all := lw_g (lw_at lw_m10 48 rfl) rfl
theorem q2299 : (Jvm.Cond.privateMethod ({ cls := "OtterTrustModel", name := "growUp", desc := "(I)V" } : Jvm.MethodName)) ∈ lw_tbl := lw_at lw_m10 49 rfl
theorem q2300 : (Jvm.Cond.instanceMethod ({ cls := "OtterTrustModel", name := "growUp", desc := "(I)V" } : Jvm.MethodName)) ∈ lw_all := lw_g (lw_at lw_m10 50 rfl) rfl
theorem q2301 : (Jvm.Cond.code ({ cls := "OtterTrustModel", name := "growUp", desc := "(I)V" } : Jvm.MethodName) prog_11_method_40_code (4 : Nat) (Option.none : Option Jvm.ClassFile.FieldType)) ∈ lw_all := lw_g (lw_at lw_m10 51 rfl) rfl
theorem q2302 : (Jvm.Cond.methodLink "OtterTrustModel" (163 : Nat) ({ cls := "OtterTrustModel", name := "refugeOf", desc := "(I)I" } : Jvm.MethodName)) ∈ lw_all := lw_g (lw_at lw_m10 52 rfl) rfl
theorem q2303 : (Jvm.Cond.privateMethod ({ cls := "OtterTrustModel", name := "refugeOf", desc := "(I)I" } : Jvm.MethodName)) ∈ lw_tbl := lw_at lw_m10 53 rfl
theorem q2304 : (Jvm.Cond.instanceMethod ({ cls := "OtterTrustModel", name := "refugeOf", desc := "(I)I" } : Jvm.MethodName)) ∈ lw_all := lw_g (lw_at lw_m10 54 rfl) rfl
theorem q2305 : (Jvm.Cond.code ({ cls := "OtterTrustModel", name := "refugeOf", desc := "(I)I" } : Jvm.MethodName) prog_11_method_39_code (3 : Nat) (Option.some Jvm.ClassFile.FieldType.int)) ∈ lw_all := lw_g (lw_at lw_m10 55 rfl) rfl
theorem q2306 : (Jvm.Cond.methodLink "OtterTrustModel" (160 : Nat) ({ cls := "OtterTrustModel", name := "nearest", desc := "(II)I" } : Jvm.MethodName)) ∈ lw_all := lw_g (lw_at lw_m10 56 rfl) rfl
theorem q2307 : (Jvm.Cond.privateMethod ({ cls := "OtterTrustModel", name := "nearest", desc := "(II)I" } : Jvm.MethodName)) ∈ lw_tbl := lw_at lw_m10 57 rfl
theorem q2308 : (Jvm.Cond.instanceMethod ({ cls := "OtterTrustModel", name := "nearest", desc := "(II)I" } : Jvm.MethodName)) ∈ lw_all := lw_g (lw_at lw_m10 58 rfl) rfl
theorem q2309 : (Jvm.Cond.code ({ cls := "OtterTrustModel", name := "nearest", desc := "(II)I" } : Jvm.MethodName) prog_11_method_38_code (6 : Nat) (Option.some Jvm.ClassFile.FieldType.int)) ∈ lw_all := lw_g (lw_at lw_m10 59 rfl) rfl
theorem q2310 : (Jvm.Cond.methodLink "OtterTrustModel" (155 : Nat) ({ cls := "java/lang/Math", name := "abs", desc := "(I)I" } : Jvm.MethodName)) ∈ lw_all := lw_g (lw_at lw_m10 60 rfl) rfl
theorem q2311 : (Jvm.Cond.methodLink "OtterTrustModel" (170 : Nat) ({ cls := "OtterTrustModel", name := "month", desc := "()I" } : Jvm.MethodName)) ∈ lw_all := lw_g (lw_at lw_m10 61 rfl) rfl
theorem q2312 : (Jvm.Cond.privateMethod ({ cls := "OtterTrustModel", name := "month", desc := "()I" } : Jvm.MethodName)) ∈ lw_tbl := lw_at lw_m10 62 rfl
theorem q2313 : (Jvm.Cond.instanceMethod ({ cls := "OtterTrustModel", name := "month", desc := "()I" } : Jvm.MethodName)) ∈ lw_all := lw_g (lw_at lw_m10 63 rfl) rfl
theorem q2314 : (Jvm.Cond.code ({ cls := "OtterTrustModel", name := "month", desc := "()I" } : Jvm.MethodName) prog_11_method_41_code (1 : Nat) (Option.some Jvm.ClassFile.FieldType.int)) ∈ lw_all := lw_g (lw_at lw_m10 64 rfl) rfl
theorem q2315 : (Jvm.Cond.constantLong "OtterTrustModel" (173 : Nat) (2 : Int64)) ∈ lw_all := lw_g (lw_at lw_m10 65 rfl) rfl
theorem q2316 : (Jvm.Cond.constantLong "OtterTrustModel" (175 : Nat) (4 : Int64)) ∈ lw_all := lw_g (lw_at lw_m10 66 rfl) rfl
theorem q2317 : (Jvm.Cond.methodLink "OtterTrustModel" (177 : Nat) ({ cls := "java/lang/Math", name := "min", desc := "(II)I" } : Jvm.MethodName)) ∈ lw_all := lw_g (lw_at lw_m10 67 rfl) rfl
theorem q2319 : (Jvm.Cond.instanceMethod ({ cls := "OtterTrustModel", name := "walk", desc := "(I)I" } : Jvm.MethodName)) ∈ lw_all := lw_g (lw_at lw_m10 69 rfl) rfl
theorem q2320 : (Jvm.Cond.selects "OtterTrustModel" ({ cls := "OtterTrustModel", name := "walk", desc := "(I)I" } : Jvm.MethodName) ({ cls := "OtterTrustModel", name := "walk", desc := "(I)I" } : Jvm.MethodName)) ∈ lw_all := lw_g (lw_at lw_m10 70 rfl) rfl
theorem q2321 : (Jvm.Cond.code ({ cls := "OtterTrustModel", name := "walk", desc := "(I)I" } : Jvm.MethodName) prog_11_method_49_code (2 : Nat) (Option.some Jvm.ClassFile.FieldType.int)) ∈ lw_all := lw_g (lw_at lw_m10 71 rfl) rfl
theorem q2322 : (Jvm.Cond.methodLink "OtterTrustModel" (201 : Nat) ({ cls := "OtterTrustModel", name := "walkIt", desc := "(I)I" } : Jvm.MethodName)) ∈ lw_all := lw_g (lw_at lw_m10 72 rfl) rfl
theorem q2323 : (Jvm.Cond.privateMethod ({ cls := "OtterTrustModel", name := "walkIt", desc := "(I)I" } : Jvm.MethodName)) ∈ lw_tbl := lw_at lw_m10 73 rfl
theorem q2324 : (Jvm.Cond.instanceMethod ({ cls := "OtterTrustModel", name := "walkIt", desc := "(I)I" } : Jvm.MethodName)) ∈ lw_all := lw_g (lw_at lw_m10 74 rfl) rfl
theorem q2325 : (Jvm.Cond.code ({ cls := "OtterTrustModel", name := "walkIt", desc := "(I)I" } : Jvm.MethodName) prog_11_method_48_code (5 : Nat) (Option.some Jvm.ClassFile.FieldType.int)) ∈ lw_all := lw_g (lw_at lw_m10 75 rfl) rfl
theorem q2326 : (Jvm.Cond.methodLink "OtterTrustModel" (198 : Nat) ({ cls := "OtterTrustModel", name := "isInRound", desc := "(II)Z" } : Jvm.MethodName)) ∈ lw_all := lw_g (lw_at lw_m10 76 rfl) rfl
theorem q2327 : (Jvm.Cond.privateMethod ({ cls := "OtterTrustModel", name := "isInRound", desc := "(II)Z" } : Jvm.MethodName)) ∈ lw_tbl := lw_at lw_m10 77 rfl
theorem q2328 : (Jvm.Cond.instanceMethod ({ cls := "OtterTrustModel", name := "isInRound", desc := "(II)Z" } : Jvm.MethodName)) ∈ lw_all := lw_g (lw_at lw_m10 78 rfl) rfl
theorem q2329 : (Jvm.Cond.code ({ cls := "OtterTrustModel", name := "isInRound", desc := "(II)Z" } : Jvm.MethodName) prog_11_method_47_code (3 : Nat) (Option.some Jvm.ClassFile.FieldType.boolean)) ∈ lw_all := lw_g (lw_at lw_m10 79 rfl) rfl
theorem q2331 : (Jvm.Cond.instanceMethod ({ cls := "OtterTrustModel", name := "census", desc := "()I" } : Jvm.MethodName)) ∈ lw_all := lw_g (lw_at lw_m10 81 rfl) rfl
theorem q2332 : (Jvm.Cond.selects "OtterTrustModel" ({ cls := "OtterTrustModel", name := "census", desc := "()I" } : Jvm.MethodName) ({ cls := "OtterTrustModel", name := "census", desc := "()I" } : Jvm.MethodName)) ∈ lw_all := lw_g (lw_at lw_m10 82 rfl) rfl
theorem q2333 : (Jvm.Cond.code ({ cls := "OtterTrustModel", name := "census", desc := "()I" } : Jvm.MethodName) prog_11_method_51_code (1 : Nat) (Option.some Jvm.ClassFile.FieldType.int)) ∈ lw_all := lw_g (lw_at lw_m10 83 rfl) rfl
theorem q2334 : (Jvm.Cond.methodLink "OtterTrustModel" (204 : Nat) ({ cls := "OtterTrustModel", name := "censusIt", desc := "()I" } : Jvm.MethodName)) ∈ lw_all := lw_g (lw_at lw_m10 84 rfl) rfl
theorem q2335 : (Jvm.Cond.privateMethod ({ cls := "OtterTrustModel", name := "censusIt", desc := "()I" } : Jvm.MethodName)) ∈ lw_tbl := lw_at lw_m10 85 rfl
theorem q2336 : (Jvm.Cond.instanceMethod ({ cls := "OtterTrustModel", name := "censusIt", desc := "()I" } : Jvm.MethodName)) ∈ lw_all := lw_g (lw_at lw_m10 86 rfl) rfl
theorem q2337 : (Jvm.Cond.code ({ cls := "OtterTrustModel", name := "censusIt", desc := "()I" } : Jvm.MethodName) prog_11_method_50_code (3 : Nat) (Option.some Jvm.ClassFile.FieldType.int)) ∈ lw_all := lw_g (lw_at lw_m10 87 rfl) rfl
theorem q2339 : (Jvm.Cond.instanceMethod ({ cls := "OtterTrustModel", name := "reachOf", desc := "(II)I" } : Jvm.MethodName)) ∈ lw_all := lw_g (lw_at lw_m10 89 rfl) rfl
theorem q2340 : (Jvm.Cond.selects "OtterTrustModel" ({ cls := "OtterTrustModel", name := "reachOf", desc := "(II)I" } : Jvm.MethodName) ({ cls := "OtterTrustModel", name := "reachOf", desc := "(II)I" } : Jvm.MethodName)) ∈ lw_all := lw_g (lw_at lw_m10 90 rfl) rfl
theorem q2341 : (Jvm.Cond.code ({ cls := "OtterTrustModel", name := "reachOf", desc := "(II)I" } : Jvm.MethodName) prog_11_method_52_code (4 : Nat) (Option.some Jvm.ClassFile.FieldType.int)) ∈ lw_all := lw_g (lw_at lw_m10 91 rfl) rfl
theorem q2343 : (Jvm.Cond.instanceMethod ({ cls := "OtterTrustModel", name := "otterOf", desc := "(II)I" } : Jvm.MethodName)) ∈ lw_all := lw_g (lw_at lw_m10 93 rfl) rfl
theorem q2344 : (Jvm.Cond.selects "OtterTrustModel" ({ cls := "OtterTrustModel", name := "otterOf", desc := "(II)I" } : Jvm.MethodName) ({ cls := "OtterTrustModel", name := "otterOf", desc := "(II)I" } : Jvm.MethodName)) ∈ lw_all := lw_g (lw_at lw_m10 94 rfl) rfl
theorem q2345 : (Jvm.Cond.code ({ cls := "OtterTrustModel", name := "otterOf", desc := "(II)I" } : Jvm.MethodName) prog_11_method_53_code (3 : Nat) (Option.some Jvm.ClassFile.FieldType.int)) ∈ lw_all := lw_g (lw_at lw_m10 95 rfl) rfl
theorem q2346 : (Jvm.Cond.methodLink "OtterTrustModel" (207 : Nat) ({ cls := "OtterTrustModel", name := "isOtter", desc := "(I)Z" } : Jvm.MethodName)) ∈ lw_all := lw_g (lw_at lw_m10 96 rfl) rfl
theorem q2347 : (Jvm.Cond.privateMethod ({ cls := "OtterTrustModel", name := "isOtter", desc := "(I)Z" } : Jvm.MethodName)) ∈ lw_tbl := lw_at lw_m10 97 rfl
theorem q2348 : (Jvm.Cond.instanceMethod ({ cls := "OtterTrustModel", name := "isOtter", desc := "(I)Z" } : Jvm.MethodName)) ∈ lw_all := lw_g (lw_at lw_m10 98 rfl) rfl
theorem q2349 : (Jvm.Cond.code ({ cls := "OtterTrustModel", name := "isOtter", desc := "(I)Z" } : Jvm.MethodName) prog_11_method_12_code (2 : Nat) (Option.some Jvm.ClassFile.FieldType.boolean)) ∈ lw_all := lw_g (lw_at lw_m10 99 rfl) rfl
theorem q2351 : (Jvm.Cond.instanceMethod ({ cls := "OtterTrustModel", name := "volunteerOf", desc := "(II)I" } : Jvm.MethodName)) ∈ lw_all := lw_g (lw_at lw_m10 101 rfl) rfl
theorem q2352 : (Jvm.Cond.selects "OtterTrustModel" ({ cls := "OtterTrustModel", name := "volunteerOf", desc := "(II)I" } : Jvm.MethodName) ({ cls := "OtterTrustModel", name := "volunteerOf", desc := "(II)I" } : Jvm.MethodName)) ∈ lw_all := lw_g (lw_at lw_m10 102 rfl) rfl
theorem q2353 : (Jvm.Cond.code ({ cls := "OtterTrustModel", name := "volunteerOf", desc := "(II)I" } : Jvm.MethodName) prog_11_method_54_code (3 : Nat) (Option.some Jvm.ClassFile.FieldType.int)) ∈ lw_all := lw_g (lw_at lw_m10 103 rfl) rfl
theorem q2355 : (Jvm.Cond.instanceMethod ({ cls := "OtterTrustModel", name := "refuge", desc := "(I)I" } : Jvm.MethodName)) ∈ lw_all := lw_g (lw_at lw_m10 105 rfl) rfl
theorem q2356 : (Jvm.Cond.selects "OtterTrustModel" ({ cls := "OtterTrustModel", name := "refuge", desc := "(I)I" } : Jvm.MethodName) ({ cls := "OtterTrustModel", name := "refuge", desc := "(I)I" } : Jvm.MethodName)) ∈ lw_all := lw_g (lw_at lw_m10 106 rfl) rfl
theorem q2357 : (Jvm.Cond.code ({ cls := "OtterTrustModel", name := "refuge", desc := "(I)I" } : Jvm.MethodName) prog_11_method_55_code (3 : Nat) (Option.some Jvm.ClassFile.FieldType.int)) ∈ lw_all := lw_g (lw_at lw_m10 107 rfl) rfl
theorem q2359 : (Jvm.Cond.instanceMethod ({ cls := "OtterTrustModel", name := "refugeAgain", desc := "(I)I" } : Jvm.MethodName)) ∈ lw_all := lw_g (lw_at lw_m10 109 rfl) rfl
theorem q2360 : (Jvm.Cond.selects "OtterTrustModel" ({ cls := "OtterTrustModel", name := "refugeAgain", desc := "(I)I" } : Jvm.MethodName) ({ cls := "OtterTrustModel", name := "refugeAgain", desc := "(I)I" } : Jvm.MethodName)) ∈ lw_all := lw_g (lw_at lw_m10 110 rfl) rfl
theorem q2361 : (Jvm.Cond.code ({ cls := "OtterTrustModel", name := "refugeAgain", desc := "(I)I" } : Jvm.MethodName) prog_11_method_56_code (2 : Nat) (Option.some Jvm.ClassFile.FieldType.int)) ∈ lw_all := lw_g (lw_at lw_m10 111 rfl) rfl
theorem q2362 : (Jvm.Cond.methodLink "OtterTrustModel" (210 : Nat) ({ cls := "OtterTrustModel", name := "refuge", desc := "(I)I" } : Jvm.MethodName)) ∈ lw_all := lw_g (lw_at lw_m10 112 rfl) rfl
theorem q2364 : (Jvm.Cond.instanceMethod ({ cls := "OtterTrustModel", name := "goal", desc := "(I)I" } : Jvm.MethodName)) ∈ lw_all := lw_g (lw_at lw_m10 114 rfl) rfl
theorem q2365 : (Jvm.Cond.selects "OtterTrustModel" ({ cls := "OtterTrustModel", name := "goal", desc := "(I)I" } : Jvm.MethodName) ({ cls := "OtterTrustModel", name := "goal", desc := "(I)I" } : Jvm.MethodName)) ∈ lw_all := lw_g (lw_at lw_m10 115 rfl) rfl
theorem q2366 : (Jvm.Cond.code ({ cls := "OtterTrustModel", name := "goal", desc := "(I)I" } : Jvm.MethodName) prog_11_method_57_code (3 : Nat) (Option.some Jvm.ClassFile.FieldType.int)) ∈ lw_all := lw_g (lw_at lw_m10 116 rfl) rfl
theorem q2367 : (Jvm.Cond.methodLink "OtterTrustModel" (213 : Nat) ({ cls := "java/lang/Math", name := "max", desc := "(II)I" } : Jvm.MethodName)) ∈ lw_all := lw_g (lw_at lw_m10 117 rfl) rfl
theorem q2369 : (Jvm.Cond.instanceMethod ({ cls := "OtterTrustModel", name := "killedIn", desc := "(I)I" } : Jvm.MethodName)) ∈ lw_all := lw_g (lw_at lw_m10 119 rfl) rfl
theorem q2370 : (Jvm.Cond.selects "OtterTrustModel" ({ cls := "OtterTrustModel", name := "killedIn", desc := "(I)I" } : Jvm.MethodName) ({ cls := "OtterTrustModel", name := "killedIn", desc := "(I)I" } : Jvm.MethodName)) ∈ lw_all := lw_g (lw_at lw_m10 120 rfl) rfl
theorem q2371 : (Jvm.Cond.code ({ cls := "OtterTrustModel", name := "killedIn", desc := "(I)I" } : Jvm.MethodName) prog_11_method_60_code (4 : Nat) (Option.some Jvm.ClassFile.FieldType.int)) ∈ lw_all := lw_g (lw_at lw_m10 121 rfl) rfl
theorem q2372 : (Jvm.Cond.methodLink "OtterTrustModel" (216 : Nat) ({ cls := "OtterTrustModel", name := "thinks", desc := "()V" } : Jvm.MethodName)) ∈ lw_all := lw_g (lw_at lw_m10 122 rfl) rfl
theorem q2373 : (Jvm.Cond.privateMethod ({ cls := "OtterTrustModel", name := "thinks", desc := "()V" } : Jvm.MethodName)) ∈ lw_tbl := lw_at lw_m10 123 rfl
theorem q2374 : (Jvm.Cond.instanceMethod ({ cls := "OtterTrustModel", name := "thinks", desc := "()V" } : Jvm.MethodName)) ∈ lw_all := lw_g (lw_at lw_m10 124 rfl) rfl
theorem q2375 : (Jvm.Cond.code ({ cls := "OtterTrustModel", name := "thinks", desc := "()V" } : Jvm.MethodName) prog_11_method_58_code (2 : Nat) (Option.none : Option Jvm.ClassFile.FieldType)) ∈ lw_all := lw_g (lw_at lw_m10 125 rfl) rfl
theorem q2376 : (Jvm.Cond.methodLink "OtterTrustModel" (219 : Nat) ({ cls := "OtterTrustModel", name := "wakes", desc := "()V" } : Jvm.MethodName)) ∈ lw_all := lw_g (lw_at lw_m10 126 rfl) rfl
theorem q2377 : (Jvm.Cond.privateMethod ({ cls := "OtterTrustModel", name := "wakes", desc := "()V" } : Jvm.MethodName)) ∈ lw_tbl := lw_at lw_m10 127 rfl
theorem q2378 : (Jvm.Cond.instanceMethod ({ cls := "OtterTrustModel", name := "wakes", desc := "()V" } : Jvm.MethodName)) ∈ lw_all := lw_g (lw_at lw_m10 128 rfl) rfl
theorem q2379 : (Jvm.Cond.code ({ cls := "OtterTrustModel", name := "wakes", desc := "()V" } : Jvm.MethodName) prog_11_method_59_code (2 : Nat) (Option.none : Option Jvm.ClassFile.FieldType)) ∈ lw_all := lw_g (lw_at lw_m10 129 rfl) rfl
theorem q2381 : (Jvm.Cond.instanceMethod ({ cls := "OtterTrustModel", name := "cubsIn", desc := "(I)I" } : Jvm.MethodName)) ∈ lw_all := lw_g (lw_at lw_m10 131 rfl) rfl
theorem q2382 : (Jvm.Cond.selects "OtterTrustModel" ({ cls := "OtterTrustModel", name := "cubsIn", desc := "(I)I" } : Jvm.MethodName) ({ cls := "OtterTrustModel", name := "cubsIn", desc := "(I)I" } : Jvm.MethodName)) ∈ lw_all := lw_g (lw_at lw_m10 132 rfl) rfl
theorem q2383 : (Jvm.Cond.code ({ cls := "OtterTrustModel", name := "cubsIn", desc := "(I)I" } : Jvm.MethodName) prog_11_method_61_code (4 : Nat) (Option.some Jvm.ClassFile.FieldType.int)) ∈ lw_all := lw_g (lw_at lw_m10 133 rfl) rfl
theorem q2385 : (Jvm.Cond.instanceMethod ({ cls := "OtterTrustModel", name := "worstDip", desc := "()I" } : Jvm.MethodName)) ∈ lw_all := lw_g (lw_at lw_m10 135 rfl) rfl
theorem q2386 : (Jvm.Cond.selects "OtterTrustModel" ({ cls := "OtterTrustModel", name := "worstDip", desc := "()I" } : Jvm.MethodName) ({ cls := "OtterTrustModel", name := "worstDip", desc := "()I" } : Jvm.MethodName)) ∈ lw_all := lw_g (lw_at lw_m10 136 rfl) rfl
theorem q2387 : (Jvm.Cond.code ({ cls := "OtterTrustModel", name := "worstDip", desc := "()I" } : Jvm.MethodName) prog_11_method_62_code (3 : Nat) (Option.some Jvm.ClassFile.FieldType.int)) ∈ lw_all := lw_g (lw_at lw_m10 137 rfl) rfl
theorem q2389 : (Jvm.Cond.instanceMethod ({ cls := "OtterTrustModel", name := "unseen", desc := "()I" } : Jvm.MethodName)) ∈ lw_all := lw_g (lw_at lw_m10 139 rfl) rfl
theorem q2390 : (Jvm.Cond.selects "OtterTrustModel" ({ cls := "OtterTrustModel", name := "unseen", desc := "()I" } : Jvm.MethodName) ({ cls := "OtterTrustModel", name := "unseen", desc := "()I" } : Jvm.MethodName)) ∈ lw_all := lw_g (lw_at lw_m10 140 rfl) rfl
theorem q2391 : (Jvm.Cond.code ({ cls := "OtterTrustModel", name := "unseen", desc := "()I" } : Jvm.MethodName) prog_11_method_64_code (3 : Nat) (Option.some Jvm.ClassFile.FieldType.int)) ∈ lw_all := lw_g (lw_at lw_m10 141 rfl) rfl
theorem q2392 : (Jvm.Cond.methodLink "OtterTrustModel" (222 : Nat) ({ cls := "OtterTrustModel", name := "seerOf", desc := "(I)I" } : Jvm.MethodName)) ∈ lw_all := lw_g (lw_at lw_m10 142 rfl) rfl
theorem q2393 : (Jvm.Cond.privateMethod ({ cls := "OtterTrustModel", name := "seerOf", desc := "(I)I" } : Jvm.MethodName)) ∈ lw_tbl := lw_at lw_m10 143 rfl
theorem q2394 : (Jvm.Cond.instanceMethod ({ cls := "OtterTrustModel", name := "seerOf", desc := "(I)I" } : Jvm.MethodName)) ∈ lw_all := lw_g (lw_at lw_m10 144 rfl) rfl
theorem q2395 : (Jvm.Cond.code ({ cls := "OtterTrustModel", name := "seerOf", desc := "(I)I" } : Jvm.MethodName) prog_11_method_63_code (3 : Nat) (Option.some Jvm.ClassFile.FieldType.int)) ∈ lw_all := lw_g (lw_at lw_m10 145 rfl) rfl
theorem q2397 : (Jvm.Cond.instanceMethod ({ cls := "OtterTrustModel", name := "lonely", desc := "()I" } : Jvm.MethodName)) ∈ lw_all := lw_g (lw_at lw_m10 147 rfl) rfl
theorem q2398 : (Jvm.Cond.selects "OtterTrustModel" ({ cls := "OtterTrustModel", name := "lonely", desc := "()I" } : Jvm.MethodName) ({ cls := "OtterTrustModel", name := "lonely", desc := "()I" } : Jvm.MethodName)) ∈ lw_all := lw_g (lw_at lw_m10 148 rfl) rfl
theorem q2399 : (Jvm.Cond.code ({ cls := "OtterTrustModel", name := "lonely", desc := "()I" } : Jvm.MethodName) prog_11_method_65_code (3 : Nat) (Option.some Jvm.ClassFile.FieldType.int)) ∈ lw_all := lw_g (lw_at lw_m10 149 rfl) rfl
theorem q2401 : (Jvm.Cond.instanceMethod ({ cls := "OtterTrustModel", name := "safeLevel", desc := "()I" } : Jvm.MethodName)) ∈ lw_all := lw_g (lw_at lw_m10 151 rfl) rfl
theorem q2402 : (Jvm.Cond.selects "OtterTrustModel" ({ cls := "OtterTrustModel", name := "safeLevel", desc := "()I" } : Jvm.MethodName) ({ cls := "OtterTrustModel", name := "safeLevel", desc := "()I" } : Jvm.MethodName)) ∈ lw_all := lw_g (lw_at lw_m10 152 rfl) rfl
theorem q2403 : (Jvm.Cond.code ({ cls := "OtterTrustModel", name := "safeLevel", desc := "()I" } : Jvm.MethodName) prog_11_method_66_code (3 : Nat) (Option.some Jvm.ClassFile.FieldType.int)) ∈ lw_all := lw_g (lw_at lw_m10 153 rfl) rfl
theorem q2405 : (Jvm.Cond.instanceMethod ({ cls := "OtterTrustModel", name := "seenBy", desc := "(I)I" } : Jvm.MethodName)) ∈ lw_all := lw_g (lw_at lw_m10 155 rfl) rfl
theorem q2406 : (Jvm.Cond.selects "OtterTrustModel" ({ cls := "OtterTrustModel", name := "seenBy", desc := "(I)I" } : Jvm.MethodName) ({ cls := "OtterTrustModel", name := "seenBy", desc := "(I)I" } : Jvm.MethodName)) ∈ lw_all := lw_g (lw_at lw_m10 156 rfl) rfl
theorem q2407 : (Jvm.Cond.code ({ cls := "OtterTrustModel", name := "seenBy", desc := "(I)I" } : Jvm.MethodName) prog_11_method_67_code (3 : Nat) (Option.some Jvm.ClassFile.FieldType.int)) ∈ lw_all := lw_g (lw_at lw_m10 157 rfl) rfl
theorem q2409 : (Jvm.Cond.instanceMethod ({ cls := "OtterTrustModel", name := "busiest", desc := "()I" } : Jvm.MethodName)) ∈ lw_all := lw_g (lw_at lw_m10 159 rfl) rfl
theorem q2410 : (Jvm.Cond.selects "OtterTrustModel" ({ cls := "OtterTrustModel", name := "busiest", desc := "()I" } : Jvm.MethodName) ({ cls := "OtterTrustModel", name := "busiest", desc := "()I" } : Jvm.MethodName)) ∈ lw_all := lw_g (lw_at lw_m10 160 rfl) rfl
theorem q2411 : (Jvm.Cond.code ({ cls := "OtterTrustModel", name := "busiest", desc := "()I" } : Jvm.MethodName) prog_11_method_68_code (3 : Nat) (Option.some Jvm.ClassFile.FieldType.int)) ∈ lw_all := lw_g (lw_at lw_m10 161 rfl) rfl
theorem q2413 : (Jvm.Cond.instanceMethod ({ cls := "OtterTrustModel", name := "ranked", desc := "(I)I" } : Jvm.MethodName)) ∈ lw_all := lw_g (lw_at lw_m10 163 rfl) rfl
theorem q2414 : (Jvm.Cond.selects "OtterTrustModel" ({ cls := "OtterTrustModel", name := "ranked", desc := "(I)I" } : Jvm.MethodName) ({ cls := "OtterTrustModel", name := "ranked", desc := "(I)I" } : Jvm.MethodName)) ∈ lw_all := lw_g (lw_at lw_m10 164 rfl) rfl
theorem q2415 : (Jvm.Cond.code ({ cls := "OtterTrustModel", name := "ranked", desc := "(I)I" } : Jvm.MethodName) prog_11_method_70_code (3 : Nat) (Option.some Jvm.ClassFile.FieldType.int)) ∈ lw_all := lw_g (lw_at lw_m10 165 rfl) rfl
theorem q2416 : (Jvm.Cond.methodLink "OtterTrustModel" (225 : Nat) ({ cls := "OtterTrustModel", name := "ahead", desc := "(I)I" } : Jvm.MethodName)) ∈ lw_all := lw_g (lw_at lw_m10 166 rfl) rfl
theorem q2417 : (Jvm.Cond.privateMethod ({ cls := "OtterTrustModel", name := "ahead", desc := "(I)I" } : Jvm.MethodName)) ∈ lw_tbl := lw_at lw_m10 167 rfl
theorem q2418 : (Jvm.Cond.instanceMethod ({ cls := "OtterTrustModel", name := "ahead", desc := "(I)I" } : Jvm.MethodName)) ∈ lw_all := lw_g (lw_at lw_m10 168 rfl) rfl
theorem q2419 : (Jvm.Cond.code ({ cls := "OtterTrustModel", name := "ahead", desc := "(I)I" } : Jvm.MethodName) prog_11_method_69_code (4 : Nat) (Option.some Jvm.ClassFile.FieldType.int)) ∈ lw_all := lw_g (lw_at lw_m10 169 rfl) rfl
theorem q2421 : (Jvm.Cond.instanceMethod ({ cls := "OtterTrustModel", name := "feed", desc := "(C)I" } : Jvm.MethodName)) ∈ lw_all := lw_g (lw_at lw_m10 171 rfl) rfl
theorem q2422 : (Jvm.Cond.selects "OtterTrustModel" ({ cls := "OtterTrustModel", name := "feed", desc := "(C)I" } : Jvm.MethodName) ({ cls := "OtterTrustModel", name := "feed", desc := "(C)I" } : Jvm.MethodName)) ∈ lw_all := lw_g (lw_at lw_m10 172 rfl) rfl
theorem q2423 : (Jvm.Cond.code ({ cls := "OtterTrustModel", name := "feed", desc := "(C)I" } : Jvm.MethodName) prog_11_method_71_code (2 : Nat) (Option.some Jvm.ClassFile.FieldType.int)) ∈ lw_all := lw_g (lw_at lw_m10 173 rfl) rfl
theorem q2425 : (Jvm.Cond.instanceMethod ({ cls := "OtterTrustModel", name := "run", desc := "()I" } : Jvm.MethodName)) ∈ lw_all := lw_g (lw_at lw_m10 175 rfl) rfl
theorem q2426 : (Jvm.Cond.selects "OtterTrustModel" ({ cls := "OtterTrustModel", name := "run", desc := "()I" } : Jvm.MethodName) ({ cls := "OtterTrustModel", name := "run", desc := "()I" } : Jvm.MethodName)) ∈ lw_all := lw_g (lw_at lw_m10 176 rfl) rfl
theorem q2427 : (Jvm.Cond.code ({ cls := "OtterTrustModel", name := "run", desc := "()I" } : Jvm.MethodName) prog_11_method_80_code (3 : Nat) (Option.some Jvm.ClassFile.FieldType.int)) ∈ lw_all := lw_g (lw_at lw_m10 177 rfl) rfl
theorem q2428 : (Jvm.Cond.methodLink "OtterTrustModel" (266 : Nat) ({ cls := "OtterTrustModel", name := "readAll", desc := "()V" } : Jvm.MethodName)) ∈ lw_all := lw_g (lw_at lw_m10 178 rfl) rfl
theorem q2429 : (Jvm.Cond.privateMethod ({ cls := "OtterTrustModel", name := "readAll", desc := "()V" } : Jvm.MethodName)) ∈ lw_tbl := lw_at lw_m10 179 rfl
theorem q2430 : (Jvm.Cond.instanceMethod ({ cls := "OtterTrustModel", name := "readAll", desc := "()V" } : Jvm.MethodName)) ∈ lw_all := lw_g (lw_at lw_m10 180 rfl) rfl
theorem q2431 : (Jvm.Cond.code ({ cls := "OtterTrustModel", name := "readAll", desc := "()V" } : Jvm.MethodName) prog_11_method_78_code (2 : Nat) (Option.none : Option Jvm.ClassFile.FieldType)) ∈ lw_all := lw_g (lw_at lw_m10 181 rfl) rfl
theorem q2432 : (Jvm.Cond.methodLink "OtterTrustModel" (263 : Nat) ({ cls := "OtterTrustModel", name := "readOrder", desc := "()V" } : Jvm.MethodName)) ∈ lw_all := lw_g (lw_at lw_m10 182 rfl) rfl
theorem q2433 : (Jvm.Cond.privateMethod ({ cls := "OtterTrustModel", name := "readOrder", desc := "()V" } : Jvm.MethodName)) ∈ lw_tbl := lw_at lw_m10 183 rfl
theorem q2434 : (Jvm.Cond.instanceMethod ({ cls := "OtterTrustModel", name := "readOrder", desc := "()V" } : Jvm.MethodName)) ∈ lw_all := lw_g (lw_at lw_m10 184 rfl) rfl
theorem q2435 : (Jvm.Cond.code ({ cls := "OtterTrustModel", name := "readOrder", desc := "()V" } : Jvm.MethodName) prog_11_method_77_code (3 : Nat) (Option.none : Option Jvm.ClassFile.FieldType)) ∈ lw_all := lw_g (lw_at lw_m10 185 rfl) rfl
theorem q2436 : (Jvm.Cond.methodLink "OtterTrustModel" (251 : Nat) ({ cls := "OtterTrustModel", name := "wordHere", desc := "()I" } : Jvm.MethodName)) ∈ lw_all := lw_g (lw_at lw_m10 186 rfl) rfl
theorem q2437 : (Jvm.Cond.privateMethod ({ cls := "OtterTrustModel", name := "wordHere", desc := "()I" } : Jvm.MethodName)) ∈ lw_tbl := lw_at lw_m10 187 rfl
theorem q2438 : (Jvm.Cond.instanceMethod ({ cls := "OtterTrustModel", name := "wordHere", desc := "()I" } : Jvm.MethodName)) ∈ lw_all := lw_g (lw_at lw_m10 188 rfl) rfl
theorem q2439 : (Jvm.Cond.code ({ cls := "OtterTrustModel", name := "wordHere", desc := "()I" } : Jvm.MethodName) prog_11_method_76_code (3 : Nat) (Option.some Jvm.ClassFile.FieldType.int)) ∈ lw_all := lw_g (lw_at lw_m10 189 rfl) rfl
theorem q2440 : (Jvm.Cond.methodLink "OtterTrustModel" (241 : Nat) ({ cls := "OtterTrustModel", name := "here", desc := "()I" } : Jvm.MethodName)) ∈ lw_all := lw_g (lw_at lw_m10 190 rfl) rfl
theorem q2441 : (Jvm.Cond.privateMethod ({ cls := "OtterTrustModel", name := "here", desc := "()I" } : Jvm.MethodName)) ∈ lw_tbl := lw_at lw_m10 191 rfl
theorem q2442 : (Jvm.Cond.instanceMethod ({ cls := "OtterTrustModel", name := "here", desc := "()I" } : Jvm.MethodName)) ∈ lw_all := lw_g (lw_at lw_m10 192 rfl) rfl
theorem q2443 : (Jvm.Cond.code ({ cls := "OtterTrustModel", name := "here", desc := "()I" } : Jvm.MethodName) prog_11_method_72_code (1 : Nat) (Option.some Jvm.ClassFile.FieldType.int)) ∈ lw_all := lw_g (lw_at lw_m10 193 rfl) rfl
theorem q2444 : (Jvm.Cond.methodLink "OtterTrustModel" (254 : Nat) ({ cls := "OtterTrustModel", name := "takes", desc := "(I)V" } : Jvm.MethodName)) ∈ lw_all := lw_g (lw_at lw_m10 194 rfl) rfl
theorem q2445 : (Jvm.Cond.privateMethod ({ cls := "OtterTrustModel", name := "takes", desc := "(I)V" } : Jvm.MethodName)) ∈ lw_tbl := lw_at lw_m10 195 rfl
theorem q2446 : (Jvm.Cond.instanceMethod ({ cls := "OtterTrustModel", name := "takes", desc := "(I)V" } : Jvm.MethodName)) ∈ lw_all := lw_g (lw_at lw_m10 196 rfl) rfl
theorem q2447 : (Jvm.Cond.code ({ cls := "OtterTrustModel", name := "takes", desc := "(I)V" } : Jvm.MethodName) prog_11_method_73_code (2 : Nat) (Option.none : Option Jvm.ClassFile.FieldType)) ∈ lw_all := lw_g (lw_at lw_m10 197 rfl) rfl
theorem q2448 : (Jvm.Cond.methodLink "OtterTrustModel" (248 : Nat) ({ cls := "OtterTrustModel", name := "digit", desc := "()I" } : Jvm.MethodName)) ∈ lw_all := lw_g (lw_at lw_m10 198 rfl) rfl
theorem q2449 : (Jvm.Cond.privateMethod ({ cls := "OtterTrustModel", name := "digit", desc := "()I" } : Jvm.MethodName)) ∈ lw_tbl := lw_at lw_m10 199 rfl
theorem q2450 : (Jvm.Cond.instanceMethod ({ cls := "OtterTrustModel", name := "digit", desc := "()I" } : Jvm.MethodName)) ∈ lw_all := lw_g (lw_at lw_m10 200 rfl) rfl
theorem q2451 : (Jvm.Cond.code ({ cls := "OtterTrustModel", name := "digit", desc := "()I" } : Jvm.MethodName) prog_11_method_74_code (2 : Nat) (Option.some Jvm.ClassFile.FieldType.int)) ∈ lw_all := lw_g (lw_at lw_m10 201 rfl) rfl
theorem q2452 : (Jvm.Cond.constantLong "OtterTrustModel" (244 : Nat) (48 : Int64)) ∈ lw_all := lw_g (lw_at lw_m10 202 rfl) rfl
theorem q2453 : (Jvm.Cond.constantLong "OtterTrustModel" (246 : Nat) (57 : Int64)) ∈ lw_all := lw_g (lw_at lw_m10 203 rfl) rfl
theorem q2454 : (Jvm.Cond.methodLink "OtterTrustModel" (260 : Nat) ({ cls := "OtterTrustModel", name := "number", desc := "()I" } : Jvm.MethodName)) ∈ lw_all := lw_g (lw_at lw_m10 204 rfl) rfl
theorem q2455 : (Jvm.Cond.privateMethod ({ cls := "OtterTrustModel", name := "number", desc := "()I" } : Jvm.MethodName)) ∈ lw_tbl := lw_at lw_m10 205 rfl
theorem q2456 : (Jvm.Cond.instanceMethod ({ cls := "OtterTrustModel", name := "number", desc := "()I" } : Jvm.MethodName)) ∈ lw_all := lw_g (lw_at lw_m10 206 rfl) rfl
theorem q2457 : (Jvm.Cond.code ({ cls := "OtterTrustModel", name := "number", desc := "()I" } : Jvm.MethodName) prog_11_method_75_code (2 : Nat) (Option.some Jvm.ClassFile.FieldType.int)) ∈ lw_all := lw_g (lw_at lw_m10 207 rfl) rfl
theorem q2458 : (Jvm.Cond.methodLink "OtterTrustModel" (269 : Nat) ({ cls := "OtterTrustModel", name := "does", desc := "(II)I" } : Jvm.MethodName)) ∈ lw_all := lw_g (lw_at lw_m10 208 rfl) rfl
theorem q2459 : (Jvm.Cond.privateMethod ({ cls := "OtterTrustModel", name := "does", desc := "(II)I" } : Jvm.MethodName)) ∈ lw_tbl := lw_at lw_m10 209 rfl
theorem q2460 : (Jvm.Cond.instanceMethod ({ cls := "OtterTrustModel", name := "does", desc := "(II)I" } : Jvm.MethodName)) ∈ lw_all := lw_g (lw_at lw_m10 210 rfl) rfl
theorem q2461 : (Jvm.Cond.code ({ cls := "OtterTrustModel", name := "does", desc := "(II)I" } : Jvm.MethodName) prog_11_method_79_code (3 : Nat) (Option.some Jvm.ClassFile.FieldType.int)) ∈ lw_all := lw_g (lw_at lw_m10 211 rfl) rfl
theorem q2463 : (Jvm.Cond.instanceMethod ({ cls := "OtterTrustModel", name := "faultPosition", desc := "()I" } : Jvm.MethodName)) ∈ lw_all := lw_g (lw_at lw_m10 213 rfl) rfl
theorem q2464 : (Jvm.Cond.selects "OtterTrustModel" ({ cls := "OtterTrustModel", name := "faultPosition", desc := "()I" } : Jvm.MethodName) ({ cls := "OtterTrustModel", name := "faultPosition", desc := "()I" } : Jvm.MethodName)) ∈ lw_all := lw_g (lw_at lw_m10 214 rfl) rfl
theorem q2465 : (Jvm.Cond.code ({ cls := "OtterTrustModel", name := "faultPosition", desc := "()I" } : Jvm.MethodName) prog_11_method_81_code (1 : Nat) (Option.some Jvm.ClassFile.FieldType.int)) ∈ lw_all := lw_g (lw_at lw_m10 215 rfl) rfl
theorem q2467 : (Jvm.Cond.instanceMethod ({ cls := "OtterTrustModel", name := "reason", desc := "(I)I" } : Jvm.MethodName)) ∈ lw_all := lw_g (lw_at lw_m10 217 rfl) rfl
theorem q2468 : (Jvm.Cond.selects "OtterTrustModel" ({ cls := "OtterTrustModel", name := "reason", desc := "(I)I" } : Jvm.MethodName) ({ cls := "OtterTrustModel", name := "reason", desc := "(I)I" } : Jvm.MethodName)) ∈ lw_all := lw_g (lw_at lw_m10 218 rfl) rfl
theorem q2469 : (Jvm.Cond.code ({ cls := "OtterTrustModel", name := "reason", desc := "(I)I" } : Jvm.MethodName) prog_11_method_82_code (2 : Nat) (Option.some Jvm.ClassFile.FieldType.int)) ∈ lw_all := lw_g (lw_at lw_m10 219 rfl) rfl
theorem q2471 : (Jvm.Cond.instanceMethod ({ cls := "OtterTrustModel", name := "line", desc := "()I" } : Jvm.MethodName)) ∈ lw_all := lw_g (lw_at lw_m10 221 rfl) rfl
theorem q2472 : (Jvm.Cond.selects "OtterTrustModel" ({ cls := "OtterTrustModel", name := "line", desc := "()I" } : Jvm.MethodName) ({ cls := "OtterTrustModel", name := "line", desc := "()I" } : Jvm.MethodName)) ∈ lw_all := lw_g (lw_at lw_m10 222 rfl) rfl
theorem q2473 : (Jvm.Cond.code ({ cls := "OtterTrustModel", name := "line", desc := "()I" } : Jvm.MethodName) prog_11_method_84_code (3 : Nat) (Option.some Jvm.ClassFile.FieldType.int)) ∈ lw_all := lw_g (lw_at lw_m10 223 rfl) rfl
theorem q2474 : (Jvm.Cond.methodLink "OtterTrustModel" (275 : Nat) ({ cls := "OtterTrustModel", name := "sign", desc := "(I)V" } : Jvm.MethodName)) ∈ lw_all := lw_g (lw_at lw_m10 224 rfl) rfl
theorem q2475 : (Jvm.Cond.privateMethod ({ cls := "OtterTrustModel", name := "sign", desc := "(I)V" } : Jvm.MethodName)) ∈ lw_tbl := lw_at lw_m10 225 rfl
theorem q2476 : (Jvm.Cond.instanceMethod ({ cls := "OtterTrustModel", name := "sign", desc := "(I)V" } : Jvm.MethodName)) ∈ lw_all := lw_g (lw_at lw_m10 226 rfl) rfl
theorem q2477 : (Jvm.Cond.code ({ cls := "OtterTrustModel", name := "sign", desc := "(I)V" } : Jvm.MethodName) prog_11_method_83_code (2 : Nat) (Option.none : Option Jvm.ClassFile.FieldType)) ∈ lw_all := lw_g (lw_at lw_m10 227 rfl) rfl
theorem q2479 : (Jvm.Cond.instanceMethod ({ cls := "OtterTrustModel", name := "character", desc := "(I)C" } : Jvm.MethodName)) ∈ lw_all := lw_g (lw_at lw_m10 229 rfl) rfl
theorem q2480 : (Jvm.Cond.selects "OtterTrustModel" ({ cls := "OtterTrustModel", name := "character", desc := "(I)C" } : Jvm.MethodName) ({ cls := "OtterTrustModel", name := "character", desc := "(I)C" } : Jvm.MethodName)) ∈ lw_all := lw_g (lw_at lw_m10 230 rfl) rfl
theorem q2481 : (Jvm.Cond.code ({ cls := "OtterTrustModel", name := "character", desc := "(I)C" } : Jvm.MethodName) prog_11_method_85_code (2 : Nat) (Option.some Jvm.ClassFile.FieldType.char)) ∈ lw_all := lw_g (lw_at lw_m10 231 rfl) rfl
theorem q2483 : (Jvm.Cond.instanceMethod ({ cls := "OtterTrustModel", name := "meanQuality", desc := "()D" } : Jvm.MethodName)) ∈ lw_all := lw_g (lw_at lw_m10 233 rfl) rfl
theorem q2484 : (Jvm.Cond.selects "OtterTrustModel" ({ cls := "OtterTrustModel", name := "meanQuality", desc := "()D" } : Jvm.MethodName) ({ cls := "OtterTrustModel", name := "meanQuality", desc := "()D" } : Jvm.MethodName)) ∈ lw_all := lw_g (lw_at lw_m10 234 rfl) rfl
theorem q2485 : (Jvm.Cond.code ({ cls := "OtterTrustModel", name := "meanQuality", desc := "()D" } : Jvm.MethodName) prog_11_method_87_code (3 : Nat) (Option.some Jvm.ClassFile.FieldType.double)) ∈ lw_all := lw_g (lw_at lw_m10 235 rfl) rfl
theorem q2486 : (Jvm.Cond.methodLink "OtterTrustModel" (278 : Nat) ({ cls := "OtterTrustModel", name := "ofReaches", desc := "(I)I" } : Jvm.MethodName)) ∈ lw_all := lw_g (lw_at lw_m10 236 rfl) rfl
theorem q2487 : (Jvm.Cond.privateMethod ({ cls := "OtterTrustModel", name := "ofReaches", desc := "(I)I" } : Jvm.MethodName)) ∈ lw_tbl := lw_at lw_m10 237 rfl
theorem q2488 : (Jvm.Cond.instanceMethod ({ cls := "OtterTrustModel", name := "ofReaches", desc := "(I)I" } : Jvm.MethodName)) ∈ lw_all := lw_g (lw_at lw_m10 238 rfl) rfl
theorem q2489 : (Jvm.Cond.code ({ cls := "OtterTrustModel", name := "ofReaches", desc := "(I)I" } : Jvm.MethodName) prog_11_method_86_code (4 : Nat) (Option.some Jvm.ClassFile.FieldType.int)) ∈ lw_all := lw_g (lw_at lw_m10 239 rfl) rfl
theorem q2491 : (Jvm.Cond.instanceMethod ({ cls := "OtterTrustModel", name := "countedShare", desc := "()F" } : Jvm.MethodName)) ∈ lw_all := lw_g (lw_at lw_m11 1 rfl) rfl
theorem q2492 : (Jvm.Cond.selects "OtterTrustModel" ({ cls := "OtterTrustModel", name := "countedShare", desc := "()F" } : Jvm.MethodName) ({ cls := "OtterTrustModel", name := "countedShare", desc := "()F" } : Jvm.MethodName)) ∈ lw_all := lw_g (lw_at lw_m11 2 rfl) rfl
theorem q2493 : (Jvm.Cond.code ({ cls := "OtterTrustModel", name := "countedShare", desc := "()F" } : Jvm.MethodName) prog_11_method_88_code (1 : Nat) (Option.some Jvm.ClassFile.FieldType.float)) ∈ lw_all := lw_g (lw_at lw_m11 3 rfl) rfl
theorem q2495 : (Jvm.Cond.instanceMethod ({ cls := "OtterTrustModel", name := "account", desc := "(I)I" } : Jvm.MethodName)) ∈ lw_all := lw_g (lw_at lw_m11 5 rfl) rfl
theorem q2496 : (Jvm.Cond.selects "OtterTrustModel" ({ cls := "OtterTrustModel", name := "account", desc := "(I)I" } : Jvm.MethodName) ({ cls := "OtterTrustModel", name := "account", desc := "(I)I" } : Jvm.MethodName)) ∈ lw_all := lw_g (lw_at lw_m11 6 rfl) rfl
theorem q2497 : (Jvm.Cond.code ({ cls := "OtterTrustModel", name := "account", desc := "(I)I" } : Jvm.MethodName) prog_11_method_90_code (2 : Nat) (Option.some Jvm.ClassFile.FieldType.int)) ∈ lw_all := lw_g (lw_at lw_m11 7 rfl) rfl
theorem q2499 : (Jvm.Cond.instanceMethod ({ cls := "OtterTrustModel", name := "countedAgain", desc := "()I" } : Jvm.MethodName)) ∈ lw_all := lw_g (lw_at lw_m11 9 rfl) rfl
theorem q2500 : (Jvm.Cond.selects "OtterTrustModel" ({ cls := "OtterTrustModel", name := "countedAgain", desc := "()I" } : Jvm.MethodName) ({ cls := "OtterTrustModel", name := "countedAgain", desc := "()I" } : Jvm.MethodName)) ∈ lw_all := lw_g (lw_at lw_m11 10 rfl) rfl
theorem q2501 : (Jvm.Cond.code ({ cls := "OtterTrustModel", name := "countedAgain", desc := "()I" } : Jvm.MethodName) prog_11_method_91_code (1 : Nat) (Option.some Jvm.ClassFile.FieldType.int)) ∈ lw_all := lw_g (lw_at lw_m11 11 rfl) rfl
theorem q2502 : (Jvm.Cond.methodLink "OtterTrustModel" (281 : Nat) ({ cls := "OtterTrustModel", name := "marks", desc := "()I" } : Jvm.MethodName)) ∈ lw_all := lw_g (lw_at lw_m11 12 rfl) rfl
theorem q2503 : (Jvm.Cond.privateMethod ({ cls := "OtterTrustModel", name := "marks", desc := "()I" } : Jvm.MethodName)) ∈ lw_tbl := lw_at lw_m11 13 rfl
theorem q2504 : (Jvm.Cond.instanceMethod ({ cls := "OtterTrustModel", name := "marks", desc := "()I" } : Jvm.MethodName)) ∈ lw_all := lw_g (lw_at lw_m11 14 rfl) rfl
theorem q2505 : (Jvm.Cond.code ({ cls := "OtterTrustModel", name := "marks", desc := "()I" } : Jvm.MethodName) prog_11_method_89_code (3 : Nat) (Option.some Jvm.ClassFile.FieldType.int)) ∈ lw_all := lw_g (lw_at lw_m11 15 rfl) rfl
theorem q2507 : (Jvm.Cond.instanceMethod ({ cls := "OtterTrustModel", name := "undo", desc := "()I" } : Jvm.MethodName)) ∈ lw_all := lw_g (lw_at lw_m11 17 rfl) rfl
theorem q2508 : (Jvm.Cond.selects "OtterTrustModel" ({ cls := "OtterTrustModel", name := "undo", desc := "()I" } : Jvm.MethodName) ({ cls := "OtterTrustModel", name := "undo", desc := "()I" } : Jvm.MethodName)) ∈ lw_all := lw_g (lw_at lw_m11 18 rfl) rfl
theorem q2509 : (Jvm.Cond.code ({ cls := "OtterTrustModel", name := "undo", desc := "()I" } : Jvm.MethodName) prog_11_method_92_code (2 : Nat) (Option.some Jvm.ClassFile.FieldType.int)) ∈ lw_all := lw_g (lw_at lw_m11 19 rfl) rfl
theorem q2511 : (Jvm.Cond.instanceMethod ({ cls := "OtterTrustModel", name := "save", desc := "()I" } : Jvm.MethodName)) ∈ lw_all := lw_g (lw_at lw_m11 21 rfl) rfl
theorem q2512 : (Jvm.Cond.selects "OtterTrustModel" ({ cls := "OtterTrustModel", name := "save", desc := "()I" } : Jvm.MethodName) ({ cls := "OtterTrustModel", name := "save", desc := "()I" } : Jvm.MethodName)) ∈ lw_all := lw_g (lw_at lw_m11 22 rfl) rfl
theorem q2513 : (Jvm.Cond.code ({ cls := "OtterTrustModel", name := "save", desc := "()I" } : Jvm.MethodName) prog_11_method_93_code (2 : Nat) (Option.some Jvm.ClassFile.FieldType.int)) ∈ lw_all := lw_g (lw_at lw_m11 23 rfl) rfl
theorem q2515 : (Jvm.Cond.instanceMethod ({ cls := "OtterTrustModel", name := "restore", desc := "()I" } : Jvm.MethodName)) ∈ lw_all := lw_g (lw_at lw_m11 25 rfl) rfl
theorem q2516 : (Jvm.Cond.selects "OtterTrustModel" ({ cls := "OtterTrustModel", name := "restore", desc := "()I" } : Jvm.MethodName) ({ cls := "OtterTrustModel", name := "restore", desc := "()I" } : Jvm.MethodName)) ∈ lw_all := lw_g (lw_at lw_m11 26 rfl) rfl
theorem q2517 : (Jvm.Cond.code ({ cls := "OtterTrustModel", name := "restore", desc := "()I" } : Jvm.MethodName) prog_11_method_94_code (2 : Nat) (Option.some Jvm.ClassFile.FieldType.int)) ∈ lw_all := lw_g (lw_at lw_m11 27 rfl) rfl
theorem q2548 : (Jvm.Cond.castable "OtterTrustModel" "java/lang/Object") ∈ lw_tbl := lw_at lw_m11 58 rfl
theorem in_X3 : ∀ w ∈ wsX30, w ∈ lw_all := lw_in wsX30 [2087, 2089, 2091, 2093, 2095, 2097, 2099, 2101, 2103, 2105, 2107, 2109, 2111, 2113, 2115, 2117, 2119, 2121, 2123, 2125, 2127, 2129, 2131, 2133, 2135] (by decide +kernel) (by decide +kernel)
