/-! TwoHalves -/
set_option maxRecDepth 100000
def RX1 : String := "TwoHalves"
def TX1 : u_T := fun k => match k with
  | 0 => ("TwoHalves", "tape", "[B", true)
  | 1 => ("TwoHalves", "length", "I", false)
  | 2 => ("TwoHalves", "size", "I", false)
  | 3 => ("TwoHalves", "today", "I", false)
  | 4 => ("TwoHalves", "broken", "LTwoHalves$Fault;", true)
  | 5 => ("TwoHalves", "lines", "[Ljava/lang/String;", true)
  | 6 => ("TwoHalves", "kinds", "[Ljava/lang/String;", true)
  | 7 => ("TwoHalves", "halves", "[Ljava/lang/String;", true)
  | 8 => ("TwoHalves", "flags", "[Ljava/lang/String;", true)
  | 9 => ("TwoHalves", "states", "[Ljava/lang/String;", true)
  | 10 => ("TwoHalves", "others", "[Ljava/lang/String;", true)
  | 11 => ("TwoHalves", "headReader", "LTwoHalves$HeadReader;", true)
  | 12 => ("TwoHalves", "now", "LTwoHalves$State;", true)
  | 13 => ("TwoHalves", "fault", "I", false)
  | 14 => ("TwoHalves", "nothingOffered", "[I", true)
  | 15 => ("TwoHalves", "mind", "LTwoHalves$Mind;", true)
  | 16 => ("TwoHalves", "leftHand", "LTwoHalves$Hand;", true)
  | 17 => ("TwoHalves", "rightHand", "LTwoHalves$Hand;", true)
  | 18 => ("TwoHalves", "askers", "[LTwoHalves$Asked;", true)
  | 19 => ("TwoHalves", "hasWhy", "Z", false)
  | 20 => ("TwoHalves", "whyKind", "I", false)
  | 21 => ("TwoHalves", "whyTaken", "I", false)
  | 22 => ("TwoHalves", "whyCause", "I", false)
  | 23 => ("TwoHalves", "fitting", "[I", true)
  | 24 => ("TwoHalves", "told", "[I", true)
  | 25 => ("TwoHalves", "fitMany", "I", false)
  | 26 => ("TwoHalves", "toldMany", "I", false)
  | 27 => ("TwoHalves", "alike", "[I", true)
  | 28 => ("TwoHalves", "comes", "[B", true)
  | 29 => ("TwoHalves", "needed", "[Z", true)
  | 30 => ("TwoHalves", "needs", "[I", true)
  | 31 => ("TwoHalves", "needMany", "I", false)
  | 32 => ("TwoHalves", "sentenceReader", "LTwoHalves$SentenceReader;", true)
  | _ => ("TwoHalves", "images", "[LTwoHalves$State;", true)
def tyX1 : Nat → FieldType := fun k => match k with
  | 0 => .array .byte
  | 1 => .int
  | 2 => .int
  | 3 => .int
  | 4 => .object "TwoHalves$Fault"
  | 5 => .array (.object "java/lang/String")
  | 6 => .array (.object "java/lang/String")
  | 7 => .array (.object "java/lang/String")
  | 8 => .array (.object "java/lang/String")
  | 9 => .array (.object "java/lang/String")
  | 10 => .array (.object "java/lang/String")
  | 11 => .object "TwoHalves$HeadReader"
  | 12 => .object "TwoHalves$State"
  | 13 => .int
  | 14 => .array .int
  | 15 => .object "TwoHalves$Mind"
  | 16 => .object "TwoHalves$Hand"
  | 17 => .object "TwoHalves$Hand"
  | 18 => .array (.object "TwoHalves$Asked")
  | 19 => .boolean
  | 20 => .int
  | 21 => .int
  | 22 => .int
  | 23 => .array .int
  | 24 => .array .int
  | 25 => .int
  | 26 => .int
  | 27 => .array .int
  | 28 => .array .byte
  | 29 => .array .boolean
  | 30 => .array .int
  | 31 => .int
  | 32 => .object "TwoHalves$SentenceReader"
  | _ => .array (.object "TwoHalves$State")
abbrev wsX10 : List Cond := u_ws RX1 TX1 34
set_option maxRecDepth 100000 in
theorem nmX1 : ∀ a, a < 34 → ∀ b, b < 34 → a ≠ b → (TX1 a).2.1 ≠ (TX1 b).2.1 := by decide +kernel
set_option maxRecDepth 100000 in
theorem tyX1_ok : ∀ k, k < 34 → parseFieldDescriptor (TX1 k).2.2.1 = some (tyX1 k) := by decide +kernel
abbrev cX1_init : ByteArray := prog_1_method_1_code
def yX1_init : MethodName := ⟨RX1, "<init>", "()V"⟩
def dkwX1_init_16 : List UInt8 := [181, 0, 168, 177]
abbrev dktX1_init_16 : List UInt8 := dkwX1_init_16 ++ []
def dkwX1_init_15 : List UInt8 := [18, 153, 188, 10, 181, 0, 158, 42, 187, 0, 161, 89, 42, 183, 0, 163, 181, 0, 164, 42, 6, 189, 0, 102]
abbrev dktX1_init_15 : List UInt8 := dkwX1_init_15 ++ dktX1_init_16
def dkwX1_init_14 : List UInt8 := [188, 10, 181, 0, 147, 42, 17, 16, 0, 188, 8, 181, 0, 150, 42, 18, 153, 188, 4, 181, 0, 154, 42]
abbrev dktX1_init_14 : List UInt8 := dkwX1_init_14 ++ dktX1_init_15
def dkwX1_init_13 : List UInt8 := [181, 0, 137, 42, 17, 1, 0, 188, 10, 181, 0, 141, 42, 17, 1, 0, 188, 10, 181, 0, 144, 42, 16, 17]
abbrev dktX1_init_13 : List UInt8 := dkwX1_init_13 ++ dktX1_init_14
def dkwX1_init_12 : List UInt8 := [187, 0, 134, 89, 42, 183, 0, 136, 83, 89, 4, 42, 180, 0, 125, 83, 89, 5, 42, 180, 0, 129, 83]
abbrev dktX1_init_12 : List UInt8 := dkwX1_init_12 ++ dktX1_init_13
def dkwX1_init_11 : List UInt8 := [181, 0, 125, 42, 187, 0, 120, 89, 42, 3, 183, 0, 122, 181, 0, 129, 42, 6, 189, 0, 132, 89, 3]
abbrev dktX1_init_11 : List UInt8 := dkwX1_init_11 ++ dktX1_init_12
def dkwX1_init_10 : List UInt8 := [42, 187, 0, 113, 89, 42, 183, 0, 115, 181, 0, 116, 42, 187, 0, 120, 89, 42, 4, 183, 0, 122]
abbrev dktX1_init_10 : List UInt8 := dkwX1_init_10 ++ dktX1_init_11
def dkwX1_init_9 : List UInt8 := [183, 0, 95, 181, 0, 98, 42, 187, 0, 102, 89, 183, 0, 104, 181, 0, 105, 42, 3, 188, 10, 181, 0, 109]
abbrev dktX1_init_9 : List UInt8 := dkwX1_init_9 ++ dktX1_init_10
def dkwX1_init_8 : List UInt8 := [18, 84, 83, 89, 5, 18, 86, 83, 89, 6, 18, 88, 83, 181, 0, 90, 42, 187, 0, 93, 89, 42]
abbrev dktX1_init_8 : List UInt8 := dkwX1_init_8 ++ dktX1_init_9
def dkwX1_init_7 : List UInt8 := [18, 75, 83, 89, 6, 18, 77, 83, 181, 0, 79, 42, 7, 189, 0, 20, 89, 3, 18, 82, 83, 89, 4]
abbrev dktX1_init_7 : List UInt8 := dkwX1_init_7 ++ dktX1_init_8
def dkwX1_init_6 : List UInt8 := [18, 66, 83, 181, 0, 68, 42, 7, 189, 0, 20, 89, 3, 18, 71, 83, 89, 4, 18, 73, 83, 89, 5]
abbrev dktX1_init_6 : List UInt8 := dkwX1_init_6 ++ dktX1_init_7
def dkwX1_init_5 : List UInt8 := [89, 6, 18, 58, 83, 89, 7, 18, 60, 83, 89, 8, 18, 62, 83, 89, 16, 6, 18, 64, 83, 89, 16, 7]
abbrev dktX1_init_5 : List UInt8 := dkwX1_init_5 ++ dktX1_init_6
def dkwX1_init_4 : List UInt8 := [181, 0, 49, 42, 16, 8, 189, 0, 20, 89, 3, 18, 52, 83, 89, 4, 18, 54, 83, 89, 5, 18, 56, 83]
abbrev dktX1_init_4 : List UInt8 := dkwX1_init_4 ++ dktX1_init_5
def dkwX1_init_3 : List UInt8 := [89, 6, 18, 40, 83, 181, 0, 42, 42, 5, 189, 0, 20, 89, 3, 18, 45, 83, 89, 4, 18, 47, 83]
abbrev dktX1_init_3 : List UInt8 := dkwX1_init_3 ++ dktX1_init_4
def dkwX1_init_2 : List UInt8 := [83, 181, 0, 30, 42, 7, 189, 0, 20, 89, 3, 18, 34, 83, 89, 4, 18, 36, 83, 89, 5, 18, 38, 83]
abbrev dktX1_init_2 : List UInt8 := dkwX1_init_2 ++ dktX1_init_3
def dkwX1_init_1 : List UInt8 := [42, 7, 189, 0, 20, 89, 3, 18, 22, 83, 89, 4, 18, 24, 83, 89, 5, 18, 26, 83, 89, 6, 18, 28]
abbrev dktX1_init_1 : List UInt8 := dkwX1_init_1 ++ dktX1_init_2
def dkwX1_init_0 : List UInt8 := [42, 183, 0, 1, 42, 17, 3, 172, 188, 8, 181, 0, 9, 42, 187, 0, 13, 89, 183, 0, 15, 181, 0, 16]
abbrev dktX1_init_0 : List UInt8 := dkwX1_init_0 ++ dktX1_init_1
theorem dksX1_init_0 : cX1_init.data.toList.drop 0 = dktX1_init_0 := by decide +kernel
theorem dksX1_init_1 : cX1_init.data.toList.drop 24 = dktX1_init_1 := dk_seg dksX1_init_0 24 rfl rfl
theorem dksX1_init_2 : cX1_init.data.toList.drop 48 = dktX1_init_2 := dk_seg dksX1_init_1 24 rfl rfl
theorem dksX1_init_3 : cX1_init.data.toList.drop 72 = dktX1_init_3 := dk_seg dksX1_init_2 24 rfl rfl
theorem dksX1_init_4 : cX1_init.data.toList.drop 95 = dktX1_init_4 := dk_seg dksX1_init_3 23 rfl rfl
theorem dksX1_init_5 : cX1_init.data.toList.drop 119 = dktX1_init_5 := dk_seg dksX1_init_4 24 rfl rfl
theorem dksX1_init_6 : cX1_init.data.toList.drop 143 = dktX1_init_6 := dk_seg dksX1_init_5 24 rfl rfl
theorem dksX1_init_7 : cX1_init.data.toList.drop 166 = dktX1_init_7 := dk_seg dksX1_init_6 23 rfl rfl
theorem dksX1_init_8 : cX1_init.data.toList.drop 189 = dktX1_init_8 := dk_seg dksX1_init_7 23 rfl rfl
theorem dksX1_init_9 : cX1_init.data.toList.drop 211 = dktX1_init_9 := dk_seg dksX1_init_8 22 rfl rfl
theorem dksX1_init_10 : cX1_init.data.toList.drop 235 = dktX1_init_10 := dk_seg dksX1_init_9 24 rfl rfl
theorem dksX1_init_11 : cX1_init.data.toList.drop 257 = dktX1_init_11 := dk_seg dksX1_init_10 22 rfl rfl
theorem dksX1_init_12 : cX1_init.data.toList.drop 280 = dktX1_init_12 := dk_seg dksX1_init_11 23 rfl rfl
theorem dksX1_init_13 : cX1_init.data.toList.drop 303 = dktX1_init_13 := dk_seg dksX1_init_12 23 rfl rfl
theorem dksX1_init_14 : cX1_init.data.toList.drop 327 = dktX1_init_14 := dk_seg dksX1_init_13 24 rfl rfl
theorem dksX1_init_15 : cX1_init.data.toList.drop 350 = dktX1_init_15 := dk_seg dksX1_init_14 23 rfl rfl
theorem dksX1_init_16 : cX1_init.data.toList.drop 374 = dktX1_init_16 := dk_seg dksX1_init_15 24 rfl rfl
theorem dX1_init_0 : decode cX1_init 0 = .ok (.aload_n 0, 1) := dk_42 (dk_at dksX1_init_0 0 rfl rfl)
theorem dX1_init_1 : decode cX1_init 1 = .ok (.invokespecial 1, 3) := dk_183 0 1 (dk_at dksX1_init_0 1 rfl rfl)
theorem dX1_init_4 : decode cX1_init 4 = .ok (.aload_n 0, 1) := dk_42 (dk_at dksX1_init_0 4 rfl rfl)
theorem dX1_init_5 : decode cX1_init 5 = .ok (.sipush 940, 3) := dk_17 3 172 (dk_at dksX1_init_0 5 rfl rfl)
theorem dX1_init_8 : decode cX1_init 8 = .ok (.newarray .byte, 2) := dk_188_8 (dk_at dksX1_init_0 8 rfl rfl)
theorem dX1_init_10 : decode cX1_init 10 = .ok (.putfield 9, 3) := dk_181 0 9 (dk_at dksX1_init_0 10 rfl rfl)
theorem dX1_init_13 : decode cX1_init 13 = .ok (.aload_n 0, 1) := dk_42 (dk_at dksX1_init_0 13 rfl rfl)
theorem dX1_init_14 : decode cX1_init 14 = .ok (.new 13, 3) := dk_187 0 13 (dk_at dksX1_init_0 14 rfl rfl)
theorem dX1_init_17 : decode cX1_init 17 = .ok (.dup, 1) := dk_89 (dk_at dksX1_init_0 17 rfl rfl)
theorem dX1_init_18 : decode cX1_init 18 = .ok (.invokespecial 15, 3) := dk_183 0 15 (dk_at dksX1_init_0 18 rfl rfl)
theorem dX1_init_21 : decode cX1_init 21 = .ok (.putfield 16, 3) := dk_181 0 16 (dk_at dksX1_init_0 21 rfl rfl)
theorem dX1_init_24 : decode cX1_init 24 = .ok (.aload_n 0, 1) := dk_42 (dk_at dksX1_init_1 0 rfl rfl)
theorem dX1_init_25 : decode cX1_init 25 = .ok (.iconst 4, 1) := dk_7 (dk_at dksX1_init_1 1 rfl rfl)
theorem dX1_init_26 : decode cX1_init 26 = .ok (.anewarray 20, 3) := dk_189 0 20 (dk_at dksX1_init_1 2 rfl rfl)
theorem dX1_init_29 : decode cX1_init 29 = .ok (.dup, 1) := dk_89 (dk_at dksX1_init_1 5 rfl rfl)
theorem dX1_init_30 : decode cX1_init 30 = .ok (.iconst 0, 1) := dk_3 (dk_at dksX1_init_1 6 rfl rfl)
theorem dX1_init_31 : decode cX1_init 31 = .ok (.ldc 22, 2) := dk_18 22 (dk_at dksX1_init_1 7 rfl rfl)
theorem dX1_init_33 : decode cX1_init 33 = .ok (.aastore, 1) := dk_83 (dk_at dksX1_init_1 9 rfl rfl)
theorem dX1_init_34 : decode cX1_init 34 = .ok (.dup, 1) := dk_89 (dk_at dksX1_init_1 10 rfl rfl)
theorem dX1_init_35 : decode cX1_init 35 = .ok (.iconst 1, 1) := dk_4 (dk_at dksX1_init_1 11 rfl rfl)
theorem dX1_init_36 : decode cX1_init 36 = .ok (.ldc 24, 2) := dk_18 24 (dk_at dksX1_init_1 12 rfl rfl)
theorem dX1_init_38 : decode cX1_init 38 = .ok (.aastore, 1) := dk_83 (dk_at dksX1_init_1 14 rfl rfl)
theorem dX1_init_39 : decode cX1_init 39 = .ok (.dup, 1) := dk_89 (dk_at dksX1_init_1 15 rfl rfl)
theorem dX1_init_40 : decode cX1_init 40 = .ok (.iconst 2, 1) := dk_5 (dk_at dksX1_init_1 16 rfl rfl)
theorem dX1_init_41 : decode cX1_init 41 = .ok (.ldc 26, 2) := dk_18 26 (dk_at dksX1_init_1 17 rfl rfl)
theorem dX1_init_43 : decode cX1_init 43 = .ok (.aastore, 1) := dk_83 (dk_at dksX1_init_1 19 rfl rfl)
theorem dX1_init_44 : decode cX1_init 44 = .ok (.dup, 1) := dk_89 (dk_at dksX1_init_1 20 rfl rfl)
theorem dX1_init_45 : decode cX1_init 45 = .ok (.iconst 3, 1) := dk_6 (dk_at dksX1_init_1 21 rfl rfl)
theorem dX1_init_46 : decode cX1_init 46 = .ok (.ldc 28, 2) := dk_18 28 (dk_at dksX1_init_1 22 rfl rfl)
theorem dX1_init_48 : decode cX1_init 48 = .ok (.aastore, 1) := dk_83 (dk_at dksX1_init_2 0 rfl rfl)
theorem dX1_init_49 : decode cX1_init 49 = .ok (.putfield 30, 3) := dk_181 0 30 (dk_at dksX1_init_2 1 rfl rfl)
theorem dX1_init_52 : decode cX1_init 52 = .ok (.aload_n 0, 1) := dk_42 (dk_at dksX1_init_2 4 rfl rfl)
theorem dX1_init_53 : decode cX1_init 53 = .ok (.iconst 4, 1) := dk_7 (dk_at dksX1_init_2 5 rfl rfl)
theorem dX1_init_54 : decode cX1_init 54 = .ok (.anewarray 20, 3) := dk_189 0 20 (dk_at dksX1_init_2 6 rfl rfl)
theorem dX1_init_57 : decode cX1_init 57 = .ok (.dup, 1) := dk_89 (dk_at dksX1_init_2 9 rfl rfl)
theorem dX1_init_58 : decode cX1_init 58 = .ok (.iconst 0, 1) := dk_3 (dk_at dksX1_init_2 10 rfl rfl)
theorem dX1_init_59 : decode cX1_init 59 = .ok (.ldc 34, 2) := dk_18 34 (dk_at dksX1_init_2 11 rfl rfl)
theorem dX1_init_61 : decode cX1_init 61 = .ok (.aastore, 1) := dk_83 (dk_at dksX1_init_2 13 rfl rfl)
theorem dX1_init_62 : decode cX1_init 62 = .ok (.dup, 1) := dk_89 (dk_at dksX1_init_2 14 rfl rfl)
theorem dX1_init_63 : decode cX1_init 63 = .ok (.iconst 1, 1) := dk_4 (dk_at dksX1_init_2 15 rfl rfl)
theorem dX1_init_64 : decode cX1_init 64 = .ok (.ldc 36, 2) := dk_18 36 (dk_at dksX1_init_2 16 rfl rfl)
theorem dX1_init_66 : decode cX1_init 66 = .ok (.aastore, 1) := dk_83 (dk_at dksX1_init_2 18 rfl rfl)
theorem dX1_init_67 : decode cX1_init 67 = .ok (.dup, 1) := dk_89 (dk_at dksX1_init_2 19 rfl rfl)
theorem dX1_init_68 : decode cX1_init 68 = .ok (.iconst 2, 1) := dk_5 (dk_at dksX1_init_2 20 rfl rfl)
theorem dX1_init_69 : decode cX1_init 69 = .ok (.ldc 38, 2) := dk_18 38 (dk_at dksX1_init_2 21 rfl rfl)
theorem dX1_init_71 : decode cX1_init 71 = .ok (.aastore, 1) := dk_83 (dk_at dksX1_init_2 23 rfl rfl)
theorem dX1_init_72 : decode cX1_init 72 = .ok (.dup, 1) := dk_89 (dk_at dksX1_init_3 0 rfl rfl)
theorem dX1_init_73 : decode cX1_init 73 = .ok (.iconst 3, 1) := dk_6 (dk_at dksX1_init_3 1 rfl rfl)
theorem dX1_init_74 : decode cX1_init 74 = .ok (.ldc 40, 2) := dk_18 40 (dk_at dksX1_init_3 2 rfl rfl)
theorem dX1_init_76 : decode cX1_init 76 = .ok (.aastore, 1) := dk_83 (dk_at dksX1_init_3 4 rfl rfl)
theorem dX1_init_77 : decode cX1_init 77 = .ok (.putfield 42, 3) := dk_181 0 42 (dk_at dksX1_init_3 5 rfl rfl)
theorem dX1_init_80 : decode cX1_init 80 = .ok (.aload_n 0, 1) := dk_42 (dk_at dksX1_init_3 8 rfl rfl)
theorem dX1_init_81 : decode cX1_init 81 = .ok (.iconst 2, 1) := dk_5 (dk_at dksX1_init_3 9 rfl rfl)
theorem dX1_init_82 : decode cX1_init 82 = .ok (.anewarray 20, 3) := dk_189 0 20 (dk_at dksX1_init_3 10 rfl rfl)
theorem dX1_init_85 : decode cX1_init 85 = .ok (.dup, 1) := dk_89 (dk_at dksX1_init_3 13 rfl rfl)
theorem dX1_init_86 : decode cX1_init 86 = .ok (.iconst 0, 1) := dk_3 (dk_at dksX1_init_3 14 rfl rfl)
theorem dX1_init_87 : decode cX1_init 87 = .ok (.ldc 45, 2) := dk_18 45 (dk_at dksX1_init_3 15 rfl rfl)
theorem dX1_init_89 : decode cX1_init 89 = .ok (.aastore, 1) := dk_83 (dk_at dksX1_init_3 17 rfl rfl)
theorem dX1_init_90 : decode cX1_init 90 = .ok (.dup, 1) := dk_89 (dk_at dksX1_init_3 18 rfl rfl)
theorem dX1_init_91 : decode cX1_init 91 = .ok (.iconst 1, 1) := dk_4 (dk_at dksX1_init_3 19 rfl rfl)
theorem dX1_init_92 : decode cX1_init 92 = .ok (.ldc 47, 2) := dk_18 47 (dk_at dksX1_init_3 20 rfl rfl)
theorem dX1_init_94 : decode cX1_init 94 = .ok (.aastore, 1) := dk_83 (dk_at dksX1_init_3 22 rfl rfl)
theorem dX1_init_95 : decode cX1_init 95 = .ok (.putfield 49, 3) := dk_181 0 49 (dk_at dksX1_init_4 0 rfl rfl)
theorem dX1_init_98 : decode cX1_init 98 = .ok (.aload_n 0, 1) := dk_42 (dk_at dksX1_init_4 3 rfl rfl)
theorem dX1_init_99 : decode cX1_init 99 = .ok (.bipush 8, 2) := dk_16 8 (dk_at dksX1_init_4 4 rfl rfl)
theorem dX1_init_101 : decode cX1_init 101 = .ok (.anewarray 20, 3) := dk_189 0 20 (dk_at dksX1_init_4 6 rfl rfl)
theorem dX1_init_104 : decode cX1_init 104 = .ok (.dup, 1) := dk_89 (dk_at dksX1_init_4 9 rfl rfl)
theorem dX1_init_105 : decode cX1_init 105 = .ok (.iconst 0, 1) := dk_3 (dk_at dksX1_init_4 10 rfl rfl)
theorem dX1_init_106 : decode cX1_init 106 = .ok (.ldc 52, 2) := dk_18 52 (dk_at dksX1_init_4 11 rfl rfl)
theorem dX1_init_108 : decode cX1_init 108 = .ok (.aastore, 1) := dk_83 (dk_at dksX1_init_4 13 rfl rfl)
theorem dX1_init_109 : decode cX1_init 109 = .ok (.dup, 1) := dk_89 (dk_at dksX1_init_4 14 rfl rfl)
theorem dX1_init_110 : decode cX1_init 110 = .ok (.iconst 1, 1) := dk_4 (dk_at dksX1_init_4 15 rfl rfl)
theorem dX1_init_111 : decode cX1_init 111 = .ok (.ldc 54, 2) := dk_18 54 (dk_at dksX1_init_4 16 rfl rfl)
theorem dX1_init_113 : decode cX1_init 113 = .ok (.aastore, 1) := dk_83 (dk_at dksX1_init_4 18 rfl rfl)
theorem dX1_init_114 : decode cX1_init 114 = .ok (.dup, 1) := dk_89 (dk_at dksX1_init_4 19 rfl rfl)
theorem dX1_init_115 : decode cX1_init 115 = .ok (.iconst 2, 1) := dk_5 (dk_at dksX1_init_4 20 rfl rfl)
theorem dX1_init_116 : decode cX1_init 116 = .ok (.ldc 56, 2) := dk_18 56 (dk_at dksX1_init_4 21 rfl rfl)
theorem dX1_init_118 : decode cX1_init 118 = .ok (.aastore, 1) := dk_83 (dk_at dksX1_init_4 23 rfl rfl)
theorem dX1_init_119 : decode cX1_init 119 = .ok (.dup, 1) := dk_89 (dk_at dksX1_init_5 0 rfl rfl)
theorem dX1_init_120 : decode cX1_init 120 = .ok (.iconst 3, 1) := dk_6 (dk_at dksX1_init_5 1 rfl rfl)
theorem dX1_init_121 : decode cX1_init 121 = .ok (.ldc 58, 2) := dk_18 58 (dk_at dksX1_init_5 2 rfl rfl)
theorem dX1_init_123 : decode cX1_init 123 = .ok (.aastore, 1) := dk_83 (dk_at dksX1_init_5 4 rfl rfl)
theorem dX1_init_124 : decode cX1_init 124 = .ok (.dup, 1) := dk_89 (dk_at dksX1_init_5 5 rfl rfl)
theorem dX1_init_125 : decode cX1_init 125 = .ok (.iconst 4, 1) := dk_7 (dk_at dksX1_init_5 6 rfl rfl)
theorem dX1_init_126 : decode cX1_init 126 = .ok (.ldc 60, 2) := dk_18 60 (dk_at dksX1_init_5 7 rfl rfl)
theorem dX1_init_128 : decode cX1_init 128 = .ok (.aastore, 1) := dk_83 (dk_at dksX1_init_5 9 rfl rfl)
theorem dX1_init_129 : decode cX1_init 129 = .ok (.dup, 1) := dk_89 (dk_at dksX1_init_5 10 rfl rfl)
theorem dX1_init_130 : decode cX1_init 130 = .ok (.iconst 5, 1) := dk_8 (dk_at dksX1_init_5 11 rfl rfl)
theorem dX1_init_131 : decode cX1_init 131 = .ok (.ldc 62, 2) := dk_18 62 (dk_at dksX1_init_5 12 rfl rfl)
theorem dX1_init_133 : decode cX1_init 133 = .ok (.aastore, 1) := dk_83 (dk_at dksX1_init_5 14 rfl rfl)
theorem dX1_init_134 : decode cX1_init 134 = .ok (.dup, 1) := dk_89 (dk_at dksX1_init_5 15 rfl rfl)
theorem dX1_init_135 : decode cX1_init 135 = .ok (.bipush 6, 2) := dk_16 6 (dk_at dksX1_init_5 16 rfl rfl)
theorem dX1_init_137 : decode cX1_init 137 = .ok (.ldc 64, 2) := dk_18 64 (dk_at dksX1_init_5 18 rfl rfl)
theorem dX1_init_139 : decode cX1_init 139 = .ok (.aastore, 1) := dk_83 (dk_at dksX1_init_5 20 rfl rfl)
theorem dX1_init_140 : decode cX1_init 140 = .ok (.dup, 1) := dk_89 (dk_at dksX1_init_5 21 rfl rfl)
theorem dX1_init_141 : decode cX1_init 141 = .ok (.bipush 7, 2) := dk_16 7 (dk_at dksX1_init_5 22 rfl rfl)
theorem dX1_init_143 : decode cX1_init 143 = .ok (.ldc 66, 2) := dk_18 66 (dk_at dksX1_init_6 0 rfl rfl)
theorem dX1_init_145 : decode cX1_init 145 = .ok (.aastore, 1) := dk_83 (dk_at dksX1_init_6 2 rfl rfl)
theorem dX1_init_146 : decode cX1_init 146 = .ok (.putfield 68, 3) := dk_181 0 68 (dk_at dksX1_init_6 3 rfl rfl)
theorem dX1_init_149 : decode cX1_init 149 = .ok (.aload_n 0, 1) := dk_42 (dk_at dksX1_init_6 6 rfl rfl)
theorem dX1_init_150 : decode cX1_init 150 = .ok (.iconst 4, 1) := dk_7 (dk_at dksX1_init_6 7 rfl rfl)
theorem dX1_init_151 : decode cX1_init 151 = .ok (.anewarray 20, 3) := dk_189 0 20 (dk_at dksX1_init_6 8 rfl rfl)
theorem dX1_init_154 : decode cX1_init 154 = .ok (.dup, 1) := dk_89 (dk_at dksX1_init_6 11 rfl rfl)
theorem dX1_init_155 : decode cX1_init 155 = .ok (.iconst 0, 1) := dk_3 (dk_at dksX1_init_6 12 rfl rfl)
theorem dX1_init_156 : decode cX1_init 156 = .ok (.ldc 71, 2) := dk_18 71 (dk_at dksX1_init_6 13 rfl rfl)
theorem dX1_init_158 : decode cX1_init 158 = .ok (.aastore, 1) := dk_83 (dk_at dksX1_init_6 15 rfl rfl)
theorem dX1_init_159 : decode cX1_init 159 = .ok (.dup, 1) := dk_89 (dk_at dksX1_init_6 16 rfl rfl)
theorem dX1_init_160 : decode cX1_init 160 = .ok (.iconst 1, 1) := dk_4 (dk_at dksX1_init_6 17 rfl rfl)
theorem dX1_init_161 : decode cX1_init 161 = .ok (.ldc 73, 2) := dk_18 73 (dk_at dksX1_init_6 18 rfl rfl)
theorem dX1_init_163 : decode cX1_init 163 = .ok (.aastore, 1) := dk_83 (dk_at dksX1_init_6 20 rfl rfl)
theorem dX1_init_164 : decode cX1_init 164 = .ok (.dup, 1) := dk_89 (dk_at dksX1_init_6 21 rfl rfl)
theorem dX1_init_165 : decode cX1_init 165 = .ok (.iconst 2, 1) := dk_5 (dk_at dksX1_init_6 22 rfl rfl)
theorem dX1_init_166 : decode cX1_init 166 = .ok (.ldc 75, 2) := dk_18 75 (dk_at dksX1_init_7 0 rfl rfl)
theorem dX1_init_168 : decode cX1_init 168 = .ok (.aastore, 1) := dk_83 (dk_at dksX1_init_7 2 rfl rfl)
theorem dX1_init_169 : decode cX1_init 169 = .ok (.dup, 1) := dk_89 (dk_at dksX1_init_7 3 rfl rfl)
theorem dX1_init_170 : decode cX1_init 170 = .ok (.iconst 3, 1) := dk_6 (dk_at dksX1_init_7 4 rfl rfl)
theorem dX1_init_171 : decode cX1_init 171 = .ok (.ldc 77, 2) := dk_18 77 (dk_at dksX1_init_7 5 rfl rfl)
theorem dX1_init_173 : decode cX1_init 173 = .ok (.aastore, 1) := dk_83 (dk_at dksX1_init_7 7 rfl rfl)
theorem dX1_init_174 : decode cX1_init 174 = .ok (.putfield 79, 3) := dk_181 0 79 (dk_at dksX1_init_7 8 rfl rfl)
theorem dX1_init_177 : decode cX1_init 177 = .ok (.aload_n 0, 1) := dk_42 (dk_at dksX1_init_7 11 rfl rfl)
theorem dX1_init_178 : decode cX1_init 178 = .ok (.iconst 4, 1) := dk_7 (dk_at dksX1_init_7 12 rfl rfl)
theorem dX1_init_179 : decode cX1_init 179 = .ok (.anewarray 20, 3) := dk_189 0 20 (dk_at dksX1_init_7 13 rfl rfl)
theorem dX1_init_182 : decode cX1_init 182 = .ok (.dup, 1) := dk_89 (dk_at dksX1_init_7 16 rfl rfl)
theorem dX1_init_183 : decode cX1_init 183 = .ok (.iconst 0, 1) := dk_3 (dk_at dksX1_init_7 17 rfl rfl)
theorem dX1_init_184 : decode cX1_init 184 = .ok (.ldc 82, 2) := dk_18 82 (dk_at dksX1_init_7 18 rfl rfl)
theorem dX1_init_186 : decode cX1_init 186 = .ok (.aastore, 1) := dk_83 (dk_at dksX1_init_7 20 rfl rfl)
theorem dX1_init_187 : decode cX1_init 187 = .ok (.dup, 1) := dk_89 (dk_at dksX1_init_7 21 rfl rfl)
theorem dX1_init_188 : decode cX1_init 188 = .ok (.iconst 1, 1) := dk_4 (dk_at dksX1_init_7 22 rfl rfl)
theorem dX1_init_189 : decode cX1_init 189 = .ok (.ldc 84, 2) := dk_18 84 (dk_at dksX1_init_8 0 rfl rfl)
theorem dX1_init_191 : decode cX1_init 191 = .ok (.aastore, 1) := dk_83 (dk_at dksX1_init_8 2 rfl rfl)
theorem dX1_init_192 : decode cX1_init 192 = .ok (.dup, 1) := dk_89 (dk_at dksX1_init_8 3 rfl rfl)
theorem dX1_init_193 : decode cX1_init 193 = .ok (.iconst 2, 1) := dk_5 (dk_at dksX1_init_8 4 rfl rfl)
theorem dX1_init_194 : decode cX1_init 194 = .ok (.ldc 86, 2) := dk_18 86 (dk_at dksX1_init_8 5 rfl rfl)
theorem dX1_init_196 : decode cX1_init 196 = .ok (.aastore, 1) := dk_83 (dk_at dksX1_init_8 7 rfl rfl)
theorem dX1_init_197 : decode cX1_init 197 = .ok (.dup, 1) := dk_89 (dk_at dksX1_init_8 8 rfl rfl)
theorem dX1_init_198 : decode cX1_init 198 = .ok (.iconst 3, 1) := dk_6 (dk_at dksX1_init_8 9 rfl rfl)
theorem dX1_init_199 : decode cX1_init 199 = .ok (.ldc 88, 2) := dk_18 88 (dk_at dksX1_init_8 10 rfl rfl)
theorem dX1_init_201 : decode cX1_init 201 = .ok (.aastore, 1) := dk_83 (dk_at dksX1_init_8 12 rfl rfl)
theorem dX1_init_202 : decode cX1_init 202 = .ok (.putfield 90, 3) := dk_181 0 90 (dk_at dksX1_init_8 13 rfl rfl)
theorem dX1_init_205 : decode cX1_init 205 = .ok (.aload_n 0, 1) := dk_42 (dk_at dksX1_init_8 16 rfl rfl)
theorem dX1_init_206 : decode cX1_init 206 = .ok (.new 93, 3) := dk_187 0 93 (dk_at dksX1_init_8 17 rfl rfl)
theorem dX1_init_209 : decode cX1_init 209 = .ok (.dup, 1) := dk_89 (dk_at dksX1_init_8 20 rfl rfl)
theorem dX1_init_210 : decode cX1_init 210 = .ok (.aload_n 0, 1) := dk_42 (dk_at dksX1_init_8 21 rfl rfl)
theorem dX1_init_211 : decode cX1_init 211 = .ok (.invokespecial 95, 3) := dk_183 0 95 (dk_at dksX1_init_9 0 rfl rfl)
theorem dX1_init_214 : decode cX1_init 214 = .ok (.putfield 98, 3) := dk_181 0 98 (dk_at dksX1_init_9 3 rfl rfl)
theorem dX1_init_217 : decode cX1_init 217 = .ok (.aload_n 0, 1) := dk_42 (dk_at dksX1_init_9 6 rfl rfl)
theorem dX1_init_218 : decode cX1_init 218 = .ok (.new 102, 3) := dk_187 0 102 (dk_at dksX1_init_9 7 rfl rfl)
theorem dX1_init_221 : decode cX1_init 221 = .ok (.dup, 1) := dk_89 (dk_at dksX1_init_9 10 rfl rfl)
theorem dX1_init_222 : decode cX1_init 222 = .ok (.invokespecial 104, 3) := dk_183 0 104 (dk_at dksX1_init_9 11 rfl rfl)
theorem dX1_init_225 : decode cX1_init 225 = .ok (.putfield 105, 3) := dk_181 0 105 (dk_at dksX1_init_9 14 rfl rfl)
theorem dX1_init_228 : decode cX1_init 228 = .ok (.aload_n 0, 1) := dk_42 (dk_at dksX1_init_9 17 rfl rfl)
theorem dX1_init_229 : decode cX1_init 229 = .ok (.iconst 0, 1) := dk_3 (dk_at dksX1_init_9 18 rfl rfl)
theorem dX1_init_230 : decode cX1_init 230 = .ok (.newarray .int, 2) := dk_188_10 (dk_at dksX1_init_9 19 rfl rfl)
theorem dX1_init_232 : decode cX1_init 232 = .ok (.putfield 109, 3) := dk_181 0 109 (dk_at dksX1_init_9 21 rfl rfl)
theorem dX1_init_235 : decode cX1_init 235 = .ok (.aload_n 0, 1) := dk_42 (dk_at dksX1_init_10 0 rfl rfl)
theorem dX1_init_236 : decode cX1_init 236 = .ok (.new 113, 3) := dk_187 0 113 (dk_at dksX1_init_10 1 rfl rfl)
theorem dX1_init_239 : decode cX1_init 239 = .ok (.dup, 1) := dk_89 (dk_at dksX1_init_10 4 rfl rfl)
theorem dX1_init_240 : decode cX1_init 240 = .ok (.aload_n 0, 1) := dk_42 (dk_at dksX1_init_10 5 rfl rfl)
theorem dX1_init_241 : decode cX1_init 241 = .ok (.invokespecial 115, 3) := dk_183 0 115 (dk_at dksX1_init_10 6 rfl rfl)
theorem dX1_init_244 : decode cX1_init 244 = .ok (.putfield 116, 3) := dk_181 0 116 (dk_at dksX1_init_10 9 rfl rfl)
theorem dX1_init_247 : decode cX1_init 247 = .ok (.aload_n 0, 1) := dk_42 (dk_at dksX1_init_10 12 rfl rfl)
theorem dX1_init_248 : decode cX1_init 248 = .ok (.new 120, 3) := dk_187 0 120 (dk_at dksX1_init_10 13 rfl rfl)
theorem dX1_init_251 : decode cX1_init 251 = .ok (.dup, 1) := dk_89 (dk_at dksX1_init_10 16 rfl rfl)
theorem dX1_init_252 : decode cX1_init 252 = .ok (.aload_n 0, 1) := dk_42 (dk_at dksX1_init_10 17 rfl rfl)
theorem dX1_init_253 : decode cX1_init 253 = .ok (.iconst 1, 1) := dk_4 (dk_at dksX1_init_10 18 rfl rfl)
theorem dX1_init_254 : decode cX1_init 254 = .ok (.invokespecial 122, 3) := dk_183 0 122 (dk_at dksX1_init_10 19 rfl rfl)
theorem dX1_init_257 : decode cX1_init 257 = .ok (.putfield 125, 3) := dk_181 0 125 (dk_at dksX1_init_11 0 rfl rfl)
theorem dX1_init_260 : decode cX1_init 260 = .ok (.aload_n 0, 1) := dk_42 (dk_at dksX1_init_11 3 rfl rfl)
theorem dX1_init_261 : decode cX1_init 261 = .ok (.new 120, 3) := dk_187 0 120 (dk_at dksX1_init_11 4 rfl rfl)
theorem dX1_init_264 : decode cX1_init 264 = .ok (.dup, 1) := dk_89 (dk_at dksX1_init_11 7 rfl rfl)
theorem dX1_init_265 : decode cX1_init 265 = .ok (.aload_n 0, 1) := dk_42 (dk_at dksX1_init_11 8 rfl rfl)
theorem dX1_init_266 : decode cX1_init 266 = .ok (.iconst 0, 1) := dk_3 (dk_at dksX1_init_11 9 rfl rfl)
theorem dX1_init_267 : decode cX1_init 267 = .ok (.invokespecial 122, 3) := dk_183 0 122 (dk_at dksX1_init_11 10 rfl rfl)
theorem dX1_init_270 : decode cX1_init 270 = .ok (.putfield 129, 3) := dk_181 0 129 (dk_at dksX1_init_11 13 rfl rfl)
theorem dX1_init_273 : decode cX1_init 273 = .ok (.aload_n 0, 1) := dk_42 (dk_at dksX1_init_11 16 rfl rfl)
theorem dX1_init_274 : decode cX1_init 274 = .ok (.iconst 3, 1) := dk_6 (dk_at dksX1_init_11 17 rfl rfl)
theorem dX1_init_275 : decode cX1_init 275 = .ok (.anewarray 132, 3) := dk_189 0 132 (dk_at dksX1_init_11 18 rfl rfl)
theorem dX1_init_278 : decode cX1_init 278 = .ok (.dup, 1) := dk_89 (dk_at dksX1_init_11 21 rfl rfl)
theorem dX1_init_279 : decode cX1_init 279 = .ok (.iconst 0, 1) := dk_3 (dk_at dksX1_init_11 22 rfl rfl)
theorem dX1_init_280 : decode cX1_init 280 = .ok (.new 134, 3) := dk_187 0 134 (dk_at dksX1_init_12 0 rfl rfl)
theorem dX1_init_283 : decode cX1_init 283 = .ok (.dup, 1) := dk_89 (dk_at dksX1_init_12 3 rfl rfl)
theorem dX1_init_284 : decode cX1_init 284 = .ok (.aload_n 0, 1) := dk_42 (dk_at dksX1_init_12 4 rfl rfl)
theorem dX1_init_285 : decode cX1_init 285 = .ok (.invokespecial 136, 3) := dk_183 0 136 (dk_at dksX1_init_12 5 rfl rfl)
theorem dX1_init_288 : decode cX1_init 288 = .ok (.aastore, 1) := dk_83 (dk_at dksX1_init_12 8 rfl rfl)
theorem dX1_init_289 : decode cX1_init 289 = .ok (.dup, 1) := dk_89 (dk_at dksX1_init_12 9 rfl rfl)
theorem dX1_init_290 : decode cX1_init 290 = .ok (.iconst 1, 1) := dk_4 (dk_at dksX1_init_12 10 rfl rfl)
theorem dX1_init_291 : decode cX1_init 291 = .ok (.aload_n 0, 1) := dk_42 (dk_at dksX1_init_12 11 rfl rfl)
theorem dX1_init_292 : decode cX1_init 292 = .ok (.getfield 125, 3) := dk_180 0 125 (dk_at dksX1_init_12 12 rfl rfl)
theorem dX1_init_295 : decode cX1_init 295 = .ok (.aastore, 1) := dk_83 (dk_at dksX1_init_12 15 rfl rfl)
theorem dX1_init_296 : decode cX1_init 296 = .ok (.dup, 1) := dk_89 (dk_at dksX1_init_12 16 rfl rfl)
theorem dX1_init_297 : decode cX1_init 297 = .ok (.iconst 2, 1) := dk_5 (dk_at dksX1_init_12 17 rfl rfl)
theorem dX1_init_298 : decode cX1_init 298 = .ok (.aload_n 0, 1) := dk_42 (dk_at dksX1_init_12 18 rfl rfl)
theorem dX1_init_299 : decode cX1_init 299 = .ok (.getfield 129, 3) := dk_180 0 129 (dk_at dksX1_init_12 19 rfl rfl)
theorem dX1_init_302 : decode cX1_init 302 = .ok (.aastore, 1) := dk_83 (dk_at dksX1_init_12 22 rfl rfl)
theorem dX1_init_303 : decode cX1_init 303 = .ok (.putfield 137, 3) := dk_181 0 137 (dk_at dksX1_init_13 0 rfl rfl)
theorem dX1_init_306 : decode cX1_init 306 = .ok (.aload_n 0, 1) := dk_42 (dk_at dksX1_init_13 3 rfl rfl)
theorem dX1_init_307 : decode cX1_init 307 = .ok (.sipush 256, 3) := dk_17 1 0 (dk_at dksX1_init_13 4 rfl rfl)
theorem dX1_init_310 : decode cX1_init 310 = .ok (.newarray .int, 2) := dk_188_10 (dk_at dksX1_init_13 7 rfl rfl)
theorem dX1_init_312 : decode cX1_init 312 = .ok (.putfield 141, 3) := dk_181 0 141 (dk_at dksX1_init_13 9 rfl rfl)
theorem dX1_init_315 : decode cX1_init 315 = .ok (.aload_n 0, 1) := dk_42 (dk_at dksX1_init_13 12 rfl rfl)
theorem dX1_init_316 : decode cX1_init 316 = .ok (.sipush 256, 3) := dk_17 1 0 (dk_at dksX1_init_13 13 rfl rfl)
theorem dX1_init_319 : decode cX1_init 319 = .ok (.newarray .int, 2) := dk_188_10 (dk_at dksX1_init_13 16 rfl rfl)
theorem dX1_init_321 : decode cX1_init 321 = .ok (.putfield 144, 3) := dk_181 0 144 (dk_at dksX1_init_13 18 rfl rfl)
theorem dX1_init_324 : decode cX1_init 324 = .ok (.aload_n 0, 1) := dk_42 (dk_at dksX1_init_13 21 rfl rfl)
theorem dX1_init_325 : decode cX1_init 325 = .ok (.bipush 17, 2) := dk_16 17 (dk_at dksX1_init_13 22 rfl rfl)
theorem dX1_init_327 : decode cX1_init 327 = .ok (.newarray .int, 2) := dk_188_10 (dk_at dksX1_init_14 0 rfl rfl)
theorem dX1_init_329 : decode cX1_init 329 = .ok (.putfield 147, 3) := dk_181 0 147 (dk_at dksX1_init_14 2 rfl rfl)
theorem dX1_init_332 : decode cX1_init 332 = .ok (.aload_n 0, 1) := dk_42 (dk_at dksX1_init_14 5 rfl rfl)
theorem dX1_init_333 : decode cX1_init 333 = .ok (.sipush 4096, 3) := dk_17 16 0 (dk_at dksX1_init_14 6 rfl rfl)
theorem dX1_init_336 : decode cX1_init 336 = .ok (.newarray .byte, 2) := dk_188_8 (dk_at dksX1_init_14 9 rfl rfl)
theorem dX1_init_338 : decode cX1_init 338 = .ok (.putfield 150, 3) := dk_181 0 150 (dk_at dksX1_init_14 11 rfl rfl)
theorem dX1_init_341 : decode cX1_init 341 = .ok (.aload_n 0, 1) := dk_42 (dk_at dksX1_init_14 14 rfl rfl)
theorem dX1_init_342 : decode cX1_init 342 = .ok (.ldc 153, 2) := dk_18 153 (dk_at dksX1_init_14 15 rfl rfl)
theorem dX1_init_344 : decode cX1_init 344 = .ok (.newarray .boolean, 2) := dk_188_4 (dk_at dksX1_init_14 17 rfl rfl)
theorem dX1_init_346 : decode cX1_init 346 = .ok (.putfield 154, 3) := dk_181 0 154 (dk_at dksX1_init_14 19 rfl rfl)
theorem dX1_init_349 : decode cX1_init 349 = .ok (.aload_n 0, 1) := dk_42 (dk_at dksX1_init_14 22 rfl rfl)
theorem dX1_init_350 : decode cX1_init 350 = .ok (.ldc 153, 2) := dk_18 153 (dk_at dksX1_init_15 0 rfl rfl)
theorem dX1_init_352 : decode cX1_init 352 = .ok (.newarray .int, 2) := dk_188_10 (dk_at dksX1_init_15 2 rfl rfl)
theorem dX1_init_354 : decode cX1_init 354 = .ok (.putfield 158, 3) := dk_181 0 158 (dk_at dksX1_init_15 4 rfl rfl)
theorem dX1_init_357 : decode cX1_init 357 = .ok (.aload_n 0, 1) := dk_42 (dk_at dksX1_init_15 7 rfl rfl)
theorem dX1_init_358 : decode cX1_init 358 = .ok (.new 161, 3) := dk_187 0 161 (dk_at dksX1_init_15 8 rfl rfl)
theorem dX1_init_361 : decode cX1_init 361 = .ok (.dup, 1) := dk_89 (dk_at dksX1_init_15 11 rfl rfl)
theorem dX1_init_362 : decode cX1_init 362 = .ok (.aload_n 0, 1) := dk_42 (dk_at dksX1_init_15 12 rfl rfl)
theorem dX1_init_363 : decode cX1_init 363 = .ok (.invokespecial 163, 3) := dk_183 0 163 (dk_at dksX1_init_15 13 rfl rfl)
theorem dX1_init_366 : decode cX1_init 366 = .ok (.putfield 164, 3) := dk_181 0 164 (dk_at dksX1_init_15 16 rfl rfl)
theorem dX1_init_369 : decode cX1_init 369 = .ok (.aload_n 0, 1) := dk_42 (dk_at dksX1_init_15 19 rfl rfl)
theorem dX1_init_370 : decode cX1_init 370 = .ok (.iconst 3, 1) := dk_6 (dk_at dksX1_init_15 20 rfl rfl)
theorem dX1_init_371 : decode cX1_init 371 = .ok (.anewarray 102, 3) := dk_189 0 102 (dk_at dksX1_init_15 21 rfl rfl)
theorem dX1_init_374 : decode cX1_init 374 = .ok (.putfield 168, 3) := dk_181 0 168 (dk_at dksX1_init_16 0 rfl rfl)
theorem dX1_init_377 : decode cX1_init 377 = .ok (.return_, 1) := dk_177 (dk_at dksX1_init_16 3 rfl rfl)
abbrev cX1_feed : ByteArray := prog_1_method_2_code
def yX1_feed : MethodName := ⟨RX1, "feed", "(IIIII)I"⟩
def dkwX1_feed_2 : List UInt8 := [172]
abbrev dktX1_feed_2 : List UInt8 := dkwX1_feed_2 ++ []
def dkwX1_feed_1 : List UInt8 := [182, 0, 176, 42, 29, 182, 0, 176, 42, 21, 4, 182, 0, 176, 42, 21, 5, 182, 0, 176, 42, 180, 0, 172]
abbrev dktX1_feed_1 : List UInt8 := dkwX1_feed_1 ++ dktX1_feed_2
def dkwX1_feed_0 : List UInt8 := [42, 180, 0, 172, 16, 20, 96, 17, 3, 172, 164, 0, 5, 2, 172, 42, 27, 182, 0, 176, 42, 28]
abbrev dktX1_feed_0 : List UInt8 := dkwX1_feed_0 ++ dktX1_feed_1
theorem dksX1_feed_0 : cX1_feed.data.toList.drop 0 = dktX1_feed_0 := by decide +kernel
theorem dksX1_feed_1 : cX1_feed.data.toList.drop 22 = dktX1_feed_1 := dk_seg dksX1_feed_0 22 rfl rfl
theorem dksX1_feed_2 : cX1_feed.data.toList.drop 46 = dktX1_feed_2 := dk_seg dksX1_feed_1 24 rfl rfl
theorem dX1_feed_0 : decode cX1_feed 0 = .ok (.aload_n 0, 1) := dk_42 (dk_at dksX1_feed_0 0 rfl rfl)
theorem dX1_feed_1 : decode cX1_feed 1 = .ok (.getfield 172, 3) := dk_180 0 172 (dk_at dksX1_feed_0 1 rfl rfl)
theorem dX1_feed_4 : decode cX1_feed 4 = .ok (.bipush 20, 2) := dk_16 20 (dk_at dksX1_feed_0 4 rfl rfl)
theorem dX1_feed_6 : decode cX1_feed 6 = .ok (.iadd, 1) := dk_96 (dk_at dksX1_feed_0 6 rfl rfl)
theorem dX1_feed_7 : decode cX1_feed 7 = .ok (.sipush 940, 3) := dk_17 3 172 (dk_at dksX1_feed_0 7 rfl rfl)
theorem dX1_feed_10 : decode cX1_feed 10 = .ok (.if_icmp .le 5, 3) := dk_164 0 5 (dk_at dksX1_feed_0 10 rfl rfl)
theorem dX1_feed_13 : decode cX1_feed 13 = .ok (.iconst (-1), 1) := dk_2 (dk_at dksX1_feed_0 13 rfl rfl)
theorem dX1_feed_14 : decode cX1_feed 14 = .ok (.ireturn, 1) := dk_172 (dk_at dksX1_feed_0 14 rfl rfl)
theorem dX1_feed_15 : decode cX1_feed 15 = .ok (.aload_n 0, 1) := dk_42 (dk_at dksX1_feed_0 15 rfl rfl)
theorem dX1_feed_16 : decode cX1_feed 16 = .ok (.iload_n 1, 1) := dk_27 (dk_at dksX1_feed_0 16 rfl rfl)
theorem dX1_feed_17 : decode cX1_feed 17 = .ok (.invokevirtual 176, 3) := dk_182 0 176 (dk_at dksX1_feed_0 17 rfl rfl)
theorem dX1_feed_20 : decode cX1_feed 20 = .ok (.aload_n 0, 1) := dk_42 (dk_at dksX1_feed_0 20 rfl rfl)
theorem dX1_feed_21 : decode cX1_feed 21 = .ok (.iload_n 2, 1) := dk_28 (dk_at dksX1_feed_0 21 rfl rfl)
theorem dX1_feed_22 : decode cX1_feed 22 = .ok (.invokevirtual 176, 3) := dk_182 0 176 (dk_at dksX1_feed_1 0 rfl rfl)
theorem dX1_feed_25 : decode cX1_feed 25 = .ok (.aload_n 0, 1) := dk_42 (dk_at dksX1_feed_1 3 rfl rfl)
theorem dX1_feed_26 : decode cX1_feed 26 = .ok (.iload_n 3, 1) := dk_29 (dk_at dksX1_feed_1 4 rfl rfl)
theorem dX1_feed_27 : decode cX1_feed 27 = .ok (.invokevirtual 176, 3) := dk_182 0 176 (dk_at dksX1_feed_1 5 rfl rfl)
theorem dX1_feed_30 : decode cX1_feed 30 = .ok (.aload_n 0, 1) := dk_42 (dk_at dksX1_feed_1 8 rfl rfl)
theorem dX1_feed_31 : decode cX1_feed 31 = .ok (.iload 4, 2) := dk_21 4 (dk_at dksX1_feed_1 9 rfl rfl)
theorem dX1_feed_33 : decode cX1_feed 33 = .ok (.invokevirtual 176, 3) := dk_182 0 176 (dk_at dksX1_feed_1 11 rfl rfl)
theorem dX1_feed_36 : decode cX1_feed 36 = .ok (.aload_n 0, 1) := dk_42 (dk_at dksX1_feed_1 14 rfl rfl)
theorem dX1_feed_37 : decode cX1_feed 37 = .ok (.iload 5, 2) := dk_21 5 (dk_at dksX1_feed_1 15 rfl rfl)
theorem dX1_feed_39 : decode cX1_feed 39 = .ok (.invokevirtual 176, 3) := dk_182 0 176 (dk_at dksX1_feed_1 17 rfl rfl)
theorem dX1_feed_42 : decode cX1_feed 42 = .ok (.aload_n 0, 1) := dk_42 (dk_at dksX1_feed_1 20 rfl rfl)
theorem dX1_feed_43 : decode cX1_feed 43 = .ok (.getfield 172, 3) := dk_180 0 172 (dk_at dksX1_feed_1 21 rfl rfl)
theorem dX1_feed_46 : decode cX1_feed 46 = .ok (.ireturn, 1) := dk_172 (dk_at dksX1_feed_2 0 rfl rfl)
abbrev cX1_four : ByteArray := prog_1_method_3_code
def yX1_four : MethodName := ⟨RX1, "four", "(I)V"⟩
def dkwX1_four_1 : List UInt8 := [180, 0, 172, 4, 96, 181, 0, 172, 132, 2, 248, 167, 255, 226, 177]
abbrev dktX1_four_1 : List UInt8 := dkwX1_four_1 ++ []
def dkwX1_four_0 : List UInt8 := [16, 24, 61, 28, 155, 0, 32, 42, 180, 0, 9, 42, 180, 0, 172, 27, 28, 122, 145, 84, 42, 89]
abbrev dktX1_four_0 : List UInt8 := dkwX1_four_0 ++ dktX1_four_1
theorem dksX1_four_0 : cX1_four.data.toList.drop 0 = dktX1_four_0 := by decide +kernel
theorem dksX1_four_1 : cX1_four.data.toList.drop 22 = dktX1_four_1 := dk_seg dksX1_four_0 22 rfl rfl
theorem dX1_four_0 : decode cX1_four 0 = .ok (.bipush 24, 2) := dk_16 24 (dk_at dksX1_four_0 0 rfl rfl)
theorem dX1_four_2 : decode cX1_four 2 = .ok (.istore_n 2, 1) := dk_61 (dk_at dksX1_four_0 2 rfl rfl)
theorem dX1_four_3 : decode cX1_four 3 = .ok (.iload_n 2, 1) := dk_28 (dk_at dksX1_four_0 3 rfl rfl)
theorem dX1_four_4 : decode cX1_four 4 = .ok (.ifCond .lt 32, 3) := dk_155 0 32 (dk_at dksX1_four_0 4 rfl rfl)
theorem dX1_four_7 : decode cX1_four 7 = .ok (.aload_n 0, 1) := dk_42 (dk_at dksX1_four_0 7 rfl rfl)
theorem dX1_four_8 : decode cX1_four 8 = .ok (.getfield 9, 3) := dk_180 0 9 (dk_at dksX1_four_0 8 rfl rfl)
theorem dX1_four_11 : decode cX1_four 11 = .ok (.aload_n 0, 1) := dk_42 (dk_at dksX1_four_0 11 rfl rfl)
theorem dX1_four_12 : decode cX1_four 12 = .ok (.getfield 172, 3) := dk_180 0 172 (dk_at dksX1_four_0 12 rfl rfl)
theorem dX1_four_15 : decode cX1_four 15 = .ok (.iload_n 1, 1) := dk_27 (dk_at dksX1_four_0 15 rfl rfl)
theorem dX1_four_16 : decode cX1_four 16 = .ok (.iload_n 2, 1) := dk_28 (dk_at dksX1_four_0 16 rfl rfl)
theorem dX1_four_17 : decode cX1_four 17 = .ok (.ishr, 1) := dk_122 (dk_at dksX1_four_0 17 rfl rfl)
theorem dX1_four_18 : decode cX1_four 18 = .ok (.i2b, 1) := dk_145 (dk_at dksX1_four_0 18 rfl rfl)
theorem dX1_four_19 : decode cX1_four 19 = .ok (.bastore, 1) := dk_84 (dk_at dksX1_four_0 19 rfl rfl)
theorem dX1_four_20 : decode cX1_four 20 = .ok (.aload_n 0, 1) := dk_42 (dk_at dksX1_four_0 20 rfl rfl)
theorem dX1_four_21 : decode cX1_four 21 = .ok (.dup, 1) := dk_89 (dk_at dksX1_four_0 21 rfl rfl)
theorem dX1_four_22 : decode cX1_four 22 = .ok (.getfield 172, 3) := dk_180 0 172 (dk_at dksX1_four_1 0 rfl rfl)
theorem dX1_four_25 : decode cX1_four 25 = .ok (.iconst 1, 1) := dk_4 (dk_at dksX1_four_1 3 rfl rfl)
theorem dX1_four_26 : decode cX1_four 26 = .ok (.iadd, 1) := dk_96 (dk_at dksX1_four_1 4 rfl rfl)
theorem dX1_four_27 : decode cX1_four 27 = .ok (.putfield 172, 3) := dk_181 0 172 (dk_at dksX1_four_1 5 rfl rfl)
theorem dX1_four_30 : decode cX1_four 30 = .ok (.iinc 2 (-8), 3) := dk_132 2 248 (dk_at dksX1_four_1 8 rfl rfl)
theorem dX1_four_33 : decode cX1_four 33 = .ok (.goto (-30), 3) := dk_167 255 226 (dk_at dksX1_four_1 11 rfl rfl)
theorem dX1_four_36 : decode cX1_four 36 = .ok (.return_, 1) := dk_177 (dk_at dksX1_four_1 14 rfl rfl)
abbrev cX1_end : ByteArray := prog_1_method_4_code
def yX1_end : MethodName := ⟨RX1, "end", "(I)Z"⟩
def dkwX1_end_0 : List UInt8 := [27, 155, 0, 11, 27, 42, 180, 0, 172, 164, 0, 5, 3, 172, 42, 27, 181, 0, 172, 4, 172]
abbrev dktX1_end_0 : List UInt8 := dkwX1_end_0 ++ []
theorem dksX1_end_0 : cX1_end.data.toList.drop 0 = dktX1_end_0 := by decide +kernel
theorem dX1_end_0 : decode cX1_end 0 = .ok (.iload_n 1, 1) := dk_27 (dk_at dksX1_end_0 0 rfl rfl)
theorem dX1_end_1 : decode cX1_end 1 = .ok (.ifCond .lt 11, 3) := dk_155 0 11 (dk_at dksX1_end_0 1 rfl rfl)
theorem dX1_end_4 : decode cX1_end 4 = .ok (.iload_n 1, 1) := dk_27 (dk_at dksX1_end_0 4 rfl rfl)
theorem dX1_end_5 : decode cX1_end 5 = .ok (.aload_n 0, 1) := dk_42 (dk_at dksX1_end_0 5 rfl rfl)
theorem dX1_end_6 : decode cX1_end 6 = .ok (.getfield 172, 3) := dk_180 0 172 (dk_at dksX1_end_0 6 rfl rfl)
theorem dX1_end_9 : decode cX1_end 9 = .ok (.if_icmp .le 5, 3) := dk_164 0 5 (dk_at dksX1_end_0 9 rfl rfl)
theorem dX1_end_12 : decode cX1_end 12 = .ok (.iconst 0, 1) := dk_3 (dk_at dksX1_end_0 12 rfl rfl)
theorem dX1_end_13 : decode cX1_end 13 = .ok (.ireturn, 1) := dk_172 (dk_at dksX1_end_0 13 rfl rfl)
theorem dX1_end_14 : decode cX1_end 14 = .ok (.aload_n 0, 1) := dk_42 (dk_at dksX1_end_0 14 rfl rfl)
theorem dX1_end_15 : decode cX1_end 15 = .ok (.iload_n 1, 1) := dk_27 (dk_at dksX1_end_0 15 rfl rfl)
theorem dX1_end_16 : decode cX1_end 16 = .ok (.putfield 172, 3) := dk_181 0 172 (dk_at dksX1_end_0 16 rfl rfl)
theorem dX1_end_19 : decode cX1_end 19 = .ok (.iconst 1, 1) := dk_4 (dk_at dksX1_end_0 19 rfl rfl)
theorem dX1_end_20 : decode cX1_end 20 = .ok (.ireturn, 1) := dk_172 (dk_at dksX1_end_0 20 rfl rfl)
abbrev cX1_head : ByteArray := prog_1_method_9_code
def yX1_head : MethodName := ⟨RX1, "head", "()I"⟩
def dkwX1_head_2 : List UInt8 := [180, 0, 206, 181, 0, 189, 2, 44, 180, 0, 209, 100, 172]
abbrev dktX1_head_2 : List UInt8 := dkwX1_head_2 ++ []
def dkwX1_head_1 : List UInt8 := [182, 0, 195, 61, 42, 180, 0, 105, 182, 0, 199, 42, 180, 0, 105, 43, 181, 0, 202, 28, 172, 77, 42, 44]
abbrev dktX1_head_1 : List UInt8 := dkwX1_head_1 ++ dktX1_head_2
def dkwX1_head_0 : List UInt8 := [42, 182, 0, 186, 42, 3, 181, 0, 189, 187, 0, 192, 89, 183, 0, 194, 76, 42, 180, 0, 98, 43]
abbrev dktX1_head_0 : List UInt8 := dkwX1_head_0 ++ dktX1_head_1
theorem dksX1_head_0 : cX1_head.data.toList.drop 0 = dktX1_head_0 := by decide +kernel
theorem dksX1_head_1 : cX1_head.data.toList.drop 22 = dktX1_head_1 := dk_seg dksX1_head_0 22 rfl rfl
theorem dksX1_head_2 : cX1_head.data.toList.drop 46 = dktX1_head_2 := dk_seg dksX1_head_1 24 rfl rfl
theorem dX1_head_0 : decode cX1_head 0 = .ok (.aload_n 0, 1) := dk_42 (dk_at dksX1_head_0 0 rfl rfl)
theorem dX1_head_1 : decode cX1_head 1 = .ok (.invokevirtual 186, 3) := dk_182 0 186 (dk_at dksX1_head_0 1 rfl rfl)
theorem dX1_head_4 : decode cX1_head 4 = .ok (.aload_n 0, 1) := dk_42 (dk_at dksX1_head_0 4 rfl rfl)
theorem dX1_head_5 : decode cX1_head 5 = .ok (.iconst 0, 1) := dk_3 (dk_at dksX1_head_0 5 rfl rfl)
theorem dX1_head_6 : decode cX1_head 6 = .ok (.putfield 189, 3) := dk_181 0 189 (dk_at dksX1_head_0 6 rfl rfl)
theorem dX1_head_9 : decode cX1_head 9 = .ok (.new 192, 3) := dk_187 0 192 (dk_at dksX1_head_0 9 rfl rfl)
theorem dX1_head_12 : decode cX1_head 12 = .ok (.dup, 1) := dk_89 (dk_at dksX1_head_0 12 rfl rfl)
theorem dX1_head_13 : decode cX1_head 13 = .ok (.invokespecial 194, 3) := dk_183 0 194 (dk_at dksX1_head_0 13 rfl rfl)
theorem dX1_head_16 : decode cX1_head 16 = .ok (.astore_n 1, 1) := dk_76 (dk_at dksX1_head_0 16 rfl rfl)
theorem dX1_head_17 : decode cX1_head 17 = .ok (.aload_n 0, 1) := dk_42 (dk_at dksX1_head_0 17 rfl rfl)
theorem dX1_head_18 : decode cX1_head 18 = .ok (.getfield 98, 3) := dk_180 0 98 (dk_at dksX1_head_0 18 rfl rfl)
theorem dX1_head_21 : decode cX1_head 21 = .ok (.aload_n 1, 1) := dk_43 (dk_at dksX1_head_0 21 rfl rfl)
theorem dX1_head_22 : decode cX1_head 22 = .ok (.invokevirtual 195, 3) := dk_182 0 195 (dk_at dksX1_head_1 0 rfl rfl)
theorem dX1_head_25 : decode cX1_head 25 = .ok (.istore_n 2, 1) := dk_61 (dk_at dksX1_head_1 3 rfl rfl)
theorem dX1_head_26 : decode cX1_head 26 = .ok (.aload_n 0, 1) := dk_42 (dk_at dksX1_head_1 4 rfl rfl)
theorem dX1_head_27 : decode cX1_head 27 = .ok (.getfield 105, 3) := dk_180 0 105 (dk_at dksX1_head_1 5 rfl rfl)
theorem dX1_head_30 : decode cX1_head 30 = .ok (.invokevirtual 199, 3) := dk_182 0 199 (dk_at dksX1_head_1 8 rfl rfl)
theorem dX1_head_33 : decode cX1_head 33 = .ok (.aload_n 0, 1) := dk_42 (dk_at dksX1_head_1 11 rfl rfl)
theorem dX1_head_34 : decode cX1_head 34 = .ok (.getfield 105, 3) := dk_180 0 105 (dk_at dksX1_head_1 12 rfl rfl)
theorem dX1_head_37 : decode cX1_head 37 = .ok (.aload_n 1, 1) := dk_43 (dk_at dksX1_head_1 15 rfl rfl)
theorem dX1_head_38 : decode cX1_head 38 = .ok (.putfield 202, 3) := dk_181 0 202 (dk_at dksX1_head_1 16 rfl rfl)
theorem dX1_head_41 : decode cX1_head 41 = .ok (.iload_n 2, 1) := dk_28 (dk_at dksX1_head_1 19 rfl rfl)
theorem dX1_head_42 : decode cX1_head 42 = .ok (.ireturn, 1) := dk_172 (dk_at dksX1_head_1 20 rfl rfl)
theorem dX1_head_43 : decode cX1_head 43 = .ok (.astore_n 2, 1) := dk_77 (dk_at dksX1_head_1 21 rfl rfl)
theorem dX1_head_44 : decode cX1_head 44 = .ok (.aload_n 0, 1) := dk_42 (dk_at dksX1_head_1 22 rfl rfl)
theorem dX1_head_45 : decode cX1_head 45 = .ok (.aload_n 2, 1) := dk_44 (dk_at dksX1_head_1 23 rfl rfl)
theorem dX1_head_46 : decode cX1_head 46 = .ok (.getfield 206, 3) := dk_180 0 206 (dk_at dksX1_head_2 0 rfl rfl)
theorem dX1_head_49 : decode cX1_head 49 = .ok (.putfield 189, 3) := dk_181 0 189 (dk_at dksX1_head_2 3 rfl rfl)
theorem dX1_head_52 : decode cX1_head 52 = .ok (.iconst (-1), 1) := dk_2 (dk_at dksX1_head_2 6 rfl rfl)
theorem dX1_head_53 : decode cX1_head 53 = .ok (.aload_n 2, 1) := dk_44 (dk_at dksX1_head_2 7 rfl rfl)
theorem dX1_head_54 : decode cX1_head 54 = .ok (.getfield 209, 3) := dk_180 0 209 (dk_at dksX1_head_2 8 rfl rfl)
theorem dX1_head_57 : decode cX1_head 57 = .ok (.isub, 1) := dk_100 (dk_at dksX1_head_2 11 rfl rfl)
theorem dX1_head_58 : decode cX1_head 58 = .ok (.ireturn, 1) := dk_172 (dk_at dksX1_head_2 12 rfl rfl)
abbrev cX1_taken : ByteArray := prog_1_method_5_code
def yX1_taken : MethodName := ⟨RX1, "taken", "()V"⟩
def dkwX1_taken_0 : List UInt8 := [42, 42, 180, 0, 172, 181, 0, 180, 42, 3, 181, 0, 172, 177]
abbrev dktX1_taken_0 : List UInt8 := dkwX1_taken_0 ++ []
theorem dksX1_taken_0 : cX1_taken.data.toList.drop 0 = dktX1_taken_0 := by decide +kernel
theorem dX1_taken_0 : decode cX1_taken 0 = .ok (.aload_n 0, 1) := dk_42 (dk_at dksX1_taken_0 0 rfl rfl)
theorem dX1_taken_1 : decode cX1_taken 1 = .ok (.aload_n 0, 1) := dk_42 (dk_at dksX1_taken_0 1 rfl rfl)
theorem dX1_taken_2 : decode cX1_taken 2 = .ok (.getfield 172, 3) := dk_180 0 172 (dk_at dksX1_taken_0 2 rfl rfl)
theorem dX1_taken_5 : decode cX1_taken 5 = .ok (.putfield 180, 3) := dk_181 0 180 (dk_at dksX1_taken_0 5 rfl rfl)
theorem dX1_taken_8 : decode cX1_taken 8 = .ok (.aload_n 0, 1) := dk_42 (dk_at dksX1_taken_0 8 rfl rfl)
theorem dX1_taken_9 : decode cX1_taken 9 = .ok (.iconst 0, 1) := dk_3 (dk_at dksX1_taken_0 9 rfl rfl)
theorem dX1_taken_10 : decode cX1_taken 10 = .ok (.putfield 172, 3) := dk_181 0 172 (dk_at dksX1_taken_0 10 rfl rfl)
theorem dX1_taken_13 : decode cX1_taken 13 = .ok (.return_, 1) := dk_177 (dk_at dksX1_taken_0 13 rfl rfl)
abbrev cX1_isIn : ByteArray := prog_1_method_7_code
def yX1_isIn : MethodName := ⟨RX1, "isIn", "(III)Z"⟩
def dkwX1_isIn_0 : List UInt8 := [26, 27, 161, 0, 12, 26, 28, 163, 0, 7, 4, 167, 0, 4, 3, 172]
abbrev dktX1_isIn_0 : List UInt8 := dkwX1_isIn_0 ++ []
theorem dksX1_isIn_0 : cX1_isIn.data.toList.drop 0 = dktX1_isIn_0 := by decide +kernel
theorem dX1_isIn_0 : decode cX1_isIn 0 = .ok (.iload_n 0, 1) := dk_26 (dk_at dksX1_isIn_0 0 rfl rfl)
theorem dX1_isIn_1 : decode cX1_isIn 1 = .ok (.iload_n 1, 1) := dk_27 (dk_at dksX1_isIn_0 1 rfl rfl)
theorem dX1_isIn_2 : decode cX1_isIn 2 = .ok (.if_icmp .lt 12, 3) := dk_161 0 12 (dk_at dksX1_isIn_0 2 rfl rfl)
theorem dX1_isIn_5 : decode cX1_isIn 5 = .ok (.iload_n 0, 1) := dk_26 (dk_at dksX1_isIn_0 5 rfl rfl)
theorem dX1_isIn_6 : decode cX1_isIn 6 = .ok (.iload_n 2, 1) := dk_28 (dk_at dksX1_isIn_0 6 rfl rfl)
theorem dX1_isIn_7 : decode cX1_isIn 7 = .ok (.if_icmp .gt 7, 3) := dk_163 0 7 (dk_at dksX1_isIn_0 7 rfl rfl)
theorem dX1_isIn_10 : decode cX1_isIn 10 = .ok (.iconst 1, 1) := dk_4 (dk_at dksX1_isIn_0 10 rfl rfl)
theorem dX1_isIn_11 : decode cX1_isIn 11 = .ok (.goto 4, 3) := dk_167 0 4 (dk_at dksX1_isIn_0 11 rfl rfl)
theorem dX1_isIn_14 : decode cX1_isIn 14 = .ok (.iconst 0, 1) := dk_3 (dk_at dksX1_isIn_0 14 rfl rfl)
theorem dX1_isIn_15 : decode cX1_isIn 15 = .ok (.ireturn, 1) := dk_172 (dk_at dksX1_isIn_0 15 rfl rfl)
abbrev cX1_fault : ByteArray := prog_1_method_10_code
def yX1_fault : MethodName := ⟨RX1, "fault", "()I"⟩
theorem dX1_fault_0 : decode cX1_fault 0 = .ok (.aload_n 0, 1) := by decide +kernel
theorem dX1_fault_1 : decode cX1_fault 1 = .ok (.getfield 189, 3) := by decide +kernel
theorem dX1_fault_4 : decode cX1_fault 4 = .ok (.ireturn, 1) := by decide +kernel
abbrev cX1_world : ByteArray := prog_1_method_11_code
def yX1_world : MethodName := ⟨RX1, "world", "(I)Z"⟩
def dkwX1_world_1 : List UInt8 := [27, 181, 0, 216, 4, 172]
abbrev dktX1_world_1 : List UInt8 := dkwX1_world_1 ++ []
def dkwX1_world_0 : List UInt8 := [27, 42, 180, 0, 105, 180, 0, 202, 5, 182, 0, 212, 2, 130, 126, 153, 0, 5, 3, 172, 42, 180, 0, 105]
abbrev dktX1_world_0 : List UInt8 := dkwX1_world_0 ++ dktX1_world_1
theorem dksX1_world_0 : cX1_world.data.toList.drop 0 = dktX1_world_0 := by decide +kernel
theorem dksX1_world_1 : cX1_world.data.toList.drop 24 = dktX1_world_1 := dk_seg dksX1_world_0 24 rfl rfl
theorem dX1_world_0 : decode cX1_world 0 = .ok (.iload_n 1, 1) := dk_27 (dk_at dksX1_world_0 0 rfl rfl)
theorem dX1_world_1 : decode cX1_world 1 = .ok (.aload_n 0, 1) := dk_42 (dk_at dksX1_world_0 1 rfl rfl)
theorem dX1_world_2 : decode cX1_world 2 = .ok (.getfield 105, 3) := dk_180 0 105 (dk_at dksX1_world_0 2 rfl rfl)
theorem dX1_world_5 : decode cX1_world 5 = .ok (.getfield 202, 3) := dk_180 0 202 (dk_at dksX1_world_0 5 rfl rfl)
theorem dX1_world_8 : decode cX1_world 8 = .ok (.iconst 2, 1) := dk_5 (dk_at dksX1_world_0 8 rfl rfl)
theorem dX1_world_9 : decode cX1_world 9 = .ok (.invokevirtual 212, 3) := dk_182 0 212 (dk_at dksX1_world_0 9 rfl rfl)
theorem dX1_world_12 : decode cX1_world 12 = .ok (.iconst (-1), 1) := dk_2 (dk_at dksX1_world_0 12 rfl rfl)
theorem dX1_world_13 : decode cX1_world 13 = .ok (.ixor, 1) := dk_130 (dk_at dksX1_world_0 13 rfl rfl)
theorem dX1_world_14 : decode cX1_world 14 = .ok (.iand, 1) := dk_126 (dk_at dksX1_world_0 14 rfl rfl)
theorem dX1_world_15 : decode cX1_world 15 = .ok (.ifCond .eq 5, 3) := dk_153 0 5 (dk_at dksX1_world_0 15 rfl rfl)
theorem dX1_world_18 : decode cX1_world 18 = .ok (.iconst 0, 1) := dk_3 (dk_at dksX1_world_0 18 rfl rfl)
theorem dX1_world_19 : decode cX1_world 19 = .ok (.ireturn, 1) := dk_172 (dk_at dksX1_world_0 19 rfl rfl)
theorem dX1_world_20 : decode cX1_world 20 = .ok (.aload_n 0, 1) := dk_42 (dk_at dksX1_world_0 20 rfl rfl)
theorem dX1_world_21 : decode cX1_world 21 = .ok (.getfield 105, 3) := dk_180 0 105 (dk_at dksX1_world_0 21 rfl rfl)
theorem dX1_world_24 : decode cX1_world 24 = .ok (.iload_n 1, 1) := dk_27 (dk_at dksX1_world_1 0 rfl rfl)
theorem dX1_world_25 : decode cX1_world 25 = .ok (.putfield 216, 3) := dk_181 0 216 (dk_at dksX1_world_1 1 rfl rfl)
theorem dX1_world_28 : decode cX1_world 28 = .ok (.iconst 1, 1) := dk_4 (dk_at dksX1_world_1 4 rfl rfl)
theorem dX1_world_29 : decode cX1_world 29 = .ok (.ireturn, 1) := dk_172 (dk_at dksX1_world_1 5 rfl rfl)
abbrev cX1_years : ByteArray := prog_1_method_12_code
def yX1_years : MethodName := ⟨RX1, "years", "(I)Z"⟩
def dkwX1_years_0 : List UInt8 := [27, 3, 16, 40, 184, 0, 219, 154, 0, 5, 3, 172, 42, 180, 0, 105, 27, 181, 0, 223, 4, 172]
abbrev dktX1_years_0 : List UInt8 := dkwX1_years_0 ++ []
theorem dksX1_years_0 : cX1_years.data.toList.drop 0 = dktX1_years_0 := by decide +kernel
theorem dX1_years_0 : decode cX1_years 0 = .ok (.iload_n 1, 1) := dk_27 (dk_at dksX1_years_0 0 rfl rfl)
theorem dX1_years_1 : decode cX1_years 1 = .ok (.iconst 0, 1) := dk_3 (dk_at dksX1_years_0 1 rfl rfl)
theorem dX1_years_2 : decode cX1_years 2 = .ok (.bipush 40, 2) := dk_16 40 (dk_at dksX1_years_0 2 rfl rfl)
theorem dX1_years_4 : decode cX1_years 4 = .ok (.invokestatic 219, 3) := dk_184 0 219 (dk_at dksX1_years_0 4 rfl rfl)
theorem dX1_years_7 : decode cX1_years 7 = .ok (.ifCond .ne 5, 3) := dk_154 0 5 (dk_at dksX1_years_0 7 rfl rfl)
theorem dX1_years_10 : decode cX1_years 10 = .ok (.iconst 0, 1) := dk_3 (dk_at dksX1_years_0 10 rfl rfl)
theorem dX1_years_11 : decode cX1_years 11 = .ok (.ireturn, 1) := dk_172 (dk_at dksX1_years_0 11 rfl rfl)
theorem dX1_years_12 : decode cX1_years 12 = .ok (.aload_n 0, 1) := dk_42 (dk_at dksX1_years_0 12 rfl rfl)
theorem dX1_years_13 : decode cX1_years 13 = .ok (.getfield 105, 3) := dk_180 0 105 (dk_at dksX1_years_0 13 rfl rfl)
theorem dX1_years_16 : decode cX1_years 16 = .ok (.iload_n 1, 1) := dk_27 (dk_at dksX1_years_0 16 rfl rfl)
theorem dX1_years_17 : decode cX1_years 17 = .ok (.putfield 223, 3) := dk_181 0 223 (dk_at dksX1_years_0 17 rfl rfl)
theorem dX1_years_20 : decode cX1_years 20 = .ok (.iconst 1, 1) := dk_4 (dk_at dksX1_years_0 20 rfl rfl)
theorem dX1_years_21 : decode cX1_years 21 = .ok (.ireturn, 1) := dk_172 (dk_at dksX1_years_0 21 rfl rfl)
abbrev cX1_knows : ByteArray := prog_1_method_22_code
def yX1_knows : MethodName := ⟨RX1, "knows", "(IIIIII)I"⟩
def dkwX1_knows_4 : List UInt8 := [180, 0, 116, 180, 1, 52, 27, 50, 28, 46, 167, 0, 4, 2, 172]
abbrev dktX1_knows_4 : List UInt8 := dkwX1_knows_4 ++ []
def dkwX1_knows_3 : List UInt8 := [3, 3, 182, 1, 41, 42, 180, 0, 116, 180, 1, 52, 27, 50, 28, 46, 17, 3, 232, 162, 0, 17, 42]
abbrev dktX1_knows_3 : List UInt8 := dkwX1_knows_3 ++ dktX1_knows_4
def dkwX1_knows_2 : List UInt8 := [21, 6, 42, 180, 0, 105, 180, 0, 223, 3, 42, 180, 0, 109, 183, 1, 38, 42, 180, 0, 105, 180, 0, 216]
abbrev dktX1_knows_2 : List UInt8 := dkwX1_knows_2 ++ dktX1_knows_3
def dkwX1_knows_1 : List UInt8 := [21, 6, 182, 1, 29, 154, 0, 6, 16, 254, 172, 42, 180, 0, 116, 187, 1, 36, 89, 29, 21, 4, 21, 5]
abbrev dktX1_knows_1 : List UInt8 := dkwX1_knows_1 ++ dktX1_knows_2
def dkwX1_knows_0 : List UInt8 := [27, 3, 4, 184, 0, 219, 153, 0, 25, 42, 28, 182, 1, 11, 153, 0, 17, 42, 29, 21, 4, 21, 5]
abbrev dktX1_knows_0 : List UInt8 := dkwX1_knows_0 ++ dktX1_knows_1
theorem dksX1_knows_0 : cX1_knows.data.toList.drop 0 = dktX1_knows_0 := by decide +kernel
theorem dksX1_knows_1 : cX1_knows.data.toList.drop 23 = dktX1_knows_1 := dk_seg dksX1_knows_0 23 rfl rfl
theorem dksX1_knows_2 : cX1_knows.data.toList.drop 47 = dktX1_knows_2 := dk_seg dksX1_knows_1 24 rfl rfl
theorem dksX1_knows_3 : cX1_knows.data.toList.drop 71 = dktX1_knows_3 := dk_seg dksX1_knows_2 24 rfl rfl
theorem dksX1_knows_4 : cX1_knows.data.toList.drop 94 = dktX1_knows_4 := dk_seg dksX1_knows_3 23 rfl rfl
theorem dX1_knows_0 : decode cX1_knows 0 = .ok (.iload_n 1, 1) := dk_27 (dk_at dksX1_knows_0 0 rfl rfl)
theorem dX1_knows_1 : decode cX1_knows 1 = .ok (.iconst 0, 1) := dk_3 (dk_at dksX1_knows_0 1 rfl rfl)
theorem dX1_knows_2 : decode cX1_knows 2 = .ok (.iconst 1, 1) := dk_4 (dk_at dksX1_knows_0 2 rfl rfl)
theorem dX1_knows_3 : decode cX1_knows 3 = .ok (.invokestatic 219, 3) := dk_184 0 219 (dk_at dksX1_knows_0 3 rfl rfl)
theorem dX1_knows_6 : decode cX1_knows 6 = .ok (.ifCond .eq 25, 3) := dk_153 0 25 (dk_at dksX1_knows_0 6 rfl rfl)
theorem dX1_knows_9 : decode cX1_knows 9 = .ok (.aload_n 0, 1) := dk_42 (dk_at dksX1_knows_0 9 rfl rfl)
theorem dX1_knows_10 : decode cX1_knows 10 = .ok (.iload_n 2, 1) := dk_28 (dk_at dksX1_knows_0 10 rfl rfl)
theorem dX1_knows_11 : decode cX1_knows 11 = .ok (.invokevirtual 267, 3) := dk_182 1 11 (dk_at dksX1_knows_0 11 rfl rfl)
theorem dX1_knows_14 : decode cX1_knows 14 = .ok (.ifCond .eq 17, 3) := dk_153 0 17 (dk_at dksX1_knows_0 14 rfl rfl)
theorem dX1_knows_17 : decode cX1_knows 17 = .ok (.aload_n 0, 1) := dk_42 (dk_at dksX1_knows_0 17 rfl rfl)
theorem dX1_knows_18 : decode cX1_knows 18 = .ok (.iload_n 3, 1) := dk_29 (dk_at dksX1_knows_0 18 rfl rfl)
theorem dX1_knows_19 : decode cX1_knows 19 = .ok (.iload 4, 2) := dk_21 4 (dk_at dksX1_knows_0 19 rfl rfl)
theorem dX1_knows_21 : decode cX1_knows 21 = .ok (.iload 5, 2) := dk_21 5 (dk_at dksX1_knows_0 21 rfl rfl)
theorem dX1_knows_23 : decode cX1_knows 23 = .ok (.iload 6, 2) := dk_21 6 (dk_at dksX1_knows_1 0 rfl rfl)
theorem dX1_knows_25 : decode cX1_knows 25 = .ok (.invokevirtual 285, 3) := dk_182 1 29 (dk_at dksX1_knows_1 2 rfl rfl)
theorem dX1_knows_28 : decode cX1_knows 28 = .ok (.ifCond .ne 6, 3) := dk_154 0 6 (dk_at dksX1_knows_1 5 rfl rfl)
theorem dX1_knows_31 : decode cX1_knows 31 = .ok (.bipush (-2), 2) := dk_16 254 (dk_at dksX1_knows_1 8 rfl rfl)
theorem dX1_knows_33 : decode cX1_knows 33 = .ok (.ireturn, 1) := dk_172 (dk_at dksX1_knows_1 10 rfl rfl)
theorem dX1_knows_34 : decode cX1_knows 34 = .ok (.aload_n 0, 1) := dk_42 (dk_at dksX1_knows_1 11 rfl rfl)
theorem dX1_knows_35 : decode cX1_knows 35 = .ok (.getfield 116, 3) := dk_180 0 116 (dk_at dksX1_knows_1 12 rfl rfl)
theorem dX1_knows_38 : decode cX1_knows 38 = .ok (.new 292, 3) := dk_187 1 36 (dk_at dksX1_knows_1 15 rfl rfl)
theorem dX1_knows_41 : decode cX1_knows 41 = .ok (.dup, 1) := dk_89 (dk_at dksX1_knows_1 18 rfl rfl)
theorem dX1_knows_42 : decode cX1_knows 42 = .ok (.iload_n 3, 1) := dk_29 (dk_at dksX1_knows_1 19 rfl rfl)
theorem dX1_knows_43 : decode cX1_knows 43 = .ok (.iload 4, 2) := dk_21 4 (dk_at dksX1_knows_1 20 rfl rfl)
theorem dX1_knows_45 : decode cX1_knows 45 = .ok (.iload 5, 2) := dk_21 5 (dk_at dksX1_knows_1 22 rfl rfl)
theorem dX1_knows_47 : decode cX1_knows 47 = .ok (.iload 6, 2) := dk_21 6 (dk_at dksX1_knows_2 0 rfl rfl)
theorem dX1_knows_49 : decode cX1_knows 49 = .ok (.aload_n 0, 1) := dk_42 (dk_at dksX1_knows_2 2 rfl rfl)
theorem dX1_knows_50 : decode cX1_knows 50 = .ok (.getfield 105, 3) := dk_180 0 105 (dk_at dksX1_knows_2 3 rfl rfl)
theorem dX1_knows_53 : decode cX1_knows 53 = .ok (.getfield 223, 3) := dk_180 0 223 (dk_at dksX1_knows_2 6 rfl rfl)
theorem dX1_knows_56 : decode cX1_knows 56 = .ok (.iconst 0, 1) := dk_3 (dk_at dksX1_knows_2 9 rfl rfl)
theorem dX1_knows_57 : decode cX1_knows 57 = .ok (.aload_n 0, 1) := dk_42 (dk_at dksX1_knows_2 10 rfl rfl)
theorem dX1_knows_58 : decode cX1_knows 58 = .ok (.getfield 109, 3) := dk_180 0 109 (dk_at dksX1_knows_2 11 rfl rfl)
theorem dX1_knows_61 : decode cX1_knows 61 = .ok (.invokespecial 294, 3) := dk_183 1 38 (dk_at dksX1_knows_2 14 rfl rfl)
theorem dX1_knows_64 : decode cX1_knows 64 = .ok (.aload_n 0, 1) := dk_42 (dk_at dksX1_knows_2 17 rfl rfl)
theorem dX1_knows_65 : decode cX1_knows 65 = .ok (.getfield 105, 3) := dk_180 0 105 (dk_at dksX1_knows_2 18 rfl rfl)
theorem dX1_knows_68 : decode cX1_knows 68 = .ok (.getfield 216, 3) := dk_180 0 216 (dk_at dksX1_knows_2 21 rfl rfl)
theorem dX1_knows_71 : decode cX1_knows 71 = .ok (.iconst 0, 1) := dk_3 (dk_at dksX1_knows_3 0 rfl rfl)
theorem dX1_knows_72 : decode cX1_knows 72 = .ok (.iconst 0, 1) := dk_3 (dk_at dksX1_knows_3 1 rfl rfl)
theorem dX1_knows_73 : decode cX1_knows 73 = .ok (.invokevirtual 297, 3) := dk_182 1 41 (dk_at dksX1_knows_3 2 rfl rfl)
theorem dX1_knows_76 : decode cX1_knows 76 = .ok (.aload_n 0, 1) := dk_42 (dk_at dksX1_knows_3 5 rfl rfl)
theorem dX1_knows_77 : decode cX1_knows 77 = .ok (.getfield 116, 3) := dk_180 0 116 (dk_at dksX1_knows_3 6 rfl rfl)
theorem dX1_knows_80 : decode cX1_knows 80 = .ok (.getfield 308, 3) := dk_180 1 52 (dk_at dksX1_knows_3 9 rfl rfl)
theorem dX1_knows_83 : decode cX1_knows 83 = .ok (.iload_n 1, 1) := dk_27 (dk_at dksX1_knows_3 12 rfl rfl)
theorem dX1_knows_84 : decode cX1_knows 84 = .ok (.aaload, 1) := dk_50 (dk_at dksX1_knows_3 13 rfl rfl)
theorem dX1_knows_85 : decode cX1_knows 85 = .ok (.iload_n 2, 1) := dk_28 (dk_at dksX1_knows_3 14 rfl rfl)
theorem dX1_knows_86 : decode cX1_knows 86 = .ok (.iaload, 1) := dk_46 (dk_at dksX1_knows_3 15 rfl rfl)
theorem dX1_knows_87 : decode cX1_knows 87 = .ok (.sipush 1000, 3) := dk_17 3 232 (dk_at dksX1_knows_3 16 rfl rfl)
theorem dX1_knows_90 : decode cX1_knows 90 = .ok (.if_icmp .ge 17, 3) := dk_162 0 17 (dk_at dksX1_knows_3 19 rfl rfl)
theorem dX1_knows_93 : decode cX1_knows 93 = .ok (.aload_n 0, 1) := dk_42 (dk_at dksX1_knows_3 22 rfl rfl)
theorem dX1_knows_94 : decode cX1_knows 94 = .ok (.getfield 116, 3) := dk_180 0 116 (dk_at dksX1_knows_4 0 rfl rfl)
theorem dX1_knows_97 : decode cX1_knows 97 = .ok (.getfield 308, 3) := dk_180 1 52 (dk_at dksX1_knows_4 3 rfl rfl)
theorem dX1_knows_100 : decode cX1_knows 100 = .ok (.iload_n 1, 1) := dk_27 (dk_at dksX1_knows_4 6 rfl rfl)
theorem dX1_knows_101 : decode cX1_knows 101 = .ok (.aaload, 1) := dk_50 (dk_at dksX1_knows_4 7 rfl rfl)
theorem dX1_knows_102 : decode cX1_knows 102 = .ok (.iload_n 2, 1) := dk_28 (dk_at dksX1_knows_4 8 rfl rfl)
theorem dX1_knows_103 : decode cX1_knows 103 = .ok (.iaload, 1) := dk_46 (dk_at dksX1_knows_4 9 rfl rfl)
theorem dX1_knows_104 : decode cX1_knows 104 = .ok (.goto 4, 3) := dk_167 0 4 (dk_at dksX1_knows_4 10 rfl rfl)
theorem dX1_knows_107 : decode cX1_knows 107 = .ok (.iconst (-1), 1) := dk_2 (dk_at dksX1_knows_4 13 rfl rfl)
theorem dX1_knows_108 : decode cX1_knows 108 = .ok (.ireturn, 1) := dk_172 (dk_at dksX1_knows_4 14 rfl rfl)
abbrev cX1_isThing : ByteArray := prog_1_method_14_code
def yX1_isThing : MethodName := ⟨RX1, "isThing", "(I)Z"⟩
def dkwX1_isThing_0 : List UInt8 := [27, 3, 42, 180, 0, 105, 180, 0, 202, 180, 0, 229, 4, 100, 184, 0, 219, 172]
abbrev dktX1_isThing_0 : List UInt8 := dkwX1_isThing_0 ++ []
theorem dksX1_isThing_0 : cX1_isThing.data.toList.drop 0 = dktX1_isThing_0 := by decide +kernel
theorem dX1_isThing_0 : decode cX1_isThing 0 = .ok (.iload_n 1, 1) := dk_27 (dk_at dksX1_isThing_0 0 rfl rfl)
theorem dX1_isThing_1 : decode cX1_isThing 1 = .ok (.iconst 0, 1) := dk_3 (dk_at dksX1_isThing_0 1 rfl rfl)
theorem dX1_isThing_2 : decode cX1_isThing 2 = .ok (.aload_n 0, 1) := dk_42 (dk_at dksX1_isThing_0 2 rfl rfl)
theorem dX1_isThing_3 : decode cX1_isThing 3 = .ok (.getfield 105, 3) := dk_180 0 105 (dk_at dksX1_isThing_0 3 rfl rfl)
theorem dX1_isThing_6 : decode cX1_isThing 6 = .ok (.getfield 202, 3) := dk_180 0 202 (dk_at dksX1_isThing_0 6 rfl rfl)
theorem dX1_isThing_9 : decode cX1_isThing 9 = .ok (.getfield 229, 3) := dk_180 0 229 (dk_at dksX1_isThing_0 9 rfl rfl)
theorem dX1_isThing_12 : decode cX1_isThing 12 = .ok (.iconst 1, 1) := dk_4 (dk_at dksX1_isThing_0 12 rfl rfl)
theorem dX1_isThing_13 : decode cX1_isThing 13 = .ok (.isub, 1) := dk_100 (dk_at dksX1_isThing_0 13 rfl rfl)
theorem dX1_isThing_14 : decode cX1_isThing 14 = .ok (.invokestatic 219, 3) := dk_184 0 219 (dk_at dksX1_isThing_0 14 rfl rfl)
theorem dX1_isThing_17 : decode cX1_isThing 17 = .ok (.ireturn, 1) := dk_172 (dk_at dksX1_isThing_0 17 rfl rfl)
abbrev cX1_isShowing : ByteArray := prog_1_method_18_code
def yX1_isShowing : MethodName := ⟨RX1, "isShowing", "(IIII)Z"⟩
def dkwX1_isShowing_1 : List UInt8 := [153, 0, 19, 21, 4, 3, 17, 0, 255, 184, 0, 219, 153, 0, 7, 4, 167, 0, 4, 3, 172]
abbrev dktX1_isShowing_1 : List UInt8 := dkwX1_isShowing_1 ++ []
def dkwX1_isShowing_0 : List UInt8 := [42, 27, 182, 1, 23, 153, 0, 37, 42, 28, 182, 1, 23, 153, 0, 29, 29, 4, 16, 60, 184, 0, 219]
abbrev dktX1_isShowing_0 : List UInt8 := dkwX1_isShowing_0 ++ dktX1_isShowing_1
theorem dksX1_isShowing_0 : cX1_isShowing.data.toList.drop 0 = dktX1_isShowing_0 := by decide +kernel
theorem dksX1_isShowing_1 : cX1_isShowing.data.toList.drop 23 = dktX1_isShowing_1 := dk_seg dksX1_isShowing_0 23 rfl rfl
theorem dX1_isShowing_0 : decode cX1_isShowing 0 = .ok (.aload_n 0, 1) := dk_42 (dk_at dksX1_isShowing_0 0 rfl rfl)
theorem dX1_isShowing_1 : decode cX1_isShowing 1 = .ok (.iload_n 1, 1) := dk_27 (dk_at dksX1_isShowing_0 1 rfl rfl)
theorem dX1_isShowing_2 : decode cX1_isShowing 2 = .ok (.invokevirtual 279, 3) := dk_182 1 23 (dk_at dksX1_isShowing_0 2 rfl rfl)
theorem dX1_isShowing_5 : decode cX1_isShowing 5 = .ok (.ifCond .eq 37, 3) := dk_153 0 37 (dk_at dksX1_isShowing_0 5 rfl rfl)
theorem dX1_isShowing_8 : decode cX1_isShowing 8 = .ok (.aload_n 0, 1) := dk_42 (dk_at dksX1_isShowing_0 8 rfl rfl)
theorem dX1_isShowing_9 : decode cX1_isShowing 9 = .ok (.iload_n 2, 1) := dk_28 (dk_at dksX1_isShowing_0 9 rfl rfl)
theorem dX1_isShowing_10 : decode cX1_isShowing 10 = .ok (.invokevirtual 279, 3) := dk_182 1 23 (dk_at dksX1_isShowing_0 10 rfl rfl)
theorem dX1_isShowing_13 : decode cX1_isShowing 13 = .ok (.ifCond .eq 29, 3) := dk_153 0 29 (dk_at dksX1_isShowing_0 13 rfl rfl)
theorem dX1_isShowing_16 : decode cX1_isShowing 16 = .ok (.iload_n 3, 1) := dk_29 (dk_at dksX1_isShowing_0 16 rfl rfl)
theorem dX1_isShowing_17 : decode cX1_isShowing 17 = .ok (.iconst 1, 1) := dk_4 (dk_at dksX1_isShowing_0 17 rfl rfl)
theorem dX1_isShowing_18 : decode cX1_isShowing 18 = .ok (.bipush 60, 2) := dk_16 60 (dk_at dksX1_isShowing_0 18 rfl rfl)
theorem dX1_isShowing_20 : decode cX1_isShowing 20 = .ok (.invokestatic 219, 3) := dk_184 0 219 (dk_at dksX1_isShowing_0 20 rfl rfl)
theorem dX1_isShowing_23 : decode cX1_isShowing 23 = .ok (.ifCond .eq 19, 3) := dk_153 0 19 (dk_at dksX1_isShowing_1 0 rfl rfl)
theorem dX1_isShowing_26 : decode cX1_isShowing 26 = .ok (.iload 4, 2) := dk_21 4 (dk_at dksX1_isShowing_1 3 rfl rfl)
theorem dX1_isShowing_28 : decode cX1_isShowing 28 = .ok (.iconst 0, 1) := dk_3 (dk_at dksX1_isShowing_1 5 rfl rfl)
theorem dX1_isShowing_29 : decode cX1_isShowing 29 = .ok (.sipush 255, 3) := dk_17 0 255 (dk_at dksX1_isShowing_1 6 rfl rfl)
theorem dX1_isShowing_32 : decode cX1_isShowing 32 = .ok (.invokestatic 219, 3) := dk_184 0 219 (dk_at dksX1_isShowing_1 9 rfl rfl)
theorem dX1_isShowing_35 : decode cX1_isShowing 35 = .ok (.ifCond .eq 7, 3) := dk_153 0 7 (dk_at dksX1_isShowing_1 12 rfl rfl)
theorem dX1_isShowing_38 : decode cX1_isShowing 38 = .ok (.iconst 1, 1) := dk_4 (dk_at dksX1_isShowing_1 15 rfl rfl)
theorem dX1_isShowing_39 : decode cX1_isShowing 39 = .ok (.goto 4, 3) := dk_167 0 4 (dk_at dksX1_isShowing_1 16 rfl rfl)
theorem dX1_isShowing_42 : decode cX1_isShowing 42 = .ok (.iconst 0, 1) := dk_3 (dk_at dksX1_isShowing_1 19 rfl rfl)
theorem dX1_isShowing_43 : decode cX1_isShowing 43 = .ok (.ireturn, 1) := dk_172 (dk_at dksX1_isShowing_1 20 rfl rfl)
abbrev cX1_isShown : ByteArray := prog_1_method_17_code
def yX1_isShown : MethodName := ⟨RX1, "isShown", "(I)Z"⟩
def dkwX1_isShown_0 : List UInt8 := [27, 2, 159, 0, 11, 42, 27, 182, 1, 11, 153, 0, 7, 4, 167, 0, 4, 3, 172]
abbrev dktX1_isShown_0 : List UInt8 := dkwX1_isShown_0 ++ []
theorem dksX1_isShown_0 : cX1_isShown.data.toList.drop 0 = dktX1_isShown_0 := by decide +kernel
theorem dX1_isShown_0 : decode cX1_isShown 0 = .ok (.iload_n 1, 1) := dk_27 (dk_at dksX1_isShown_0 0 rfl rfl)
theorem dX1_isShown_1 : decode cX1_isShown 1 = .ok (.iconst (-1), 1) := dk_2 (dk_at dksX1_isShown_0 1 rfl rfl)
theorem dX1_isShown_2 : decode cX1_isShown 2 = .ok (.if_icmp .eq 11, 3) := dk_159 0 11 (dk_at dksX1_isShown_0 2 rfl rfl)
theorem dX1_isShown_5 : decode cX1_isShown 5 = .ok (.aload_n 0, 1) := dk_42 (dk_at dksX1_isShown_0 5 rfl rfl)
theorem dX1_isShown_6 : decode cX1_isShown 6 = .ok (.iload_n 1, 1) := dk_27 (dk_at dksX1_isShown_0 6 rfl rfl)
theorem dX1_isShown_7 : decode cX1_isShown 7 = .ok (.invokevirtual 267, 3) := dk_182 1 11 (dk_at dksX1_isShown_0 7 rfl rfl)
theorem dX1_isShown_10 : decode cX1_isShown 10 = .ok (.ifCond .eq 7, 3) := dk_153 0 7 (dk_at dksX1_isShown_0 10 rfl rfl)
theorem dX1_isShown_13 : decode cX1_isShown 13 = .ok (.iconst 1, 1) := dk_4 (dk_at dksX1_isShown_0 13 rfl rfl)
theorem dX1_isShown_14 : decode cX1_isShown 14 = .ok (.goto 4, 3) := dk_167 0 4 (dk_at dksX1_isShown_0 14 rfl rfl)
theorem dX1_isShown_17 : decode cX1_isShown 17 = .ok (.iconst 0, 1) := dk_3 (dk_at dksX1_isShown_0 17 rfl rfl)
theorem dX1_isShown_18 : decode cX1_isShown 18 = .ok (.ireturn, 1) := dk_172 (dk_at dksX1_isShown_0 18 rfl rfl)
abbrev cX1_answer : ByteArray := prog_1_method_23_code
def yX1_answer : MethodName := ⟨RX1, "answer", "(IIIII)I"⟩
def dkwX1_answer_1 : List UInt8 := [199, 0, 8, 16, 254, 167, 0, 18, 42, 25, 6, 42, 180, 0, 105, 180, 0, 216, 3, 3, 182, 1, 60, 172]
abbrev dktX1_answer_1 : List UInt8 := dkwX1_answer_1 ++ []
def dkwX1_answer_0 : List UInt8 := [42, 182, 0, 186, 42, 27, 28, 29, 21, 4, 21, 5, 42, 180, 0, 180, 182, 1, 56, 58, 6, 25, 6]
abbrev dktX1_answer_0 : List UInt8 := dkwX1_answer_0 ++ dktX1_answer_1
theorem dksX1_answer_0 : cX1_answer.data.toList.drop 0 = dktX1_answer_0 := by decide +kernel
theorem dksX1_answer_1 : cX1_answer.data.toList.drop 23 = dktX1_answer_1 := dk_seg dksX1_answer_0 23 rfl rfl
theorem dX1_answer_0 : decode cX1_answer 0 = .ok (.aload_n 0, 1) := dk_42 (dk_at dksX1_answer_0 0 rfl rfl)
theorem dX1_answer_1 : decode cX1_answer 1 = .ok (.invokevirtual 186, 3) := dk_182 0 186 (dk_at dksX1_answer_0 1 rfl rfl)
theorem dX1_answer_4 : decode cX1_answer 4 = .ok (.aload_n 0, 1) := dk_42 (dk_at dksX1_answer_0 4 rfl rfl)
theorem dX1_answer_5 : decode cX1_answer 5 = .ok (.iload_n 1, 1) := dk_27 (dk_at dksX1_answer_0 5 rfl rfl)
theorem dX1_answer_6 : decode cX1_answer 6 = .ok (.iload_n 2, 1) := dk_28 (dk_at dksX1_answer_0 6 rfl rfl)
theorem dX1_answer_7 : decode cX1_answer 7 = .ok (.iload_n 3, 1) := dk_29 (dk_at dksX1_answer_0 7 rfl rfl)
theorem dX1_answer_8 : decode cX1_answer 8 = .ok (.iload 4, 2) := dk_21 4 (dk_at dksX1_answer_0 8 rfl rfl)
theorem dX1_answer_10 : decode cX1_answer 10 = .ok (.iload 5, 2) := dk_21 5 (dk_at dksX1_answer_0 10 rfl rfl)
theorem dX1_answer_12 : decode cX1_answer 12 = .ok (.aload_n 0, 1) := dk_42 (dk_at dksX1_answer_0 12 rfl rfl)
theorem dX1_answer_13 : decode cX1_answer 13 = .ok (.getfield 180, 3) := dk_180 0 180 (dk_at dksX1_answer_0 13 rfl rfl)
theorem dX1_answer_16 : decode cX1_answer 16 = .ok (.invokevirtual 312, 3) := dk_182 1 56 (dk_at dksX1_answer_0 16 rfl rfl)
theorem dX1_answer_19 : decode cX1_answer 19 = .ok (.astore 6, 2) := dk_58 6 (dk_at dksX1_answer_0 19 rfl rfl)
theorem dX1_answer_21 : decode cX1_answer 21 = .ok (.aload 6, 2) := dk_25 6 (dk_at dksX1_answer_0 21 rfl rfl)
theorem dX1_answer_23 : decode cX1_answer 23 = .ok (.ifnonnull 8, 3) := dk_199 0 8 (dk_at dksX1_answer_1 0 rfl rfl)
theorem dX1_answer_26 : decode cX1_answer 26 = .ok (.bipush (-2), 2) := dk_16 254 (dk_at dksX1_answer_1 3 rfl rfl)
theorem dX1_answer_28 : decode cX1_answer 28 = .ok (.goto 18, 3) := dk_167 0 18 (dk_at dksX1_answer_1 5 rfl rfl)
theorem dX1_answer_31 : decode cX1_answer 31 = .ok (.aload_n 0, 1) := dk_42 (dk_at dksX1_answer_1 8 rfl rfl)
theorem dX1_answer_32 : decode cX1_answer 32 = .ok (.aload 6, 2) := dk_25 6 (dk_at dksX1_answer_1 9 rfl rfl)
theorem dX1_answer_34 : decode cX1_answer 34 = .ok (.aload_n 0, 1) := dk_42 (dk_at dksX1_answer_1 11 rfl rfl)
theorem dX1_answer_35 : decode cX1_answer 35 = .ok (.getfield 105, 3) := dk_180 0 105 (dk_at dksX1_answer_1 12 rfl rfl)
theorem dX1_answer_38 : decode cX1_answer 38 = .ok (.getfield 216, 3) := dk_180 0 216 (dk_at dksX1_answer_1 15 rfl rfl)
theorem dX1_answer_41 : decode cX1_answer 41 = .ok (.iconst 0, 1) := dk_3 (dk_at dksX1_answer_1 18 rfl rfl)
theorem dX1_answer_42 : decode cX1_answer 42 = .ok (.iconst 0, 1) := dk_3 (dk_at dksX1_answer_1 19 rfl rfl)
theorem dX1_answer_43 : decode cX1_answer 43 = .ok (.invokevirtual 316, 3) := dk_182 1 60 (dk_at dksX1_answer_1 20 rfl rfl)
theorem dX1_answer_46 : decode cX1_answer 46 = .ok (.ireturn, 1) := dk_172 (dk_at dksX1_answer_1 23 rfl rfl)
abbrev cX1_shown : ByteArray := prog_1_method_20_code
def yX1_shown : MethodName := ⟨RX1, "shown", "(IIIIII)LTwoHalves$Showing;"⟩
def dkwX1_shown_4 : List UInt8 := [180, 0, 223, 21, 5, 25, 7, 183, 1, 38, 176]
abbrev dktX1_shown_4 : List UInt8 := dkwX1_shown_4 ++ []
def dkwX1_shown_3 : List UInt8 := [182, 1, 26, 79, 132, 8, 1, 167, 255, 234, 187, 1, 36, 89, 27, 28, 29, 21, 4, 42, 180, 0, 105]
abbrev dktX1_shown_3 : List UInt8 := dkwX1_shown_3 ++ dktX1_shown_4
def dkwX1_shown_2 : List UInt8 := [3, 188, 10, 58, 7, 3, 54, 8, 21, 8, 25, 7, 190, 162, 0, 20, 25, 7, 21, 8, 42, 21, 8]
abbrev dktX1_shown_2 : List UInt8 := dkwX1_shown_2 ++ dktX1_shown_3
def dkwX1_shown_1 : List UInt8 := [158, 0, 14, 42, 21, 6, 182, 1, 33, 154, 0, 5, 1, 176, 21, 5, 158, 0, 8, 21, 6, 167, 0, 4]
abbrev dktX1_shown_1 : List UInt8 := dkwX1_shown_1 ++ dktX1_shown_2
def dkwX1_shown_0 : List UInt8 := [42, 27, 28, 29, 21, 4, 182, 1, 29, 153, 0, 27, 21, 5, 3, 5, 184, 0, 219, 153, 0, 17, 21, 5]
abbrev dktX1_shown_0 : List UInt8 := dkwX1_shown_0 ++ dktX1_shown_1
theorem dksX1_shown_0 : cX1_shown.data.toList.drop 0 = dktX1_shown_0 := by decide +kernel
theorem dksX1_shown_1 : cX1_shown.data.toList.drop 24 = dktX1_shown_1 := dk_seg dksX1_shown_0 24 rfl rfl
theorem dksX1_shown_2 : cX1_shown.data.toList.drop 48 = dktX1_shown_2 := dk_seg dksX1_shown_1 24 rfl rfl
theorem dksX1_shown_3 : cX1_shown.data.toList.drop 71 = dktX1_shown_3 := dk_seg dksX1_shown_2 23 rfl rfl
theorem dksX1_shown_4 : cX1_shown.data.toList.drop 94 = dktX1_shown_4 := dk_seg dksX1_shown_3 23 rfl rfl
theorem dX1_shown_0 : decode cX1_shown 0 = .ok (.aload_n 0, 1) := dk_42 (dk_at dksX1_shown_0 0 rfl rfl)
theorem dX1_shown_1 : decode cX1_shown 1 = .ok (.iload_n 1, 1) := dk_27 (dk_at dksX1_shown_0 1 rfl rfl)
theorem dX1_shown_2 : decode cX1_shown 2 = .ok (.iload_n 2, 1) := dk_28 (dk_at dksX1_shown_0 2 rfl rfl)
theorem dX1_shown_3 : decode cX1_shown 3 = .ok (.iload_n 3, 1) := dk_29 (dk_at dksX1_shown_0 3 rfl rfl)
theorem dX1_shown_4 : decode cX1_shown 4 = .ok (.iload 4, 2) := dk_21 4 (dk_at dksX1_shown_0 4 rfl rfl)
theorem dX1_shown_6 : decode cX1_shown 6 = .ok (.invokevirtual 285, 3) := dk_182 1 29 (dk_at dksX1_shown_0 6 rfl rfl)
theorem dX1_shown_9 : decode cX1_shown 9 = .ok (.ifCond .eq 27, 3) := dk_153 0 27 (dk_at dksX1_shown_0 9 rfl rfl)
theorem dX1_shown_12 : decode cX1_shown 12 = .ok (.iload 5, 2) := dk_21 5 (dk_at dksX1_shown_0 12 rfl rfl)
theorem dX1_shown_14 : decode cX1_shown 14 = .ok (.iconst 0, 1) := dk_3 (dk_at dksX1_shown_0 14 rfl rfl)
theorem dX1_shown_15 : decode cX1_shown 15 = .ok (.iconst 2, 1) := dk_5 (dk_at dksX1_shown_0 15 rfl rfl)
theorem dX1_shown_16 : decode cX1_shown 16 = .ok (.invokestatic 219, 3) := dk_184 0 219 (dk_at dksX1_shown_0 16 rfl rfl)
theorem dX1_shown_19 : decode cX1_shown 19 = .ok (.ifCond .eq 17, 3) := dk_153 0 17 (dk_at dksX1_shown_0 19 rfl rfl)
theorem dX1_shown_22 : decode cX1_shown 22 = .ok (.iload 5, 2) := dk_21 5 (dk_at dksX1_shown_0 22 rfl rfl)
theorem dX1_shown_24 : decode cX1_shown 24 = .ok (.ifCond .le 14, 3) := dk_158 0 14 (dk_at dksX1_shown_1 0 rfl rfl)
theorem dX1_shown_27 : decode cX1_shown 27 = .ok (.aload_n 0, 1) := dk_42 (dk_at dksX1_shown_1 3 rfl rfl)
theorem dX1_shown_28 : decode cX1_shown 28 = .ok (.iload 6, 2) := dk_21 6 (dk_at dksX1_shown_1 4 rfl rfl)
theorem dX1_shown_30 : decode cX1_shown 30 = .ok (.invokevirtual 289, 3) := dk_182 1 33 (dk_at dksX1_shown_1 6 rfl rfl)
theorem dX1_shown_33 : decode cX1_shown 33 = .ok (.ifCond .ne 5, 3) := dk_154 0 5 (dk_at dksX1_shown_1 9 rfl rfl)
theorem dX1_shown_36 : decode cX1_shown 36 = .ok (.aconst_null, 1) := dk_1 (dk_at dksX1_shown_1 12 rfl rfl)
theorem dX1_shown_37 : decode cX1_shown 37 = .ok (.areturn, 1) := dk_176 (dk_at dksX1_shown_1 13 rfl rfl)
theorem dX1_shown_38 : decode cX1_shown 38 = .ok (.iload 5, 2) := dk_21 5 (dk_at dksX1_shown_1 14 rfl rfl)
theorem dX1_shown_40 : decode cX1_shown 40 = .ok (.ifCond .le 8, 3) := dk_158 0 8 (dk_at dksX1_shown_1 16 rfl rfl)
theorem dX1_shown_43 : decode cX1_shown 43 = .ok (.iload 6, 2) := dk_21 6 (dk_at dksX1_shown_1 19 rfl rfl)
theorem dX1_shown_45 : decode cX1_shown 45 = .ok (.goto 4, 3) := dk_167 0 4 (dk_at dksX1_shown_1 21 rfl rfl)
theorem dX1_shown_48 : decode cX1_shown 48 = .ok (.iconst 0, 1) := dk_3 (dk_at dksX1_shown_2 0 rfl rfl)
theorem dX1_shown_49 : decode cX1_shown 49 = .ok (.newarray .int, 2) := dk_188_10 (dk_at dksX1_shown_2 1 rfl rfl)
theorem dX1_shown_51 : decode cX1_shown 51 = .ok (.astore 7, 2) := dk_58 7 (dk_at dksX1_shown_2 3 rfl rfl)
theorem dX1_shown_53 : decode cX1_shown 53 = .ok (.iconst 0, 1) := dk_3 (dk_at dksX1_shown_2 5 rfl rfl)
theorem dX1_shown_54 : decode cX1_shown 54 = .ok (.istore 8, 2) := dk_54 8 (dk_at dksX1_shown_2 6 rfl rfl)
theorem dX1_shown_56 : decode cX1_shown 56 = .ok (.iload 8, 2) := dk_21 8 (dk_at dksX1_shown_2 8 rfl rfl)
theorem dX1_shown_58 : decode cX1_shown 58 = .ok (.aload 7, 2) := dk_25 7 (dk_at dksX1_shown_2 10 rfl rfl)
theorem dX1_shown_60 : decode cX1_shown 60 = .ok (.arraylength, 1) := dk_190 (dk_at dksX1_shown_2 12 rfl rfl)
theorem dX1_shown_61 : decode cX1_shown 61 = .ok (.if_icmp .ge 20, 3) := dk_162 0 20 (dk_at dksX1_shown_2 13 rfl rfl)
theorem dX1_shown_64 : decode cX1_shown 64 = .ok (.aload 7, 2) := dk_25 7 (dk_at dksX1_shown_2 16 rfl rfl)
theorem dX1_shown_66 : decode cX1_shown 66 = .ok (.iload 8, 2) := dk_21 8 (dk_at dksX1_shown_2 18 rfl rfl)
theorem dX1_shown_68 : decode cX1_shown 68 = .ok (.aload_n 0, 1) := dk_42 (dk_at dksX1_shown_2 20 rfl rfl)
theorem dX1_shown_69 : decode cX1_shown 69 = .ok (.iload 8, 2) := dk_21 8 (dk_at dksX1_shown_2 21 rfl rfl)
theorem dX1_shown_71 : decode cX1_shown 71 = .ok (.invokevirtual 282, 3) := dk_182 1 26 (dk_at dksX1_shown_3 0 rfl rfl)
theorem dX1_shown_74 : decode cX1_shown 74 = .ok (.iastore, 1) := dk_79 (dk_at dksX1_shown_3 3 rfl rfl)
theorem dX1_shown_75 : decode cX1_shown 75 = .ok (.iinc 8 1, 3) := dk_132 8 1 (dk_at dksX1_shown_3 4 rfl rfl)
theorem dX1_shown_78 : decode cX1_shown 78 = .ok (.goto (-22), 3) := dk_167 255 234 (dk_at dksX1_shown_3 7 rfl rfl)
theorem dX1_shown_81 : decode cX1_shown 81 = .ok (.new 292, 3) := dk_187 1 36 (dk_at dksX1_shown_3 10 rfl rfl)
theorem dX1_shown_84 : decode cX1_shown 84 = .ok (.dup, 1) := dk_89 (dk_at dksX1_shown_3 13 rfl rfl)
theorem dX1_shown_85 : decode cX1_shown 85 = .ok (.iload_n 1, 1) := dk_27 (dk_at dksX1_shown_3 14 rfl rfl)
theorem dX1_shown_86 : decode cX1_shown 86 = .ok (.iload_n 2, 1) := dk_28 (dk_at dksX1_shown_3 15 rfl rfl)
theorem dX1_shown_87 : decode cX1_shown 87 = .ok (.iload_n 3, 1) := dk_29 (dk_at dksX1_shown_3 16 rfl rfl)
theorem dX1_shown_88 : decode cX1_shown 88 = .ok (.iload 4, 2) := dk_21 4 (dk_at dksX1_shown_3 17 rfl rfl)
theorem dX1_shown_90 : decode cX1_shown 90 = .ok (.aload_n 0, 1) := dk_42 (dk_at dksX1_shown_3 19 rfl rfl)
theorem dX1_shown_91 : decode cX1_shown 91 = .ok (.getfield 105, 3) := dk_180 0 105 (dk_at dksX1_shown_3 20 rfl rfl)
theorem dX1_shown_94 : decode cX1_shown 94 = .ok (.getfield 223, 3) := dk_180 0 223 (dk_at dksX1_shown_4 0 rfl rfl)
theorem dX1_shown_97 : decode cX1_shown 97 = .ok (.iload 5, 2) := dk_21 5 (dk_at dksX1_shown_4 3 rfl rfl)
theorem dX1_shown_99 : decode cX1_shown 99 = .ok (.aload 7, 2) := dk_25 7 (dk_at dksX1_shown_4 5 rfl rfl)
theorem dX1_shown_101 : decode cX1_shown 101 = .ok (.invokespecial 294, 3) := dk_183 1 38 (dk_at dksX1_shown_4 7 rfl rfl)
theorem dX1_shown_104 : decode cX1_shown 104 = .ok (.areturn, 1) := dk_176 (dk_at dksX1_shown_4 10 rfl rfl)
abbrev cX1_areOffered : ByteArray := prog_1_method_19_code
def yX1_areOffered : MethodName := ⟨RX1, "areOffered", "(I)Z"⟩
def dkwX1_areOffered_2 : List UInt8 := [28, 4, 42, 29, 182, 1, 26, 120, 128, 61, 132, 3, 1, 167, 255, 211, 4, 172]
abbrev dktX1_areOffered_2 : List UInt8 := dkwX1_areOffered_2 ++ []
def dkwX1_areOffered_1 : List UInt8 := [182, 1, 26, 182, 1, 11, 153, 0, 16, 28, 42, 29, 182, 1, 26, 122, 4, 126, 4, 160, 0, 5, 3, 172]
abbrev dktX1_areOffered_1 : List UInt8 := dkwX1_areOffered_1 ++ dktX1_areOffered_2
def dkwX1_areOffered_0 : List UInt8 := [27, 4, 16, 8, 184, 0, 219, 154, 0, 5, 3, 172, 3, 61, 3, 62, 29, 27, 162, 0, 46, 42, 42, 29]
abbrev dktX1_areOffered_0 : List UInt8 := dkwX1_areOffered_0 ++ dktX1_areOffered_1
theorem dksX1_areOffered_0 : cX1_areOffered.data.toList.drop 0 = dktX1_areOffered_0 := by decide +kernel
theorem dksX1_areOffered_1 : cX1_areOffered.data.toList.drop 24 = dktX1_areOffered_1 := dk_seg dksX1_areOffered_0 24 rfl rfl
theorem dksX1_areOffered_2 : cX1_areOffered.data.toList.drop 48 = dktX1_areOffered_2 := dk_seg dksX1_areOffered_1 24 rfl rfl
theorem dX1_areOffered_0 : decode cX1_areOffered 0 = .ok (.iload_n 1, 1) := dk_27 (dk_at dksX1_areOffered_0 0 rfl rfl)
theorem dX1_areOffered_1 : decode cX1_areOffered 1 = .ok (.iconst 1, 1) := dk_4 (dk_at dksX1_areOffered_0 1 rfl rfl)
theorem dX1_areOffered_2 : decode cX1_areOffered 2 = .ok (.bipush 8, 2) := dk_16 8 (dk_at dksX1_areOffered_0 2 rfl rfl)
theorem dX1_areOffered_4 : decode cX1_areOffered 4 = .ok (.invokestatic 219, 3) := dk_184 0 219 (dk_at dksX1_areOffered_0 4 rfl rfl)
theorem dX1_areOffered_7 : decode cX1_areOffered 7 = .ok (.ifCond .ne 5, 3) := dk_154 0 5 (dk_at dksX1_areOffered_0 7 rfl rfl)
theorem dX1_areOffered_10 : decode cX1_areOffered 10 = .ok (.iconst 0, 1) := dk_3 (dk_at dksX1_areOffered_0 10 rfl rfl)
theorem dX1_areOffered_11 : decode cX1_areOffered 11 = .ok (.ireturn, 1) := dk_172 (dk_at dksX1_areOffered_0 11 rfl rfl)
theorem dX1_areOffered_12 : decode cX1_areOffered 12 = .ok (.iconst 0, 1) := dk_3 (dk_at dksX1_areOffered_0 12 rfl rfl)
theorem dX1_areOffered_13 : decode cX1_areOffered 13 = .ok (.istore_n 2, 1) := dk_61 (dk_at dksX1_areOffered_0 13 rfl rfl)
theorem dX1_areOffered_14 : decode cX1_areOffered 14 = .ok (.iconst 0, 1) := dk_3 (dk_at dksX1_areOffered_0 14 rfl rfl)
theorem dX1_areOffered_15 : decode cX1_areOffered 15 = .ok (.istore_n 3, 1) := dk_62 (dk_at dksX1_areOffered_0 15 rfl rfl)
theorem dX1_areOffered_16 : decode cX1_areOffered 16 = .ok (.iload_n 3, 1) := dk_29 (dk_at dksX1_areOffered_0 16 rfl rfl)
theorem dX1_areOffered_17 : decode cX1_areOffered 17 = .ok (.iload_n 1, 1) := dk_27 (dk_at dksX1_areOffered_0 17 rfl rfl)
theorem dX1_areOffered_18 : decode cX1_areOffered 18 = .ok (.if_icmp .ge 46, 3) := dk_162 0 46 (dk_at dksX1_areOffered_0 18 rfl rfl)
theorem dX1_areOffered_21 : decode cX1_areOffered 21 = .ok (.aload_n 0, 1) := dk_42 (dk_at dksX1_areOffered_0 21 rfl rfl)
theorem dX1_areOffered_22 : decode cX1_areOffered 22 = .ok (.aload_n 0, 1) := dk_42 (dk_at dksX1_areOffered_0 22 rfl rfl)
theorem dX1_areOffered_23 : decode cX1_areOffered 23 = .ok (.iload_n 3, 1) := dk_29 (dk_at dksX1_areOffered_0 23 rfl rfl)
theorem dX1_areOffered_24 : decode cX1_areOffered 24 = .ok (.invokevirtual 282, 3) := dk_182 1 26 (dk_at dksX1_areOffered_1 0 rfl rfl)
theorem dX1_areOffered_27 : decode cX1_areOffered 27 = .ok (.invokevirtual 267, 3) := dk_182 1 11 (dk_at dksX1_areOffered_1 3 rfl rfl)
theorem dX1_areOffered_30 : decode cX1_areOffered 30 = .ok (.ifCond .eq 16, 3) := dk_153 0 16 (dk_at dksX1_areOffered_1 6 rfl rfl)
theorem dX1_areOffered_33 : decode cX1_areOffered 33 = .ok (.iload_n 2, 1) := dk_28 (dk_at dksX1_areOffered_1 9 rfl rfl)
theorem dX1_areOffered_34 : decode cX1_areOffered 34 = .ok (.aload_n 0, 1) := dk_42 (dk_at dksX1_areOffered_1 10 rfl rfl)
theorem dX1_areOffered_35 : decode cX1_areOffered 35 = .ok (.iload_n 3, 1) := dk_29 (dk_at dksX1_areOffered_1 11 rfl rfl)
theorem dX1_areOffered_36 : decode cX1_areOffered 36 = .ok (.invokevirtual 282, 3) := dk_182 1 26 (dk_at dksX1_areOffered_1 12 rfl rfl)
theorem dX1_areOffered_39 : decode cX1_areOffered 39 = .ok (.ishr, 1) := dk_122 (dk_at dksX1_areOffered_1 15 rfl rfl)
theorem dX1_areOffered_40 : decode cX1_areOffered 40 = .ok (.iconst 1, 1) := dk_4 (dk_at dksX1_areOffered_1 16 rfl rfl)
theorem dX1_areOffered_41 : decode cX1_areOffered 41 = .ok (.iand, 1) := dk_126 (dk_at dksX1_areOffered_1 17 rfl rfl)
theorem dX1_areOffered_42 : decode cX1_areOffered 42 = .ok (.iconst 1, 1) := dk_4 (dk_at dksX1_areOffered_1 18 rfl rfl)
theorem dX1_areOffered_43 : decode cX1_areOffered 43 = .ok (.if_icmp .ne 5, 3) := dk_160 0 5 (dk_at dksX1_areOffered_1 19 rfl rfl)
theorem dX1_areOffered_46 : decode cX1_areOffered 46 = .ok (.iconst 0, 1) := dk_3 (dk_at dksX1_areOffered_1 22 rfl rfl)
theorem dX1_areOffered_47 : decode cX1_areOffered 47 = .ok (.ireturn, 1) := dk_172 (dk_at dksX1_areOffered_1 23 rfl rfl)
theorem dX1_areOffered_48 : decode cX1_areOffered 48 = .ok (.iload_n 2, 1) := dk_28 (dk_at dksX1_areOffered_2 0 rfl rfl)
theorem dX1_areOffered_49 : decode cX1_areOffered 49 = .ok (.iconst 1, 1) := dk_4 (dk_at dksX1_areOffered_2 1 rfl rfl)
theorem dX1_areOffered_50 : decode cX1_areOffered 50 = .ok (.aload_n 0, 1) := dk_42 (dk_at dksX1_areOffered_2 2 rfl rfl)
theorem dX1_areOffered_51 : decode cX1_areOffered 51 = .ok (.iload_n 3, 1) := dk_29 (dk_at dksX1_areOffered_2 3 rfl rfl)
theorem dX1_areOffered_52 : decode cX1_areOffered 52 = .ok (.invokevirtual 282, 3) := dk_182 1 26 (dk_at dksX1_areOffered_2 4 rfl rfl)
theorem dX1_areOffered_55 : decode cX1_areOffered 55 = .ok (.ishl, 1) := dk_120 (dk_at dksX1_areOffered_2 7 rfl rfl)
theorem dX1_areOffered_56 : decode cX1_areOffered 56 = .ok (.ior, 1) := dk_128 (dk_at dksX1_areOffered_2 8 rfl rfl)
theorem dX1_areOffered_57 : decode cX1_areOffered 57 = .ok (.istore_n 2, 1) := dk_61 (dk_at dksX1_areOffered_2 9 rfl rfl)
theorem dX1_areOffered_58 : decode cX1_areOffered 58 = .ok (.iinc 3 1, 3) := dk_132 3 1 (dk_at dksX1_areOffered_2 10 rfl rfl)
theorem dX1_areOffered_61 : decode cX1_areOffered 61 = .ok (.goto (-45), 3) := dk_167 255 211 (dk_at dksX1_areOffered_2 13 rfl rfl)
theorem dX1_areOffered_64 : decode cX1_areOffered 64 = .ok (.iconst 1, 1) := dk_4 (dk_at dksX1_areOffered_2 16 rfl rfl)
theorem dX1_areOffered_65 : decode cX1_areOffered 65 = .ok (.ireturn, 1) := dk_172 (dk_at dksX1_areOffered_2 17 rfl rfl)
abbrev cX1_one : ByteArray := prog_1_method_6_code
def yX1_one : MethodName := ⟨RX1, "one", "(I)I"⟩
def dkwX1_one_0 : List UInt8 := [42, 180, 0, 9, 27, 51, 17, 0, 255, 126, 172]
abbrev dktX1_one_0 : List UInt8 := dkwX1_one_0 ++ []
theorem dksX1_one_0 : cX1_one.data.toList.drop 0 = dktX1_one_0 := by decide +kernel
theorem dX1_one_0 : decode cX1_one 0 = .ok (.aload_n 0, 1) := dk_42 (dk_at dksX1_one_0 0 rfl rfl)
theorem dX1_one_1 : decode cX1_one 1 = .ok (.getfield 9, 3) := dk_180 0 9 (dk_at dksX1_one_0 1 rfl rfl)
theorem dX1_one_4 : decode cX1_one 4 = .ok (.iload_n 1, 1) := dk_27 (dk_at dksX1_one_0 4 rfl rfl)
theorem dX1_one_5 : decode cX1_one 5 = .ok (.baload, 1) := dk_51 (dk_at dksX1_one_0 5 rfl rfl)
theorem dX1_one_6 : decode cX1_one 6 = .ok (.sipush 255, 3) := dk_17 0 255 (dk_at dksX1_one_0 6 rfl rfl)
theorem dX1_one_9 : decode cX1_one 9 = .ok (.iand, 1) := dk_126 (dk_at dksX1_one_0 9 rfl rfl)
theorem dX1_one_10 : decode cX1_one 10 = .ok (.ireturn, 1) := dk_172 (dk_at dksX1_one_0 10 rfl rfl)
abbrev cX1_answered : ByteArray := prog_1_method_21_code
def yX1_answered : MethodName := ⟨RX1, "answered", "(LTwoHalves$Showing;IIZ)I"⟩
def dkwX1_answered_1 : List UInt8 := [180, 0, 116, 182, 1, 48, 172]
abbrev dktX1_answered_1 : List UInt8 := dkwX1_answered_1 ++ []
def dkwX1_answered_0 : List UInt8 := [42, 180, 0, 116, 43, 28, 29, 21, 4, 182, 1, 41, 42, 180, 0, 137, 43, 180, 1, 45, 50, 43, 42]
abbrev dktX1_answered_0 : List UInt8 := dkwX1_answered_0 ++ dktX1_answered_1
theorem dksX1_answered_0 : cX1_answered.data.toList.drop 0 = dktX1_answered_0 := by decide +kernel
theorem dksX1_answered_1 : cX1_answered.data.toList.drop 23 = dktX1_answered_1 := dk_seg dksX1_answered_0 23 rfl rfl
theorem dX1_answered_0 : decode cX1_answered 0 = .ok (.aload_n 0, 1) := dk_42 (dk_at dksX1_answered_0 0 rfl rfl)
theorem dX1_answered_1 : decode cX1_answered 1 = .ok (.getfield 116, 3) := dk_180 0 116 (dk_at dksX1_answered_0 1 rfl rfl)
theorem dX1_answered_4 : decode cX1_answered 4 = .ok (.aload_n 1, 1) := dk_43 (dk_at dksX1_answered_0 4 rfl rfl)
theorem dX1_answered_5 : decode cX1_answered 5 = .ok (.iload_n 2, 1) := dk_28 (dk_at dksX1_answered_0 5 rfl rfl)
theorem dX1_answered_6 : decode cX1_answered 6 = .ok (.iload_n 3, 1) := dk_29 (dk_at dksX1_answered_0 6 rfl rfl)
theorem dX1_answered_7 : decode cX1_answered 7 = .ok (.iload 4, 2) := dk_21 4 (dk_at dksX1_answered_0 7 rfl rfl)
theorem dX1_answered_9 : decode cX1_answered 9 = .ok (.invokevirtual 297, 3) := dk_182 1 41 (dk_at dksX1_answered_0 9 rfl rfl)
theorem dX1_answered_12 : decode cX1_answered 12 = .ok (.aload_n 0, 1) := dk_42 (dk_at dksX1_answered_0 12 rfl rfl)
theorem dX1_answered_13 : decode cX1_answered 13 = .ok (.getfield 137, 3) := dk_180 0 137 (dk_at dksX1_answered_0 13 rfl rfl)
theorem dX1_answered_16 : decode cX1_answered 16 = .ok (.aload_n 1, 1) := dk_43 (dk_at dksX1_answered_0 16 rfl rfl)
theorem dX1_answered_17 : decode cX1_answered 17 = .ok (.getfield 301, 3) := dk_180 1 45 (dk_at dksX1_answered_0 17 rfl rfl)
theorem dX1_answered_20 : decode cX1_answered 20 = .ok (.aaload, 1) := dk_50 (dk_at dksX1_answered_0 20 rfl rfl)
theorem dX1_answered_21 : decode cX1_answered 21 = .ok (.aload_n 1, 1) := dk_43 (dk_at dksX1_answered_0 21 rfl rfl)
theorem dX1_answered_22 : decode cX1_answered 22 = .ok (.aload_n 0, 1) := dk_42 (dk_at dksX1_answered_0 22 rfl rfl)
theorem dX1_answered_23 : decode cX1_answered 23 = .ok (.getfield 116, 3) := dk_180 0 116 (dk_at dksX1_answered_1 0 rfl rfl)
theorem dX1_answered_26 : decode cX1_answered 26 = .ok (.invokevirtual 304, 3) := dk_182 1 48 (dk_at dksX1_answered_1 3 rfl rfl)
theorem dX1_answered_29 : decode cX1_answered 29 = .ok (.ireturn, 1) := dk_172 (dk_at dksX1_answered_1 6 rfl rfl)
abbrev cX1_why : ByteArray := prog_1_method_24_code
def yX1_why : MethodName := ⟨RX1, "why", "(IIIII)I"⟩
def dkwX1_why_11 : List UInt8 := [21, 8, 172]
abbrev dktX1_why_11 : List UInt8 := dkwX1_why_11 ++ []
def dkwX1_why_10 : List UInt8 := [54, 8, 132, 9, 1, 167, 255, 160, 42, 21, 8, 2, 160, 0, 7, 5, 167, 0, 4, 4, 181, 1, 80]
abbrev dktX1_why_10 : List UInt8 := dkwX1_why_10 ++ dktX1_why_11
def dkwX1_why_9 : List UInt8 := [42, 180, 0, 116, 21, 9, 182, 1, 77, 42, 180, 0, 116, 21, 8, 182, 1, 77, 162, 0, 7, 21, 9]
abbrev dktX1_why_9 : List UInt8 := dkwX1_why_9 ++ dktX1_why_10
def dkwX1_why_8 : List UInt8 := [160, 0, 49, 42, 180, 0, 116, 21, 9, 182, 1, 77, 17, 3, 232, 162, 0, 34, 21, 8, 2, 159, 0, 24]
abbrev dktX1_why_8 : List UInt8 := dkwX1_why_8 ++ dktX1_why_9
def dkwX1_why_7 : List UInt8 := [42, 180, 0, 105, 180, 0, 202, 180, 1, 14, 21, 7, 50, 180, 1, 21, 21, 9, 122, 4, 126, 4]
abbrev dktX1_why_7 : List UInt8 := dkwX1_why_7 ++ dktX1_why_8
def dkwX1_why_6 : List UInt8 := [54, 9, 21, 9, 42, 180, 0, 105, 180, 0, 202, 180, 0, 229, 162, 0, 87, 21, 9, 21, 7, 159, 0, 28]
abbrev dktX1_why_6 : List UInt8 := dkwX1_why_6 ++ dktX1_why_7
def dkwX1_why_5 : List UInt8 := [182, 1, 77, 17, 3, 232, 162, 0, 13, 42, 3, 181, 1, 80, 42, 180, 1, 74, 172, 2, 54, 8, 3]
abbrev dktX1_why_5 : List UInt8 := dkwX1_why_5 ++ dktX1_why_6
def dkwX1_why_4 : List UInt8 := [180, 0, 129, 21, 7, 42, 180, 0, 116, 182, 1, 70, 181, 1, 74, 42, 180, 0, 116, 42, 180, 1, 74]
abbrev dktX1_why_4 : List UInt8 := dkwX1_why_4 ++ dktX1_why_5
def dkwX1_why_3 : List UInt8 := [181, 1, 64, 42, 21, 7, 181, 1, 67, 42, 21, 5, 4, 160, 0, 10, 42, 180, 0, 125, 167, 0, 7, 42]
abbrev dktX1_why_3 : List UInt8 := dkwX1_why_3 ++ dktX1_why_4
def dkwX1_why_2 : List UInt8 := [180, 0, 105, 180, 0, 216, 3, 3, 182, 1, 60, 54, 7, 21, 7, 2, 160, 0, 6, 16, 254, 172, 42, 4]
abbrev dktX1_why_2 : List UInt8 := dkwX1_why_2 ++ dktX1_why_3
def dkwX1_why_1 : List UInt8 := [180, 0, 180, 182, 1, 56, 167, 0, 4, 1, 58, 6, 25, 6, 199, 0, 6, 16, 254, 172, 42, 25, 6, 42]
abbrev dktX1_why_1 : List UInt8 := dkwX1_why_1 ++ dktX1_why_2
def dkwX1_why_0 : List UInt8 := [42, 182, 0, 186, 21, 5, 4, 5, 184, 0, 219, 153, 0, 21, 42, 27, 28, 29, 21, 4, 21, 5, 42]
abbrev dktX1_why_0 : List UInt8 := dkwX1_why_0 ++ dktX1_why_1
theorem dksX1_why_0 : cX1_why.data.toList.drop 0 = dktX1_why_0 := by decide +kernel
theorem dksX1_why_1 : cX1_why.data.toList.drop 23 = dktX1_why_1 := dk_seg dksX1_why_0 23 rfl rfl
theorem dksX1_why_2 : cX1_why.data.toList.drop 47 = dktX1_why_2 := dk_seg dksX1_why_1 24 rfl rfl
theorem dksX1_why_3 : cX1_why.data.toList.drop 71 = dktX1_why_3 := dk_seg dksX1_why_2 24 rfl rfl
theorem dksX1_why_4 : cX1_why.data.toList.drop 95 = dktX1_why_4 := dk_seg dksX1_why_3 24 rfl rfl
theorem dksX1_why_5 : cX1_why.data.toList.drop 118 = dktX1_why_5 := dk_seg dksX1_why_4 23 rfl rfl
theorem dksX1_why_6 : cX1_why.data.toList.drop 141 = dktX1_why_6 := dk_seg dksX1_why_5 23 rfl rfl
theorem dksX1_why_7 : cX1_why.data.toList.drop 165 = dktX1_why_7 := dk_seg dksX1_why_6 24 rfl rfl
theorem dksX1_why_8 : cX1_why.data.toList.drop 187 = dktX1_why_8 := dk_seg dksX1_why_7 22 rfl rfl
theorem dksX1_why_9 : cX1_why.data.toList.drop 211 = dktX1_why_9 := dk_seg dksX1_why_8 24 rfl rfl
theorem dksX1_why_10 : cX1_why.data.toList.drop 234 = dktX1_why_10 := dk_seg dksX1_why_9 23 rfl rfl
theorem dksX1_why_11 : cX1_why.data.toList.drop 257 = dktX1_why_11 := dk_seg dksX1_why_10 23 rfl rfl
theorem dX1_why_0 : decode cX1_why 0 = .ok (.aload_n 0, 1) := dk_42 (dk_at dksX1_why_0 0 rfl rfl)
theorem dX1_why_1 : decode cX1_why 1 = .ok (.invokevirtual 186, 3) := dk_182 0 186 (dk_at dksX1_why_0 1 rfl rfl)
theorem dX1_why_4 : decode cX1_why 4 = .ok (.iload 5, 2) := dk_21 5 (dk_at dksX1_why_0 4 rfl rfl)
theorem dX1_why_6 : decode cX1_why 6 = .ok (.iconst 1, 1) := dk_4 (dk_at dksX1_why_0 6 rfl rfl)
theorem dX1_why_7 : decode cX1_why 7 = .ok (.iconst 2, 1) := dk_5 (dk_at dksX1_why_0 7 rfl rfl)
theorem dX1_why_8 : decode cX1_why 8 = .ok (.invokestatic 219, 3) := dk_184 0 219 (dk_at dksX1_why_0 8 rfl rfl)
theorem dX1_why_11 : decode cX1_why 11 = .ok (.ifCond .eq 21, 3) := dk_153 0 21 (dk_at dksX1_why_0 11 rfl rfl)
theorem dX1_why_14 : decode cX1_why 14 = .ok (.aload_n 0, 1) := dk_42 (dk_at dksX1_why_0 14 rfl rfl)
theorem dX1_why_15 : decode cX1_why 15 = .ok (.iload_n 1, 1) := dk_27 (dk_at dksX1_why_0 15 rfl rfl)
theorem dX1_why_16 : decode cX1_why 16 = .ok (.iload_n 2, 1) := dk_28 (dk_at dksX1_why_0 16 rfl rfl)
theorem dX1_why_17 : decode cX1_why 17 = .ok (.iload_n 3, 1) := dk_29 (dk_at dksX1_why_0 17 rfl rfl)
theorem dX1_why_18 : decode cX1_why 18 = .ok (.iload 4, 2) := dk_21 4 (dk_at dksX1_why_0 18 rfl rfl)
theorem dX1_why_20 : decode cX1_why 20 = .ok (.iload 5, 2) := dk_21 5 (dk_at dksX1_why_0 20 rfl rfl)
theorem dX1_why_22 : decode cX1_why 22 = .ok (.aload_n 0, 1) := dk_42 (dk_at dksX1_why_0 22 rfl rfl)
theorem dX1_why_23 : decode cX1_why 23 = .ok (.getfield 180, 3) := dk_180 0 180 (dk_at dksX1_why_1 0 rfl rfl)
theorem dX1_why_26 : decode cX1_why 26 = .ok (.invokevirtual 312, 3) := dk_182 1 56 (dk_at dksX1_why_1 3 rfl rfl)
theorem dX1_why_29 : decode cX1_why 29 = .ok (.goto 4, 3) := dk_167 0 4 (dk_at dksX1_why_1 6 rfl rfl)
theorem dX1_why_32 : decode cX1_why 32 = .ok (.aconst_null, 1) := dk_1 (dk_at dksX1_why_1 9 rfl rfl)
theorem dX1_why_33 : decode cX1_why 33 = .ok (.astore 6, 2) := dk_58 6 (dk_at dksX1_why_1 10 rfl rfl)
theorem dX1_why_35 : decode cX1_why 35 = .ok (.aload 6, 2) := dk_25 6 (dk_at dksX1_why_1 12 rfl rfl)
theorem dX1_why_37 : decode cX1_why 37 = .ok (.ifnonnull 6, 3) := dk_199 0 6 (dk_at dksX1_why_1 14 rfl rfl)
theorem dX1_why_40 : decode cX1_why 40 = .ok (.bipush (-2), 2) := dk_16 254 (dk_at dksX1_why_1 17 rfl rfl)
theorem dX1_why_42 : decode cX1_why 42 = .ok (.ireturn, 1) := dk_172 (dk_at dksX1_why_1 19 rfl rfl)
theorem dX1_why_43 : decode cX1_why 43 = .ok (.aload_n 0, 1) := dk_42 (dk_at dksX1_why_1 20 rfl rfl)
theorem dX1_why_44 : decode cX1_why 44 = .ok (.aload 6, 2) := dk_25 6 (dk_at dksX1_why_1 21 rfl rfl)
theorem dX1_why_46 : decode cX1_why 46 = .ok (.aload_n 0, 1) := dk_42 (dk_at dksX1_why_1 23 rfl rfl)
theorem dX1_why_47 : decode cX1_why 47 = .ok (.getfield 105, 3) := dk_180 0 105 (dk_at dksX1_why_2 0 rfl rfl)
theorem dX1_why_50 : decode cX1_why 50 = .ok (.getfield 216, 3) := dk_180 0 216 (dk_at dksX1_why_2 3 rfl rfl)
theorem dX1_why_53 : decode cX1_why 53 = .ok (.iconst 0, 1) := dk_3 (dk_at dksX1_why_2 6 rfl rfl)
theorem dX1_why_54 : decode cX1_why 54 = .ok (.iconst 0, 1) := dk_3 (dk_at dksX1_why_2 7 rfl rfl)
theorem dX1_why_55 : decode cX1_why 55 = .ok (.invokevirtual 316, 3) := dk_182 1 60 (dk_at dksX1_why_2 8 rfl rfl)
theorem dX1_why_58 : decode cX1_why 58 = .ok (.istore 7, 2) := dk_54 7 (dk_at dksX1_why_2 11 rfl rfl)
theorem dX1_why_60 : decode cX1_why 60 = .ok (.iload 7, 2) := dk_21 7 (dk_at dksX1_why_2 13 rfl rfl)
theorem dX1_why_62 : decode cX1_why 62 = .ok (.iconst (-1), 1) := dk_2 (dk_at dksX1_why_2 15 rfl rfl)
theorem dX1_why_63 : decode cX1_why 63 = .ok (.if_icmp .ne 6, 3) := dk_160 0 6 (dk_at dksX1_why_2 16 rfl rfl)
theorem dX1_why_66 : decode cX1_why 66 = .ok (.bipush (-2), 2) := dk_16 254 (dk_at dksX1_why_2 19 rfl rfl)
theorem dX1_why_68 : decode cX1_why 68 = .ok (.ireturn, 1) := dk_172 (dk_at dksX1_why_2 21 rfl rfl)
theorem dX1_why_69 : decode cX1_why 69 = .ok (.aload_n 0, 1) := dk_42 (dk_at dksX1_why_2 22 rfl rfl)
theorem dX1_why_70 : decode cX1_why 70 = .ok (.iconst 1, 1) := dk_4 (dk_at dksX1_why_2 23 rfl rfl)
theorem dX1_why_71 : decode cX1_why 71 = .ok (.putfield 320, 3) := dk_181 1 64 (dk_at dksX1_why_3 0 rfl rfl)
theorem dX1_why_74 : decode cX1_why 74 = .ok (.aload_n 0, 1) := dk_42 (dk_at dksX1_why_3 3 rfl rfl)
theorem dX1_why_75 : decode cX1_why 75 = .ok (.iload 7, 2) := dk_21 7 (dk_at dksX1_why_3 4 rfl rfl)
theorem dX1_why_77 : decode cX1_why 77 = .ok (.putfield 323, 3) := dk_181 1 67 (dk_at dksX1_why_3 6 rfl rfl)
theorem dX1_why_80 : decode cX1_why 80 = .ok (.aload_n 0, 1) := dk_42 (dk_at dksX1_why_3 9 rfl rfl)
theorem dX1_why_81 : decode cX1_why 81 = .ok (.iload 5, 2) := dk_21 5 (dk_at dksX1_why_3 10 rfl rfl)
theorem dX1_why_83 : decode cX1_why 83 = .ok (.iconst 1, 1) := dk_4 (dk_at dksX1_why_3 12 rfl rfl)
theorem dX1_why_84 : decode cX1_why 84 = .ok (.if_icmp .ne 10, 3) := dk_160 0 10 (dk_at dksX1_why_3 13 rfl rfl)
theorem dX1_why_87 : decode cX1_why 87 = .ok (.aload_n 0, 1) := dk_42 (dk_at dksX1_why_3 16 rfl rfl)
theorem dX1_why_88 : decode cX1_why 88 = .ok (.getfield 125, 3) := dk_180 0 125 (dk_at dksX1_why_3 17 rfl rfl)
theorem dX1_why_91 : decode cX1_why 91 = .ok (.goto 7, 3) := dk_167 0 7 (dk_at dksX1_why_3 20 rfl rfl)
theorem dX1_why_94 : decode cX1_why 94 = .ok (.aload_n 0, 1) := dk_42 (dk_at dksX1_why_3 23 rfl rfl)
theorem dX1_why_95 : decode cX1_why 95 = .ok (.getfield 129, 3) := dk_180 0 129 (dk_at dksX1_why_4 0 rfl rfl)
theorem dX1_why_98 : decode cX1_why 98 = .ok (.iload 7, 2) := dk_21 7 (dk_at dksX1_why_4 3 rfl rfl)
theorem dX1_why_100 : decode cX1_why 100 = .ok (.aload_n 0, 1) := dk_42 (dk_at dksX1_why_4 5 rfl rfl)
theorem dX1_why_101 : decode cX1_why 101 = .ok (.getfield 116, 3) := dk_180 0 116 (dk_at dksX1_why_4 6 rfl rfl)
theorem dX1_why_104 : decode cX1_why 104 = .ok (.invokevirtual 326, 3) := dk_182 1 70 (dk_at dksX1_why_4 9 rfl rfl)
theorem dX1_why_107 : decode cX1_why 107 = .ok (.putfield 330, 3) := dk_181 1 74 (dk_at dksX1_why_4 12 rfl rfl)
theorem dX1_why_110 : decode cX1_why 110 = .ok (.aload_n 0, 1) := dk_42 (dk_at dksX1_why_4 15 rfl rfl)
theorem dX1_why_111 : decode cX1_why 111 = .ok (.getfield 116, 3) := dk_180 0 116 (dk_at dksX1_why_4 16 rfl rfl)
theorem dX1_why_114 : decode cX1_why 114 = .ok (.aload_n 0, 1) := dk_42 (dk_at dksX1_why_4 19 rfl rfl)
theorem dX1_why_115 : decode cX1_why 115 = .ok (.getfield 330, 3) := dk_180 1 74 (dk_at dksX1_why_4 20 rfl rfl)
theorem dX1_why_118 : decode cX1_why 118 = .ok (.invokevirtual 333, 3) := dk_182 1 77 (dk_at dksX1_why_5 0 rfl rfl)
theorem dX1_why_121 : decode cX1_why 121 = .ok (.sipush 1000, 3) := dk_17 3 232 (dk_at dksX1_why_5 3 rfl rfl)
theorem dX1_why_124 : decode cX1_why 124 = .ok (.if_icmp .ge 13, 3) := dk_162 0 13 (dk_at dksX1_why_5 6 rfl rfl)
theorem dX1_why_127 : decode cX1_why 127 = .ok (.aload_n 0, 1) := dk_42 (dk_at dksX1_why_5 9 rfl rfl)
theorem dX1_why_128 : decode cX1_why 128 = .ok (.iconst 0, 1) := dk_3 (dk_at dksX1_why_5 10 rfl rfl)
theorem dX1_why_129 : decode cX1_why 129 = .ok (.putfield 336, 3) := dk_181 1 80 (dk_at dksX1_why_5 11 rfl rfl)
theorem dX1_why_132 : decode cX1_why 132 = .ok (.aload_n 0, 1) := dk_42 (dk_at dksX1_why_5 14 rfl rfl)
theorem dX1_why_133 : decode cX1_why 133 = .ok (.getfield 330, 3) := dk_180 1 74 (dk_at dksX1_why_5 15 rfl rfl)
theorem dX1_why_136 : decode cX1_why 136 = .ok (.ireturn, 1) := dk_172 (dk_at dksX1_why_5 18 rfl rfl)
theorem dX1_why_137 : decode cX1_why 137 = .ok (.iconst (-1), 1) := dk_2 (dk_at dksX1_why_5 19 rfl rfl)
theorem dX1_why_138 : decode cX1_why 138 = .ok (.istore 8, 2) := dk_54 8 (dk_at dksX1_why_5 20 rfl rfl)
theorem dX1_why_140 : decode cX1_why 140 = .ok (.iconst 0, 1) := dk_3 (dk_at dksX1_why_5 22 rfl rfl)
theorem dX1_why_141 : decode cX1_why 141 = .ok (.istore 9, 2) := dk_54 9 (dk_at dksX1_why_6 0 rfl rfl)
theorem dX1_why_143 : decode cX1_why 143 = .ok (.iload 9, 2) := dk_21 9 (dk_at dksX1_why_6 2 rfl rfl)
theorem dX1_why_145 : decode cX1_why 145 = .ok (.aload_n 0, 1) := dk_42 (dk_at dksX1_why_6 4 rfl rfl)
theorem dX1_why_146 : decode cX1_why 146 = .ok (.getfield 105, 3) := dk_180 0 105 (dk_at dksX1_why_6 5 rfl rfl)
theorem dX1_why_149 : decode cX1_why 149 = .ok (.getfield 202, 3) := dk_180 0 202 (dk_at dksX1_why_6 8 rfl rfl)
theorem dX1_why_152 : decode cX1_why 152 = .ok (.getfield 229, 3) := dk_180 0 229 (dk_at dksX1_why_6 11 rfl rfl)
theorem dX1_why_155 : decode cX1_why 155 = .ok (.if_icmp .ge 87, 3) := dk_162 0 87 (dk_at dksX1_why_6 14 rfl rfl)
theorem dX1_why_158 : decode cX1_why 158 = .ok (.iload 9, 2) := dk_21 9 (dk_at dksX1_why_6 17 rfl rfl)
theorem dX1_why_160 : decode cX1_why 160 = .ok (.iload 7, 2) := dk_21 7 (dk_at dksX1_why_6 19 rfl rfl)
theorem dX1_why_162 : decode cX1_why 162 = .ok (.if_icmp .eq 28, 3) := dk_159 0 28 (dk_at dksX1_why_6 21 rfl rfl)
theorem dX1_why_165 : decode cX1_why 165 = .ok (.aload_n 0, 1) := dk_42 (dk_at dksX1_why_7 0 rfl rfl)
theorem dX1_why_166 : decode cX1_why 166 = .ok (.getfield 105, 3) := dk_180 0 105 (dk_at dksX1_why_7 1 rfl rfl)
theorem dX1_why_169 : decode cX1_why 169 = .ok (.getfield 202, 3) := dk_180 0 202 (dk_at dksX1_why_7 4 rfl rfl)
theorem dX1_why_172 : decode cX1_why 172 = .ok (.getfield 270, 3) := dk_180 1 14 (dk_at dksX1_why_7 7 rfl rfl)
theorem dX1_why_175 : decode cX1_why 175 = .ok (.iload 7, 2) := dk_21 7 (dk_at dksX1_why_7 10 rfl rfl)
theorem dX1_why_177 : decode cX1_why 177 = .ok (.aaload, 1) := dk_50 (dk_at dksX1_why_7 12 rfl rfl)
theorem dX1_why_178 : decode cX1_why 178 = .ok (.getfield 277, 3) := dk_180 1 21 (dk_at dksX1_why_7 13 rfl rfl)
theorem dX1_why_181 : decode cX1_why 181 = .ok (.iload 9, 2) := dk_21 9 (dk_at dksX1_why_7 16 rfl rfl)
theorem dX1_why_183 : decode cX1_why 183 = .ok (.ishr, 1) := dk_122 (dk_at dksX1_why_7 18 rfl rfl)
theorem dX1_why_184 : decode cX1_why 184 = .ok (.iconst 1, 1) := dk_4 (dk_at dksX1_why_7 19 rfl rfl)
theorem dX1_why_185 : decode cX1_why 185 = .ok (.iand, 1) := dk_126 (dk_at dksX1_why_7 20 rfl rfl)
theorem dX1_why_186 : decode cX1_why 186 = .ok (.iconst 1, 1) := dk_4 (dk_at dksX1_why_7 21 rfl rfl)
theorem dX1_why_187 : decode cX1_why 187 = .ok (.if_icmp .ne 49, 3) := dk_160 0 49 (dk_at dksX1_why_8 0 rfl rfl)
theorem dX1_why_190 : decode cX1_why 190 = .ok (.aload_n 0, 1) := dk_42 (dk_at dksX1_why_8 3 rfl rfl)
theorem dX1_why_191 : decode cX1_why 191 = .ok (.getfield 116, 3) := dk_180 0 116 (dk_at dksX1_why_8 4 rfl rfl)
theorem dX1_why_194 : decode cX1_why 194 = .ok (.iload 9, 2) := dk_21 9 (dk_at dksX1_why_8 7 rfl rfl)
theorem dX1_why_196 : decode cX1_why 196 = .ok (.invokevirtual 333, 3) := dk_182 1 77 (dk_at dksX1_why_8 9 rfl rfl)
theorem dX1_why_199 : decode cX1_why 199 = .ok (.sipush 1000, 3) := dk_17 3 232 (dk_at dksX1_why_8 12 rfl rfl)
theorem dX1_why_202 : decode cX1_why 202 = .ok (.if_icmp .ge 34, 3) := dk_162 0 34 (dk_at dksX1_why_8 15 rfl rfl)
theorem dX1_why_205 : decode cX1_why 205 = .ok (.iload 8, 2) := dk_21 8 (dk_at dksX1_why_8 18 rfl rfl)
theorem dX1_why_207 : decode cX1_why 207 = .ok (.iconst (-1), 1) := dk_2 (dk_at dksX1_why_8 20 rfl rfl)
theorem dX1_why_208 : decode cX1_why 208 = .ok (.if_icmp .eq 24, 3) := dk_159 0 24 (dk_at dksX1_why_8 21 rfl rfl)
theorem dX1_why_211 : decode cX1_why 211 = .ok (.aload_n 0, 1) := dk_42 (dk_at dksX1_why_9 0 rfl rfl)
theorem dX1_why_212 : decode cX1_why 212 = .ok (.getfield 116, 3) := dk_180 0 116 (dk_at dksX1_why_9 1 rfl rfl)
theorem dX1_why_215 : decode cX1_why 215 = .ok (.iload 9, 2) := dk_21 9 (dk_at dksX1_why_9 4 rfl rfl)
theorem dX1_why_217 : decode cX1_why 217 = .ok (.invokevirtual 333, 3) := dk_182 1 77 (dk_at dksX1_why_9 6 rfl rfl)
theorem dX1_why_220 : decode cX1_why 220 = .ok (.aload_n 0, 1) := dk_42 (dk_at dksX1_why_9 9 rfl rfl)
theorem dX1_why_221 : decode cX1_why 221 = .ok (.getfield 116, 3) := dk_180 0 116 (dk_at dksX1_why_9 10 rfl rfl)
theorem dX1_why_224 : decode cX1_why 224 = .ok (.iload 8, 2) := dk_21 8 (dk_at dksX1_why_9 13 rfl rfl)
theorem dX1_why_226 : decode cX1_why 226 = .ok (.invokevirtual 333, 3) := dk_182 1 77 (dk_at dksX1_why_9 15 rfl rfl)
theorem dX1_why_229 : decode cX1_why 229 = .ok (.if_icmp .ge 7, 3) := dk_162 0 7 (dk_at dksX1_why_9 18 rfl rfl)
theorem dX1_why_232 : decode cX1_why 232 = .ok (.iload 9, 2) := dk_21 9 (dk_at dksX1_why_9 21 rfl rfl)
theorem dX1_why_234 : decode cX1_why 234 = .ok (.istore 8, 2) := dk_54 8 (dk_at dksX1_why_10 0 rfl rfl)
theorem dX1_why_236 : decode cX1_why 236 = .ok (.iinc 9 1, 3) := dk_132 9 1 (dk_at dksX1_why_10 2 rfl rfl)
theorem dX1_why_239 : decode cX1_why 239 = .ok (.goto (-96), 3) := dk_167 255 160 (dk_at dksX1_why_10 5 rfl rfl)
theorem dX1_why_242 : decode cX1_why 242 = .ok (.aload_n 0, 1) := dk_42 (dk_at dksX1_why_10 8 rfl rfl)
theorem dX1_why_243 : decode cX1_why 243 = .ok (.iload 8, 2) := dk_21 8 (dk_at dksX1_why_10 9 rfl rfl)
theorem dX1_why_245 : decode cX1_why 245 = .ok (.iconst (-1), 1) := dk_2 (dk_at dksX1_why_10 11 rfl rfl)
theorem dX1_why_246 : decode cX1_why 246 = .ok (.if_icmp .ne 7, 3) := dk_160 0 7 (dk_at dksX1_why_10 12 rfl rfl)
theorem dX1_why_249 : decode cX1_why 249 = .ok (.iconst 2, 1) := dk_5 (dk_at dksX1_why_10 15 rfl rfl)
theorem dX1_why_250 : decode cX1_why 250 = .ok (.goto 4, 3) := dk_167 0 4 (dk_at dksX1_why_10 16 rfl rfl)
theorem dX1_why_253 : decode cX1_why 253 = .ok (.iconst 1, 1) := dk_4 (dk_at dksX1_why_10 19 rfl rfl)
theorem dX1_why_254 : decode cX1_why 254 = .ok (.putfield 336, 3) := dk_181 1 80 (dk_at dksX1_why_10 20 rfl rfl)
theorem dX1_why_257 : decode cX1_why 257 = .ok (.iload 8, 2) := dk_21 8 (dk_at dksX1_why_11 0 rfl rfl)
theorem dX1_why_259 : decode cX1_why 259 = .ok (.ireturn, 1) := dk_172 (dk_at dksX1_why_11 2 rfl rfl)
abbrev cX1_filled : ByteArray := prog_1_method_25_code
def yX1_filled : MethodName := ⟨RX1, "filled", "(I)I"⟩
def dkwX1_filled_1 : List UInt8 := [160, 0, 10, 42, 180, 1, 67, 167, 0, 16, 27, 5, 160, 0, 10, 42, 180, 1, 74, 167, 0, 4, 2, 172]
abbrev dktX1_filled_1 : List UInt8 := dkwX1_filled_1 ++ []
def dkwX1_filled_0 : List UInt8 := [42, 180, 1, 64, 154, 0, 7, 2, 167, 0, 39, 27, 154, 0, 10, 42, 180, 1, 80, 167, 0, 28, 27, 4]
abbrev dktX1_filled_0 : List UInt8 := dkwX1_filled_0 ++ dktX1_filled_1
theorem dksX1_filled_0 : cX1_filled.data.toList.drop 0 = dktX1_filled_0 := by decide +kernel
theorem dksX1_filled_1 : cX1_filled.data.toList.drop 24 = dktX1_filled_1 := dk_seg dksX1_filled_0 24 rfl rfl
theorem dX1_filled_0 : decode cX1_filled 0 = .ok (.aload_n 0, 1) := dk_42 (dk_at dksX1_filled_0 0 rfl rfl)
theorem dX1_filled_1 : decode cX1_filled 1 = .ok (.getfield 320, 3) := dk_180 1 64 (dk_at dksX1_filled_0 1 rfl rfl)
theorem dX1_filled_4 : decode cX1_filled 4 = .ok (.ifCond .ne 7, 3) := dk_154 0 7 (dk_at dksX1_filled_0 4 rfl rfl)
theorem dX1_filled_7 : decode cX1_filled 7 = .ok (.iconst (-1), 1) := dk_2 (dk_at dksX1_filled_0 7 rfl rfl)
theorem dX1_filled_8 : decode cX1_filled 8 = .ok (.goto 39, 3) := dk_167 0 39 (dk_at dksX1_filled_0 8 rfl rfl)
theorem dX1_filled_11 : decode cX1_filled 11 = .ok (.iload_n 1, 1) := dk_27 (dk_at dksX1_filled_0 11 rfl rfl)
theorem dX1_filled_12 : decode cX1_filled 12 = .ok (.ifCond .ne 10, 3) := dk_154 0 10 (dk_at dksX1_filled_0 12 rfl rfl)
theorem dX1_filled_15 : decode cX1_filled 15 = .ok (.aload_n 0, 1) := dk_42 (dk_at dksX1_filled_0 15 rfl rfl)
theorem dX1_filled_16 : decode cX1_filled 16 = .ok (.getfield 336, 3) := dk_180 1 80 (dk_at dksX1_filled_0 16 rfl rfl)
theorem dX1_filled_19 : decode cX1_filled 19 = .ok (.goto 28, 3) := dk_167 0 28 (dk_at dksX1_filled_0 19 rfl rfl)
theorem dX1_filled_22 : decode cX1_filled 22 = .ok (.iload_n 1, 1) := dk_27 (dk_at dksX1_filled_0 22 rfl rfl)
theorem dX1_filled_23 : decode cX1_filled 23 = .ok (.iconst 1, 1) := dk_4 (dk_at dksX1_filled_0 23 rfl rfl)
theorem dX1_filled_24 : decode cX1_filled 24 = .ok (.if_icmp .ne 10, 3) := dk_160 0 10 (dk_at dksX1_filled_1 0 rfl rfl)
theorem dX1_filled_27 : decode cX1_filled 27 = .ok (.aload_n 0, 1) := dk_42 (dk_at dksX1_filled_1 3 rfl rfl)
theorem dX1_filled_28 : decode cX1_filled 28 = .ok (.getfield 323, 3) := dk_180 1 67 (dk_at dksX1_filled_1 4 rfl rfl)
theorem dX1_filled_31 : decode cX1_filled 31 = .ok (.goto 16, 3) := dk_167 0 16 (dk_at dksX1_filled_1 7 rfl rfl)
theorem dX1_filled_34 : decode cX1_filled 34 = .ok (.iload_n 1, 1) := dk_27 (dk_at dksX1_filled_1 10 rfl rfl)
theorem dX1_filled_35 : decode cX1_filled 35 = .ok (.iconst 2, 1) := dk_5 (dk_at dksX1_filled_1 11 rfl rfl)
theorem dX1_filled_36 : decode cX1_filled 36 = .ok (.if_icmp .ne 10, 3) := dk_160 0 10 (dk_at dksX1_filled_1 12 rfl rfl)
theorem dX1_filled_39 : decode cX1_filled 39 = .ok (.aload_n 0, 1) := dk_42 (dk_at dksX1_filled_1 15 rfl rfl)
theorem dX1_filled_40 : decode cX1_filled 40 = .ok (.getfield 330, 3) := dk_180 1 74 (dk_at dksX1_filled_1 16 rfl rfl)
theorem dX1_filled_43 : decode cX1_filled 43 = .ok (.goto 4, 3) := dk_167 0 4 (dk_at dksX1_filled_1 19 rfl rfl)
theorem dX1_filled_46 : decode cX1_filled 46 = .ok (.iconst (-1), 1) := dk_2 (dk_at dksX1_filled_1 22 rfl rfl)
theorem dX1_filled_47 : decode cX1_filled 47 = .ok (.ireturn, 1) := dk_172 (dk_at dksX1_filled_1 23 rfl rfl)
abbrev cX1_fight : ByteArray := prog_1_method_26_code
def yX1_fight : MethodName := ⟨RX1, "fight", "(IIII)I"⟩
def dkwX1_fight_3 : List UInt8 := [159, 0, 14, 21, 6, 21, 7, 159, 0, 7, 4, 167, 0, 4, 3, 172]
abbrev dktX1_fight_3 : List UInt8 := dkwX1_fight_3 ++ []
def dkwX1_fight_2 : List UInt8 := [180, 0, 129, 25, 5, 42, 180, 0, 116, 182, 1, 83, 54, 7, 21, 6, 2, 159, 0, 20, 21, 7, 2]
abbrev dktX1_fight_2 : List UInt8 := dkwX1_fight_2 ++ dktX1_fight_3
def dkwX1_fight_1 : List UInt8 := [199, 0, 5, 2, 172, 42, 25, 5, 42, 180, 0, 105, 180, 0, 216, 3, 3, 182, 1, 60, 54, 6, 42]
abbrev dktX1_fight_1 : List UInt8 := dkwX1_fight_1 ++ dktX1_fight_2
def dkwX1_fight_0 : List UInt8 := [42, 182, 0, 186, 42, 27, 28, 29, 21, 4, 4, 42, 180, 0, 180, 182, 1, 56, 58, 5, 25, 5]
abbrev dktX1_fight_0 : List UInt8 := dkwX1_fight_0 ++ dktX1_fight_1
theorem dksX1_fight_0 : cX1_fight.data.toList.drop 0 = dktX1_fight_0 := by decide +kernel
theorem dksX1_fight_1 : cX1_fight.data.toList.drop 22 = dktX1_fight_1 := dk_seg dksX1_fight_0 22 rfl rfl
theorem dksX1_fight_2 : cX1_fight.data.toList.drop 45 = dktX1_fight_2 := dk_seg dksX1_fight_1 23 rfl rfl
theorem dksX1_fight_3 : cX1_fight.data.toList.drop 68 = dktX1_fight_3 := dk_seg dksX1_fight_2 23 rfl rfl
theorem dX1_fight_0 : decode cX1_fight 0 = .ok (.aload_n 0, 1) := dk_42 (dk_at dksX1_fight_0 0 rfl rfl)
theorem dX1_fight_1 : decode cX1_fight 1 = .ok (.invokevirtual 186, 3) := dk_182 0 186 (dk_at dksX1_fight_0 1 rfl rfl)
theorem dX1_fight_4 : decode cX1_fight 4 = .ok (.aload_n 0, 1) := dk_42 (dk_at dksX1_fight_0 4 rfl rfl)
theorem dX1_fight_5 : decode cX1_fight 5 = .ok (.iload_n 1, 1) := dk_27 (dk_at dksX1_fight_0 5 rfl rfl)
theorem dX1_fight_6 : decode cX1_fight 6 = .ok (.iload_n 2, 1) := dk_28 (dk_at dksX1_fight_0 6 rfl rfl)
theorem dX1_fight_7 : decode cX1_fight 7 = .ok (.iload_n 3, 1) := dk_29 (dk_at dksX1_fight_0 7 rfl rfl)
theorem dX1_fight_8 : decode cX1_fight 8 = .ok (.iload 4, 2) := dk_21 4 (dk_at dksX1_fight_0 8 rfl rfl)
theorem dX1_fight_10 : decode cX1_fight 10 = .ok (.iconst 1, 1) := dk_4 (dk_at dksX1_fight_0 10 rfl rfl)
theorem dX1_fight_11 : decode cX1_fight 11 = .ok (.aload_n 0, 1) := dk_42 (dk_at dksX1_fight_0 11 rfl rfl)
theorem dX1_fight_12 : decode cX1_fight 12 = .ok (.getfield 180, 3) := dk_180 0 180 (dk_at dksX1_fight_0 12 rfl rfl)
theorem dX1_fight_15 : decode cX1_fight 15 = .ok (.invokevirtual 312, 3) := dk_182 1 56 (dk_at dksX1_fight_0 15 rfl rfl)
theorem dX1_fight_18 : decode cX1_fight 18 = .ok (.astore 5, 2) := dk_58 5 (dk_at dksX1_fight_0 18 rfl rfl)
theorem dX1_fight_20 : decode cX1_fight 20 = .ok (.aload 5, 2) := dk_25 5 (dk_at dksX1_fight_0 20 rfl rfl)
theorem dX1_fight_22 : decode cX1_fight 22 = .ok (.ifnonnull 5, 3) := dk_199 0 5 (dk_at dksX1_fight_1 0 rfl rfl)
theorem dX1_fight_25 : decode cX1_fight 25 = .ok (.iconst (-1), 1) := dk_2 (dk_at dksX1_fight_1 3 rfl rfl)
theorem dX1_fight_26 : decode cX1_fight 26 = .ok (.ireturn, 1) := dk_172 (dk_at dksX1_fight_1 4 rfl rfl)
theorem dX1_fight_27 : decode cX1_fight 27 = .ok (.aload_n 0, 1) := dk_42 (dk_at dksX1_fight_1 5 rfl rfl)
theorem dX1_fight_28 : decode cX1_fight 28 = .ok (.aload 5, 2) := dk_25 5 (dk_at dksX1_fight_1 6 rfl rfl)
theorem dX1_fight_30 : decode cX1_fight 30 = .ok (.aload_n 0, 1) := dk_42 (dk_at dksX1_fight_1 8 rfl rfl)
theorem dX1_fight_31 : decode cX1_fight 31 = .ok (.getfield 105, 3) := dk_180 0 105 (dk_at dksX1_fight_1 9 rfl rfl)
theorem dX1_fight_34 : decode cX1_fight 34 = .ok (.getfield 216, 3) := dk_180 0 216 (dk_at dksX1_fight_1 12 rfl rfl)
theorem dX1_fight_37 : decode cX1_fight 37 = .ok (.iconst 0, 1) := dk_3 (dk_at dksX1_fight_1 15 rfl rfl)
theorem dX1_fight_38 : decode cX1_fight 38 = .ok (.iconst 0, 1) := dk_3 (dk_at dksX1_fight_1 16 rfl rfl)
theorem dX1_fight_39 : decode cX1_fight 39 = .ok (.invokevirtual 316, 3) := dk_182 1 60 (dk_at dksX1_fight_1 17 rfl rfl)
theorem dX1_fight_42 : decode cX1_fight 42 = .ok (.istore 6, 2) := dk_54 6 (dk_at dksX1_fight_1 20 rfl rfl)
theorem dX1_fight_44 : decode cX1_fight 44 = .ok (.aload_n 0, 1) := dk_42 (dk_at dksX1_fight_1 22 rfl rfl)
theorem dX1_fight_45 : decode cX1_fight 45 = .ok (.getfield 129, 3) := dk_180 0 129 (dk_at dksX1_fight_2 0 rfl rfl)
theorem dX1_fight_48 : decode cX1_fight 48 = .ok (.aload 5, 2) := dk_25 5 (dk_at dksX1_fight_2 3 rfl rfl)
theorem dX1_fight_50 : decode cX1_fight 50 = .ok (.aload_n 0, 1) := dk_42 (dk_at dksX1_fight_2 5 rfl rfl)
theorem dX1_fight_51 : decode cX1_fight 51 = .ok (.getfield 116, 3) := dk_180 0 116 (dk_at dksX1_fight_2 6 rfl rfl)
theorem dX1_fight_54 : decode cX1_fight 54 = .ok (.invokevirtual 339, 3) := dk_182 1 83 (dk_at dksX1_fight_2 9 rfl rfl)
theorem dX1_fight_57 : decode cX1_fight 57 = .ok (.istore 7, 2) := dk_54 7 (dk_at dksX1_fight_2 12 rfl rfl)
theorem dX1_fight_59 : decode cX1_fight 59 = .ok (.iload 6, 2) := dk_21 6 (dk_at dksX1_fight_2 14 rfl rfl)
theorem dX1_fight_61 : decode cX1_fight 61 = .ok (.iconst (-1), 1) := dk_2 (dk_at dksX1_fight_2 16 rfl rfl)
theorem dX1_fight_62 : decode cX1_fight 62 = .ok (.if_icmp .eq 20, 3) := dk_159 0 20 (dk_at dksX1_fight_2 17 rfl rfl)
theorem dX1_fight_65 : decode cX1_fight 65 = .ok (.iload 7, 2) := dk_21 7 (dk_at dksX1_fight_2 20 rfl rfl)
theorem dX1_fight_67 : decode cX1_fight 67 = .ok (.iconst (-1), 1) := dk_2 (dk_at dksX1_fight_2 22 rfl rfl)
theorem dX1_fight_68 : decode cX1_fight 68 = .ok (.if_icmp .eq 14, 3) := dk_159 0 14 (dk_at dksX1_fight_3 0 rfl rfl)
theorem dX1_fight_71 : decode cX1_fight 71 = .ok (.iload 6, 2) := dk_21 6 (dk_at dksX1_fight_3 3 rfl rfl)
theorem dX1_fight_73 : decode cX1_fight 73 = .ok (.iload 7, 2) := dk_21 7 (dk_at dksX1_fight_3 5 rfl rfl)
theorem dX1_fight_75 : decode cX1_fight 75 = .ok (.if_icmp .eq 7, 3) := dk_159 0 7 (dk_at dksX1_fight_3 7 rfl rfl)
theorem dX1_fight_78 : decode cX1_fight 78 = .ok (.iconst 1, 1) := dk_4 (dk_at dksX1_fight_3 10 rfl rfl)
theorem dX1_fight_79 : decode cX1_fight 79 = .ok (.goto 4, 3) := dk_167 0 4 (dk_at dksX1_fight_3 11 rfl rfl)
theorem dX1_fight_82 : decode cX1_fight 82 = .ok (.iconst 0, 1) := dk_3 (dk_at dksX1_fight_3 14 rfl rfl)
theorem dX1_fight_83 : decode cX1_fight 83 = .ok (.ireturn, 1) := dk_172 (dk_at dksX1_fight_3 15 rfl rfl)
abbrev cX1_helped : ByteArray := prog_1_method_27_code
def yX1_helped : MethodName := ⟨RX1, "helped", "(IIIII)I"⟩
def dkwX1_helped_2 : List UInt8 := [180, 0, 105, 180, 0, 216, 3, 4, 182, 1, 60, 159, 0, 7, 4, 167, 0, 4, 3, 172]
abbrev dktX1_helped_2 : List UInt8 := dkwX1_helped_2 ++ []
def dkwX1_helped_1 : List UInt8 := [199, 0, 5, 2, 172, 42, 25, 6, 42, 180, 0, 105, 180, 0, 216, 3, 3, 182, 1, 60, 42, 25, 6, 42]
abbrev dktX1_helped_1 : List UInt8 := dkwX1_helped_1 ++ dktX1_helped_2
def dkwX1_helped_0 : List UInt8 := [42, 182, 0, 186, 42, 27, 28, 29, 21, 4, 21, 5, 42, 180, 0, 180, 182, 1, 56, 58, 6, 25, 6]
abbrev dktX1_helped_0 : List UInt8 := dkwX1_helped_0 ++ dktX1_helped_1
theorem dksX1_helped_0 : cX1_helped.data.toList.drop 0 = dktX1_helped_0 := by decide +kernel
theorem dksX1_helped_1 : cX1_helped.data.toList.drop 23 = dktX1_helped_1 := dk_seg dksX1_helped_0 23 rfl rfl
theorem dksX1_helped_2 : cX1_helped.data.toList.drop 47 = dktX1_helped_2 := dk_seg dksX1_helped_1 24 rfl rfl
theorem dX1_helped_0 : decode cX1_helped 0 = .ok (.aload_n 0, 1) := dk_42 (dk_at dksX1_helped_0 0 rfl rfl)
theorem dX1_helped_1 : decode cX1_helped 1 = .ok (.invokevirtual 186, 3) := dk_182 0 186 (dk_at dksX1_helped_0 1 rfl rfl)
theorem dX1_helped_4 : decode cX1_helped 4 = .ok (.aload_n 0, 1) := dk_42 (dk_at dksX1_helped_0 4 rfl rfl)
theorem dX1_helped_5 : decode cX1_helped 5 = .ok (.iload_n 1, 1) := dk_27 (dk_at dksX1_helped_0 5 rfl rfl)
theorem dX1_helped_6 : decode cX1_helped 6 = .ok (.iload_n 2, 1) := dk_28 (dk_at dksX1_helped_0 6 rfl rfl)
theorem dX1_helped_7 : decode cX1_helped 7 = .ok (.iload_n 3, 1) := dk_29 (dk_at dksX1_helped_0 7 rfl rfl)
theorem dX1_helped_8 : decode cX1_helped 8 = .ok (.iload 4, 2) := dk_21 4 (dk_at dksX1_helped_0 8 rfl rfl)
theorem dX1_helped_10 : decode cX1_helped 10 = .ok (.iload 5, 2) := dk_21 5 (dk_at dksX1_helped_0 10 rfl rfl)
theorem dX1_helped_12 : decode cX1_helped 12 = .ok (.aload_n 0, 1) := dk_42 (dk_at dksX1_helped_0 12 rfl rfl)
theorem dX1_helped_13 : decode cX1_helped 13 = .ok (.getfield 180, 3) := dk_180 0 180 (dk_at dksX1_helped_0 13 rfl rfl)
theorem dX1_helped_16 : decode cX1_helped 16 = .ok (.invokevirtual 312, 3) := dk_182 1 56 (dk_at dksX1_helped_0 16 rfl rfl)
theorem dX1_helped_19 : decode cX1_helped 19 = .ok (.astore 6, 2) := dk_58 6 (dk_at dksX1_helped_0 19 rfl rfl)
theorem dX1_helped_21 : decode cX1_helped 21 = .ok (.aload 6, 2) := dk_25 6 (dk_at dksX1_helped_0 21 rfl rfl)
theorem dX1_helped_23 : decode cX1_helped 23 = .ok (.ifnonnull 5, 3) := dk_199 0 5 (dk_at dksX1_helped_1 0 rfl rfl)
theorem dX1_helped_26 : decode cX1_helped 26 = .ok (.iconst (-1), 1) := dk_2 (dk_at dksX1_helped_1 3 rfl rfl)
theorem dX1_helped_27 : decode cX1_helped 27 = .ok (.ireturn, 1) := dk_172 (dk_at dksX1_helped_1 4 rfl rfl)
theorem dX1_helped_28 : decode cX1_helped 28 = .ok (.aload_n 0, 1) := dk_42 (dk_at dksX1_helped_1 5 rfl rfl)
theorem dX1_helped_29 : decode cX1_helped 29 = .ok (.aload 6, 2) := dk_25 6 (dk_at dksX1_helped_1 6 rfl rfl)
theorem dX1_helped_31 : decode cX1_helped 31 = .ok (.aload_n 0, 1) := dk_42 (dk_at dksX1_helped_1 8 rfl rfl)
theorem dX1_helped_32 : decode cX1_helped 32 = .ok (.getfield 105, 3) := dk_180 0 105 (dk_at dksX1_helped_1 9 rfl rfl)
theorem dX1_helped_35 : decode cX1_helped 35 = .ok (.getfield 216, 3) := dk_180 0 216 (dk_at dksX1_helped_1 12 rfl rfl)
theorem dX1_helped_38 : decode cX1_helped 38 = .ok (.iconst 0, 1) := dk_3 (dk_at dksX1_helped_1 15 rfl rfl)
theorem dX1_helped_39 : decode cX1_helped 39 = .ok (.iconst 0, 1) := dk_3 (dk_at dksX1_helped_1 16 rfl rfl)
theorem dX1_helped_40 : decode cX1_helped 40 = .ok (.invokevirtual 316, 3) := dk_182 1 60 (dk_at dksX1_helped_1 17 rfl rfl)
theorem dX1_helped_43 : decode cX1_helped 43 = .ok (.aload_n 0, 1) := dk_42 (dk_at dksX1_helped_1 20 rfl rfl)
theorem dX1_helped_44 : decode cX1_helped 44 = .ok (.aload 6, 2) := dk_25 6 (dk_at dksX1_helped_1 21 rfl rfl)
theorem dX1_helped_46 : decode cX1_helped 46 = .ok (.aload_n 0, 1) := dk_42 (dk_at dksX1_helped_1 23 rfl rfl)
theorem dX1_helped_47 : decode cX1_helped 47 = .ok (.getfield 105, 3) := dk_180 0 105 (dk_at dksX1_helped_2 0 rfl rfl)
theorem dX1_helped_50 : decode cX1_helped 50 = .ok (.getfield 216, 3) := dk_180 0 216 (dk_at dksX1_helped_2 3 rfl rfl)
theorem dX1_helped_53 : decode cX1_helped 53 = .ok (.iconst 0, 1) := dk_3 (dk_at dksX1_helped_2 6 rfl rfl)
theorem dX1_helped_54 : decode cX1_helped 54 = .ok (.iconst 1, 1) := dk_4 (dk_at dksX1_helped_2 7 rfl rfl)
theorem dX1_helped_55 : decode cX1_helped 55 = .ok (.invokevirtual 316, 3) := dk_182 1 60 (dk_at dksX1_helped_2 8 rfl rfl)
theorem dX1_helped_58 : decode cX1_helped 58 = .ok (.if_icmp .eq 7, 3) := dk_159 0 7 (dk_at dksX1_helped_2 11 rfl rfl)
theorem dX1_helped_61 : decode cX1_helped 61 = .ok (.iconst 1, 1) := dk_4 (dk_at dksX1_helped_2 14 rfl rfl)
theorem dX1_helped_62 : decode cX1_helped 62 = .ok (.goto 4, 3) := dk_167 0 4 (dk_at dksX1_helped_2 15 rfl rfl)
theorem dX1_helped_65 : decode cX1_helped 65 = .ok (.iconst 0, 1) := dk_3 (dk_at dksX1_helped_2 18 rfl rfl)
theorem dX1_helped_66 : decode cX1_helped 66 = .ok (.ireturn, 1) := dk_172 (dk_at dksX1_helped_2 19 rfl rfl)
abbrev cX1_foretell : ByteArray := prog_1_method_28_code
def yX1_foretell : MethodName := ⟨RX1, "foretell", "(IIII)I"⟩
def dkwX1_foretell_3 : List UInt8 := [180, 0, 116, 182, 1, 48, 172]
abbrev dktX1_foretell_3 : List UInt8 := dkwX1_foretell_3 ++ []
def dkwX1_foretell_2 : List UInt8 := [4, 160, 0, 7, 4, 167, 0, 4, 3, 182, 1, 84, 42, 180, 0, 137, 21, 4, 50, 25, 5, 42]
abbrev dktX1_foretell_2 : List UInt8 := dkwX1_foretell_2 ++ dktX1_foretell_3
def dkwX1_foretell_1 : List UInt8 := [182, 1, 56, 167, 0, 4, 1, 58, 5, 25, 5, 199, 0, 6, 16, 254, 172, 42, 180, 0, 116, 25, 5, 27]
abbrev dktX1_foretell_1 : List UInt8 := dkwX1_foretell_1 ++ dktX1_foretell_2
def dkwX1_foretell_0 : List UInt8 := [42, 182, 0, 186, 27, 3, 4, 184, 0, 219, 153, 0, 20, 42, 28, 29, 4, 3, 21, 4, 42, 180, 0, 180]
abbrev dktX1_foretell_0 : List UInt8 := dkwX1_foretell_0 ++ dktX1_foretell_1
theorem dksX1_foretell_0 : cX1_foretell.data.toList.drop 0 = dktX1_foretell_0 := by decide +kernel
theorem dksX1_foretell_1 : cX1_foretell.data.toList.drop 24 = dktX1_foretell_1 := dk_seg dksX1_foretell_0 24 rfl rfl
theorem dksX1_foretell_2 : cX1_foretell.data.toList.drop 48 = dktX1_foretell_2 := dk_seg dksX1_foretell_1 24 rfl rfl
theorem dksX1_foretell_3 : cX1_foretell.data.toList.drop 70 = dktX1_foretell_3 := dk_seg dksX1_foretell_2 22 rfl rfl
theorem dX1_foretell_0 : decode cX1_foretell 0 = .ok (.aload_n 0, 1) := dk_42 (dk_at dksX1_foretell_0 0 rfl rfl)
theorem dX1_foretell_1 : decode cX1_foretell 1 = .ok (.invokevirtual 186, 3) := dk_182 0 186 (dk_at dksX1_foretell_0 1 rfl rfl)
theorem dX1_foretell_4 : decode cX1_foretell 4 = .ok (.iload_n 1, 1) := dk_27 (dk_at dksX1_foretell_0 4 rfl rfl)
theorem dX1_foretell_5 : decode cX1_foretell 5 = .ok (.iconst 0, 1) := dk_3 (dk_at dksX1_foretell_0 5 rfl rfl)
theorem dX1_foretell_6 : decode cX1_foretell 6 = .ok (.iconst 1, 1) := dk_4 (dk_at dksX1_foretell_0 6 rfl rfl)
theorem dX1_foretell_7 : decode cX1_foretell 7 = .ok (.invokestatic 219, 3) := dk_184 0 219 (dk_at dksX1_foretell_0 7 rfl rfl)
theorem dX1_foretell_10 : decode cX1_foretell 10 = .ok (.ifCond .eq 20, 3) := dk_153 0 20 (dk_at dksX1_foretell_0 10 rfl rfl)
theorem dX1_foretell_13 : decode cX1_foretell 13 = .ok (.aload_n 0, 1) := dk_42 (dk_at dksX1_foretell_0 13 rfl rfl)
theorem dX1_foretell_14 : decode cX1_foretell 14 = .ok (.iload_n 2, 1) := dk_28 (dk_at dksX1_foretell_0 14 rfl rfl)
theorem dX1_foretell_15 : decode cX1_foretell 15 = .ok (.iload_n 3, 1) := dk_29 (dk_at dksX1_foretell_0 15 rfl rfl)
theorem dX1_foretell_16 : decode cX1_foretell 16 = .ok (.iconst 1, 1) := dk_4 (dk_at dksX1_foretell_0 16 rfl rfl)
theorem dX1_foretell_17 : decode cX1_foretell 17 = .ok (.iconst 0, 1) := dk_3 (dk_at dksX1_foretell_0 17 rfl rfl)
theorem dX1_foretell_18 : decode cX1_foretell 18 = .ok (.iload 4, 2) := dk_21 4 (dk_at dksX1_foretell_0 18 rfl rfl)
theorem dX1_foretell_20 : decode cX1_foretell 20 = .ok (.aload_n 0, 1) := dk_42 (dk_at dksX1_foretell_0 20 rfl rfl)
theorem dX1_foretell_21 : decode cX1_foretell 21 = .ok (.getfield 180, 3) := dk_180 0 180 (dk_at dksX1_foretell_0 21 rfl rfl)
theorem dX1_foretell_24 : decode cX1_foretell 24 = .ok (.invokevirtual 312, 3) := dk_182 1 56 (dk_at dksX1_foretell_1 0 rfl rfl)
theorem dX1_foretell_27 : decode cX1_foretell 27 = .ok (.goto 4, 3) := dk_167 0 4 (dk_at dksX1_foretell_1 3 rfl rfl)
theorem dX1_foretell_30 : decode cX1_foretell 30 = .ok (.aconst_null, 1) := dk_1 (dk_at dksX1_foretell_1 6 rfl rfl)
theorem dX1_foretell_31 : decode cX1_foretell 31 = .ok (.astore 5, 2) := dk_58 5 (dk_at dksX1_foretell_1 7 rfl rfl)
theorem dX1_foretell_33 : decode cX1_foretell 33 = .ok (.aload 5, 2) := dk_25 5 (dk_at dksX1_foretell_1 9 rfl rfl)
theorem dX1_foretell_35 : decode cX1_foretell 35 = .ok (.ifnonnull 6, 3) := dk_199 0 6 (dk_at dksX1_foretell_1 11 rfl rfl)
theorem dX1_foretell_38 : decode cX1_foretell 38 = .ok (.bipush (-2), 2) := dk_16 254 (dk_at dksX1_foretell_1 14 rfl rfl)
theorem dX1_foretell_40 : decode cX1_foretell 40 = .ok (.ireturn, 1) := dk_172 (dk_at dksX1_foretell_1 16 rfl rfl)
theorem dX1_foretell_41 : decode cX1_foretell 41 = .ok (.aload_n 0, 1) := dk_42 (dk_at dksX1_foretell_1 17 rfl rfl)
theorem dX1_foretell_42 : decode cX1_foretell 42 = .ok (.getfield 116, 3) := dk_180 0 116 (dk_at dksX1_foretell_1 18 rfl rfl)
theorem dX1_foretell_45 : decode cX1_foretell 45 = .ok (.aload 5, 2) := dk_25 5 (dk_at dksX1_foretell_1 21 rfl rfl)
theorem dX1_foretell_47 : decode cX1_foretell 47 = .ok (.iload_n 1, 1) := dk_27 (dk_at dksX1_foretell_1 23 rfl rfl)
theorem dX1_foretell_48 : decode cX1_foretell 48 = .ok (.iconst 1, 1) := dk_4 (dk_at dksX1_foretell_2 0 rfl rfl)
theorem dX1_foretell_49 : decode cX1_foretell 49 = .ok (.if_icmp .ne 7, 3) := dk_160 0 7 (dk_at dksX1_foretell_2 1 rfl rfl)
theorem dX1_foretell_52 : decode cX1_foretell 52 = .ok (.iconst 1, 1) := dk_4 (dk_at dksX1_foretell_2 4 rfl rfl)
theorem dX1_foretell_53 : decode cX1_foretell 53 = .ok (.goto 4, 3) := dk_167 0 4 (dk_at dksX1_foretell_2 5 rfl rfl)
theorem dX1_foretell_56 : decode cX1_foretell 56 = .ok (.iconst 0, 1) := dk_3 (dk_at dksX1_foretell_2 8 rfl rfl)
theorem dX1_foretell_57 : decode cX1_foretell 57 = .ok (.invokevirtual 340, 3) := dk_182 1 84 (dk_at dksX1_foretell_2 9 rfl rfl)
theorem dX1_foretell_60 : decode cX1_foretell 60 = .ok (.aload_n 0, 1) := dk_42 (dk_at dksX1_foretell_2 12 rfl rfl)
theorem dX1_foretell_61 : decode cX1_foretell 61 = .ok (.getfield 137, 3) := dk_180 0 137 (dk_at dksX1_foretell_2 13 rfl rfl)
theorem dX1_foretell_64 : decode cX1_foretell 64 = .ok (.iload 4, 2) := dk_21 4 (dk_at dksX1_foretell_2 16 rfl rfl)
theorem dX1_foretell_66 : decode cX1_foretell 66 = .ok (.aaload, 1) := dk_50 (dk_at dksX1_foretell_2 18 rfl rfl)
theorem dX1_foretell_67 : decode cX1_foretell 67 = .ok (.aload 5, 2) := dk_25 5 (dk_at dksX1_foretell_2 19 rfl rfl)
theorem dX1_foretell_69 : decode cX1_foretell 69 = .ok (.aload_n 0, 1) := dk_42 (dk_at dksX1_foretell_2 21 rfl rfl)
theorem dX1_foretell_70 : decode cX1_foretell 70 = .ok (.getfield 116, 3) := dk_180 0 116 (dk_at dksX1_foretell_3 0 rfl rfl)
theorem dX1_foretell_73 : decode cX1_foretell 73 = .ok (.invokevirtual 304, 3) := dk_182 1 48 (dk_at dksX1_foretell_3 3 rfl rfl)
theorem dX1_foretell_76 : decode cX1_foretell 76 = .ok (.ireturn, 1) := dk_172 (dk_at dksX1_foretell_3 6 rfl rfl)
abbrev cX1_all : ByteArray := prog_1_method_29_code
def yX1_all : MethodName := ⟨RX1, "all", "()J"⟩
def dkwX1_all_1 : List UInt8 := [132, 3, 1, 167, 255, 233, 31, 173]
abbrev dktX1_all_1 : List UInt8 := dkwX1_all_1 ++ []
def dkwX1_all_0 : List UInt8 := [10, 64, 3, 62, 29, 42, 180, 0, 105, 180, 0, 202, 180, 1, 88, 162, 0, 15, 31, 20, 1, 91, 105, 64]
abbrev dktX1_all_0 : List UInt8 := dkwX1_all_0 ++ dktX1_all_1
theorem dksX1_all_0 : cX1_all.data.toList.drop 0 = dktX1_all_0 := by decide +kernel
theorem dksX1_all_1 : cX1_all.data.toList.drop 24 = dktX1_all_1 := dk_seg dksX1_all_0 24 rfl rfl
theorem dX1_all_0 : decode cX1_all 0 = .ok (.lconst 1, 1) := dk_10 (dk_at dksX1_all_0 0 rfl rfl)
theorem dX1_all_1 : decode cX1_all 1 = .ok (.lstore_n 1, 1) := dk_64 (dk_at dksX1_all_0 1 rfl rfl)
theorem dX1_all_2 : decode cX1_all 2 = .ok (.iconst 0, 1) := dk_3 (dk_at dksX1_all_0 2 rfl rfl)
theorem dX1_all_3 : decode cX1_all 3 = .ok (.istore_n 3, 1) := dk_62 (dk_at dksX1_all_0 3 rfl rfl)
theorem dX1_all_4 : decode cX1_all 4 = .ok (.iload_n 3, 1) := dk_29 (dk_at dksX1_all_0 4 rfl rfl)
theorem dX1_all_5 : decode cX1_all 5 = .ok (.aload_n 0, 1) := dk_42 (dk_at dksX1_all_0 5 rfl rfl)
theorem dX1_all_6 : decode cX1_all 6 = .ok (.getfield 105, 3) := dk_180 0 105 (dk_at dksX1_all_0 6 rfl rfl)
theorem dX1_all_9 : decode cX1_all 9 = .ok (.getfield 202, 3) := dk_180 0 202 (dk_at dksX1_all_0 9 rfl rfl)
theorem dX1_all_12 : decode cX1_all 12 = .ok (.getfield 344, 3) := dk_180 1 88 (dk_at dksX1_all_0 12 rfl rfl)
theorem dX1_all_15 : decode cX1_all 15 = .ok (.if_icmp .ge 15, 3) := dk_162 0 15 (dk_at dksX1_all_0 15 rfl rfl)
theorem dX1_all_18 : decode cX1_all 18 = .ok (.lload_n 1, 1) := dk_31 (dk_at dksX1_all_0 18 rfl rfl)
theorem dX1_all_19 : decode cX1_all 19 = .ok (.ldc2_w 347, 3) := dk_20 1 91 (dk_at dksX1_all_0 19 rfl rfl)
theorem dX1_all_22 : decode cX1_all 22 = .ok (.lmul, 1) := dk_105 (dk_at dksX1_all_0 22 rfl rfl)
theorem dX1_all_23 : decode cX1_all 23 = .ok (.lstore_n 1, 1) := dk_64 (dk_at dksX1_all_0 23 rfl rfl)
theorem dX1_all_24 : decode cX1_all 24 = .ok (.iinc 3 1, 3) := dk_132 3 1 (dk_at dksX1_all_1 0 rfl rfl)
theorem dX1_all_27 : decode cX1_all 27 = .ok (.goto (-23), 3) := dk_167 255 233 (dk_at dksX1_all_1 3 rfl rfl)
theorem dX1_all_30 : decode cX1_all 30 = .ok (.lload_n 1, 1) := dk_31 (dk_at dksX1_all_1 6 rfl rfl)
theorem dX1_all_31 : decode cX1_all 31 = .ok (.lreturn, 1) := dk_173 (dk_at dksX1_all_1 7 rfl rfl)
abbrev cX1_row : ByteArray := prog_1_method_32_code
def yX1_row : MethodName := ⟨RX1, "row", "(IIIIII)I"⟩
def dkwX1_row_5 : List UInt8 := [4, 100, 172]
abbrev dktX1_row_5 : List UInt8 := dkwX1_row_5 ++ []
def dkwX1_row_4 : List UInt8 := [25, 7, 180, 1, 101, 25, 8, 83, 25, 7, 89, 180, 1, 101, 4, 96, 181, 1, 101, 25, 7, 180, 1, 101]
abbrev dktX1_row_4 : List UInt8 := dkwX1_row_4 ++ dktX1_row_5
def dkwX1_row_3 : List UInt8 := [182, 1, 56, 58, 8, 25, 8, 199, 0, 5, 2, 172, 25, 8, 27, 181, 1, 106, 25, 7, 180, 1, 108]
abbrev dktX1_row_3 : List UInt8 := dkwX1_row_3 ++ dktX1_row_4
def dkwX1_row_2 : List UInt8 := [160, 0, 7, 1, 167, 0, 22, 42, 28, 29, 21, 4, 21, 5, 21, 6, 16, 10, 112, 42, 180, 0, 180]
abbrev dktX1_row_2 : List UInt8 := dkwX1_row_2 ++ dktX1_row_3
def dkwX1_row_1 : List UInt8 := [172, 42, 180, 0, 105, 180, 1, 97, 21, 6, 16, 10, 108, 50, 58, 7, 25, 7, 180, 1, 101, 16, 40]
abbrev dktX1_row_1 : List UInt8 := dkwX1_row_1 ++ dktX1_row_2
def dkwX1_row_0 : List UInt8 := [42, 182, 0, 186, 21, 6, 3, 16, 59, 184, 0, 219, 153, 0, 11, 42, 27, 182, 1, 23, 154, 0, 5, 2]
abbrev dktX1_row_0 : List UInt8 := dkwX1_row_0 ++ dktX1_row_1
theorem dksX1_row_0 : cX1_row.data.toList.drop 0 = dktX1_row_0 := by decide +kernel
theorem dksX1_row_1 : cX1_row.data.toList.drop 24 = dktX1_row_1 := dk_seg dksX1_row_0 24 rfl rfl
theorem dksX1_row_2 : cX1_row.data.toList.drop 47 = dktX1_row_2 := dk_seg dksX1_row_1 23 rfl rfl
theorem dksX1_row_3 : cX1_row.data.toList.drop 70 = dktX1_row_3 := dk_seg dksX1_row_2 23 rfl rfl
theorem dksX1_row_4 : cX1_row.data.toList.drop 93 = dktX1_row_4 := dk_seg dksX1_row_3 23 rfl rfl
theorem dksX1_row_5 : cX1_row.data.toList.drop 117 = dktX1_row_5 := dk_seg dksX1_row_4 24 rfl rfl
theorem dX1_row_0 : decode cX1_row 0 = .ok (.aload_n 0, 1) := dk_42 (dk_at dksX1_row_0 0 rfl rfl)
theorem dX1_row_1 : decode cX1_row 1 = .ok (.invokevirtual 186, 3) := dk_182 0 186 (dk_at dksX1_row_0 1 rfl rfl)
theorem dX1_row_4 : decode cX1_row 4 = .ok (.iload 6, 2) := dk_21 6 (dk_at dksX1_row_0 4 rfl rfl)
theorem dX1_row_6 : decode cX1_row 6 = .ok (.iconst 0, 1) := dk_3 (dk_at dksX1_row_0 6 rfl rfl)
theorem dX1_row_7 : decode cX1_row 7 = .ok (.bipush 59, 2) := dk_16 59 (dk_at dksX1_row_0 7 rfl rfl)
theorem dX1_row_9 : decode cX1_row 9 = .ok (.invokestatic 219, 3) := dk_184 0 219 (dk_at dksX1_row_0 9 rfl rfl)
theorem dX1_row_12 : decode cX1_row 12 = .ok (.ifCond .eq 11, 3) := dk_153 0 11 (dk_at dksX1_row_0 12 rfl rfl)
theorem dX1_row_15 : decode cX1_row 15 = .ok (.aload_n 0, 1) := dk_42 (dk_at dksX1_row_0 15 rfl rfl)
theorem dX1_row_16 : decode cX1_row 16 = .ok (.iload_n 1, 1) := dk_27 (dk_at dksX1_row_0 16 rfl rfl)
theorem dX1_row_17 : decode cX1_row 17 = .ok (.invokevirtual 279, 3) := dk_182 1 23 (dk_at dksX1_row_0 17 rfl rfl)
theorem dX1_row_20 : decode cX1_row 20 = .ok (.ifCond .ne 5, 3) := dk_154 0 5 (dk_at dksX1_row_0 20 rfl rfl)
theorem dX1_row_23 : decode cX1_row 23 = .ok (.iconst (-1), 1) := dk_2 (dk_at dksX1_row_0 23 rfl rfl)
theorem dX1_row_24 : decode cX1_row 24 = .ok (.ireturn, 1) := dk_172 (dk_at dksX1_row_1 0 rfl rfl)
theorem dX1_row_25 : decode cX1_row 25 = .ok (.aload_n 0, 1) := dk_42 (dk_at dksX1_row_1 1 rfl rfl)
theorem dX1_row_26 : decode cX1_row 26 = .ok (.getfield 105, 3) := dk_180 0 105 (dk_at dksX1_row_1 2 rfl rfl)
theorem dX1_row_29 : decode cX1_row 29 = .ok (.getfield 353, 3) := dk_180 1 97 (dk_at dksX1_row_1 5 rfl rfl)
theorem dX1_row_32 : decode cX1_row 32 = .ok (.iload 6, 2) := dk_21 6 (dk_at dksX1_row_1 8 rfl rfl)
theorem dX1_row_34 : decode cX1_row 34 = .ok (.bipush 10, 2) := dk_16 10 (dk_at dksX1_row_1 10 rfl rfl)
theorem dX1_row_36 : decode cX1_row 36 = .ok (.idiv, 1) := dk_108 (dk_at dksX1_row_1 12 rfl rfl)
theorem dX1_row_37 : decode cX1_row 37 = .ok (.aaload, 1) := dk_50 (dk_at dksX1_row_1 13 rfl rfl)
theorem dX1_row_38 : decode cX1_row 38 = .ok (.astore 7, 2) := dk_58 7 (dk_at dksX1_row_1 14 rfl rfl)
theorem dX1_row_40 : decode cX1_row 40 = .ok (.aload 7, 2) := dk_25 7 (dk_at dksX1_row_1 16 rfl rfl)
theorem dX1_row_42 : decode cX1_row 42 = .ok (.getfield 357, 3) := dk_180 1 101 (dk_at dksX1_row_1 18 rfl rfl)
theorem dX1_row_45 : decode cX1_row 45 = .ok (.bipush 40, 2) := dk_16 40 (dk_at dksX1_row_1 21 rfl rfl)
theorem dX1_row_47 : decode cX1_row 47 = .ok (.if_icmp .ne 7, 3) := dk_160 0 7 (dk_at dksX1_row_2 0 rfl rfl)
theorem dX1_row_50 : decode cX1_row 50 = .ok (.aconst_null, 1) := dk_1 (dk_at dksX1_row_2 3 rfl rfl)
theorem dX1_row_51 : decode cX1_row 51 = .ok (.goto 22, 3) := dk_167 0 22 (dk_at dksX1_row_2 4 rfl rfl)
theorem dX1_row_54 : decode cX1_row 54 = .ok (.aload_n 0, 1) := dk_42 (dk_at dksX1_row_2 7 rfl rfl)
theorem dX1_row_55 : decode cX1_row 55 = .ok (.iload_n 2, 1) := dk_28 (dk_at dksX1_row_2 8 rfl rfl)
theorem dX1_row_56 : decode cX1_row 56 = .ok (.iload_n 3, 1) := dk_29 (dk_at dksX1_row_2 9 rfl rfl)
theorem dX1_row_57 : decode cX1_row 57 = .ok (.iload 4, 2) := dk_21 4 (dk_at dksX1_row_2 10 rfl rfl)
theorem dX1_row_59 : decode cX1_row 59 = .ok (.iload 5, 2) := dk_21 5 (dk_at dksX1_row_2 12 rfl rfl)
theorem dX1_row_61 : decode cX1_row 61 = .ok (.iload 6, 2) := dk_21 6 (dk_at dksX1_row_2 14 rfl rfl)
theorem dX1_row_63 : decode cX1_row 63 = .ok (.bipush 10, 2) := dk_16 10 (dk_at dksX1_row_2 16 rfl rfl)
theorem dX1_row_65 : decode cX1_row 65 = .ok (.irem, 1) := dk_112 (dk_at dksX1_row_2 18 rfl rfl)
theorem dX1_row_66 : decode cX1_row 66 = .ok (.aload_n 0, 1) := dk_42 (dk_at dksX1_row_2 19 rfl rfl)
theorem dX1_row_67 : decode cX1_row 67 = .ok (.getfield 180, 3) := dk_180 0 180 (dk_at dksX1_row_2 20 rfl rfl)
theorem dX1_row_70 : decode cX1_row 70 = .ok (.invokevirtual 312, 3) := dk_182 1 56 (dk_at dksX1_row_3 0 rfl rfl)
theorem dX1_row_73 : decode cX1_row 73 = .ok (.astore 8, 2) := dk_58 8 (dk_at dksX1_row_3 3 rfl rfl)
theorem dX1_row_75 : decode cX1_row 75 = .ok (.aload 8, 2) := dk_25 8 (dk_at dksX1_row_3 5 rfl rfl)
theorem dX1_row_77 : decode cX1_row 77 = .ok (.ifnonnull 5, 3) := dk_199 0 5 (dk_at dksX1_row_3 7 rfl rfl)
theorem dX1_row_80 : decode cX1_row 80 = .ok (.iconst (-1), 1) := dk_2 (dk_at dksX1_row_3 10 rfl rfl)
theorem dX1_row_81 : decode cX1_row 81 = .ok (.ireturn, 1) := dk_172 (dk_at dksX1_row_3 11 rfl rfl)
theorem dX1_row_82 : decode cX1_row 82 = .ok (.aload 8, 2) := dk_25 8 (dk_at dksX1_row_3 12 rfl rfl)
theorem dX1_row_84 : decode cX1_row 84 = .ok (.iload_n 1, 1) := dk_27 (dk_at dksX1_row_3 14 rfl rfl)
theorem dX1_row_85 : decode cX1_row 85 = .ok (.putfield 362, 3) := dk_181 1 106 (dk_at dksX1_row_3 15 rfl rfl)
theorem dX1_row_88 : decode cX1_row 88 = .ok (.aload 7, 2) := dk_25 7 (dk_at dksX1_row_3 18 rfl rfl)
theorem dX1_row_90 : decode cX1_row 90 = .ok (.getfield 364, 3) := dk_180 1 108 (dk_at dksX1_row_3 20 rfl rfl)
theorem dX1_row_93 : decode cX1_row 93 = .ok (.aload 7, 2) := dk_25 7 (dk_at dksX1_row_4 0 rfl rfl)
theorem dX1_row_95 : decode cX1_row 95 = .ok (.getfield 357, 3) := dk_180 1 101 (dk_at dksX1_row_4 2 rfl rfl)
theorem dX1_row_98 : decode cX1_row 98 = .ok (.aload 8, 2) := dk_25 8 (dk_at dksX1_row_4 5 rfl rfl)
theorem dX1_row_100 : decode cX1_row 100 = .ok (.aastore, 1) := dk_83 (dk_at dksX1_row_4 7 rfl rfl)
theorem dX1_row_101 : decode cX1_row 101 = .ok (.aload 7, 2) := dk_25 7 (dk_at dksX1_row_4 8 rfl rfl)
theorem dX1_row_103 : decode cX1_row 103 = .ok (.dup, 1) := dk_89 (dk_at dksX1_row_4 10 rfl rfl)
theorem dX1_row_104 : decode cX1_row 104 = .ok (.getfield 357, 3) := dk_180 1 101 (dk_at dksX1_row_4 11 rfl rfl)
theorem dX1_row_107 : decode cX1_row 107 = .ok (.iconst 1, 1) := dk_4 (dk_at dksX1_row_4 14 rfl rfl)
theorem dX1_row_108 : decode cX1_row 108 = .ok (.iadd, 1) := dk_96 (dk_at dksX1_row_4 15 rfl rfl)
theorem dX1_row_109 : decode cX1_row 109 = .ok (.putfield 357, 3) := dk_181 1 101 (dk_at dksX1_row_4 16 rfl rfl)
theorem dX1_row_112 : decode cX1_row 112 = .ok (.aload 7, 2) := dk_25 7 (dk_at dksX1_row_4 19 rfl rfl)
theorem dX1_row_114 : decode cX1_row 114 = .ok (.getfield 357, 3) := dk_180 1 101 (dk_at dksX1_row_4 21 rfl rfl)
theorem dX1_row_117 : decode cX1_row 117 = .ok (.iconst 1, 1) := dk_4 (dk_at dksX1_row_5 0 rfl rfl)
theorem dX1_row_118 : decode cX1_row 118 = .ok (.isub, 1) := dk_100 (dk_at dksX1_row_5 1 rfl rfl)
theorem dX1_row_119 : decode cX1_row 119 = .ok (.ireturn, 1) := dk_172 (dk_at dksX1_row_5 2 rfl rfl)
abbrev cX1_worlds : ByteArray := prog_1_method_36_code
def yX1_worlds : MethodName := ⟨RX1, "worlds", "(I)I"⟩
def dkwX1_worlds_1 : List UInt8 := [180, 0, 141, 3, 42, 180, 0, 144, 3, 42, 180, 1, 112, 184, 1, 128, 42, 180, 1, 112, 172]
abbrev dktX1_worlds_1 : List UInt8 := dkwX1_worlds_1 ++ []
def dkwX1_worlds_0 : List UInt8 := [27, 184, 1, 119, 154, 0, 5, 2, 172, 42, 27, 182, 1, 122, 42, 42, 180, 1, 112, 181, 1, 125, 42]
abbrev dktX1_worlds_0 : List UInt8 := dkwX1_worlds_0 ++ dktX1_worlds_1
theorem dksX1_worlds_0 : cX1_worlds.data.toList.drop 0 = dktX1_worlds_0 := by decide +kernel
theorem dksX1_worlds_1 : cX1_worlds.data.toList.drop 23 = dktX1_worlds_1 := dk_seg dksX1_worlds_0 23 rfl rfl
theorem dX1_worlds_0 : decode cX1_worlds 0 = .ok (.iload_n 1, 1) := dk_27 (dk_at dksX1_worlds_0 0 rfl rfl)
theorem dX1_worlds_1 : decode cX1_worlds 1 = .ok (.invokestatic 375, 3) := dk_184 1 119 (dk_at dksX1_worlds_0 1 rfl rfl)
theorem dX1_worlds_4 : decode cX1_worlds 4 = .ok (.ifCond .ne 5, 3) := dk_154 0 5 (dk_at dksX1_worlds_0 4 rfl rfl)
theorem dX1_worlds_7 : decode cX1_worlds 7 = .ok (.iconst (-1), 1) := dk_2 (dk_at dksX1_worlds_0 7 rfl rfl)
theorem dX1_worlds_8 : decode cX1_worlds 8 = .ok (.ireturn, 1) := dk_172 (dk_at dksX1_worlds_0 8 rfl rfl)
theorem dX1_worlds_9 : decode cX1_worlds 9 = .ok (.aload_n 0, 1) := dk_42 (dk_at dksX1_worlds_0 9 rfl rfl)
theorem dX1_worlds_10 : decode cX1_worlds 10 = .ok (.iload_n 1, 1) := dk_27 (dk_at dksX1_worlds_0 10 rfl rfl)
theorem dX1_worlds_11 : decode cX1_worlds 11 = .ok (.invokevirtual 378, 3) := dk_182 1 122 (dk_at dksX1_worlds_0 11 rfl rfl)
theorem dX1_worlds_14 : decode cX1_worlds 14 = .ok (.aload_n 0, 1) := dk_42 (dk_at dksX1_worlds_0 14 rfl rfl)
theorem dX1_worlds_15 : decode cX1_worlds 15 = .ok (.aload_n 0, 1) := dk_42 (dk_at dksX1_worlds_0 15 rfl rfl)
theorem dX1_worlds_16 : decode cX1_worlds 16 = .ok (.getfield 368, 3) := dk_180 1 112 (dk_at dksX1_worlds_0 16 rfl rfl)
theorem dX1_worlds_19 : decode cX1_worlds 19 = .ok (.putfield 381, 3) := dk_181 1 125 (dk_at dksX1_worlds_0 19 rfl rfl)
theorem dX1_worlds_22 : decode cX1_worlds 22 = .ok (.aload_n 0, 1) := dk_42 (dk_at dksX1_worlds_0 22 rfl rfl)
theorem dX1_worlds_23 : decode cX1_worlds 23 = .ok (.getfield 141, 3) := dk_180 0 141 (dk_at dksX1_worlds_1 0 rfl rfl)
theorem dX1_worlds_26 : decode cX1_worlds 26 = .ok (.iconst 0, 1) := dk_3 (dk_at dksX1_worlds_1 3 rfl rfl)
theorem dX1_worlds_27 : decode cX1_worlds 27 = .ok (.aload_n 0, 1) := dk_42 (dk_at dksX1_worlds_1 4 rfl rfl)
theorem dX1_worlds_28 : decode cX1_worlds 28 = .ok (.getfield 144, 3) := dk_180 0 144 (dk_at dksX1_worlds_1 5 rfl rfl)
theorem dX1_worlds_31 : decode cX1_worlds 31 = .ok (.iconst 0, 1) := dk_3 (dk_at dksX1_worlds_1 8 rfl rfl)
theorem dX1_worlds_32 : decode cX1_worlds 32 = .ok (.aload_n 0, 1) := dk_42 (dk_at dksX1_worlds_1 9 rfl rfl)
theorem dX1_worlds_33 : decode cX1_worlds 33 = .ok (.getfield 368, 3) := dk_180 1 112 (dk_at dksX1_worlds_1 10 rfl rfl)
theorem dX1_worlds_36 : decode cX1_worlds 36 = .ok (.invokestatic 384, 3) := dk_184 1 128 (dk_at dksX1_worlds_1 13 rfl rfl)
theorem dX1_worlds_39 : decode cX1_worlds 39 = .ok (.aload_n 0, 1) := dk_42 (dk_at dksX1_worlds_1 16 rfl rfl)
theorem dX1_worlds_40 : decode cX1_worlds 40 = .ok (.getfield 368, 3) := dk_180 1 112 (dk_at dksX1_worlds_1 17 rfl rfl)
theorem dX1_worlds_43 : decode cX1_worlds 43 = .ok (.ireturn, 1) := dk_172 (dk_at dksX1_worlds_1 20 rfl rfl)
abbrev cX1_isPerson : ByteArray := prog_1_method_35_code
def yX1_isPerson : MethodName := ⟨RX1, "isPerson", "(I)Z"⟩
def dkwX1_isPerson_0 : List UInt8 := [26, 3, 8, 184, 0, 219, 172]
abbrev dktX1_isPerson_0 : List UInt8 := dkwX1_isPerson_0 ++ []
theorem dksX1_isPerson_0 : cX1_isPerson.data.toList.drop 0 = dktX1_isPerson_0 := by decide +kernel
theorem dX1_isPerson_0 : decode cX1_isPerson 0 = .ok (.iload_n 0, 1) := dk_26 (dk_at dksX1_isPerson_0 0 rfl rfl)
theorem dX1_isPerson_1 : decode cX1_isPerson 1 = .ok (.iconst 0, 1) := dk_3 (dk_at dksX1_isPerson_0 1 rfl rfl)
theorem dX1_isPerson_2 : decode cX1_isPerson 2 = .ok (.iconst 5, 1) := dk_8 (dk_at dksX1_isPerson_0 2 rfl rfl)
theorem dX1_isPerson_3 : decode cX1_isPerson 3 = .ok (.invokestatic 219, 3) := dk_184 0 219 (dk_at dksX1_isPerson_0 3 rfl rfl)
theorem dX1_isPerson_6 : decode cX1_isPerson 6 = .ok (.ireturn, 1) := dk_172 (dk_at dksX1_isPerson_0 6 rfl rfl)
abbrev cX1_explore : ByteArray := prog_1_method_34_code
def yX1_explore : MethodName := ⟨RX1, "explore", "(I)V"⟩
def dkwX1_explore_3 : List UInt8 := [167, 0, 4, 3, 54, 4, 29, 28, 2, 130, 128, 4, 96, 28, 126, 62, 167, 255, 192, 177]
abbrev dktX1_explore_3 : List UInt8 := dkwX1_explore_3 ++ []
def dkwX1_explore_2 : List UInt8 := [42, 180, 1, 112, 29, 79, 42, 89, 180, 1, 112, 4, 96, 181, 1, 112, 29, 28, 159, 0, 7, 4]
abbrev dktX1_explore_2 : List UInt8 := dkwX1_explore_2 ++ dktX1_explore_3
def dkwX1_explore_1 : List UInt8 := [153, 0, 65, 42, 42, 180, 0, 105, 180, 1, 97, 27, 50, 29, 182, 1, 115, 153, 0, 23, 42, 180, 0, 141]
abbrev dktX1_explore_1 : List UInt8 := dkwX1_explore_1 ++ dktX1_explore_2
def dkwX1_explore_0 : List UInt8 := [42, 180, 0, 105, 180, 0, 202, 5, 182, 0, 212, 61, 42, 3, 181, 1, 112, 3, 62, 4, 54, 4, 21, 4]
abbrev dktX1_explore_0 : List UInt8 := dkwX1_explore_0 ++ dktX1_explore_1
theorem dksX1_explore_0 : cX1_explore.data.toList.drop 0 = dktX1_explore_0 := by decide +kernel
theorem dksX1_explore_1 : cX1_explore.data.toList.drop 24 = dktX1_explore_1 := dk_seg dksX1_explore_0 24 rfl rfl
theorem dksX1_explore_2 : cX1_explore.data.toList.drop 48 = dktX1_explore_2 := dk_seg dksX1_explore_1 24 rfl rfl
theorem dksX1_explore_3 : cX1_explore.data.toList.drop 70 = dktX1_explore_3 := dk_seg dksX1_explore_2 22 rfl rfl
theorem dX1_explore_0 : decode cX1_explore 0 = .ok (.aload_n 0, 1) := dk_42 (dk_at dksX1_explore_0 0 rfl rfl)
theorem dX1_explore_1 : decode cX1_explore 1 = .ok (.getfield 105, 3) := dk_180 0 105 (dk_at dksX1_explore_0 1 rfl rfl)
theorem dX1_explore_4 : decode cX1_explore 4 = .ok (.getfield 202, 3) := dk_180 0 202 (dk_at dksX1_explore_0 4 rfl rfl)
theorem dX1_explore_7 : decode cX1_explore 7 = .ok (.iconst 2, 1) := dk_5 (dk_at dksX1_explore_0 7 rfl rfl)
theorem dX1_explore_8 : decode cX1_explore 8 = .ok (.invokevirtual 212, 3) := dk_182 0 212 (dk_at dksX1_explore_0 8 rfl rfl)
theorem dX1_explore_11 : decode cX1_explore 11 = .ok (.istore_n 2, 1) := dk_61 (dk_at dksX1_explore_0 11 rfl rfl)
theorem dX1_explore_12 : decode cX1_explore 12 = .ok (.aload_n 0, 1) := dk_42 (dk_at dksX1_explore_0 12 rfl rfl)
theorem dX1_explore_13 : decode cX1_explore 13 = .ok (.iconst 0, 1) := dk_3 (dk_at dksX1_explore_0 13 rfl rfl)
theorem dX1_explore_14 : decode cX1_explore 14 = .ok (.putfield 368, 3) := dk_181 1 112 (dk_at dksX1_explore_0 14 rfl rfl)
theorem dX1_explore_17 : decode cX1_explore 17 = .ok (.iconst 0, 1) := dk_3 (dk_at dksX1_explore_0 17 rfl rfl)
theorem dX1_explore_18 : decode cX1_explore 18 = .ok (.istore_n 3, 1) := dk_62 (dk_at dksX1_explore_0 18 rfl rfl)
theorem dX1_explore_19 : decode cX1_explore 19 = .ok (.iconst 1, 1) := dk_4 (dk_at dksX1_explore_0 19 rfl rfl)
theorem dX1_explore_20 : decode cX1_explore 20 = .ok (.istore 4, 2) := dk_54 4 (dk_at dksX1_explore_0 20 rfl rfl)
theorem dX1_explore_22 : decode cX1_explore 22 = .ok (.iload 4, 2) := dk_21 4 (dk_at dksX1_explore_0 22 rfl rfl)
theorem dX1_explore_24 : decode cX1_explore 24 = .ok (.ifCond .eq 65, 3) := dk_153 0 65 (dk_at dksX1_explore_1 0 rfl rfl)
theorem dX1_explore_27 : decode cX1_explore 27 = .ok (.aload_n 0, 1) := dk_42 (dk_at dksX1_explore_1 3 rfl rfl)
theorem dX1_explore_28 : decode cX1_explore 28 = .ok (.aload_n 0, 1) := dk_42 (dk_at dksX1_explore_1 4 rfl rfl)
theorem dX1_explore_29 : decode cX1_explore 29 = .ok (.getfield 105, 3) := dk_180 0 105 (dk_at dksX1_explore_1 5 rfl rfl)
theorem dX1_explore_32 : decode cX1_explore 32 = .ok (.getfield 353, 3) := dk_180 1 97 (dk_at dksX1_explore_1 8 rfl rfl)
theorem dX1_explore_35 : decode cX1_explore 35 = .ok (.iload_n 1, 1) := dk_27 (dk_at dksX1_explore_1 11 rfl rfl)
theorem dX1_explore_36 : decode cX1_explore 36 = .ok (.aaload, 1) := dk_50 (dk_at dksX1_explore_1 12 rfl rfl)
theorem dX1_explore_37 : decode cX1_explore 37 = .ok (.iload_n 3, 1) := dk_29 (dk_at dksX1_explore_1 13 rfl rfl)
theorem dX1_explore_38 : decode cX1_explore 38 = .ok (.invokevirtual 371, 3) := dk_182 1 115 (dk_at dksX1_explore_1 14 rfl rfl)
theorem dX1_explore_41 : decode cX1_explore 41 = .ok (.ifCond .eq 23, 3) := dk_153 0 23 (dk_at dksX1_explore_1 17 rfl rfl)
theorem dX1_explore_44 : decode cX1_explore 44 = .ok (.aload_n 0, 1) := dk_42 (dk_at dksX1_explore_1 20 rfl rfl)
theorem dX1_explore_45 : decode cX1_explore 45 = .ok (.getfield 141, 3) := dk_180 0 141 (dk_at dksX1_explore_1 21 rfl rfl)
theorem dX1_explore_48 : decode cX1_explore 48 = .ok (.aload_n 0, 1) := dk_42 (dk_at dksX1_explore_2 0 rfl rfl)
theorem dX1_explore_49 : decode cX1_explore 49 = .ok (.getfield 368, 3) := dk_180 1 112 (dk_at dksX1_explore_2 1 rfl rfl)
theorem dX1_explore_52 : decode cX1_explore 52 = .ok (.iload_n 3, 1) := dk_29 (dk_at dksX1_explore_2 4 rfl rfl)
theorem dX1_explore_53 : decode cX1_explore 53 = .ok (.iastore, 1) := dk_79 (dk_at dksX1_explore_2 5 rfl rfl)
theorem dX1_explore_54 : decode cX1_explore 54 = .ok (.aload_n 0, 1) := dk_42 (dk_at dksX1_explore_2 6 rfl rfl)
theorem dX1_explore_55 : decode cX1_explore 55 = .ok (.dup, 1) := dk_89 (dk_at dksX1_explore_2 7 rfl rfl)
theorem dX1_explore_56 : decode cX1_explore 56 = .ok (.getfield 368, 3) := dk_180 1 112 (dk_at dksX1_explore_2 8 rfl rfl)
theorem dX1_explore_59 : decode cX1_explore 59 = .ok (.iconst 1, 1) := dk_4 (dk_at dksX1_explore_2 11 rfl rfl)
theorem dX1_explore_60 : decode cX1_explore 60 = .ok (.iadd, 1) := dk_96 (dk_at dksX1_explore_2 12 rfl rfl)
theorem dX1_explore_61 : decode cX1_explore 61 = .ok (.putfield 368, 3) := dk_181 1 112 (dk_at dksX1_explore_2 13 rfl rfl)
theorem dX1_explore_64 : decode cX1_explore 64 = .ok (.iload_n 3, 1) := dk_29 (dk_at dksX1_explore_2 16 rfl rfl)
theorem dX1_explore_65 : decode cX1_explore 65 = .ok (.iload_n 2, 1) := dk_28 (dk_at dksX1_explore_2 17 rfl rfl)
theorem dX1_explore_66 : decode cX1_explore 66 = .ok (.if_icmp .eq 7, 3) := dk_159 0 7 (dk_at dksX1_explore_2 18 rfl rfl)
theorem dX1_explore_69 : decode cX1_explore 69 = .ok (.iconst 1, 1) := dk_4 (dk_at dksX1_explore_2 21 rfl rfl)
theorem dX1_explore_70 : decode cX1_explore 70 = .ok (.goto 4, 3) := dk_167 0 4 (dk_at dksX1_explore_3 0 rfl rfl)
theorem dX1_explore_73 : decode cX1_explore 73 = .ok (.iconst 0, 1) := dk_3 (dk_at dksX1_explore_3 3 rfl rfl)
theorem dX1_explore_74 : decode cX1_explore 74 = .ok (.istore 4, 2) := dk_54 4 (dk_at dksX1_explore_3 4 rfl rfl)
theorem dX1_explore_76 : decode cX1_explore 76 = .ok (.iload_n 3, 1) := dk_29 (dk_at dksX1_explore_3 6 rfl rfl)
theorem dX1_explore_77 : decode cX1_explore 77 = .ok (.iload_n 2, 1) := dk_28 (dk_at dksX1_explore_3 7 rfl rfl)
theorem dX1_explore_78 : decode cX1_explore 78 = .ok (.iconst (-1), 1) := dk_2 (dk_at dksX1_explore_3 8 rfl rfl)
theorem dX1_explore_79 : decode cX1_explore 79 = .ok (.ixor, 1) := dk_130 (dk_at dksX1_explore_3 9 rfl rfl)
theorem dX1_explore_80 : decode cX1_explore 80 = .ok (.ior, 1) := dk_128 (dk_at dksX1_explore_3 10 rfl rfl)
theorem dX1_explore_81 : decode cX1_explore 81 = .ok (.iconst 1, 1) := dk_4 (dk_at dksX1_explore_3 11 rfl rfl)
theorem dX1_explore_82 : decode cX1_explore 82 = .ok (.iadd, 1) := dk_96 (dk_at dksX1_explore_3 12 rfl rfl)
theorem dX1_explore_83 : decode cX1_explore 83 = .ok (.iload_n 2, 1) := dk_28 (dk_at dksX1_explore_3 13 rfl rfl)
theorem dX1_explore_84 : decode cX1_explore 84 = .ok (.iand, 1) := dk_126 (dk_at dksX1_explore_3 14 rfl rfl)
theorem dX1_explore_85 : decode cX1_explore 85 = .ok (.istore_n 3, 1) := dk_62 (dk_at dksX1_explore_3 15 rfl rfl)
theorem dX1_explore_86 : decode cX1_explore 86 = .ok (.goto (-64), 3) := dk_167 255 192 (dk_at dksX1_explore_3 16 rfl rfl)
theorem dX1_explore_89 : decode cX1_explore 89 = .ok (.return_, 1) := dk_177 (dk_at dksX1_explore_3 19 rfl rfl)
abbrev cX1_fits : ByteArray := prog_1_method_33_code
def yX1_fits : MethodName := ⟨RX1, "fits", "(LTwoHalves$Book;I)Z"⟩
def dkwX1_fits_1 : List UInt8 := [180, 1, 108, 29, 50, 180, 1, 106, 159, 0, 5, 3, 172, 132, 3, 1, 167, 255, 218, 4, 172]
abbrev dktX1_fits_1 : List UInt8 := dkwX1_fits_1 ++ []
def dkwX1_fits_0 : List UInt8 := [3, 62, 29, 43, 180, 1, 101, 162, 0, 36, 42, 43, 180, 1, 108, 29, 50, 28, 3, 3, 182, 1, 60, 43]
abbrev dktX1_fits_0 : List UInt8 := dkwX1_fits_0 ++ dktX1_fits_1
theorem dksX1_fits_0 : cX1_fits.data.toList.drop 0 = dktX1_fits_0 := by decide +kernel
theorem dksX1_fits_1 : cX1_fits.data.toList.drop 24 = dktX1_fits_1 := dk_seg dksX1_fits_0 24 rfl rfl
theorem dX1_fits_0 : decode cX1_fits 0 = .ok (.iconst 0, 1) := dk_3 (dk_at dksX1_fits_0 0 rfl rfl)
theorem dX1_fits_1 : decode cX1_fits 1 = .ok (.istore_n 3, 1) := dk_62 (dk_at dksX1_fits_0 1 rfl rfl)
theorem dX1_fits_2 : decode cX1_fits 2 = .ok (.iload_n 3, 1) := dk_29 (dk_at dksX1_fits_0 2 rfl rfl)
theorem dX1_fits_3 : decode cX1_fits 3 = .ok (.aload_n 1, 1) := dk_43 (dk_at dksX1_fits_0 3 rfl rfl)
theorem dX1_fits_4 : decode cX1_fits 4 = .ok (.getfield 357, 3) := dk_180 1 101 (dk_at dksX1_fits_0 4 rfl rfl)
theorem dX1_fits_7 : decode cX1_fits 7 = .ok (.if_icmp .ge 36, 3) := dk_162 0 36 (dk_at dksX1_fits_0 7 rfl rfl)
theorem dX1_fits_10 : decode cX1_fits 10 = .ok (.aload_n 0, 1) := dk_42 (dk_at dksX1_fits_0 10 rfl rfl)
theorem dX1_fits_11 : decode cX1_fits 11 = .ok (.aload_n 1, 1) := dk_43 (dk_at dksX1_fits_0 11 rfl rfl)
theorem dX1_fits_12 : decode cX1_fits 12 = .ok (.getfield 364, 3) := dk_180 1 108 (dk_at dksX1_fits_0 12 rfl rfl)
theorem dX1_fits_15 : decode cX1_fits 15 = .ok (.iload_n 3, 1) := dk_29 (dk_at dksX1_fits_0 15 rfl rfl)
theorem dX1_fits_16 : decode cX1_fits 16 = .ok (.aaload, 1) := dk_50 (dk_at dksX1_fits_0 16 rfl rfl)
theorem dX1_fits_17 : decode cX1_fits 17 = .ok (.iload_n 2, 1) := dk_28 (dk_at dksX1_fits_0 17 rfl rfl)
theorem dX1_fits_18 : decode cX1_fits 18 = .ok (.iconst 0, 1) := dk_3 (dk_at dksX1_fits_0 18 rfl rfl)
theorem dX1_fits_19 : decode cX1_fits 19 = .ok (.iconst 0, 1) := dk_3 (dk_at dksX1_fits_0 19 rfl rfl)
theorem dX1_fits_20 : decode cX1_fits 20 = .ok (.invokevirtual 316, 3) := dk_182 1 60 (dk_at dksX1_fits_0 20 rfl rfl)
theorem dX1_fits_23 : decode cX1_fits 23 = .ok (.aload_n 1, 1) := dk_43 (dk_at dksX1_fits_0 23 rfl rfl)
theorem dX1_fits_24 : decode cX1_fits 24 = .ok (.getfield 364, 3) := dk_180 1 108 (dk_at dksX1_fits_1 0 rfl rfl)
theorem dX1_fits_27 : decode cX1_fits 27 = .ok (.iload_n 3, 1) := dk_29 (dk_at dksX1_fits_1 3 rfl rfl)
theorem dX1_fits_28 : decode cX1_fits 28 = .ok (.aaload, 1) := dk_50 (dk_at dksX1_fits_1 4 rfl rfl)
theorem dX1_fits_29 : decode cX1_fits 29 = .ok (.getfield 362, 3) := dk_180 1 106 (dk_at dksX1_fits_1 5 rfl rfl)
theorem dX1_fits_32 : decode cX1_fits 32 = .ok (.if_icmp .eq 5, 3) := dk_159 0 5 (dk_at dksX1_fits_1 8 rfl rfl)
theorem dX1_fits_35 : decode cX1_fits 35 = .ok (.iconst 0, 1) := dk_3 (dk_at dksX1_fits_1 11 rfl rfl)
theorem dX1_fits_36 : decode cX1_fits 36 = .ok (.ireturn, 1) := dk_172 (dk_at dksX1_fits_1 12 rfl rfl)
theorem dX1_fits_37 : decode cX1_fits 37 = .ok (.iinc 3 1, 3) := dk_132 3 1 (dk_at dksX1_fits_1 13 rfl rfl)
theorem dX1_fits_40 : decode cX1_fits 40 = .ok (.goto (-38), 3) := dk_167 255 218 (dk_at dksX1_fits_1 16 rfl rfl)
theorem dX1_fits_43 : decode cX1_fits 43 = .ok (.iconst 1, 1) := dk_4 (dk_at dksX1_fits_1 19 rfl rfl)
theorem dX1_fits_44 : decode cX1_fits 44 = .ok (.ireturn, 1) := dk_172 (dk_at dksX1_fits_1 20 rfl rfl)
abbrev cX1_worldAt : ByteArray := prog_1_method_37_code
def yX1_worldAt : MethodName := ⟨RX1, "worldAt", "(I)I"⟩
def dkwX1_worldAt_1 : List UInt8 := [172]
abbrev dktX1_worldAt_1 : List UInt8 := dkwX1_worldAt_1 ++ []
def dkwX1_worldAt_0 : List UInt8 := [27, 3, 42, 180, 1, 125, 4, 100, 184, 0, 219, 153, 0, 12, 42, 180, 0, 144, 27, 46, 167, 0, 4, 2]
abbrev dktX1_worldAt_0 : List UInt8 := dkwX1_worldAt_0 ++ dktX1_worldAt_1
theorem dksX1_worldAt_0 : cX1_worldAt.data.toList.drop 0 = dktX1_worldAt_0 := by decide +kernel
theorem dksX1_worldAt_1 : cX1_worldAt.data.toList.drop 24 = dktX1_worldAt_1 := dk_seg dksX1_worldAt_0 24 rfl rfl
theorem dX1_worldAt_0 : decode cX1_worldAt 0 = .ok (.iload_n 1, 1) := dk_27 (dk_at dksX1_worldAt_0 0 rfl rfl)
theorem dX1_worldAt_1 : decode cX1_worldAt 1 = .ok (.iconst 0, 1) := dk_3 (dk_at dksX1_worldAt_0 1 rfl rfl)
theorem dX1_worldAt_2 : decode cX1_worldAt 2 = .ok (.aload_n 0, 1) := dk_42 (dk_at dksX1_worldAt_0 2 rfl rfl)
theorem dX1_worldAt_3 : decode cX1_worldAt 3 = .ok (.getfield 381, 3) := dk_180 1 125 (dk_at dksX1_worldAt_0 3 rfl rfl)
theorem dX1_worldAt_6 : decode cX1_worldAt 6 = .ok (.iconst 1, 1) := dk_4 (dk_at dksX1_worldAt_0 6 rfl rfl)
theorem dX1_worldAt_7 : decode cX1_worldAt 7 = .ok (.isub, 1) := dk_100 (dk_at dksX1_worldAt_0 7 rfl rfl)
theorem dX1_worldAt_8 : decode cX1_worldAt 8 = .ok (.invokestatic 219, 3) := dk_184 0 219 (dk_at dksX1_worldAt_0 8 rfl rfl)
theorem dX1_worldAt_11 : decode cX1_worldAt 11 = .ok (.ifCond .eq 12, 3) := dk_153 0 12 (dk_at dksX1_worldAt_0 11 rfl rfl)
theorem dX1_worldAt_14 : decode cX1_worldAt 14 = .ok (.aload_n 0, 1) := dk_42 (dk_at dksX1_worldAt_0 14 rfl rfl)
theorem dX1_worldAt_15 : decode cX1_worldAt 15 = .ok (.getfield 144, 3) := dk_180 0 144 (dk_at dksX1_worldAt_0 15 rfl rfl)
theorem dX1_worldAt_18 : decode cX1_worldAt 18 = .ok (.iload_n 1, 1) := dk_27 (dk_at dksX1_worldAt_0 18 rfl rfl)
theorem dX1_worldAt_19 : decode cX1_worldAt 19 = .ok (.iaload, 1) := dk_46 (dk_at dksX1_worldAt_0 19 rfl rfl)
theorem dX1_worldAt_20 : decode cX1_worldAt 20 = .ok (.goto 4, 3) := dk_167 0 4 (dk_at dksX1_worldAt_0 20 rfl rfl)
theorem dX1_worldAt_23 : decode cX1_worldAt 23 = .ok (.iconst (-1), 1) := dk_2 (dk_at dksX1_worldAt_0 23 rfl rfl)
theorem dX1_worldAt_24 : decode cX1_worldAt 24 = .ok (.ireturn, 1) := dk_172 (dk_at dksX1_worldAt_1 0 rfl rfl)
abbrev cX1_sure : ByteArray := prog_1_method_39_code
def yX1_sure : MethodName := ⟨RX1, "sure", "(II)I"⟩
def dkwX1_sure_1 : List UInt8 := [182, 1, 134, 172]
abbrev dktX1_sure_1 : List UInt8 := dkwX1_sure_1 ++ []
def dkwX1_sure_0 : List UInt8 := [27, 184, 1, 119, 153, 0, 11, 42, 28, 182, 0, 232, 154, 0, 5, 2, 172, 42, 27, 182, 1, 122, 42, 28]
abbrev dktX1_sure_0 : List UInt8 := dkwX1_sure_0 ++ dktX1_sure_1
theorem dksX1_sure_0 : cX1_sure.data.toList.drop 0 = dktX1_sure_0 := by decide +kernel
theorem dksX1_sure_1 : cX1_sure.data.toList.drop 24 = dktX1_sure_1 := dk_seg dksX1_sure_0 24 rfl rfl
theorem dX1_sure_0 : decode cX1_sure 0 = .ok (.iload_n 1, 1) := dk_27 (dk_at dksX1_sure_0 0 rfl rfl)
theorem dX1_sure_1 : decode cX1_sure 1 = .ok (.invokestatic 375, 3) := dk_184 1 119 (dk_at dksX1_sure_0 1 rfl rfl)
theorem dX1_sure_4 : decode cX1_sure 4 = .ok (.ifCond .eq 11, 3) := dk_153 0 11 (dk_at dksX1_sure_0 4 rfl rfl)
theorem dX1_sure_7 : decode cX1_sure 7 = .ok (.aload_n 0, 1) := dk_42 (dk_at dksX1_sure_0 7 rfl rfl)
theorem dX1_sure_8 : decode cX1_sure 8 = .ok (.iload_n 2, 1) := dk_28 (dk_at dksX1_sure_0 8 rfl rfl)
theorem dX1_sure_9 : decode cX1_sure 9 = .ok (.invokevirtual 232, 3) := dk_182 0 232 (dk_at dksX1_sure_0 9 rfl rfl)
theorem dX1_sure_12 : decode cX1_sure 12 = .ok (.ifCond .ne 5, 3) := dk_154 0 5 (dk_at dksX1_sure_0 12 rfl rfl)
theorem dX1_sure_15 : decode cX1_sure 15 = .ok (.iconst (-1), 1) := dk_2 (dk_at dksX1_sure_0 15 rfl rfl)
theorem dX1_sure_16 : decode cX1_sure 16 = .ok (.ireturn, 1) := dk_172 (dk_at dksX1_sure_0 16 rfl rfl)
theorem dX1_sure_17 : decode cX1_sure 17 = .ok (.aload_n 0, 1) := dk_42 (dk_at dksX1_sure_0 17 rfl rfl)
theorem dX1_sure_18 : decode cX1_sure 18 = .ok (.iload_n 1, 1) := dk_27 (dk_at dksX1_sure_0 18 rfl rfl)
theorem dX1_sure_19 : decode cX1_sure 19 = .ok (.invokevirtual 378, 3) := dk_182 1 122 (dk_at dksX1_sure_0 19 rfl rfl)
theorem dX1_sure_22 : decode cX1_sure 22 = .ok (.aload_n 0, 1) := dk_42 (dk_at dksX1_sure_0 22 rfl rfl)
theorem dX1_sure_23 : decode cX1_sure 23 = .ok (.iload_n 2, 1) := dk_28 (dk_at dksX1_sure_0 23 rfl rfl)
theorem dX1_sure_24 : decode cX1_sure 24 = .ok (.invokevirtual 390, 3) := dk_182 1 134 (dk_at dksX1_sure_1 0 rfl rfl)
theorem dX1_sure_27 : decode cX1_sure 27 = .ok (.ireturn, 1) := dk_172 (dk_at dksX1_sure_1 3 rfl rfl)
abbrev cX1_isWay : ByteArray := prog_1_method_13_code
def yX1_isWay : MethodName := ⟨RX1, "isWay", "(I)Z"⟩
def dkwX1_isWay_0 : List UInt8 := [27, 3, 42, 180, 0, 105, 180, 0, 202, 180, 0, 226, 4, 100, 184, 0, 219, 172]
abbrev dktX1_isWay_0 : List UInt8 := dkwX1_isWay_0 ++ []
theorem dksX1_isWay_0 : cX1_isWay.data.toList.drop 0 = dktX1_isWay_0 := by decide +kernel
theorem dX1_isWay_0 : decode cX1_isWay 0 = .ok (.iload_n 1, 1) := dk_27 (dk_at dksX1_isWay_0 0 rfl rfl)
theorem dX1_isWay_1 : decode cX1_isWay 1 = .ok (.iconst 0, 1) := dk_3 (dk_at dksX1_isWay_0 1 rfl rfl)
theorem dX1_isWay_2 : decode cX1_isWay 2 = .ok (.aload_n 0, 1) := dk_42 (dk_at dksX1_isWay_0 2 rfl rfl)
theorem dX1_isWay_3 : decode cX1_isWay 3 = .ok (.getfield 105, 3) := dk_180 0 105 (dk_at dksX1_isWay_0 3 rfl rfl)
theorem dX1_isWay_6 : decode cX1_isWay 6 = .ok (.getfield 202, 3) := dk_180 0 202 (dk_at dksX1_isWay_0 6 rfl rfl)
theorem dX1_isWay_9 : decode cX1_isWay 9 = .ok (.getfield 226, 3) := dk_180 0 226 (dk_at dksX1_isWay_0 9 rfl rfl)
theorem dX1_isWay_12 : decode cX1_isWay 12 = .ok (.iconst 1, 1) := dk_4 (dk_at dksX1_isWay_0 12 rfl rfl)
theorem dX1_isWay_13 : decode cX1_isWay 13 = .ok (.isub, 1) := dk_100 (dk_at dksX1_isWay_0 13 rfl rfl)
theorem dX1_isWay_14 : decode cX1_isWay 14 = .ok (.invokestatic 219, 3) := dk_184 0 219 (dk_at dksX1_isWay_0 14 rfl rfl)
theorem dX1_isWay_17 : decode cX1_isWay 17 = .ok (.ireturn, 1) := dk_172 (dk_at dksX1_isWay_0 17 rfl rfl)
abbrev cX1_sureOf : ByteArray := prog_1_method_38_code
def yX1_sureOf : MethodName := ⟨RX1, "sureOf", "(I)I"⟩
def dkwX1_sureOf_3 : List UInt8 := [167, 0, 12, 28, 154, 0, 7, 3, 167, 0, 4, 5, 172]
abbrev dktX1_sureOf_3 : List UInt8 := dkwX1_sureOf_3 ++ []
def dkwX1_sureOf_2 : List UInt8 := [27, 50, 180, 1, 5, 5, 159, 0, 7, 2, 167, 0, 24, 28, 42, 180, 1, 112, 160, 0, 7, 4]
abbrev dktX1_sureOf_2 : List UInt8 := dkwX1_sureOf_2 ++ dktX1_sureOf_3
def dkwX1_sureOf_1 : List UInt8 := [61, 132, 3, 1, 167, 255, 232, 42, 180, 1, 112, 153, 0, 22, 42, 180, 0, 105, 180, 0, 202, 180, 0, 240]
abbrev dktX1_sureOf_1 : List UInt8 := dkwX1_sureOf_1 ++ dktX1_sureOf_2
def dkwX1_sureOf_0 : List UInt8 := [3, 61, 3, 62, 29, 42, 180, 1, 112, 162, 0, 22, 28, 42, 180, 0, 141, 29, 46, 27, 122, 4, 126, 96]
abbrev dktX1_sureOf_0 : List UInt8 := dkwX1_sureOf_0 ++ dktX1_sureOf_1
theorem dksX1_sureOf_0 : cX1_sureOf.data.toList.drop 0 = dktX1_sureOf_0 := by decide +kernel
theorem dksX1_sureOf_1 : cX1_sureOf.data.toList.drop 24 = dktX1_sureOf_1 := dk_seg dksX1_sureOf_0 24 rfl rfl
theorem dksX1_sureOf_2 : cX1_sureOf.data.toList.drop 48 = dktX1_sureOf_2 := dk_seg dksX1_sureOf_1 24 rfl rfl
theorem dksX1_sureOf_3 : cX1_sureOf.data.toList.drop 70 = dktX1_sureOf_3 := dk_seg dksX1_sureOf_2 22 rfl rfl
theorem dX1_sureOf_0 : decode cX1_sureOf 0 = .ok (.iconst 0, 1) := dk_3 (dk_at dksX1_sureOf_0 0 rfl rfl)
theorem dX1_sureOf_1 : decode cX1_sureOf 1 = .ok (.istore_n 2, 1) := dk_61 (dk_at dksX1_sureOf_0 1 rfl rfl)
theorem dX1_sureOf_2 : decode cX1_sureOf 2 = .ok (.iconst 0, 1) := dk_3 (dk_at dksX1_sureOf_0 2 rfl rfl)
theorem dX1_sureOf_3 : decode cX1_sureOf 3 = .ok (.istore_n 3, 1) := dk_62 (dk_at dksX1_sureOf_0 3 rfl rfl)
theorem dX1_sureOf_4 : decode cX1_sureOf 4 = .ok (.iload_n 3, 1) := dk_29 (dk_at dksX1_sureOf_0 4 rfl rfl)
theorem dX1_sureOf_5 : decode cX1_sureOf 5 = .ok (.aload_n 0, 1) := dk_42 (dk_at dksX1_sureOf_0 5 rfl rfl)
theorem dX1_sureOf_6 : decode cX1_sureOf 6 = .ok (.getfield 368, 3) := dk_180 1 112 (dk_at dksX1_sureOf_0 6 rfl rfl)
theorem dX1_sureOf_9 : decode cX1_sureOf 9 = .ok (.if_icmp .ge 22, 3) := dk_162 0 22 (dk_at dksX1_sureOf_0 9 rfl rfl)
theorem dX1_sureOf_12 : decode cX1_sureOf 12 = .ok (.iload_n 2, 1) := dk_28 (dk_at dksX1_sureOf_0 12 rfl rfl)
theorem dX1_sureOf_13 : decode cX1_sureOf 13 = .ok (.aload_n 0, 1) := dk_42 (dk_at dksX1_sureOf_0 13 rfl rfl)
theorem dX1_sureOf_14 : decode cX1_sureOf 14 = .ok (.getfield 141, 3) := dk_180 0 141 (dk_at dksX1_sureOf_0 14 rfl rfl)
theorem dX1_sureOf_17 : decode cX1_sureOf 17 = .ok (.iload_n 3, 1) := dk_29 (dk_at dksX1_sureOf_0 17 rfl rfl)
theorem dX1_sureOf_18 : decode cX1_sureOf 18 = .ok (.iaload, 1) := dk_46 (dk_at dksX1_sureOf_0 18 rfl rfl)
theorem dX1_sureOf_19 : decode cX1_sureOf 19 = .ok (.iload_n 1, 1) := dk_27 (dk_at dksX1_sureOf_0 19 rfl rfl)
theorem dX1_sureOf_20 : decode cX1_sureOf 20 = .ok (.ishr, 1) := dk_122 (dk_at dksX1_sureOf_0 20 rfl rfl)
theorem dX1_sureOf_21 : decode cX1_sureOf 21 = .ok (.iconst 1, 1) := dk_4 (dk_at dksX1_sureOf_0 21 rfl rfl)
theorem dX1_sureOf_22 : decode cX1_sureOf 22 = .ok (.iand, 1) := dk_126 (dk_at dksX1_sureOf_0 22 rfl rfl)
theorem dX1_sureOf_23 : decode cX1_sureOf 23 = .ok (.iadd, 1) := dk_96 (dk_at dksX1_sureOf_0 23 rfl rfl)
theorem dX1_sureOf_24 : decode cX1_sureOf 24 = .ok (.istore_n 2, 1) := dk_61 (dk_at dksX1_sureOf_1 0 rfl rfl)
theorem dX1_sureOf_25 : decode cX1_sureOf 25 = .ok (.iinc 3 1, 3) := dk_132 3 1 (dk_at dksX1_sureOf_1 1 rfl rfl)
theorem dX1_sureOf_28 : decode cX1_sureOf 28 = .ok (.goto (-24), 3) := dk_167 255 232 (dk_at dksX1_sureOf_1 4 rfl rfl)
theorem dX1_sureOf_31 : decode cX1_sureOf 31 = .ok (.aload_n 0, 1) := dk_42 (dk_at dksX1_sureOf_1 7 rfl rfl)
theorem dX1_sureOf_32 : decode cX1_sureOf 32 = .ok (.getfield 368, 3) := dk_180 1 112 (dk_at dksX1_sureOf_1 8 rfl rfl)
theorem dX1_sureOf_35 : decode cX1_sureOf 35 = .ok (.ifCond .eq 22, 3) := dk_153 0 22 (dk_at dksX1_sureOf_1 11 rfl rfl)
theorem dX1_sureOf_38 : decode cX1_sureOf 38 = .ok (.aload_n 0, 1) := dk_42 (dk_at dksX1_sureOf_1 14 rfl rfl)
theorem dX1_sureOf_39 : decode cX1_sureOf 39 = .ok (.getfield 105, 3) := dk_180 0 105 (dk_at dksX1_sureOf_1 15 rfl rfl)
theorem dX1_sureOf_42 : decode cX1_sureOf 42 = .ok (.getfield 202, 3) := dk_180 0 202 (dk_at dksX1_sureOf_1 18 rfl rfl)
theorem dX1_sureOf_45 : decode cX1_sureOf 45 = .ok (.getfield 240, 3) := dk_180 0 240 (dk_at dksX1_sureOf_1 21 rfl rfl)
theorem dX1_sureOf_48 : decode cX1_sureOf 48 = .ok (.iload_n 1, 1) := dk_27 (dk_at dksX1_sureOf_2 0 rfl rfl)
theorem dX1_sureOf_49 : decode cX1_sureOf 49 = .ok (.aaload, 1) := dk_50 (dk_at dksX1_sureOf_2 1 rfl rfl)
theorem dX1_sureOf_50 : decode cX1_sureOf 50 = .ok (.getfield 261, 3) := dk_180 1 5 (dk_at dksX1_sureOf_2 2 rfl rfl)
theorem dX1_sureOf_53 : decode cX1_sureOf 53 = .ok (.iconst 2, 1) := dk_5 (dk_at dksX1_sureOf_2 5 rfl rfl)
theorem dX1_sureOf_54 : decode cX1_sureOf 54 = .ok (.if_icmp .eq 7, 3) := dk_159 0 7 (dk_at dksX1_sureOf_2 6 rfl rfl)
theorem dX1_sureOf_57 : decode cX1_sureOf 57 = .ok (.iconst (-1), 1) := dk_2 (dk_at dksX1_sureOf_2 9 rfl rfl)
theorem dX1_sureOf_58 : decode cX1_sureOf 58 = .ok (.goto 24, 3) := dk_167 0 24 (dk_at dksX1_sureOf_2 10 rfl rfl)
theorem dX1_sureOf_61 : decode cX1_sureOf 61 = .ok (.iload_n 2, 1) := dk_28 (dk_at dksX1_sureOf_2 13 rfl rfl)
theorem dX1_sureOf_62 : decode cX1_sureOf 62 = .ok (.aload_n 0, 1) := dk_42 (dk_at dksX1_sureOf_2 14 rfl rfl)
theorem dX1_sureOf_63 : decode cX1_sureOf 63 = .ok (.getfield 368, 3) := dk_180 1 112 (dk_at dksX1_sureOf_2 15 rfl rfl)
theorem dX1_sureOf_66 : decode cX1_sureOf 66 = .ok (.if_icmp .ne 7, 3) := dk_160 0 7 (dk_at dksX1_sureOf_2 18 rfl rfl)
theorem dX1_sureOf_69 : decode cX1_sureOf 69 = .ok (.iconst 1, 1) := dk_4 (dk_at dksX1_sureOf_2 21 rfl rfl)
theorem dX1_sureOf_70 : decode cX1_sureOf 70 = .ok (.goto 12, 3) := dk_167 0 12 (dk_at dksX1_sureOf_3 0 rfl rfl)
theorem dX1_sureOf_73 : decode cX1_sureOf 73 = .ok (.iload_n 2, 1) := dk_28 (dk_at dksX1_sureOf_3 3 rfl rfl)
theorem dX1_sureOf_74 : decode cX1_sureOf 74 = .ok (.ifCond .ne 7, 3) := dk_154 0 7 (dk_at dksX1_sureOf_3 4 rfl rfl)
theorem dX1_sureOf_77 : decode cX1_sureOf 77 = .ok (.iconst 0, 1) := dk_3 (dk_at dksX1_sureOf_3 7 rfl rfl)
theorem dX1_sureOf_78 : decode cX1_sureOf 78 = .ok (.goto 4, 3) := dk_167 0 4 (dk_at dksX1_sureOf_3 8 rfl rfl)
theorem dX1_sureOf_81 : decode cX1_sureOf 81 = .ok (.iconst 2, 1) := dk_5 (dk_at dksX1_sureOf_3 11 rfl rfl)
theorem dX1_sureOf_82 : decode cX1_sureOf 82 = .ok (.ireturn, 1) := dk_172 (dk_at dksX1_sureOf_3 12 rfl rfl)
abbrev cX1_probe : ByteArray := prog_1_method_40_code
def yX1_probe : MethodName := ⟨RX1, "probe", "(IIIII)I"⟩
def dkwX1_probe_3 : List UInt8 := [181, 1, 137, 42, 180, 0, 105, 180, 1, 137, 4, 100, 172]
abbrev dktX1_probe_3 : List UInt8 := dkwX1_probe_3 ++ []
def dkwX1_probe_2 : List UInt8 := [180, 1, 140, 42, 180, 0, 105, 180, 1, 137, 25, 6, 83, 42, 180, 0, 105, 89, 180, 1, 137, 4, 96]
abbrev dktX1_probe_2 : List UInt8 := dkwX1_probe_2 ++ dktX1_probe_3
def dkwX1_probe_1 : List UInt8 := [21, 4, 21, 5, 42, 180, 0, 180, 182, 1, 56, 58, 6, 25, 6, 199, 0, 5, 2, 172, 42, 180, 0, 105]
abbrev dktX1_probe_1 : List UInt8 := dkwX1_probe_1 ++ dktX1_probe_2
def dkwX1_probe_0 : List UInt8 := [42, 182, 0, 186, 42, 180, 0, 105, 180, 1, 137, 16, 16, 160, 0, 7, 1, 167, 0, 18, 42, 27, 28, 29]
abbrev dktX1_probe_0 : List UInt8 := dkwX1_probe_0 ++ dktX1_probe_1
theorem dksX1_probe_0 : cX1_probe.data.toList.drop 0 = dktX1_probe_0 := by decide +kernel
theorem dksX1_probe_1 : cX1_probe.data.toList.drop 24 = dktX1_probe_1 := dk_seg dksX1_probe_0 24 rfl rfl
theorem dksX1_probe_2 : cX1_probe.data.toList.drop 48 = dktX1_probe_2 := dk_seg dksX1_probe_1 24 rfl rfl
theorem dksX1_probe_3 : cX1_probe.data.toList.drop 71 = dktX1_probe_3 := dk_seg dksX1_probe_2 23 rfl rfl
theorem dX1_probe_0 : decode cX1_probe 0 = .ok (.aload_n 0, 1) := dk_42 (dk_at dksX1_probe_0 0 rfl rfl)
theorem dX1_probe_1 : decode cX1_probe 1 = .ok (.invokevirtual 186, 3) := dk_182 0 186 (dk_at dksX1_probe_0 1 rfl rfl)
theorem dX1_probe_4 : decode cX1_probe 4 = .ok (.aload_n 0, 1) := dk_42 (dk_at dksX1_probe_0 4 rfl rfl)
theorem dX1_probe_5 : decode cX1_probe 5 = .ok (.getfield 105, 3) := dk_180 0 105 (dk_at dksX1_probe_0 5 rfl rfl)
theorem dX1_probe_8 : decode cX1_probe 8 = .ok (.getfield 393, 3) := dk_180 1 137 (dk_at dksX1_probe_0 8 rfl rfl)
theorem dX1_probe_11 : decode cX1_probe 11 = .ok (.bipush 16, 2) := dk_16 16 (dk_at dksX1_probe_0 11 rfl rfl)
theorem dX1_probe_13 : decode cX1_probe 13 = .ok (.if_icmp .ne 7, 3) := dk_160 0 7 (dk_at dksX1_probe_0 13 rfl rfl)
theorem dX1_probe_16 : decode cX1_probe 16 = .ok (.aconst_null, 1) := dk_1 (dk_at dksX1_probe_0 16 rfl rfl)
theorem dX1_probe_17 : decode cX1_probe 17 = .ok (.goto 18, 3) := dk_167 0 18 (dk_at dksX1_probe_0 17 rfl rfl)
theorem dX1_probe_20 : decode cX1_probe 20 = .ok (.aload_n 0, 1) := dk_42 (dk_at dksX1_probe_0 20 rfl rfl)
theorem dX1_probe_21 : decode cX1_probe 21 = .ok (.iload_n 1, 1) := dk_27 (dk_at dksX1_probe_0 21 rfl rfl)
theorem dX1_probe_22 : decode cX1_probe 22 = .ok (.iload_n 2, 1) := dk_28 (dk_at dksX1_probe_0 22 rfl rfl)
theorem dX1_probe_23 : decode cX1_probe 23 = .ok (.iload_n 3, 1) := dk_29 (dk_at dksX1_probe_0 23 rfl rfl)
theorem dX1_probe_24 : decode cX1_probe 24 = .ok (.iload 4, 2) := dk_21 4 (dk_at dksX1_probe_1 0 rfl rfl)
theorem dX1_probe_26 : decode cX1_probe 26 = .ok (.iload 5, 2) := dk_21 5 (dk_at dksX1_probe_1 2 rfl rfl)
theorem dX1_probe_28 : decode cX1_probe 28 = .ok (.aload_n 0, 1) := dk_42 (dk_at dksX1_probe_1 4 rfl rfl)
theorem dX1_probe_29 : decode cX1_probe 29 = .ok (.getfield 180, 3) := dk_180 0 180 (dk_at dksX1_probe_1 5 rfl rfl)
theorem dX1_probe_32 : decode cX1_probe 32 = .ok (.invokevirtual 312, 3) := dk_182 1 56 (dk_at dksX1_probe_1 8 rfl rfl)
theorem dX1_probe_35 : decode cX1_probe 35 = .ok (.astore 6, 2) := dk_58 6 (dk_at dksX1_probe_1 11 rfl rfl)
theorem dX1_probe_37 : decode cX1_probe 37 = .ok (.aload 6, 2) := dk_25 6 (dk_at dksX1_probe_1 13 rfl rfl)
theorem dX1_probe_39 : decode cX1_probe 39 = .ok (.ifnonnull 5, 3) := dk_199 0 5 (dk_at dksX1_probe_1 15 rfl rfl)
theorem dX1_probe_42 : decode cX1_probe 42 = .ok (.iconst (-1), 1) := dk_2 (dk_at dksX1_probe_1 18 rfl rfl)
theorem dX1_probe_43 : decode cX1_probe 43 = .ok (.ireturn, 1) := dk_172 (dk_at dksX1_probe_1 19 rfl rfl)
theorem dX1_probe_44 : decode cX1_probe 44 = .ok (.aload_n 0, 1) := dk_42 (dk_at dksX1_probe_1 20 rfl rfl)
theorem dX1_probe_45 : decode cX1_probe 45 = .ok (.getfield 105, 3) := dk_180 0 105 (dk_at dksX1_probe_1 21 rfl rfl)
theorem dX1_probe_48 : decode cX1_probe 48 = .ok (.getfield 396, 3) := dk_180 1 140 (dk_at dksX1_probe_2 0 rfl rfl)
theorem dX1_probe_51 : decode cX1_probe 51 = .ok (.aload_n 0, 1) := dk_42 (dk_at dksX1_probe_2 3 rfl rfl)
theorem dX1_probe_52 : decode cX1_probe 52 = .ok (.getfield 105, 3) := dk_180 0 105 (dk_at dksX1_probe_2 4 rfl rfl)
theorem dX1_probe_55 : decode cX1_probe 55 = .ok (.getfield 393, 3) := dk_180 1 137 (dk_at dksX1_probe_2 7 rfl rfl)
theorem dX1_probe_58 : decode cX1_probe 58 = .ok (.aload 6, 2) := dk_25 6 (dk_at dksX1_probe_2 10 rfl rfl)
theorem dX1_probe_60 : decode cX1_probe 60 = .ok (.aastore, 1) := dk_83 (dk_at dksX1_probe_2 12 rfl rfl)
theorem dX1_probe_61 : decode cX1_probe 61 = .ok (.aload_n 0, 1) := dk_42 (dk_at dksX1_probe_2 13 rfl rfl)
theorem dX1_probe_62 : decode cX1_probe 62 = .ok (.getfield 105, 3) := dk_180 0 105 (dk_at dksX1_probe_2 14 rfl rfl)
theorem dX1_probe_65 : decode cX1_probe 65 = .ok (.dup, 1) := dk_89 (dk_at dksX1_probe_2 17 rfl rfl)
theorem dX1_probe_66 : decode cX1_probe 66 = .ok (.getfield 393, 3) := dk_180 1 137 (dk_at dksX1_probe_2 18 rfl rfl)
theorem dX1_probe_69 : decode cX1_probe 69 = .ok (.iconst 1, 1) := dk_4 (dk_at dksX1_probe_2 21 rfl rfl)
theorem dX1_probe_70 : decode cX1_probe 70 = .ok (.iadd, 1) := dk_96 (dk_at dksX1_probe_2 22 rfl rfl)
theorem dX1_probe_71 : decode cX1_probe 71 = .ok (.putfield 393, 3) := dk_181 1 137 (dk_at dksX1_probe_3 0 rfl rfl)
theorem dX1_probe_74 : decode cX1_probe 74 = .ok (.aload_n 0, 1) := dk_42 (dk_at dksX1_probe_3 3 rfl rfl)
theorem dX1_probe_75 : decode cX1_probe 75 = .ok (.getfield 105, 3) := dk_180 0 105 (dk_at dksX1_probe_3 4 rfl rfl)
theorem dX1_probe_78 : decode cX1_probe 78 = .ok (.getfield 393, 3) := dk_180 1 137 (dk_at dksX1_probe_3 7 rfl rfl)
theorem dX1_probe_81 : decode cX1_probe 81 = .ok (.iconst 1, 1) := dk_4 (dk_at dksX1_probe_3 10 rfl rfl)
theorem dX1_probe_82 : decode cX1_probe 82 = .ok (.isub, 1) := dk_100 (dk_at dksX1_probe_3 11 rfl rfl)
theorem dX1_probe_83 : decode cX1_probe 83 = .ok (.ireturn, 1) := dk_172 (dk_at dksX1_probe_3 12 rfl rfl)
abbrev cX1_parts : ByteArray := prog_1_method_42_code
def yX1_parts : MethodName := ⟨RX1, "parts", "(II)I"⟩
def dkwX1_parts_1 : List UInt8 := [2, 172, 42, 27, 182, 1, 122, 42, 28, 182, 1, 149, 172]
abbrev dktX1_parts_1 : List UInt8 := dkwX1_parts_1 ++ []
def dkwX1_parts_0 : List UInt8 := [27, 184, 1, 119, 153, 0, 20, 28, 3, 42, 180, 0, 105, 180, 1, 137, 4, 100, 184, 0, 219, 154, 0, 5]
abbrev dktX1_parts_0 : List UInt8 := dkwX1_parts_0 ++ dktX1_parts_1
theorem dksX1_parts_0 : cX1_parts.data.toList.drop 0 = dktX1_parts_0 := by decide +kernel
theorem dksX1_parts_1 : cX1_parts.data.toList.drop 24 = dktX1_parts_1 := dk_seg dksX1_parts_0 24 rfl rfl
theorem dX1_parts_0 : decode cX1_parts 0 = .ok (.iload_n 1, 1) := dk_27 (dk_at dksX1_parts_0 0 rfl rfl)
theorem dX1_parts_1 : decode cX1_parts 1 = .ok (.invokestatic 375, 3) := dk_184 1 119 (dk_at dksX1_parts_0 1 rfl rfl)
theorem dX1_parts_4 : decode cX1_parts 4 = .ok (.ifCond .eq 20, 3) := dk_153 0 20 (dk_at dksX1_parts_0 4 rfl rfl)
theorem dX1_parts_7 : decode cX1_parts 7 = .ok (.iload_n 2, 1) := dk_28 (dk_at dksX1_parts_0 7 rfl rfl)
theorem dX1_parts_8 : decode cX1_parts 8 = .ok (.iconst 0, 1) := dk_3 (dk_at dksX1_parts_0 8 rfl rfl)
theorem dX1_parts_9 : decode cX1_parts 9 = .ok (.aload_n 0, 1) := dk_42 (dk_at dksX1_parts_0 9 rfl rfl)
theorem dX1_parts_10 : decode cX1_parts 10 = .ok (.getfield 105, 3) := dk_180 0 105 (dk_at dksX1_parts_0 10 rfl rfl)
theorem dX1_parts_13 : decode cX1_parts 13 = .ok (.getfield 393, 3) := dk_180 1 137 (dk_at dksX1_parts_0 13 rfl rfl)
theorem dX1_parts_16 : decode cX1_parts 16 = .ok (.iconst 1, 1) := dk_4 (dk_at dksX1_parts_0 16 rfl rfl)
theorem dX1_parts_17 : decode cX1_parts 17 = .ok (.isub, 1) := dk_100 (dk_at dksX1_parts_0 17 rfl rfl)
theorem dX1_parts_18 : decode cX1_parts 18 = .ok (.invokestatic 219, 3) := dk_184 0 219 (dk_at dksX1_parts_0 18 rfl rfl)
theorem dX1_parts_21 : decode cX1_parts 21 = .ok (.ifCond .ne 5, 3) := dk_154 0 5 (dk_at dksX1_parts_0 21 rfl rfl)
theorem dX1_parts_24 : decode cX1_parts 24 = .ok (.iconst (-1), 1) := dk_2 (dk_at dksX1_parts_1 0 rfl rfl)
theorem dX1_parts_25 : decode cX1_parts 25 = .ok (.ireturn, 1) := dk_172 (dk_at dksX1_parts_1 1 rfl rfl)
theorem dX1_parts_26 : decode cX1_parts 26 = .ok (.aload_n 0, 1) := dk_42 (dk_at dksX1_parts_1 2 rfl rfl)
theorem dX1_parts_27 : decode cX1_parts 27 = .ok (.iload_n 1, 1) := dk_27 (dk_at dksX1_parts_1 3 rfl rfl)
theorem dX1_parts_28 : decode cX1_parts 28 = .ok (.invokevirtual 378, 3) := dk_182 1 122 (dk_at dksX1_parts_1 4 rfl rfl)
theorem dX1_parts_31 : decode cX1_parts 31 = .ok (.aload_n 0, 1) := dk_42 (dk_at dksX1_parts_1 7 rfl rfl)
theorem dX1_parts_32 : decode cX1_parts 32 = .ok (.iload_n 2, 1) := dk_28 (dk_at dksX1_parts_1 8 rfl rfl)
theorem dX1_parts_33 : decode cX1_parts 33 = .ok (.invokevirtual 405, 3) := dk_182 1 149 (dk_at dksX1_parts_1 9 rfl rfl)
theorem dX1_parts_36 : decode cX1_parts 36 = .ok (.ireturn, 1) := dk_172 (dk_at dksX1_parts_1 12 rfl rfl)
abbrev cX1_partsOf : ByteArray := prog_1_method_41_code
def yX1_partsOf : MethodName := ⟨RX1, "partsOf", "(I)I"⟩
def dkwX1_partsOf_3 : List UInt8 := [180, 0, 147, 21, 4, 46, 184, 1, 143, 61, 132, 3, 1, 167, 255, 197, 28, 172]
abbrev dktX1_partsOf_3 : List UInt8 := dkwX1_partsOf_3 ++ []
def dkwX1_partsOf_2 : List UInt8 := [46, 3, 3, 182, 1, 60, 4, 96, 54, 4, 42, 180, 0, 147, 21, 4, 92, 46, 4, 96, 79, 28, 42]
abbrev dktX1_partsOf_2 : List UInt8 := dkwX1_partsOf_2 ++ dktX1_partsOf_3
def dkwX1_partsOf_1 : List UInt8 := [62, 29, 42, 180, 1, 112, 162, 0, 57, 42, 42, 180, 0, 105, 180, 1, 140, 27, 50, 42, 180, 0, 141, 29]
abbrev dktX1_partsOf_1 : List UInt8 := dkwX1_partsOf_1 ++ dktX1_partsOf_2
def dkwX1_partsOf_0 : List UInt8 := [3, 61, 28, 16, 16, 163, 0, 16, 42, 180, 0, 147, 28, 3, 79, 132, 2, 1, 167, 255, 240, 3, 61, 3]
abbrev dktX1_partsOf_0 : List UInt8 := dkwX1_partsOf_0 ++ dktX1_partsOf_1
theorem dksX1_partsOf_0 : cX1_partsOf.data.toList.drop 0 = dktX1_partsOf_0 := by decide +kernel
theorem dksX1_partsOf_1 : cX1_partsOf.data.toList.drop 24 = dktX1_partsOf_1 := dk_seg dksX1_partsOf_0 24 rfl rfl
theorem dksX1_partsOf_2 : cX1_partsOf.data.toList.drop 48 = dktX1_partsOf_2 := dk_seg dksX1_partsOf_1 24 rfl rfl
theorem dksX1_partsOf_3 : cX1_partsOf.data.toList.drop 71 = dktX1_partsOf_3 := dk_seg dksX1_partsOf_2 23 rfl rfl
theorem dX1_partsOf_0 : decode cX1_partsOf 0 = .ok (.iconst 0, 1) := dk_3 (dk_at dksX1_partsOf_0 0 rfl rfl)
theorem dX1_partsOf_1 : decode cX1_partsOf 1 = .ok (.istore_n 2, 1) := dk_61 (dk_at dksX1_partsOf_0 1 rfl rfl)
theorem dX1_partsOf_2 : decode cX1_partsOf 2 = .ok (.iload_n 2, 1) := dk_28 (dk_at dksX1_partsOf_0 2 rfl rfl)
theorem dX1_partsOf_3 : decode cX1_partsOf 3 = .ok (.bipush 16, 2) := dk_16 16 (dk_at dksX1_partsOf_0 3 rfl rfl)
theorem dX1_partsOf_5 : decode cX1_partsOf 5 = .ok (.if_icmp .gt 16, 3) := dk_163 0 16 (dk_at dksX1_partsOf_0 5 rfl rfl)
theorem dX1_partsOf_8 : decode cX1_partsOf 8 = .ok (.aload_n 0, 1) := dk_42 (dk_at dksX1_partsOf_0 8 rfl rfl)
theorem dX1_partsOf_9 : decode cX1_partsOf 9 = .ok (.getfield 147, 3) := dk_180 0 147 (dk_at dksX1_partsOf_0 9 rfl rfl)
theorem dX1_partsOf_12 : decode cX1_partsOf 12 = .ok (.iload_n 2, 1) := dk_28 (dk_at dksX1_partsOf_0 12 rfl rfl)
theorem dX1_partsOf_13 : decode cX1_partsOf 13 = .ok (.iconst 0, 1) := dk_3 (dk_at dksX1_partsOf_0 13 rfl rfl)
theorem dX1_partsOf_14 : decode cX1_partsOf 14 = .ok (.iastore, 1) := dk_79 (dk_at dksX1_partsOf_0 14 rfl rfl)
theorem dX1_partsOf_15 : decode cX1_partsOf 15 = .ok (.iinc 2 1, 3) := dk_132 2 1 (dk_at dksX1_partsOf_0 15 rfl rfl)
theorem dX1_partsOf_18 : decode cX1_partsOf 18 = .ok (.goto (-16), 3) := dk_167 255 240 (dk_at dksX1_partsOf_0 18 rfl rfl)
theorem dX1_partsOf_21 : decode cX1_partsOf 21 = .ok (.iconst 0, 1) := dk_3 (dk_at dksX1_partsOf_0 21 rfl rfl)
theorem dX1_partsOf_22 : decode cX1_partsOf 22 = .ok (.istore_n 2, 1) := dk_61 (dk_at dksX1_partsOf_0 22 rfl rfl)
theorem dX1_partsOf_23 : decode cX1_partsOf 23 = .ok (.iconst 0, 1) := dk_3 (dk_at dksX1_partsOf_0 23 rfl rfl)
theorem dX1_partsOf_24 : decode cX1_partsOf 24 = .ok (.istore_n 3, 1) := dk_62 (dk_at dksX1_partsOf_1 0 rfl rfl)
theorem dX1_partsOf_25 : decode cX1_partsOf 25 = .ok (.iload_n 3, 1) := dk_29 (dk_at dksX1_partsOf_1 1 rfl rfl)
theorem dX1_partsOf_26 : decode cX1_partsOf 26 = .ok (.aload_n 0, 1) := dk_42 (dk_at dksX1_partsOf_1 2 rfl rfl)
theorem dX1_partsOf_27 : decode cX1_partsOf 27 = .ok (.getfield 368, 3) := dk_180 1 112 (dk_at dksX1_partsOf_1 3 rfl rfl)
theorem dX1_partsOf_30 : decode cX1_partsOf 30 = .ok (.if_icmp .ge 57, 3) := dk_162 0 57 (dk_at dksX1_partsOf_1 6 rfl rfl)
theorem dX1_partsOf_33 : decode cX1_partsOf 33 = .ok (.aload_n 0, 1) := dk_42 (dk_at dksX1_partsOf_1 9 rfl rfl)
theorem dX1_partsOf_34 : decode cX1_partsOf 34 = .ok (.aload_n 0, 1) := dk_42 (dk_at dksX1_partsOf_1 10 rfl rfl)
theorem dX1_partsOf_35 : decode cX1_partsOf 35 = .ok (.getfield 105, 3) := dk_180 0 105 (dk_at dksX1_partsOf_1 11 rfl rfl)
theorem dX1_partsOf_38 : decode cX1_partsOf 38 = .ok (.getfield 396, 3) := dk_180 1 140 (dk_at dksX1_partsOf_1 14 rfl rfl)
theorem dX1_partsOf_41 : decode cX1_partsOf 41 = .ok (.iload_n 1, 1) := dk_27 (dk_at dksX1_partsOf_1 17 rfl rfl)
theorem dX1_partsOf_42 : decode cX1_partsOf 42 = .ok (.aaload, 1) := dk_50 (dk_at dksX1_partsOf_1 18 rfl rfl)
theorem dX1_partsOf_43 : decode cX1_partsOf 43 = .ok (.aload_n 0, 1) := dk_42 (dk_at dksX1_partsOf_1 19 rfl rfl)
theorem dX1_partsOf_44 : decode cX1_partsOf 44 = .ok (.getfield 141, 3) := dk_180 0 141 (dk_at dksX1_partsOf_1 20 rfl rfl)
theorem dX1_partsOf_47 : decode cX1_partsOf 47 = .ok (.iload_n 3, 1) := dk_29 (dk_at dksX1_partsOf_1 23 rfl rfl)
theorem dX1_partsOf_48 : decode cX1_partsOf 48 = .ok (.iaload, 1) := dk_46 (dk_at dksX1_partsOf_2 0 rfl rfl)
theorem dX1_partsOf_49 : decode cX1_partsOf 49 = .ok (.iconst 0, 1) := dk_3 (dk_at dksX1_partsOf_2 1 rfl rfl)
theorem dX1_partsOf_50 : decode cX1_partsOf 50 = .ok (.iconst 0, 1) := dk_3 (dk_at dksX1_partsOf_2 2 rfl rfl)
theorem dX1_partsOf_51 : decode cX1_partsOf 51 = .ok (.invokevirtual 316, 3) := dk_182 1 60 (dk_at dksX1_partsOf_2 3 rfl rfl)
theorem dX1_partsOf_54 : decode cX1_partsOf 54 = .ok (.iconst 1, 1) := dk_4 (dk_at dksX1_partsOf_2 6 rfl rfl)
theorem dX1_partsOf_55 : decode cX1_partsOf 55 = .ok (.iadd, 1) := dk_96 (dk_at dksX1_partsOf_2 7 rfl rfl)
theorem dX1_partsOf_56 : decode cX1_partsOf 56 = .ok (.istore 4, 2) := dk_54 4 (dk_at dksX1_partsOf_2 8 rfl rfl)
theorem dX1_partsOf_58 : decode cX1_partsOf 58 = .ok (.aload_n 0, 1) := dk_42 (dk_at dksX1_partsOf_2 10 rfl rfl)
theorem dX1_partsOf_59 : decode cX1_partsOf 59 = .ok (.getfield 147, 3) := dk_180 0 147 (dk_at dksX1_partsOf_2 11 rfl rfl)
theorem dX1_partsOf_62 : decode cX1_partsOf 62 = .ok (.iload 4, 2) := dk_21 4 (dk_at dksX1_partsOf_2 14 rfl rfl)
theorem dX1_partsOf_64 : decode cX1_partsOf 64 = .ok (.dup2, 1) := dk_92 (dk_at dksX1_partsOf_2 16 rfl rfl)
theorem dX1_partsOf_65 : decode cX1_partsOf 65 = .ok (.iaload, 1) := dk_46 (dk_at dksX1_partsOf_2 17 rfl rfl)
theorem dX1_partsOf_66 : decode cX1_partsOf 66 = .ok (.iconst 1, 1) := dk_4 (dk_at dksX1_partsOf_2 18 rfl rfl)
theorem dX1_partsOf_67 : decode cX1_partsOf 67 = .ok (.iadd, 1) := dk_96 (dk_at dksX1_partsOf_2 19 rfl rfl)
theorem dX1_partsOf_68 : decode cX1_partsOf 68 = .ok (.iastore, 1) := dk_79 (dk_at dksX1_partsOf_2 20 rfl rfl)
theorem dX1_partsOf_69 : decode cX1_partsOf 69 = .ok (.iload_n 2, 1) := dk_28 (dk_at dksX1_partsOf_2 21 rfl rfl)
theorem dX1_partsOf_70 : decode cX1_partsOf 70 = .ok (.aload_n 0, 1) := dk_42 (dk_at dksX1_partsOf_2 22 rfl rfl)
theorem dX1_partsOf_71 : decode cX1_partsOf 71 = .ok (.getfield 147, 3) := dk_180 0 147 (dk_at dksX1_partsOf_3 0 rfl rfl)
theorem dX1_partsOf_74 : decode cX1_partsOf 74 = .ok (.iload 4, 2) := dk_21 4 (dk_at dksX1_partsOf_3 3 rfl rfl)
theorem dX1_partsOf_76 : decode cX1_partsOf 76 = .ok (.iaload, 1) := dk_46 (dk_at dksX1_partsOf_3 5 rfl rfl)
theorem dX1_partsOf_77 : decode cX1_partsOf 77 = .ok (.invokestatic 399, 3) := dk_184 1 143 (dk_at dksX1_partsOf_3 6 rfl rfl)
theorem dX1_partsOf_80 : decode cX1_partsOf 80 = .ok (.istore_n 2, 1) := dk_61 (dk_at dksX1_partsOf_3 9 rfl rfl)
theorem dX1_partsOf_81 : decode cX1_partsOf 81 = .ok (.iinc 3 1, 3) := dk_132 3 1 (dk_at dksX1_partsOf_3 10 rfl rfl)
theorem dX1_partsOf_84 : decode cX1_partsOf 84 = .ok (.goto (-59), 3) := dk_167 255 197 (dk_at dksX1_partsOf_3 13 rfl rfl)
theorem dX1_partsOf_87 : decode cX1_partsOf 87 = .ok (.iload_n 2, 1) := dk_28 (dk_at dksX1_partsOf_3 16 rfl rfl)
theorem dX1_partsOf_88 : decode cX1_partsOf 88 = .ok (.ireturn, 1) := dk_172 (dk_at dksX1_partsOf_3 17 rfl rfl)
abbrev cX1_best : ByteArray := prog_1_method_43_code
def yX1_best : MethodName := ⟨RX1, "best", "(I)I"⟩
def dkwX1_best_2 : List UInt8 := [182, 1, 149, 162, 0, 5, 29, 61, 132, 3, 1, 167, 255, 227, 28, 172]
abbrev dktX1_best_2 : List UInt8 := dkwX1_best_2 ++ []
def dkwX1_best_1 : List UInt8 := [3, 61, 4, 62, 29, 42, 180, 0, 105, 180, 1, 137, 162, 0, 24, 42, 29, 182, 1, 149, 42, 28]
abbrev dktX1_best_1 : List UInt8 := dkwX1_best_1 ++ dktX1_best_2
def dkwX1_best_0 : List UInt8 := [27, 184, 1, 119, 153, 0, 13, 42, 180, 0, 105, 180, 1, 137, 154, 0, 5, 2, 172, 42, 27, 182, 1, 122]
abbrev dktX1_best_0 : List UInt8 := dkwX1_best_0 ++ dktX1_best_1
theorem dksX1_best_0 : cX1_best.data.toList.drop 0 = dktX1_best_0 := by decide +kernel
theorem dksX1_best_1 : cX1_best.data.toList.drop 24 = dktX1_best_1 := dk_seg dksX1_best_0 24 rfl rfl
theorem dksX1_best_2 : cX1_best.data.toList.drop 46 = dktX1_best_2 := dk_seg dksX1_best_1 22 rfl rfl
theorem dX1_best_0 : decode cX1_best 0 = .ok (.iload_n 1, 1) := dk_27 (dk_at dksX1_best_0 0 rfl rfl)
theorem dX1_best_1 : decode cX1_best 1 = .ok (.invokestatic 375, 3) := dk_184 1 119 (dk_at dksX1_best_0 1 rfl rfl)
theorem dX1_best_4 : decode cX1_best 4 = .ok (.ifCond .eq 13, 3) := dk_153 0 13 (dk_at dksX1_best_0 4 rfl rfl)
theorem dX1_best_7 : decode cX1_best 7 = .ok (.aload_n 0, 1) := dk_42 (dk_at dksX1_best_0 7 rfl rfl)
theorem dX1_best_8 : decode cX1_best 8 = .ok (.getfield 105, 3) := dk_180 0 105 (dk_at dksX1_best_0 8 rfl rfl)
theorem dX1_best_11 : decode cX1_best 11 = .ok (.getfield 393, 3) := dk_180 1 137 (dk_at dksX1_best_0 11 rfl rfl)
theorem dX1_best_14 : decode cX1_best 14 = .ok (.ifCond .ne 5, 3) := dk_154 0 5 (dk_at dksX1_best_0 14 rfl rfl)
theorem dX1_best_17 : decode cX1_best 17 = .ok (.iconst (-1), 1) := dk_2 (dk_at dksX1_best_0 17 rfl rfl)
theorem dX1_best_18 : decode cX1_best 18 = .ok (.ireturn, 1) := dk_172 (dk_at dksX1_best_0 18 rfl rfl)
theorem dX1_best_19 : decode cX1_best 19 = .ok (.aload_n 0, 1) := dk_42 (dk_at dksX1_best_0 19 rfl rfl)
theorem dX1_best_20 : decode cX1_best 20 = .ok (.iload_n 1, 1) := dk_27 (dk_at dksX1_best_0 20 rfl rfl)
theorem dX1_best_21 : decode cX1_best 21 = .ok (.invokevirtual 378, 3) := dk_182 1 122 (dk_at dksX1_best_0 21 rfl rfl)
theorem dX1_best_24 : decode cX1_best 24 = .ok (.iconst 0, 1) := dk_3 (dk_at dksX1_best_1 0 rfl rfl)
theorem dX1_best_25 : decode cX1_best 25 = .ok (.istore_n 2, 1) := dk_61 (dk_at dksX1_best_1 1 rfl rfl)
theorem dX1_best_26 : decode cX1_best 26 = .ok (.iconst 1, 1) := dk_4 (dk_at dksX1_best_1 2 rfl rfl)
theorem dX1_best_27 : decode cX1_best 27 = .ok (.istore_n 3, 1) := dk_62 (dk_at dksX1_best_1 3 rfl rfl)
theorem dX1_best_28 : decode cX1_best 28 = .ok (.iload_n 3, 1) := dk_29 (dk_at dksX1_best_1 4 rfl rfl)
theorem dX1_best_29 : decode cX1_best 29 = .ok (.aload_n 0, 1) := dk_42 (dk_at dksX1_best_1 5 rfl rfl)
theorem dX1_best_30 : decode cX1_best 30 = .ok (.getfield 105, 3) := dk_180 0 105 (dk_at dksX1_best_1 6 rfl rfl)
theorem dX1_best_33 : decode cX1_best 33 = .ok (.getfield 393, 3) := dk_180 1 137 (dk_at dksX1_best_1 9 rfl rfl)
theorem dX1_best_36 : decode cX1_best 36 = .ok (.if_icmp .ge 24, 3) := dk_162 0 24 (dk_at dksX1_best_1 12 rfl rfl)
theorem dX1_best_39 : decode cX1_best 39 = .ok (.aload_n 0, 1) := dk_42 (dk_at dksX1_best_1 15 rfl rfl)
theorem dX1_best_40 : decode cX1_best 40 = .ok (.iload_n 3, 1) := dk_29 (dk_at dksX1_best_1 16 rfl rfl)
theorem dX1_best_41 : decode cX1_best 41 = .ok (.invokevirtual 405, 3) := dk_182 1 149 (dk_at dksX1_best_1 17 rfl rfl)
theorem dX1_best_44 : decode cX1_best 44 = .ok (.aload_n 0, 1) := dk_42 (dk_at dksX1_best_1 20 rfl rfl)
theorem dX1_best_45 : decode cX1_best 45 = .ok (.iload_n 2, 1) := dk_28 (dk_at dksX1_best_1 21 rfl rfl)
theorem dX1_best_46 : decode cX1_best 46 = .ok (.invokevirtual 405, 3) := dk_182 1 149 (dk_at dksX1_best_2 0 rfl rfl)
theorem dX1_best_49 : decode cX1_best 49 = .ok (.if_icmp .ge 5, 3) := dk_162 0 5 (dk_at dksX1_best_2 3 rfl rfl)
theorem dX1_best_52 : decode cX1_best 52 = .ok (.iload_n 3, 1) := dk_29 (dk_at dksX1_best_2 6 rfl rfl)
theorem dX1_best_53 : decode cX1_best 53 = .ok (.istore_n 2, 1) := dk_61 (dk_at dksX1_best_2 7 rfl rfl)
theorem dX1_best_54 : decode cX1_best 54 = .ok (.iinc 3 1, 3) := dk_132 3 1 (dk_at dksX1_best_2 8 rfl rfl)
theorem dX1_best_57 : decode cX1_best 57 = .ok (.goto (-29), 3) := dk_167 255 227 (dk_at dksX1_best_2 11 rfl rfl)
theorem dX1_best_60 : decode cX1_best 60 = .ok (.iload_n 2, 1) := dk_28 (dk_at dksX1_best_2 14 rfl rfl)
theorem dX1_best_61 : decode cX1_best 61 = .ok (.ireturn, 1) := dk_172 (dk_at dksX1_best_2 15 rfl rfl)
abbrev cX1_fewest : ByteArray := prog_1_method_44_code
def yX1_fewest : MethodName := ⟨RX1, "fewest", "(I)I"⟩
def dkwX1_fewest_8 : List UInt8 := [182, 1, 166, 153, 0, 6, 21, 4, 62, 132, 4, 1, 167, 255, 221, 29, 172]
abbrev dktX1_fewest_8 : List UInt8 := dkwX1_fewest_8 ++ []
def dkwX1_fewest_7 : List UInt8 := [21, 4, 4, 28, 120, 162, 0, 33, 21, 4, 184, 1, 161, 29, 184, 1, 161, 162, 0, 15, 42, 21, 4]
abbrev dktX1_fewest_7 : List UInt8 := dkwX1_fewest_7 ++ dktX1_fewest_8
def dkwX1_fewest_6 : List UInt8 := [182, 1, 158, 132, 4, 1, 167, 255, 236, 132, 3, 1, 167, 255, 219, 4, 28, 120, 4, 100, 62, 3, 54, 4]
abbrev dktX1_fewest_6 : List UInt8 := dkwX1_fewest_6 ++ dktX1_fewest_7
def dkwX1_fewest_5 : List UInt8 := [42, 180, 1, 112, 162, 0, 35, 3, 54, 4, 21, 4, 29, 162, 0, 20, 42, 42, 29, 21, 4, 182, 1, 155]
abbrev dktX1_fewest_5 : List UInt8 := dkwX1_fewest_5 ++ dktX1_fewest_6
def dkwX1_fewest_4 : List UInt8 := [162, 0, 16, 42, 180, 0, 154, 29, 3, 84, 132, 3, 1, 167, 255, 239, 42, 3, 181, 1, 152, 3, 62, 29]
abbrev dktX1_fewest_4 : List UInt8 := dkwX1_fewest_4 ++ dktX1_fewest_5
def dkwX1_fewest_3 : List UInt8 := [182, 1, 60, 145, 84, 132, 4, 1, 167, 255, 212, 132, 3, 1, 167, 255, 195, 3, 62, 29, 4, 28, 120]
abbrev dktX1_fewest_3 : List UInt8 := dkwX1_fewest_3 ++ dktX1_fewest_4
def dkwX1_fewest_2 : List UInt8 := [104, 21, 4, 96, 42, 42, 180, 0, 105, 180, 1, 140, 21, 4, 50, 42, 180, 0, 141, 29, 46, 3, 3]
abbrev dktX1_fewest_2 : List UInt8 := dkwX1_fewest_2 ++ dktX1_fewest_3
def dkwX1_fewest_1 : List UInt8 := [29, 42, 180, 1, 112, 162, 0, 59, 3, 54, 4, 21, 4, 28, 162, 0, 44, 42, 180, 0, 150, 16, 16, 29]
abbrev dktX1_fewest_1 : List UInt8 := dkwX1_fewest_1 ++ dktX1_fewest_2
def dkwX1_fewest_0 : List UInt8 := [27, 184, 1, 119, 154, 0, 5, 2, 172, 42, 27, 182, 1, 122, 42, 180, 0, 105, 180, 1, 137, 61, 3, 62]
abbrev dktX1_fewest_0 : List UInt8 := dkwX1_fewest_0 ++ dktX1_fewest_1
theorem dksX1_fewest_0 : cX1_fewest.data.toList.drop 0 = dktX1_fewest_0 := by decide +kernel
theorem dksX1_fewest_1 : cX1_fewest.data.toList.drop 24 = dktX1_fewest_1 := dk_seg dksX1_fewest_0 24 rfl rfl
theorem dksX1_fewest_2 : cX1_fewest.data.toList.drop 48 = dktX1_fewest_2 := dk_seg dksX1_fewest_1 24 rfl rfl
theorem dksX1_fewest_3 : cX1_fewest.data.toList.drop 71 = dktX1_fewest_3 := dk_seg dksX1_fewest_2 23 rfl rfl
theorem dksX1_fewest_4 : cX1_fewest.data.toList.drop 94 = dktX1_fewest_4 := dk_seg dksX1_fewest_3 23 rfl rfl
theorem dksX1_fewest_5 : cX1_fewest.data.toList.drop 118 = dktX1_fewest_5 := dk_seg dksX1_fewest_4 24 rfl rfl
theorem dksX1_fewest_6 : cX1_fewest.data.toList.drop 142 = dktX1_fewest_6 := dk_seg dksX1_fewest_5 24 rfl rfl
theorem dksX1_fewest_7 : cX1_fewest.data.toList.drop 166 = dktX1_fewest_7 := dk_seg dksX1_fewest_6 24 rfl rfl
theorem dksX1_fewest_8 : cX1_fewest.data.toList.drop 189 = dktX1_fewest_8 := dk_seg dksX1_fewest_7 23 rfl rfl
theorem dX1_fewest_0 : decode cX1_fewest 0 = .ok (.iload_n 1, 1) := dk_27 (dk_at dksX1_fewest_0 0 rfl rfl)
theorem dX1_fewest_1 : decode cX1_fewest 1 = .ok (.invokestatic 375, 3) := dk_184 1 119 (dk_at dksX1_fewest_0 1 rfl rfl)
theorem dX1_fewest_4 : decode cX1_fewest 4 = .ok (.ifCond .ne 5, 3) := dk_154 0 5 (dk_at dksX1_fewest_0 4 rfl rfl)
theorem dX1_fewest_7 : decode cX1_fewest 7 = .ok (.iconst (-1), 1) := dk_2 (dk_at dksX1_fewest_0 7 rfl rfl)
theorem dX1_fewest_8 : decode cX1_fewest 8 = .ok (.ireturn, 1) := dk_172 (dk_at dksX1_fewest_0 8 rfl rfl)
theorem dX1_fewest_9 : decode cX1_fewest 9 = .ok (.aload_n 0, 1) := dk_42 (dk_at dksX1_fewest_0 9 rfl rfl)
theorem dX1_fewest_10 : decode cX1_fewest 10 = .ok (.iload_n 1, 1) := dk_27 (dk_at dksX1_fewest_0 10 rfl rfl)
theorem dX1_fewest_11 : decode cX1_fewest 11 = .ok (.invokevirtual 378, 3) := dk_182 1 122 (dk_at dksX1_fewest_0 11 rfl rfl)
theorem dX1_fewest_14 : decode cX1_fewest 14 = .ok (.aload_n 0, 1) := dk_42 (dk_at dksX1_fewest_0 14 rfl rfl)
theorem dX1_fewest_15 : decode cX1_fewest 15 = .ok (.getfield 105, 3) := dk_180 0 105 (dk_at dksX1_fewest_0 15 rfl rfl)
theorem dX1_fewest_18 : decode cX1_fewest 18 = .ok (.getfield 393, 3) := dk_180 1 137 (dk_at dksX1_fewest_0 18 rfl rfl)
theorem dX1_fewest_21 : decode cX1_fewest 21 = .ok (.istore_n 2, 1) := dk_61 (dk_at dksX1_fewest_0 21 rfl rfl)
theorem dX1_fewest_22 : decode cX1_fewest 22 = .ok (.iconst 0, 1) := dk_3 (dk_at dksX1_fewest_0 22 rfl rfl)
theorem dX1_fewest_23 : decode cX1_fewest 23 = .ok (.istore_n 3, 1) := dk_62 (dk_at dksX1_fewest_0 23 rfl rfl)
theorem dX1_fewest_24 : decode cX1_fewest 24 = .ok (.iload_n 3, 1) := dk_29 (dk_at dksX1_fewest_1 0 rfl rfl)
theorem dX1_fewest_25 : decode cX1_fewest 25 = .ok (.aload_n 0, 1) := dk_42 (dk_at dksX1_fewest_1 1 rfl rfl)
theorem dX1_fewest_26 : decode cX1_fewest 26 = .ok (.getfield 368, 3) := dk_180 1 112 (dk_at dksX1_fewest_1 2 rfl rfl)
theorem dX1_fewest_29 : decode cX1_fewest 29 = .ok (.if_icmp .ge 59, 3) := dk_162 0 59 (dk_at dksX1_fewest_1 5 rfl rfl)
theorem dX1_fewest_32 : decode cX1_fewest 32 = .ok (.iconst 0, 1) := dk_3 (dk_at dksX1_fewest_1 8 rfl rfl)
theorem dX1_fewest_33 : decode cX1_fewest 33 = .ok (.istore 4, 2) := dk_54 4 (dk_at dksX1_fewest_1 9 rfl rfl)
theorem dX1_fewest_35 : decode cX1_fewest 35 = .ok (.iload 4, 2) := dk_21 4 (dk_at dksX1_fewest_1 11 rfl rfl)
theorem dX1_fewest_37 : decode cX1_fewest 37 = .ok (.iload_n 2, 1) := dk_28 (dk_at dksX1_fewest_1 13 rfl rfl)
theorem dX1_fewest_38 : decode cX1_fewest 38 = .ok (.if_icmp .ge 44, 3) := dk_162 0 44 (dk_at dksX1_fewest_1 14 rfl rfl)
theorem dX1_fewest_41 : decode cX1_fewest 41 = .ok (.aload_n 0, 1) := dk_42 (dk_at dksX1_fewest_1 17 rfl rfl)
theorem dX1_fewest_42 : decode cX1_fewest 42 = .ok (.getfield 150, 3) := dk_180 0 150 (dk_at dksX1_fewest_1 18 rfl rfl)
theorem dX1_fewest_45 : decode cX1_fewest 45 = .ok (.bipush 16, 2) := dk_16 16 (dk_at dksX1_fewest_1 21 rfl rfl)
theorem dX1_fewest_47 : decode cX1_fewest 47 = .ok (.iload_n 3, 1) := dk_29 (dk_at dksX1_fewest_1 23 rfl rfl)
theorem dX1_fewest_48 : decode cX1_fewest 48 = .ok (.imul, 1) := dk_104 (dk_at dksX1_fewest_2 0 rfl rfl)
theorem dX1_fewest_49 : decode cX1_fewest 49 = .ok (.iload 4, 2) := dk_21 4 (dk_at dksX1_fewest_2 1 rfl rfl)
theorem dX1_fewest_51 : decode cX1_fewest 51 = .ok (.iadd, 1) := dk_96 (dk_at dksX1_fewest_2 3 rfl rfl)
theorem dX1_fewest_52 : decode cX1_fewest 52 = .ok (.aload_n 0, 1) := dk_42 (dk_at dksX1_fewest_2 4 rfl rfl)
theorem dX1_fewest_53 : decode cX1_fewest 53 = .ok (.aload_n 0, 1) := dk_42 (dk_at dksX1_fewest_2 5 rfl rfl)
theorem dX1_fewest_54 : decode cX1_fewest 54 = .ok (.getfield 105, 3) := dk_180 0 105 (dk_at dksX1_fewest_2 6 rfl rfl)
theorem dX1_fewest_57 : decode cX1_fewest 57 = .ok (.getfield 396, 3) := dk_180 1 140 (dk_at dksX1_fewest_2 9 rfl rfl)
theorem dX1_fewest_60 : decode cX1_fewest 60 = .ok (.iload 4, 2) := dk_21 4 (dk_at dksX1_fewest_2 12 rfl rfl)
theorem dX1_fewest_62 : decode cX1_fewest 62 = .ok (.aaload, 1) := dk_50 (dk_at dksX1_fewest_2 14 rfl rfl)
theorem dX1_fewest_63 : decode cX1_fewest 63 = .ok (.aload_n 0, 1) := dk_42 (dk_at dksX1_fewest_2 15 rfl rfl)
theorem dX1_fewest_64 : decode cX1_fewest 64 = .ok (.getfield 141, 3) := dk_180 0 141 (dk_at dksX1_fewest_2 16 rfl rfl)
theorem dX1_fewest_67 : decode cX1_fewest 67 = .ok (.iload_n 3, 1) := dk_29 (dk_at dksX1_fewest_2 19 rfl rfl)
theorem dX1_fewest_68 : decode cX1_fewest 68 = .ok (.iaload, 1) := dk_46 (dk_at dksX1_fewest_2 20 rfl rfl)
theorem dX1_fewest_69 : decode cX1_fewest 69 = .ok (.iconst 0, 1) := dk_3 (dk_at dksX1_fewest_2 21 rfl rfl)
theorem dX1_fewest_70 : decode cX1_fewest 70 = .ok (.iconst 0, 1) := dk_3 (dk_at dksX1_fewest_2 22 rfl rfl)
theorem dX1_fewest_71 : decode cX1_fewest 71 = .ok (.invokevirtual 316, 3) := dk_182 1 60 (dk_at dksX1_fewest_3 0 rfl rfl)
theorem dX1_fewest_74 : decode cX1_fewest 74 = .ok (.i2b, 1) := dk_145 (dk_at dksX1_fewest_3 3 rfl rfl)
theorem dX1_fewest_75 : decode cX1_fewest 75 = .ok (.bastore, 1) := dk_84 (dk_at dksX1_fewest_3 4 rfl rfl)
theorem dX1_fewest_76 : decode cX1_fewest 76 = .ok (.iinc 4 1, 3) := dk_132 4 1 (dk_at dksX1_fewest_3 5 rfl rfl)
theorem dX1_fewest_79 : decode cX1_fewest 79 = .ok (.goto (-44), 3) := dk_167 255 212 (dk_at dksX1_fewest_3 8 rfl rfl)
theorem dX1_fewest_82 : decode cX1_fewest 82 = .ok (.iinc 3 1, 3) := dk_132 3 1 (dk_at dksX1_fewest_3 11 rfl rfl)
theorem dX1_fewest_85 : decode cX1_fewest 85 = .ok (.goto (-61), 3) := dk_167 255 195 (dk_at dksX1_fewest_3 14 rfl rfl)
theorem dX1_fewest_88 : decode cX1_fewest 88 = .ok (.iconst 0, 1) := dk_3 (dk_at dksX1_fewest_3 17 rfl rfl)
theorem dX1_fewest_89 : decode cX1_fewest 89 = .ok (.istore_n 3, 1) := dk_62 (dk_at dksX1_fewest_3 18 rfl rfl)
theorem dX1_fewest_90 : decode cX1_fewest 90 = .ok (.iload_n 3, 1) := dk_29 (dk_at dksX1_fewest_3 19 rfl rfl)
theorem dX1_fewest_91 : decode cX1_fewest 91 = .ok (.iconst 1, 1) := dk_4 (dk_at dksX1_fewest_3 20 rfl rfl)
theorem dX1_fewest_92 : decode cX1_fewest 92 = .ok (.iload_n 2, 1) := dk_28 (dk_at dksX1_fewest_3 21 rfl rfl)
theorem dX1_fewest_93 : decode cX1_fewest 93 = .ok (.ishl, 1) := dk_120 (dk_at dksX1_fewest_3 22 rfl rfl)
theorem dX1_fewest_94 : decode cX1_fewest 94 = .ok (.if_icmp .ge 16, 3) := dk_162 0 16 (dk_at dksX1_fewest_4 0 rfl rfl)
theorem dX1_fewest_97 : decode cX1_fewest 97 = .ok (.aload_n 0, 1) := dk_42 (dk_at dksX1_fewest_4 3 rfl rfl)
theorem dX1_fewest_98 : decode cX1_fewest 98 = .ok (.getfield 154, 3) := dk_180 0 154 (dk_at dksX1_fewest_4 4 rfl rfl)
theorem dX1_fewest_101 : decode cX1_fewest 101 = .ok (.iload_n 3, 1) := dk_29 (dk_at dksX1_fewest_4 7 rfl rfl)
theorem dX1_fewest_102 : decode cX1_fewest 102 = .ok (.iconst 0, 1) := dk_3 (dk_at dksX1_fewest_4 8 rfl rfl)
theorem dX1_fewest_103 : decode cX1_fewest 103 = .ok (.bastore, 1) := dk_84 (dk_at dksX1_fewest_4 9 rfl rfl)
theorem dX1_fewest_104 : decode cX1_fewest 104 = .ok (.iinc 3 1, 3) := dk_132 3 1 (dk_at dksX1_fewest_4 10 rfl rfl)
theorem dX1_fewest_107 : decode cX1_fewest 107 = .ok (.goto (-17), 3) := dk_167 255 239 (dk_at dksX1_fewest_4 13 rfl rfl)
theorem dX1_fewest_110 : decode cX1_fewest 110 = .ok (.aload_n 0, 1) := dk_42 (dk_at dksX1_fewest_4 16 rfl rfl)
theorem dX1_fewest_111 : decode cX1_fewest 111 = .ok (.iconst 0, 1) := dk_3 (dk_at dksX1_fewest_4 17 rfl rfl)
theorem dX1_fewest_112 : decode cX1_fewest 112 = .ok (.putfield 408, 3) := dk_181 1 152 (dk_at dksX1_fewest_4 18 rfl rfl)
theorem dX1_fewest_115 : decode cX1_fewest 115 = .ok (.iconst 0, 1) := dk_3 (dk_at dksX1_fewest_4 21 rfl rfl)
theorem dX1_fewest_116 : decode cX1_fewest 116 = .ok (.istore_n 3, 1) := dk_62 (dk_at dksX1_fewest_4 22 rfl rfl)
theorem dX1_fewest_117 : decode cX1_fewest 117 = .ok (.iload_n 3, 1) := dk_29 (dk_at dksX1_fewest_4 23 rfl rfl)
theorem dX1_fewest_118 : decode cX1_fewest 118 = .ok (.aload_n 0, 1) := dk_42 (dk_at dksX1_fewest_5 0 rfl rfl)
theorem dX1_fewest_119 : decode cX1_fewest 119 = .ok (.getfield 368, 3) := dk_180 1 112 (dk_at dksX1_fewest_5 1 rfl rfl)
theorem dX1_fewest_122 : decode cX1_fewest 122 = .ok (.if_icmp .ge 35, 3) := dk_162 0 35 (dk_at dksX1_fewest_5 4 rfl rfl)
theorem dX1_fewest_125 : decode cX1_fewest 125 = .ok (.iconst 0, 1) := dk_3 (dk_at dksX1_fewest_5 7 rfl rfl)
theorem dX1_fewest_126 : decode cX1_fewest 126 = .ok (.istore 4, 2) := dk_54 4 (dk_at dksX1_fewest_5 8 rfl rfl)
theorem dX1_fewest_128 : decode cX1_fewest 128 = .ok (.iload 4, 2) := dk_21 4 (dk_at dksX1_fewest_5 10 rfl rfl)
theorem dX1_fewest_130 : decode cX1_fewest 130 = .ok (.iload_n 3, 1) := dk_29 (dk_at dksX1_fewest_5 12 rfl rfl)
theorem dX1_fewest_131 : decode cX1_fewest 131 = .ok (.if_icmp .ge 20, 3) := dk_162 0 20 (dk_at dksX1_fewest_5 13 rfl rfl)
theorem dX1_fewest_134 : decode cX1_fewest 134 = .ok (.aload_n 0, 1) := dk_42 (dk_at dksX1_fewest_5 16 rfl rfl)
theorem dX1_fewest_135 : decode cX1_fewest 135 = .ok (.aload_n 0, 1) := dk_42 (dk_at dksX1_fewest_5 17 rfl rfl)
theorem dX1_fewest_136 : decode cX1_fewest 136 = .ok (.iload_n 3, 1) := dk_29 (dk_at dksX1_fewest_5 18 rfl rfl)
theorem dX1_fewest_137 : decode cX1_fewest 137 = .ok (.iload 4, 2) := dk_21 4 (dk_at dksX1_fewest_5 19 rfl rfl)
theorem dX1_fewest_139 : decode cX1_fewest 139 = .ok (.invokevirtual 411, 3) := dk_182 1 155 (dk_at dksX1_fewest_5 21 rfl rfl)
theorem dX1_fewest_142 : decode cX1_fewest 142 = .ok (.invokevirtual 414, 3) := dk_182 1 158 (dk_at dksX1_fewest_6 0 rfl rfl)
theorem dX1_fewest_145 : decode cX1_fewest 145 = .ok (.iinc 4 1, 3) := dk_132 4 1 (dk_at dksX1_fewest_6 3 rfl rfl)
theorem dX1_fewest_148 : decode cX1_fewest 148 = .ok (.goto (-20), 3) := dk_167 255 236 (dk_at dksX1_fewest_6 6 rfl rfl)
theorem dX1_fewest_151 : decode cX1_fewest 151 = .ok (.iinc 3 1, 3) := dk_132 3 1 (dk_at dksX1_fewest_6 9 rfl rfl)
theorem dX1_fewest_154 : decode cX1_fewest 154 = .ok (.goto (-37), 3) := dk_167 255 219 (dk_at dksX1_fewest_6 12 rfl rfl)
theorem dX1_fewest_157 : decode cX1_fewest 157 = .ok (.iconst 1, 1) := dk_4 (dk_at dksX1_fewest_6 15 rfl rfl)
theorem dX1_fewest_158 : decode cX1_fewest 158 = .ok (.iload_n 2, 1) := dk_28 (dk_at dksX1_fewest_6 16 rfl rfl)
theorem dX1_fewest_159 : decode cX1_fewest 159 = .ok (.ishl, 1) := dk_120 (dk_at dksX1_fewest_6 17 rfl rfl)
theorem dX1_fewest_160 : decode cX1_fewest 160 = .ok (.iconst 1, 1) := dk_4 (dk_at dksX1_fewest_6 18 rfl rfl)
theorem dX1_fewest_161 : decode cX1_fewest 161 = .ok (.isub, 1) := dk_100 (dk_at dksX1_fewest_6 19 rfl rfl)
theorem dX1_fewest_162 : decode cX1_fewest 162 = .ok (.istore_n 3, 1) := dk_62 (dk_at dksX1_fewest_6 20 rfl rfl)
theorem dX1_fewest_163 : decode cX1_fewest 163 = .ok (.iconst 0, 1) := dk_3 (dk_at dksX1_fewest_6 21 rfl rfl)
theorem dX1_fewest_164 : decode cX1_fewest 164 = .ok (.istore 4, 2) := dk_54 4 (dk_at dksX1_fewest_6 22 rfl rfl)
theorem dX1_fewest_166 : decode cX1_fewest 166 = .ok (.iload 4, 2) := dk_21 4 (dk_at dksX1_fewest_7 0 rfl rfl)
theorem dX1_fewest_168 : decode cX1_fewest 168 = .ok (.iconst 1, 1) := dk_4 (dk_at dksX1_fewest_7 2 rfl rfl)
theorem dX1_fewest_169 : decode cX1_fewest 169 = .ok (.iload_n 2, 1) := dk_28 (dk_at dksX1_fewest_7 3 rfl rfl)
theorem dX1_fewest_170 : decode cX1_fewest 170 = .ok (.ishl, 1) := dk_120 (dk_at dksX1_fewest_7 4 rfl rfl)
theorem dX1_fewest_171 : decode cX1_fewest 171 = .ok (.if_icmp .ge 33, 3) := dk_162 0 33 (dk_at dksX1_fewest_7 5 rfl rfl)
theorem dX1_fewest_174 : decode cX1_fewest 174 = .ok (.iload 4, 2) := dk_21 4 (dk_at dksX1_fewest_7 8 rfl rfl)
theorem dX1_fewest_176 : decode cX1_fewest 176 = .ok (.invokestatic 417, 3) := dk_184 1 161 (dk_at dksX1_fewest_7 10 rfl rfl)
theorem dX1_fewest_179 : decode cX1_fewest 179 = .ok (.iload_n 3, 1) := dk_29 (dk_at dksX1_fewest_7 13 rfl rfl)
theorem dX1_fewest_180 : decode cX1_fewest 180 = .ok (.invokestatic 417, 3) := dk_184 1 161 (dk_at dksX1_fewest_7 14 rfl rfl)
theorem dX1_fewest_183 : decode cX1_fewest 183 = .ok (.if_icmp .ge 15, 3) := dk_162 0 15 (dk_at dksX1_fewest_7 17 rfl rfl)
theorem dX1_fewest_186 : decode cX1_fewest 186 = .ok (.aload_n 0, 1) := dk_42 (dk_at dksX1_fewest_7 20 rfl rfl)
theorem dX1_fewest_187 : decode cX1_fewest 187 = .ok (.iload 4, 2) := dk_21 4 (dk_at dksX1_fewest_7 21 rfl rfl)
theorem dX1_fewest_189 : decode cX1_fewest 189 = .ok (.invokevirtual 422, 3) := dk_182 1 166 (dk_at dksX1_fewest_8 0 rfl rfl)
theorem dX1_fewest_192 : decode cX1_fewest 192 = .ok (.ifCond .eq 6, 3) := dk_153 0 6 (dk_at dksX1_fewest_8 3 rfl rfl)
theorem dX1_fewest_195 : decode cX1_fewest 195 = .ok (.iload 4, 2) := dk_21 4 (dk_at dksX1_fewest_8 6 rfl rfl)
theorem dX1_fewest_197 : decode cX1_fewest 197 = .ok (.istore_n 3, 1) := dk_62 (dk_at dksX1_fewest_8 8 rfl rfl)
theorem dX1_fewest_198 : decode cX1_fewest 198 = .ok (.iinc 4 1, 3) := dk_132 4 1 (dk_at dksX1_fewest_8 9 rfl rfl)
theorem dX1_fewest_201 : decode cX1_fewest 201 = .ok (.goto (-35), 3) := dk_167 255 221 (dk_at dksX1_fewest_8 12 rfl rfl)
theorem dX1_fewest_204 : decode cX1_fewest 204 = .ok (.iload_n 3, 1) := dk_29 (dk_at dksX1_fewest_8 15 rfl rfl)
theorem dX1_fewest_205 : decode cX1_fewest 205 = .ok (.ireturn, 1) := dk_172 (dk_at dksX1_fewest_8 16 rfl rfl)
abbrev cX1_parting : ByteArray := prog_1_method_45_code
def yX1_parting : MethodName := ⟨RX1, "parting", "(II)I"⟩
def dkwX1_parting_2 : List UInt8 := [120, 167, 0, 4, 3, 128, 62, 132, 4, 1, 167, 255, 203, 29, 172]
abbrev dktX1_parting_2 : List UInt8 := dkwX1_parting_2 ++ []
def dkwX1_parting_1 : List UInt8 := [27, 104, 21, 4, 96, 51, 42, 180, 0, 150, 16, 16, 28, 104, 21, 4, 96, 51, 159, 0, 10, 4, 21, 4]
abbrev dktX1_parting_1 : List UInt8 := dkwX1_parting_1 ++ dktX1_parting_2
def dkwX1_parting_0 : List UInt8 := [3, 62, 3, 54, 4, 21, 4, 42, 180, 0, 105, 180, 1, 137, 162, 0, 47, 29, 42, 180, 0, 150, 16, 16]
abbrev dktX1_parting_0 : List UInt8 := dkwX1_parting_0 ++ dktX1_parting_1
theorem dksX1_parting_0 : cX1_parting.data.toList.drop 0 = dktX1_parting_0 := by decide +kernel
theorem dksX1_parting_1 : cX1_parting.data.toList.drop 24 = dktX1_parting_1 := dk_seg dksX1_parting_0 24 rfl rfl
theorem dksX1_parting_2 : cX1_parting.data.toList.drop 48 = dktX1_parting_2 := dk_seg dksX1_parting_1 24 rfl rfl
theorem dX1_parting_0 : decode cX1_parting 0 = .ok (.iconst 0, 1) := dk_3 (dk_at dksX1_parting_0 0 rfl rfl)
theorem dX1_parting_1 : decode cX1_parting 1 = .ok (.istore_n 3, 1) := dk_62 (dk_at dksX1_parting_0 1 rfl rfl)
theorem dX1_parting_2 : decode cX1_parting 2 = .ok (.iconst 0, 1) := dk_3 (dk_at dksX1_parting_0 2 rfl rfl)
theorem dX1_parting_3 : decode cX1_parting 3 = .ok (.istore 4, 2) := dk_54 4 (dk_at dksX1_parting_0 3 rfl rfl)
theorem dX1_parting_5 : decode cX1_parting 5 = .ok (.iload 4, 2) := dk_21 4 (dk_at dksX1_parting_0 5 rfl rfl)
theorem dX1_parting_7 : decode cX1_parting 7 = .ok (.aload_n 0, 1) := dk_42 (dk_at dksX1_parting_0 7 rfl rfl)
theorem dX1_parting_8 : decode cX1_parting 8 = .ok (.getfield 105, 3) := dk_180 0 105 (dk_at dksX1_parting_0 8 rfl rfl)
theorem dX1_parting_11 : decode cX1_parting 11 = .ok (.getfield 393, 3) := dk_180 1 137 (dk_at dksX1_parting_0 11 rfl rfl)
theorem dX1_parting_14 : decode cX1_parting 14 = .ok (.if_icmp .ge 47, 3) := dk_162 0 47 (dk_at dksX1_parting_0 14 rfl rfl)
theorem dX1_parting_17 : decode cX1_parting 17 = .ok (.iload_n 3, 1) := dk_29 (dk_at dksX1_parting_0 17 rfl rfl)
theorem dX1_parting_18 : decode cX1_parting 18 = .ok (.aload_n 0, 1) := dk_42 (dk_at dksX1_parting_0 18 rfl rfl)
theorem dX1_parting_19 : decode cX1_parting 19 = .ok (.getfield 150, 3) := dk_180 0 150 (dk_at dksX1_parting_0 19 rfl rfl)
theorem dX1_parting_22 : decode cX1_parting 22 = .ok (.bipush 16, 2) := dk_16 16 (dk_at dksX1_parting_0 22 rfl rfl)
theorem dX1_parting_24 : decode cX1_parting 24 = .ok (.iload_n 1, 1) := dk_27 (dk_at dksX1_parting_1 0 rfl rfl)
theorem dX1_parting_25 : decode cX1_parting 25 = .ok (.imul, 1) := dk_104 (dk_at dksX1_parting_1 1 rfl rfl)
theorem dX1_parting_26 : decode cX1_parting 26 = .ok (.iload 4, 2) := dk_21 4 (dk_at dksX1_parting_1 2 rfl rfl)
theorem dX1_parting_28 : decode cX1_parting 28 = .ok (.iadd, 1) := dk_96 (dk_at dksX1_parting_1 4 rfl rfl)
theorem dX1_parting_29 : decode cX1_parting 29 = .ok (.baload, 1) := dk_51 (dk_at dksX1_parting_1 5 rfl rfl)
theorem dX1_parting_30 : decode cX1_parting 30 = .ok (.aload_n 0, 1) := dk_42 (dk_at dksX1_parting_1 6 rfl rfl)
theorem dX1_parting_31 : decode cX1_parting 31 = .ok (.getfield 150, 3) := dk_180 0 150 (dk_at dksX1_parting_1 7 rfl rfl)
theorem dX1_parting_34 : decode cX1_parting 34 = .ok (.bipush 16, 2) := dk_16 16 (dk_at dksX1_parting_1 10 rfl rfl)
theorem dX1_parting_36 : decode cX1_parting 36 = .ok (.iload_n 2, 1) := dk_28 (dk_at dksX1_parting_1 12 rfl rfl)
theorem dX1_parting_37 : decode cX1_parting 37 = .ok (.imul, 1) := dk_104 (dk_at dksX1_parting_1 13 rfl rfl)
theorem dX1_parting_38 : decode cX1_parting 38 = .ok (.iload 4, 2) := dk_21 4 (dk_at dksX1_parting_1 14 rfl rfl)
theorem dX1_parting_40 : decode cX1_parting 40 = .ok (.iadd, 1) := dk_96 (dk_at dksX1_parting_1 16 rfl rfl)
theorem dX1_parting_41 : decode cX1_parting 41 = .ok (.baload, 1) := dk_51 (dk_at dksX1_parting_1 17 rfl rfl)
theorem dX1_parting_42 : decode cX1_parting 42 = .ok (.if_icmp .eq 10, 3) := dk_159 0 10 (dk_at dksX1_parting_1 18 rfl rfl)
theorem dX1_parting_45 : decode cX1_parting 45 = .ok (.iconst 1, 1) := dk_4 (dk_at dksX1_parting_1 21 rfl rfl)
theorem dX1_parting_46 : decode cX1_parting 46 = .ok (.iload 4, 2) := dk_21 4 (dk_at dksX1_parting_1 22 rfl rfl)
theorem dX1_parting_48 : decode cX1_parting 48 = .ok (.ishl, 1) := dk_120 (dk_at dksX1_parting_2 0 rfl rfl)
theorem dX1_parting_49 : decode cX1_parting 49 = .ok (.goto 4, 3) := dk_167 0 4 (dk_at dksX1_parting_2 1 rfl rfl)
theorem dX1_parting_52 : decode cX1_parting 52 = .ok (.iconst 0, 1) := dk_3 (dk_at dksX1_parting_2 4 rfl rfl)
theorem dX1_parting_53 : decode cX1_parting 53 = .ok (.ior, 1) := dk_128 (dk_at dksX1_parting_2 5 rfl rfl)
theorem dX1_parting_54 : decode cX1_parting 54 = .ok (.istore_n 3, 1) := dk_62 (dk_at dksX1_parting_2 6 rfl rfl)
theorem dX1_parting_55 : decode cX1_parting 55 = .ok (.iinc 4 1, 3) := dk_132 4 1 (dk_at dksX1_parting_2 7 rfl rfl)
theorem dX1_parting_58 : decode cX1_parting 58 = .ok (.goto (-53), 3) := dk_167 255 203 (dk_at dksX1_parting_2 10 rfl rfl)
theorem dX1_parting_61 : decode cX1_parting 61 = .ok (.iload_n 3, 1) := dk_29 (dk_at dksX1_parting_2 13 rfl rfl)
theorem dX1_parting_62 : decode cX1_parting 62 = .ok (.ireturn, 1) := dk_172 (dk_at dksX1_parting_2 14 rfl rfl)
abbrev cX1_need : ByteArray := prog_1_method_46_code
def yX1_need : MethodName := ⟨RX1, "need", "(I)V"⟩
def dkwX1_need_1 : List UInt8 := [180, 0, 158, 42, 180, 1, 152, 27, 79, 42, 89, 180, 1, 152, 4, 96, 181, 1, 152, 177]
abbrev dktX1_need_1 : List UInt8 := dkwX1_need_1 ++ []
def dkwX1_need_0 : List UInt8 := [27, 153, 0, 12, 42, 180, 0, 154, 27, 51, 153, 0, 4, 177, 42, 180, 0, 154, 27, 4, 84, 42]
abbrev dktX1_need_0 : List UInt8 := dkwX1_need_0 ++ dktX1_need_1
theorem dksX1_need_0 : cX1_need.data.toList.drop 0 = dktX1_need_0 := by decide +kernel
theorem dksX1_need_1 : cX1_need.data.toList.drop 22 = dktX1_need_1 := dk_seg dksX1_need_0 22 rfl rfl
theorem dX1_need_0 : decode cX1_need 0 = .ok (.iload_n 1, 1) := dk_27 (dk_at dksX1_need_0 0 rfl rfl)
theorem dX1_need_1 : decode cX1_need 1 = .ok (.ifCond .eq 12, 3) := dk_153 0 12 (dk_at dksX1_need_0 1 rfl rfl)
theorem dX1_need_4 : decode cX1_need 4 = .ok (.aload_n 0, 1) := dk_42 (dk_at dksX1_need_0 4 rfl rfl)
theorem dX1_need_5 : decode cX1_need 5 = .ok (.getfield 154, 3) := dk_180 0 154 (dk_at dksX1_need_0 5 rfl rfl)
theorem dX1_need_8 : decode cX1_need 8 = .ok (.iload_n 1, 1) := dk_27 (dk_at dksX1_need_0 8 rfl rfl)
theorem dX1_need_9 : decode cX1_need 9 = .ok (.baload, 1) := dk_51 (dk_at dksX1_need_0 9 rfl rfl)
theorem dX1_need_10 : decode cX1_need 10 = .ok (.ifCond .eq 4, 3) := dk_153 0 4 (dk_at dksX1_need_0 10 rfl rfl)
theorem dX1_need_13 : decode cX1_need 13 = .ok (.return_, 1) := dk_177 (dk_at dksX1_need_0 13 rfl rfl)
theorem dX1_need_14 : decode cX1_need 14 = .ok (.aload_n 0, 1) := dk_42 (dk_at dksX1_need_0 14 rfl rfl)
theorem dX1_need_15 : decode cX1_need 15 = .ok (.getfield 154, 3) := dk_180 0 154 (dk_at dksX1_need_0 15 rfl rfl)
theorem dX1_need_18 : decode cX1_need 18 = .ok (.iload_n 1, 1) := dk_27 (dk_at dksX1_need_0 18 rfl rfl)
theorem dX1_need_19 : decode cX1_need 19 = .ok (.iconst 1, 1) := dk_4 (dk_at dksX1_need_0 19 rfl rfl)
theorem dX1_need_20 : decode cX1_need 20 = .ok (.bastore, 1) := dk_84 (dk_at dksX1_need_0 20 rfl rfl)
theorem dX1_need_21 : decode cX1_need 21 = .ok (.aload_n 0, 1) := dk_42 (dk_at dksX1_need_0 21 rfl rfl)
theorem dX1_need_22 : decode cX1_need 22 = .ok (.getfield 158, 3) := dk_180 0 158 (dk_at dksX1_need_1 0 rfl rfl)
theorem dX1_need_25 : decode cX1_need 25 = .ok (.aload_n 0, 1) := dk_42 (dk_at dksX1_need_1 3 rfl rfl)
theorem dX1_need_26 : decode cX1_need 26 = .ok (.getfield 408, 3) := dk_180 1 152 (dk_at dksX1_need_1 4 rfl rfl)
theorem dX1_need_29 : decode cX1_need 29 = .ok (.iload_n 1, 1) := dk_27 (dk_at dksX1_need_1 7 rfl rfl)
theorem dX1_need_30 : decode cX1_need 30 = .ok (.iastore, 1) := dk_79 (dk_at dksX1_need_1 8 rfl rfl)
theorem dX1_need_31 : decode cX1_need 31 = .ok (.aload_n 0, 1) := dk_42 (dk_at dksX1_need_1 9 rfl rfl)
theorem dX1_need_32 : decode cX1_need 32 = .ok (.dup, 1) := dk_89 (dk_at dksX1_need_1 10 rfl rfl)
theorem dX1_need_33 : decode cX1_need 33 = .ok (.getfield 408, 3) := dk_180 1 152 (dk_at dksX1_need_1 11 rfl rfl)
theorem dX1_need_36 : decode cX1_need 36 = .ok (.iconst 1, 1) := dk_4 (dk_at dksX1_need_1 14 rfl rfl)
theorem dX1_need_37 : decode cX1_need 37 = .ok (.iadd, 1) := dk_96 (dk_at dksX1_need_1 15 rfl rfl)
theorem dX1_need_38 : decode cX1_need 38 = .ok (.putfield 408, 3) := dk_181 1 152 (dk_at dksX1_need_1 16 rfl rfl)
theorem dX1_need_41 : decode cX1_need 41 = .ok (.return_, 1) := dk_177 (dk_at dksX1_need_1 19 rfl rfl)
abbrev cX1_partsAll : ByteArray := prog_1_method_47_code
def yX1_partsAll : MethodName := ⟨RX1, "partsAll", "(I)Z"⟩
def dkwX1_partsAll_1 : List UInt8 := [132, 2, 1, 167, 255, 232, 4, 172]
abbrev dktX1_partsAll_1 : List UInt8 := dkwX1_partsAll_1 ++ []
def dkwX1_partsAll_0 : List UInt8 := [3, 61, 28, 42, 180, 1, 152, 162, 0, 22, 42, 180, 0, 158, 28, 46, 27, 126, 154, 0, 5, 3, 172]
abbrev dktX1_partsAll_0 : List UInt8 := dkwX1_partsAll_0 ++ dktX1_partsAll_1
theorem dksX1_partsAll_0 : cX1_partsAll.data.toList.drop 0 = dktX1_partsAll_0 := by decide +kernel
theorem dksX1_partsAll_1 : cX1_partsAll.data.toList.drop 23 = dktX1_partsAll_1 := dk_seg dksX1_partsAll_0 23 rfl rfl
theorem dX1_partsAll_0 : decode cX1_partsAll 0 = .ok (.iconst 0, 1) := dk_3 (dk_at dksX1_partsAll_0 0 rfl rfl)
theorem dX1_partsAll_1 : decode cX1_partsAll 1 = .ok (.istore_n 2, 1) := dk_61 (dk_at dksX1_partsAll_0 1 rfl rfl)
theorem dX1_partsAll_2 : decode cX1_partsAll 2 = .ok (.iload_n 2, 1) := dk_28 (dk_at dksX1_partsAll_0 2 rfl rfl)
theorem dX1_partsAll_3 : decode cX1_partsAll 3 = .ok (.aload_n 0, 1) := dk_42 (dk_at dksX1_partsAll_0 3 rfl rfl)
theorem dX1_partsAll_4 : decode cX1_partsAll 4 = .ok (.getfield 408, 3) := dk_180 1 152 (dk_at dksX1_partsAll_0 4 rfl rfl)
theorem dX1_partsAll_7 : decode cX1_partsAll 7 = .ok (.if_icmp .ge 22, 3) := dk_162 0 22 (dk_at dksX1_partsAll_0 7 rfl rfl)
theorem dX1_partsAll_10 : decode cX1_partsAll 10 = .ok (.aload_n 0, 1) := dk_42 (dk_at dksX1_partsAll_0 10 rfl rfl)
theorem dX1_partsAll_11 : decode cX1_partsAll 11 = .ok (.getfield 158, 3) := dk_180 0 158 (dk_at dksX1_partsAll_0 11 rfl rfl)
theorem dX1_partsAll_14 : decode cX1_partsAll 14 = .ok (.iload_n 2, 1) := dk_28 (dk_at dksX1_partsAll_0 14 rfl rfl)
theorem dX1_partsAll_15 : decode cX1_partsAll 15 = .ok (.iaload, 1) := dk_46 (dk_at dksX1_partsAll_0 15 rfl rfl)
theorem dX1_partsAll_16 : decode cX1_partsAll 16 = .ok (.iload_n 1, 1) := dk_27 (dk_at dksX1_partsAll_0 16 rfl rfl)
theorem dX1_partsAll_17 : decode cX1_partsAll 17 = .ok (.iand, 1) := dk_126 (dk_at dksX1_partsAll_0 17 rfl rfl)
theorem dX1_partsAll_18 : decode cX1_partsAll 18 = .ok (.ifCond .ne 5, 3) := dk_154 0 5 (dk_at dksX1_partsAll_0 18 rfl rfl)
theorem dX1_partsAll_21 : decode cX1_partsAll 21 = .ok (.iconst 0, 1) := dk_3 (dk_at dksX1_partsAll_0 21 rfl rfl)
theorem dX1_partsAll_22 : decode cX1_partsAll 22 = .ok (.ireturn, 1) := dk_172 (dk_at dksX1_partsAll_0 22 rfl rfl)
theorem dX1_partsAll_23 : decode cX1_partsAll 23 = .ok (.iinc 2 1, 3) := dk_132 2 1 (dk_at dksX1_partsAll_1 0 rfl rfl)
theorem dX1_partsAll_26 : decode cX1_partsAll 26 = .ok (.goto (-24), 3) := dk_167 255 232 (dk_at dksX1_partsAll_1 3 rfl rfl)
theorem dX1_partsAll_29 : decode cX1_partsAll 29 = .ok (.iconst 1, 1) := dk_4 (dk_at dksX1_partsAll_1 6 rfl rfl)
theorem dX1_partsAll_30 : decode cX1_partsAll 30 = .ok (.ireturn, 1) := dk_172 (dk_at dksX1_partsAll_1 7 rfl rfl)
abbrev cX1_shutting : ByteArray := prog_1_method_48_code
def yX1_shutting : MethodName := ⟨RX1, "shutting", "(I)I"⟩
def dkwX1_shutting_3 : List UInt8 := [132, 3, 1, 167, 255, 199, 27, 154, 0, 7, 28, 167, 0, 8, 42, 28, 182, 1, 169, 172]
abbrev dktX1_shutting_3 : List UInt8 := dkwX1_shutting_3 ++ []
def dkwX1_shutting_2 : List UInt8 := [161, 0, 21, 21, 4, 21, 5, 160, 0, 16, 29, 184, 1, 161, 28, 184, 1, 161, 162, 0, 5, 29, 61]
abbrev dktX1_shutting_2 : List UInt8 := dkwX1_shutting_2 ++ dktX1_shutting_3
def dkwX1_shutting_1 : List UInt8 := [182, 1, 169, 184, 1, 161, 54, 4, 42, 28, 182, 1, 169, 184, 1, 161, 54, 5, 21, 4, 21, 5]
abbrev dktX1_shutting_1 : List UInt8 := dkwX1_shutting_1 ++ dktX1_shutting_2
def dkwX1_shutting_0 : List UInt8 := [27, 3, 4, 184, 0, 219, 154, 0, 5, 2, 172, 3, 61, 3, 62, 29, 17, 0, 255, 163, 0, 56, 42, 29]
abbrev dktX1_shutting_0 : List UInt8 := dkwX1_shutting_0 ++ dktX1_shutting_1
theorem dksX1_shutting_0 : cX1_shutting.data.toList.drop 0 = dktX1_shutting_0 := by decide +kernel
theorem dksX1_shutting_1 : cX1_shutting.data.toList.drop 24 = dktX1_shutting_1 := dk_seg dksX1_shutting_0 24 rfl rfl
theorem dksX1_shutting_2 : cX1_shutting.data.toList.drop 46 = dktX1_shutting_2 := dk_seg dksX1_shutting_1 22 rfl rfl
theorem dksX1_shutting_3 : cX1_shutting.data.toList.drop 69 = dktX1_shutting_3 := dk_seg dksX1_shutting_2 23 rfl rfl
theorem dX1_shutting_0 : decode cX1_shutting 0 = .ok (.iload_n 1, 1) := dk_27 (dk_at dksX1_shutting_0 0 rfl rfl)
theorem dX1_shutting_1 : decode cX1_shutting 1 = .ok (.iconst 0, 1) := dk_3 (dk_at dksX1_shutting_0 1 rfl rfl)
theorem dX1_shutting_2 : decode cX1_shutting 2 = .ok (.iconst 1, 1) := dk_4 (dk_at dksX1_shutting_0 2 rfl rfl)
theorem dX1_shutting_3 : decode cX1_shutting 3 = .ok (.invokestatic 219, 3) := dk_184 0 219 (dk_at dksX1_shutting_0 3 rfl rfl)
theorem dX1_shutting_6 : decode cX1_shutting 6 = .ok (.ifCond .ne 5, 3) := dk_154 0 5 (dk_at dksX1_shutting_0 6 rfl rfl)
theorem dX1_shutting_9 : decode cX1_shutting 9 = .ok (.iconst (-1), 1) := dk_2 (dk_at dksX1_shutting_0 9 rfl rfl)
theorem dX1_shutting_10 : decode cX1_shutting 10 = .ok (.ireturn, 1) := dk_172 (dk_at dksX1_shutting_0 10 rfl rfl)
theorem dX1_shutting_11 : decode cX1_shutting 11 = .ok (.iconst 0, 1) := dk_3 (dk_at dksX1_shutting_0 11 rfl rfl)
theorem dX1_shutting_12 : decode cX1_shutting 12 = .ok (.istore_n 2, 1) := dk_61 (dk_at dksX1_shutting_0 12 rfl rfl)
theorem dX1_shutting_13 : decode cX1_shutting 13 = .ok (.iconst 0, 1) := dk_3 (dk_at dksX1_shutting_0 13 rfl rfl)
theorem dX1_shutting_14 : decode cX1_shutting 14 = .ok (.istore_n 3, 1) := dk_62 (dk_at dksX1_shutting_0 14 rfl rfl)
theorem dX1_shutting_15 : decode cX1_shutting 15 = .ok (.iload_n 3, 1) := dk_29 (dk_at dksX1_shutting_0 15 rfl rfl)
theorem dX1_shutting_16 : decode cX1_shutting 16 = .ok (.sipush 255, 3) := dk_17 0 255 (dk_at dksX1_shutting_0 16 rfl rfl)
theorem dX1_shutting_19 : decode cX1_shutting 19 = .ok (.if_icmp .gt 56, 3) := dk_163 0 56 (dk_at dksX1_shutting_0 19 rfl rfl)
theorem dX1_shutting_22 : decode cX1_shutting 22 = .ok (.aload_n 0, 1) := dk_42 (dk_at dksX1_shutting_0 22 rfl rfl)
theorem dX1_shutting_23 : decode cX1_shutting 23 = .ok (.iload_n 3, 1) := dk_29 (dk_at dksX1_shutting_0 23 rfl rfl)
theorem dX1_shutting_24 : decode cX1_shutting 24 = .ok (.invokevirtual 425, 3) := dk_182 1 169 (dk_at dksX1_shutting_1 0 rfl rfl)
theorem dX1_shutting_27 : decode cX1_shutting 27 = .ok (.invokestatic 417, 3) := dk_184 1 161 (dk_at dksX1_shutting_1 3 rfl rfl)
theorem dX1_shutting_30 : decode cX1_shutting 30 = .ok (.istore 4, 2) := dk_54 4 (dk_at dksX1_shutting_1 6 rfl rfl)
theorem dX1_shutting_32 : decode cX1_shutting 32 = .ok (.aload_n 0, 1) := dk_42 (dk_at dksX1_shutting_1 8 rfl rfl)
theorem dX1_shutting_33 : decode cX1_shutting 33 = .ok (.iload_n 2, 1) := dk_28 (dk_at dksX1_shutting_1 9 rfl rfl)
theorem dX1_shutting_34 : decode cX1_shutting 34 = .ok (.invokevirtual 425, 3) := dk_182 1 169 (dk_at dksX1_shutting_1 10 rfl rfl)
theorem dX1_shutting_37 : decode cX1_shutting 37 = .ok (.invokestatic 417, 3) := dk_184 1 161 (dk_at dksX1_shutting_1 13 rfl rfl)
theorem dX1_shutting_40 : decode cX1_shutting 40 = .ok (.istore 5, 2) := dk_54 5 (dk_at dksX1_shutting_1 16 rfl rfl)
theorem dX1_shutting_42 : decode cX1_shutting 42 = .ok (.iload 4, 2) := dk_21 4 (dk_at dksX1_shutting_1 18 rfl rfl)
theorem dX1_shutting_44 : decode cX1_shutting 44 = .ok (.iload 5, 2) := dk_21 5 (dk_at dksX1_shutting_1 20 rfl rfl)
theorem dX1_shutting_46 : decode cX1_shutting 46 = .ok (.if_icmp .lt 21, 3) := dk_161 0 21 (dk_at dksX1_shutting_2 0 rfl rfl)
theorem dX1_shutting_49 : decode cX1_shutting 49 = .ok (.iload 4, 2) := dk_21 4 (dk_at dksX1_shutting_2 3 rfl rfl)
theorem dX1_shutting_51 : decode cX1_shutting 51 = .ok (.iload 5, 2) := dk_21 5 (dk_at dksX1_shutting_2 5 rfl rfl)
theorem dX1_shutting_53 : decode cX1_shutting 53 = .ok (.if_icmp .ne 16, 3) := dk_160 0 16 (dk_at dksX1_shutting_2 7 rfl rfl)
theorem dX1_shutting_56 : decode cX1_shutting 56 = .ok (.iload_n 3, 1) := dk_29 (dk_at dksX1_shutting_2 10 rfl rfl)
theorem dX1_shutting_57 : decode cX1_shutting 57 = .ok (.invokestatic 417, 3) := dk_184 1 161 (dk_at dksX1_shutting_2 11 rfl rfl)
theorem dX1_shutting_60 : decode cX1_shutting 60 = .ok (.iload_n 2, 1) := dk_28 (dk_at dksX1_shutting_2 14 rfl rfl)
theorem dX1_shutting_61 : decode cX1_shutting 61 = .ok (.invokestatic 417, 3) := dk_184 1 161 (dk_at dksX1_shutting_2 15 rfl rfl)
theorem dX1_shutting_64 : decode cX1_shutting 64 = .ok (.if_icmp .ge 5, 3) := dk_162 0 5 (dk_at dksX1_shutting_2 18 rfl rfl)
theorem dX1_shutting_67 : decode cX1_shutting 67 = .ok (.iload_n 3, 1) := dk_29 (dk_at dksX1_shutting_2 21 rfl rfl)
theorem dX1_shutting_68 : decode cX1_shutting 68 = .ok (.istore_n 2, 1) := dk_61 (dk_at dksX1_shutting_2 22 rfl rfl)
theorem dX1_shutting_69 : decode cX1_shutting 69 = .ok (.iinc 3 1, 3) := dk_132 3 1 (dk_at dksX1_shutting_3 0 rfl rfl)
theorem dX1_shutting_72 : decode cX1_shutting 72 = .ok (.goto (-57), 3) := dk_167 255 199 (dk_at dksX1_shutting_3 3 rfl rfl)
theorem dX1_shutting_75 : decode cX1_shutting 75 = .ok (.iload_n 1, 1) := dk_27 (dk_at dksX1_shutting_3 6 rfl rfl)
theorem dX1_shutting_76 : decode cX1_shutting 76 = .ok (.ifCond .ne 7, 3) := dk_154 0 7 (dk_at dksX1_shutting_3 7 rfl rfl)
theorem dX1_shutting_79 : decode cX1_shutting 79 = .ok (.iload_n 2, 1) := dk_28 (dk_at dksX1_shutting_3 10 rfl rfl)
theorem dX1_shutting_80 : decode cX1_shutting 80 = .ok (.goto 8, 3) := dk_167 0 8 (dk_at dksX1_shutting_3 11 rfl rfl)
theorem dX1_shutting_83 : decode cX1_shutting 83 = .ok (.aload_n 0, 1) := dk_42 (dk_at dksX1_shutting_3 14 rfl rfl)
theorem dX1_shutting_84 : decode cX1_shutting 84 = .ok (.iload_n 2, 1) := dk_28 (dk_at dksX1_shutting_3 15 rfl rfl)
theorem dX1_shutting_85 : decode cX1_shutting 85 = .ok (.invokevirtual 425, 3) := dk_182 1 169 (dk_at dksX1_shutting_3 16 rfl rfl)
theorem dX1_shutting_88 : decode cX1_shutting 88 = .ok (.ireturn, 1) := dk_172 (dk_at dksX1_shutting_3 19 rfl rfl)
abbrev cX1_leftBy : ByteArray := prog_1_method_49_code
def yX1_leftBy : MethodName := ⟨RX1, "leftBy", "(I)I"⟩
def dkwX1_leftBy_3 : List UInt8 := [132, 3, 1, 167, 255, 190, 28, 172]
abbrev dktX1_leftBy_3 : List UInt8 := dkwX1_leftBy_3 ++ []
def dkwX1_leftBy_2 : List UInt8 := [180, 0, 240, 29, 50, 180, 1, 3, 27, 126, 154, 0, 9, 4, 29, 120, 167, 0, 4, 3, 128, 61]
abbrev dktX1_leftBy_2 : List UInt8 := dkwX1_leftBy_2 ++ dktX1_leftBy_3
def dkwX1_leftBy_1 : List UInt8 := [180, 0, 202, 180, 0, 240, 29, 50, 180, 1, 5, 4, 159, 0, 29, 42, 180, 0, 105, 180, 0, 202]
abbrev dktX1_leftBy_1 : List UInt8 := dkwX1_leftBy_1 ++ dktX1_leftBy_2
def dkwX1_leftBy_0 : List UInt8 := [3, 61, 3, 62, 29, 42, 180, 0, 105, 180, 0, 202, 180, 0, 226, 162, 0, 58, 28, 42, 180, 0, 105]
abbrev dktX1_leftBy_0 : List UInt8 := dkwX1_leftBy_0 ++ dktX1_leftBy_1
theorem dksX1_leftBy_0 : cX1_leftBy.data.toList.drop 0 = dktX1_leftBy_0 := by decide +kernel
theorem dksX1_leftBy_1 : cX1_leftBy.data.toList.drop 23 = dktX1_leftBy_1 := dk_seg dksX1_leftBy_0 23 rfl rfl
theorem dksX1_leftBy_2 : cX1_leftBy.data.toList.drop 45 = dktX1_leftBy_2 := dk_seg dksX1_leftBy_1 22 rfl rfl
theorem dksX1_leftBy_3 : cX1_leftBy.data.toList.drop 67 = dktX1_leftBy_3 := dk_seg dksX1_leftBy_2 22 rfl rfl
theorem dX1_leftBy_0 : decode cX1_leftBy 0 = .ok (.iconst 0, 1) := dk_3 (dk_at dksX1_leftBy_0 0 rfl rfl)
theorem dX1_leftBy_1 : decode cX1_leftBy 1 = .ok (.istore_n 2, 1) := dk_61 (dk_at dksX1_leftBy_0 1 rfl rfl)
theorem dX1_leftBy_2 : decode cX1_leftBy 2 = .ok (.iconst 0, 1) := dk_3 (dk_at dksX1_leftBy_0 2 rfl rfl)
theorem dX1_leftBy_3 : decode cX1_leftBy 3 = .ok (.istore_n 3, 1) := dk_62 (dk_at dksX1_leftBy_0 3 rfl rfl)
theorem dX1_leftBy_4 : decode cX1_leftBy 4 = .ok (.iload_n 3, 1) := dk_29 (dk_at dksX1_leftBy_0 4 rfl rfl)
theorem dX1_leftBy_5 : decode cX1_leftBy 5 = .ok (.aload_n 0, 1) := dk_42 (dk_at dksX1_leftBy_0 5 rfl rfl)
theorem dX1_leftBy_6 : decode cX1_leftBy 6 = .ok (.getfield 105, 3) := dk_180 0 105 (dk_at dksX1_leftBy_0 6 rfl rfl)
theorem dX1_leftBy_9 : decode cX1_leftBy 9 = .ok (.getfield 202, 3) := dk_180 0 202 (dk_at dksX1_leftBy_0 9 rfl rfl)
theorem dX1_leftBy_12 : decode cX1_leftBy 12 = .ok (.getfield 226, 3) := dk_180 0 226 (dk_at dksX1_leftBy_0 12 rfl rfl)
theorem dX1_leftBy_15 : decode cX1_leftBy 15 = .ok (.if_icmp .ge 58, 3) := dk_162 0 58 (dk_at dksX1_leftBy_0 15 rfl rfl)
theorem dX1_leftBy_18 : decode cX1_leftBy 18 = .ok (.iload_n 2, 1) := dk_28 (dk_at dksX1_leftBy_0 18 rfl rfl)
theorem dX1_leftBy_19 : decode cX1_leftBy 19 = .ok (.aload_n 0, 1) := dk_42 (dk_at dksX1_leftBy_0 19 rfl rfl)
theorem dX1_leftBy_20 : decode cX1_leftBy 20 = .ok (.getfield 105, 3) := dk_180 0 105 (dk_at dksX1_leftBy_0 20 rfl rfl)
theorem dX1_leftBy_23 : decode cX1_leftBy 23 = .ok (.getfield 202, 3) := dk_180 0 202 (dk_at dksX1_leftBy_1 0 rfl rfl)
theorem dX1_leftBy_26 : decode cX1_leftBy 26 = .ok (.getfield 240, 3) := dk_180 0 240 (dk_at dksX1_leftBy_1 3 rfl rfl)
theorem dX1_leftBy_29 : decode cX1_leftBy 29 = .ok (.iload_n 3, 1) := dk_29 (dk_at dksX1_leftBy_1 6 rfl rfl)
theorem dX1_leftBy_30 : decode cX1_leftBy 30 = .ok (.aaload, 1) := dk_50 (dk_at dksX1_leftBy_1 7 rfl rfl)
theorem dX1_leftBy_31 : decode cX1_leftBy 31 = .ok (.getfield 261, 3) := dk_180 1 5 (dk_at dksX1_leftBy_1 8 rfl rfl)
theorem dX1_leftBy_34 : decode cX1_leftBy 34 = .ok (.iconst 1, 1) := dk_4 (dk_at dksX1_leftBy_1 11 rfl rfl)
theorem dX1_leftBy_35 : decode cX1_leftBy 35 = .ok (.if_icmp .eq 29, 3) := dk_159 0 29 (dk_at dksX1_leftBy_1 12 rfl rfl)
theorem dX1_leftBy_38 : decode cX1_leftBy 38 = .ok (.aload_n 0, 1) := dk_42 (dk_at dksX1_leftBy_1 15 rfl rfl)
theorem dX1_leftBy_39 : decode cX1_leftBy 39 = .ok (.getfield 105, 3) := dk_180 0 105 (dk_at dksX1_leftBy_1 16 rfl rfl)
theorem dX1_leftBy_42 : decode cX1_leftBy 42 = .ok (.getfield 202, 3) := dk_180 0 202 (dk_at dksX1_leftBy_1 19 rfl rfl)
theorem dX1_leftBy_45 : decode cX1_leftBy 45 = .ok (.getfield 240, 3) := dk_180 0 240 (dk_at dksX1_leftBy_2 0 rfl rfl)
theorem dX1_leftBy_48 : decode cX1_leftBy 48 = .ok (.iload_n 3, 1) := dk_29 (dk_at dksX1_leftBy_2 3 rfl rfl)
theorem dX1_leftBy_49 : decode cX1_leftBy 49 = .ok (.aaload, 1) := dk_50 (dk_at dksX1_leftBy_2 4 rfl rfl)
theorem dX1_leftBy_50 : decode cX1_leftBy 50 = .ok (.getfield 259, 3) := dk_180 1 3 (dk_at dksX1_leftBy_2 5 rfl rfl)
theorem dX1_leftBy_53 : decode cX1_leftBy 53 = .ok (.iload_n 1, 1) := dk_27 (dk_at dksX1_leftBy_2 8 rfl rfl)
theorem dX1_leftBy_54 : decode cX1_leftBy 54 = .ok (.iand, 1) := dk_126 (dk_at dksX1_leftBy_2 9 rfl rfl)
theorem dX1_leftBy_55 : decode cX1_leftBy 55 = .ok (.ifCond .ne 9, 3) := dk_154 0 9 (dk_at dksX1_leftBy_2 10 rfl rfl)
theorem dX1_leftBy_58 : decode cX1_leftBy 58 = .ok (.iconst 1, 1) := dk_4 (dk_at dksX1_leftBy_2 13 rfl rfl)
theorem dX1_leftBy_59 : decode cX1_leftBy 59 = .ok (.iload_n 3, 1) := dk_29 (dk_at dksX1_leftBy_2 14 rfl rfl)
theorem dX1_leftBy_60 : decode cX1_leftBy 60 = .ok (.ishl, 1) := dk_120 (dk_at dksX1_leftBy_2 15 rfl rfl)
theorem dX1_leftBy_61 : decode cX1_leftBy 61 = .ok (.goto 4, 3) := dk_167 0 4 (dk_at dksX1_leftBy_2 16 rfl rfl)
theorem dX1_leftBy_64 : decode cX1_leftBy 64 = .ok (.iconst 0, 1) := dk_3 (dk_at dksX1_leftBy_2 19 rfl rfl)
theorem dX1_leftBy_65 : decode cX1_leftBy 65 = .ok (.ior, 1) := dk_128 (dk_at dksX1_leftBy_2 20 rfl rfl)
theorem dX1_leftBy_66 : decode cX1_leftBy 66 = .ok (.istore_n 2, 1) := dk_61 (dk_at dksX1_leftBy_2 21 rfl rfl)
theorem dX1_leftBy_67 : decode cX1_leftBy 67 = .ok (.iinc 3 1, 3) := dk_132 3 1 (dk_at dksX1_leftBy_3 0 rfl rfl)
theorem dX1_leftBy_70 : decode cX1_leftBy 70 = .ok (.goto (-66), 3) := dk_167 255 190 (dk_at dksX1_leftBy_3 3 rfl rfl)
theorem dX1_leftBy_73 : decode cX1_leftBy 73 = .ok (.iload_n 2, 1) := dk_28 (dk_at dksX1_leftBy_3 6 rfl rfl)
theorem dX1_leftBy_74 : decode cX1_leftBy 74 = .ok (.ireturn, 1) := dk_172 (dk_at dksX1_leftBy_3 7 rfl rfl)
abbrev cX1_sentence : ByteArray := prog_1_method_50_code
def yX1_sentence : MethodName := ⟨RX1, "sentence", "()I"⟩
def dkwX1_sentence_1 : List UInt8 := [180, 0, 164, 180, 1, 179, 172, 76, 42, 43, 180, 0, 206, 181, 0, 189, 2, 43, 180, 0, 209, 100, 172]
abbrev dktX1_sentence_1 : List UInt8 := dkwX1_sentence_1 ++ []
def dkwX1_sentence_0 : List UInt8 := [42, 182, 0, 186, 42, 3, 181, 0, 189, 42, 180, 0, 105, 42, 180, 0, 164, 182, 1, 172, 181, 1, 175, 42]
abbrev dktX1_sentence_0 : List UInt8 := dkwX1_sentence_0 ++ dktX1_sentence_1
theorem dksX1_sentence_0 : cX1_sentence.data.toList.drop 0 = dktX1_sentence_0 := by decide +kernel
theorem dksX1_sentence_1 : cX1_sentence.data.toList.drop 24 = dktX1_sentence_1 := dk_seg dksX1_sentence_0 24 rfl rfl
theorem dX1_sentence_0 : decode cX1_sentence 0 = .ok (.aload_n 0, 1) := dk_42 (dk_at dksX1_sentence_0 0 rfl rfl)
theorem dX1_sentence_1 : decode cX1_sentence 1 = .ok (.invokevirtual 186, 3) := dk_182 0 186 (dk_at dksX1_sentence_0 1 rfl rfl)
theorem dX1_sentence_4 : decode cX1_sentence 4 = .ok (.aload_n 0, 1) := dk_42 (dk_at dksX1_sentence_0 4 rfl rfl)
theorem dX1_sentence_5 : decode cX1_sentence 5 = .ok (.iconst 0, 1) := dk_3 (dk_at dksX1_sentence_0 5 rfl rfl)
theorem dX1_sentence_6 : decode cX1_sentence 6 = .ok (.putfield 189, 3) := dk_181 0 189 (dk_at dksX1_sentence_0 6 rfl rfl)
theorem dX1_sentence_9 : decode cX1_sentence 9 = .ok (.aload_n 0, 1) := dk_42 (dk_at dksX1_sentence_0 9 rfl rfl)
theorem dX1_sentence_10 : decode cX1_sentence 10 = .ok (.getfield 105, 3) := dk_180 0 105 (dk_at dksX1_sentence_0 10 rfl rfl)
theorem dX1_sentence_13 : decode cX1_sentence 13 = .ok (.aload_n 0, 1) := dk_42 (dk_at dksX1_sentence_0 13 rfl rfl)
theorem dX1_sentence_14 : decode cX1_sentence 14 = .ok (.getfield 164, 3) := dk_180 0 164 (dk_at dksX1_sentence_0 14 rfl rfl)
theorem dX1_sentence_17 : decode cX1_sentence 17 = .ok (.invokevirtual 428, 3) := dk_182 1 172 (dk_at dksX1_sentence_0 17 rfl rfl)
theorem dX1_sentence_20 : decode cX1_sentence 20 = .ok (.putfield 431, 3) := dk_181 1 175 (dk_at dksX1_sentence_0 20 rfl rfl)
theorem dX1_sentence_23 : decode cX1_sentence 23 = .ok (.aload_n 0, 1) := dk_42 (dk_at dksX1_sentence_0 23 rfl rfl)
theorem dX1_sentence_24 : decode cX1_sentence 24 = .ok (.getfield 164, 3) := dk_180 0 164 (dk_at dksX1_sentence_1 0 rfl rfl)
theorem dX1_sentence_27 : decode cX1_sentence 27 = .ok (.getfield 435, 3) := dk_180 1 179 (dk_at dksX1_sentence_1 3 rfl rfl)
theorem dX1_sentence_30 : decode cX1_sentence 30 = .ok (.ireturn, 1) := dk_172 (dk_at dksX1_sentence_1 6 rfl rfl)
theorem dX1_sentence_31 : decode cX1_sentence 31 = .ok (.astore_n 1, 1) := dk_76 (dk_at dksX1_sentence_1 7 rfl rfl)
theorem dX1_sentence_32 : decode cX1_sentence 32 = .ok (.aload_n 0, 1) := dk_42 (dk_at dksX1_sentence_1 8 rfl rfl)
theorem dX1_sentence_33 : decode cX1_sentence 33 = .ok (.aload_n 1, 1) := dk_43 (dk_at dksX1_sentence_1 9 rfl rfl)
theorem dX1_sentence_34 : decode cX1_sentence 34 = .ok (.getfield 206, 3) := dk_180 0 206 (dk_at dksX1_sentence_1 10 rfl rfl)
theorem dX1_sentence_37 : decode cX1_sentence 37 = .ok (.putfield 189, 3) := dk_181 0 189 (dk_at dksX1_sentence_1 13 rfl rfl)
theorem dX1_sentence_40 : decode cX1_sentence 40 = .ok (.iconst (-1), 1) := dk_2 (dk_at dksX1_sentence_1 16 rfl rfl)
theorem dX1_sentence_41 : decode cX1_sentence 41 = .ok (.aload_n 1, 1) := dk_43 (dk_at dksX1_sentence_1 17 rfl rfl)
theorem dX1_sentence_42 : decode cX1_sentence 42 = .ok (.getfield 209, 3) := dk_180 0 209 (dk_at dksX1_sentence_1 18 rfl rfl)
theorem dX1_sentence_45 : decode cX1_sentence 45 = .ok (.isub, 1) := dk_100 (dk_at dksX1_sentence_1 21 rfl rfl)
theorem dX1_sentence_46 : decode cX1_sentence 46 = .ok (.ireturn, 1) := dk_172 (dk_at dksX1_sentence_1 22 rfl rfl)
abbrev cX1_whom : ByteArray := prog_1_method_51_code
def yX1_whom : MethodName := ⟨RX1, "whom", "()I"⟩
def dkwX1_whom_2 : List UInt8 := [167, 0, 4, 3, 128, 60, 132, 2, 1, 167, 255, 217, 27, 172]
abbrev dktX1_whom_2 : List UInt8 := dkwX1_whom_2 ++ []
def dkwX1_whom_1 : List UInt8 := [182, 1, 122, 27, 42, 180, 0, 105, 180, 1, 175, 42, 28, 182, 1, 182, 153, 0, 9, 4, 28, 120]
abbrev dktX1_whom_1 : List UInt8 := dkwX1_whom_1 ++ dktX1_whom_2
def dkwX1_whom_0 : List UInt8 := [42, 180, 0, 105, 180, 1, 175, 199, 0, 5, 2, 172, 3, 60, 3, 61, 28, 16, 6, 162, 0, 39, 42, 28]
abbrev dktX1_whom_0 : List UInt8 := dkwX1_whom_0 ++ dktX1_whom_1
theorem dksX1_whom_0 : cX1_whom.data.toList.drop 0 = dktX1_whom_0 := by decide +kernel
theorem dksX1_whom_1 : cX1_whom.data.toList.drop 24 = dktX1_whom_1 := dk_seg dksX1_whom_0 24 rfl rfl
theorem dksX1_whom_2 : cX1_whom.data.toList.drop 46 = dktX1_whom_2 := dk_seg dksX1_whom_1 22 rfl rfl
theorem dX1_whom_0 : decode cX1_whom 0 = .ok (.aload_n 0, 1) := dk_42 (dk_at dksX1_whom_0 0 rfl rfl)
theorem dX1_whom_1 : decode cX1_whom 1 = .ok (.getfield 105, 3) := dk_180 0 105 (dk_at dksX1_whom_0 1 rfl rfl)
theorem dX1_whom_4 : decode cX1_whom 4 = .ok (.getfield 431, 3) := dk_180 1 175 (dk_at dksX1_whom_0 4 rfl rfl)
theorem dX1_whom_7 : decode cX1_whom 7 = .ok (.ifnonnull 5, 3) := dk_199 0 5 (dk_at dksX1_whom_0 7 rfl rfl)
theorem dX1_whom_10 : decode cX1_whom 10 = .ok (.iconst (-1), 1) := dk_2 (dk_at dksX1_whom_0 10 rfl rfl)
theorem dX1_whom_11 : decode cX1_whom 11 = .ok (.ireturn, 1) := dk_172 (dk_at dksX1_whom_0 11 rfl rfl)
theorem dX1_whom_12 : decode cX1_whom 12 = .ok (.iconst 0, 1) := dk_3 (dk_at dksX1_whom_0 12 rfl rfl)
theorem dX1_whom_13 : decode cX1_whom 13 = .ok (.istore_n 1, 1) := dk_60 (dk_at dksX1_whom_0 13 rfl rfl)
theorem dX1_whom_14 : decode cX1_whom 14 = .ok (.iconst 0, 1) := dk_3 (dk_at dksX1_whom_0 14 rfl rfl)
theorem dX1_whom_15 : decode cX1_whom 15 = .ok (.istore_n 2, 1) := dk_61 (dk_at dksX1_whom_0 15 rfl rfl)
theorem dX1_whom_16 : decode cX1_whom 16 = .ok (.iload_n 2, 1) := dk_28 (dk_at dksX1_whom_0 16 rfl rfl)
theorem dX1_whom_17 : decode cX1_whom 17 = .ok (.bipush 6, 2) := dk_16 6 (dk_at dksX1_whom_0 17 rfl rfl)
theorem dX1_whom_19 : decode cX1_whom 19 = .ok (.if_icmp .ge 39, 3) := dk_162 0 39 (dk_at dksX1_whom_0 19 rfl rfl)
theorem dX1_whom_22 : decode cX1_whom 22 = .ok (.aload_n 0, 1) := dk_42 (dk_at dksX1_whom_0 22 rfl rfl)
theorem dX1_whom_23 : decode cX1_whom 23 = .ok (.iload_n 2, 1) := dk_28 (dk_at dksX1_whom_0 23 rfl rfl)
theorem dX1_whom_24 : decode cX1_whom 24 = .ok (.invokevirtual 378, 3) := dk_182 1 122 (dk_at dksX1_whom_1 0 rfl rfl)
theorem dX1_whom_27 : decode cX1_whom 27 = .ok (.iload_n 1, 1) := dk_27 (dk_at dksX1_whom_1 3 rfl rfl)
theorem dX1_whom_28 : decode cX1_whom 28 = .ok (.aload_n 0, 1) := dk_42 (dk_at dksX1_whom_1 4 rfl rfl)
theorem dX1_whom_29 : decode cX1_whom 29 = .ok (.getfield 105, 3) := dk_180 0 105 (dk_at dksX1_whom_1 5 rfl rfl)
theorem dX1_whom_32 : decode cX1_whom 32 = .ok (.getfield 431, 3) := dk_180 1 175 (dk_at dksX1_whom_1 8 rfl rfl)
theorem dX1_whom_35 : decode cX1_whom 35 = .ok (.aload_n 0, 1) := dk_42 (dk_at dksX1_whom_1 11 rfl rfl)
theorem dX1_whom_36 : decode cX1_whom 36 = .ok (.iload_n 2, 1) := dk_28 (dk_at dksX1_whom_1 12 rfl rfl)
theorem dX1_whom_37 : decode cX1_whom 37 = .ok (.invokevirtual 438, 3) := dk_182 1 182 (dk_at dksX1_whom_1 13 rfl rfl)
theorem dX1_whom_40 : decode cX1_whom 40 = .ok (.ifCond .eq 9, 3) := dk_153 0 9 (dk_at dksX1_whom_1 16 rfl rfl)
theorem dX1_whom_43 : decode cX1_whom 43 = .ok (.iconst 1, 1) := dk_4 (dk_at dksX1_whom_1 19 rfl rfl)
theorem dX1_whom_44 : decode cX1_whom 44 = .ok (.iload_n 2, 1) := dk_28 (dk_at dksX1_whom_1 20 rfl rfl)
theorem dX1_whom_45 : decode cX1_whom 45 = .ok (.ishl, 1) := dk_120 (dk_at dksX1_whom_1 21 rfl rfl)
theorem dX1_whom_46 : decode cX1_whom 46 = .ok (.goto 4, 3) := dk_167 0 4 (dk_at dksX1_whom_2 0 rfl rfl)
theorem dX1_whom_49 : decode cX1_whom 49 = .ok (.iconst 0, 1) := dk_3 (dk_at dksX1_whom_2 3 rfl rfl)
theorem dX1_whom_50 : decode cX1_whom 50 = .ok (.ior, 1) := dk_128 (dk_at dksX1_whom_2 4 rfl rfl)
theorem dX1_whom_51 : decode cX1_whom 51 = .ok (.istore_n 1, 1) := dk_60 (dk_at dksX1_whom_2 5 rfl rfl)
theorem dX1_whom_52 : decode cX1_whom 52 = .ok (.iinc 2 1, 3) := dk_132 2 1 (dk_at dksX1_whom_2 6 rfl rfl)
theorem dX1_whom_55 : decode cX1_whom 55 = .ok (.goto (-39), 3) := dk_167 255 217 (dk_at dksX1_whom_2 9 rfl rfl)
theorem dX1_whom_58 : decode cX1_whom 58 = .ok (.iload_n 1, 1) := dk_27 (dk_at dksX1_whom_2 12 rfl rfl)
theorem dX1_whom_59 : decode cX1_whom 59 = .ok (.ireturn, 1) := dk_172 (dk_at dksX1_whom_2 13 rfl rfl)
abbrev cX1_image : ByteArray := prog_1_method_52_code
def yX1_image : MethodName := ⟨RX1, "image", "(I)Z"⟩
def dkwX1_image_1 : List UInt8 := [27, 187, 0, 102, 89, 183, 0, 104, 83, 42, 180, 0, 168, 27, 50, 42, 180, 0, 105, 182, 1, 188, 4, 172]
abbrev dktX1_image_1 : List UInt8 := dkwX1_image_1 ++ []
def dkwX1_image_0 : List UInt8 := [27, 3, 5, 184, 0, 219, 154, 0, 5, 3, 172, 42, 180, 0, 168, 27, 50, 199, 0, 16, 42, 180, 0, 168]
abbrev dktX1_image_0 : List UInt8 := dkwX1_image_0 ++ dktX1_image_1
theorem dksX1_image_0 : cX1_image.data.toList.drop 0 = dktX1_image_0 := by decide +kernel
theorem dksX1_image_1 : cX1_image.data.toList.drop 24 = dktX1_image_1 := dk_seg dksX1_image_0 24 rfl rfl
theorem dX1_image_0 : decode cX1_image 0 = .ok (.iload_n 1, 1) := dk_27 (dk_at dksX1_image_0 0 rfl rfl)
theorem dX1_image_1 : decode cX1_image 1 = .ok (.iconst 0, 1) := dk_3 (dk_at dksX1_image_0 1 rfl rfl)
theorem dX1_image_2 : decode cX1_image 2 = .ok (.iconst 2, 1) := dk_5 (dk_at dksX1_image_0 2 rfl rfl)
theorem dX1_image_3 : decode cX1_image 3 = .ok (.invokestatic 219, 3) := dk_184 0 219 (dk_at dksX1_image_0 3 rfl rfl)
theorem dX1_image_6 : decode cX1_image 6 = .ok (.ifCond .ne 5, 3) := dk_154 0 5 (dk_at dksX1_image_0 6 rfl rfl)
theorem dX1_image_9 : decode cX1_image 9 = .ok (.iconst 0, 1) := dk_3 (dk_at dksX1_image_0 9 rfl rfl)
theorem dX1_image_10 : decode cX1_image 10 = .ok (.ireturn, 1) := dk_172 (dk_at dksX1_image_0 10 rfl rfl)
theorem dX1_image_11 : decode cX1_image 11 = .ok (.aload_n 0, 1) := dk_42 (dk_at dksX1_image_0 11 rfl rfl)
theorem dX1_image_12 : decode cX1_image 12 = .ok (.getfield 168, 3) := dk_180 0 168 (dk_at dksX1_image_0 12 rfl rfl)
theorem dX1_image_15 : decode cX1_image 15 = .ok (.iload_n 1, 1) := dk_27 (dk_at dksX1_image_0 15 rfl rfl)
theorem dX1_image_16 : decode cX1_image 16 = .ok (.aaload, 1) := dk_50 (dk_at dksX1_image_0 16 rfl rfl)
theorem dX1_image_17 : decode cX1_image 17 = .ok (.ifnonnull 16, 3) := dk_199 0 16 (dk_at dksX1_image_0 17 rfl rfl)
theorem dX1_image_20 : decode cX1_image 20 = .ok (.aload_n 0, 1) := dk_42 (dk_at dksX1_image_0 20 rfl rfl)
theorem dX1_image_21 : decode cX1_image 21 = .ok (.getfield 168, 3) := dk_180 0 168 (dk_at dksX1_image_0 21 rfl rfl)
theorem dX1_image_24 : decode cX1_image 24 = .ok (.iload_n 1, 1) := dk_27 (dk_at dksX1_image_1 0 rfl rfl)
theorem dX1_image_25 : decode cX1_image 25 = .ok (.new 102, 3) := dk_187 0 102 (dk_at dksX1_image_1 1 rfl rfl)
theorem dX1_image_28 : decode cX1_image 28 = .ok (.dup, 1) := dk_89 (dk_at dksX1_image_1 4 rfl rfl)
theorem dX1_image_29 : decode cX1_image 29 = .ok (.invokespecial 104, 3) := dk_183 0 104 (dk_at dksX1_image_1 5 rfl rfl)
theorem dX1_image_32 : decode cX1_image 32 = .ok (.aastore, 1) := dk_83 (dk_at dksX1_image_1 8 rfl rfl)
theorem dX1_image_33 : decode cX1_image 33 = .ok (.aload_n 0, 1) := dk_42 (dk_at dksX1_image_1 9 rfl rfl)
theorem dX1_image_34 : decode cX1_image 34 = .ok (.getfield 168, 3) := dk_180 0 168 (dk_at dksX1_image_1 10 rfl rfl)
theorem dX1_image_37 : decode cX1_image 37 = .ok (.iload_n 1, 1) := dk_27 (dk_at dksX1_image_1 13 rfl rfl)
theorem dX1_image_38 : decode cX1_image 38 = .ok (.aaload, 1) := dk_50 (dk_at dksX1_image_1 14 rfl rfl)
theorem dX1_image_39 : decode cX1_image 39 = .ok (.aload_n 0, 1) := dk_42 (dk_at dksX1_image_1 15 rfl rfl)
theorem dX1_image_40 : decode cX1_image 40 = .ok (.getfield 105, 3) := dk_180 0 105 (dk_at dksX1_image_1 16 rfl rfl)
theorem dX1_image_43 : decode cX1_image 43 = .ok (.invokevirtual 444, 3) := dk_182 1 188 (dk_at dksX1_image_1 19 rfl rfl)
theorem dX1_image_46 : decode cX1_image 46 = .ok (.iconst 1, 1) := dk_4 (dk_at dksX1_image_1 22 rfl rfl)
theorem dX1_image_47 : decode cX1_image 47 = .ok (.ireturn, 1) := dk_172 (dk_at dksX1_image_1 23 rfl rfl)
abbrev cX1_restore : ByteArray := prog_1_method_53_code
def yX1_restore : MethodName := ⟨RX1, "restore", "(I)Z"⟩
def dkwX1_restore_1 : List UInt8 := [42, 180, 0, 168, 27, 50, 182, 1, 188, 4, 172]
abbrev dktX1_restore_1 : List UInt8 := dkwX1_restore_1 ++ []
def dkwX1_restore_0 : List UInt8 := [27, 3, 5, 184, 0, 219, 153, 0, 12, 42, 180, 0, 168, 27, 50, 199, 0, 5, 3, 172, 42, 180, 0, 105]
abbrev dktX1_restore_0 : List UInt8 := dkwX1_restore_0 ++ dktX1_restore_1
theorem dksX1_restore_0 : cX1_restore.data.toList.drop 0 = dktX1_restore_0 := by decide +kernel
theorem dksX1_restore_1 : cX1_restore.data.toList.drop 24 = dktX1_restore_1 := dk_seg dksX1_restore_0 24 rfl rfl
theorem dX1_restore_0 : decode cX1_restore 0 = .ok (.iload_n 1, 1) := dk_27 (dk_at dksX1_restore_0 0 rfl rfl)
theorem dX1_restore_1 : decode cX1_restore 1 = .ok (.iconst 0, 1) := dk_3 (dk_at dksX1_restore_0 1 rfl rfl)
theorem dX1_restore_2 : decode cX1_restore 2 = .ok (.iconst 2, 1) := dk_5 (dk_at dksX1_restore_0 2 rfl rfl)
theorem dX1_restore_3 : decode cX1_restore 3 = .ok (.invokestatic 219, 3) := dk_184 0 219 (dk_at dksX1_restore_0 3 rfl rfl)
theorem dX1_restore_6 : decode cX1_restore 6 = .ok (.ifCond .eq 12, 3) := dk_153 0 12 (dk_at dksX1_restore_0 6 rfl rfl)
theorem dX1_restore_9 : decode cX1_restore 9 = .ok (.aload_n 0, 1) := dk_42 (dk_at dksX1_restore_0 9 rfl rfl)
theorem dX1_restore_10 : decode cX1_restore 10 = .ok (.getfield 168, 3) := dk_180 0 168 (dk_at dksX1_restore_0 10 rfl rfl)
theorem dX1_restore_13 : decode cX1_restore 13 = .ok (.iload_n 1, 1) := dk_27 (dk_at dksX1_restore_0 13 rfl rfl)
theorem dX1_restore_14 : decode cX1_restore 14 = .ok (.aaload, 1) := dk_50 (dk_at dksX1_restore_0 14 rfl rfl)
theorem dX1_restore_15 : decode cX1_restore 15 = .ok (.ifnonnull 5, 3) := dk_199 0 5 (dk_at dksX1_restore_0 15 rfl rfl)
theorem dX1_restore_18 : decode cX1_restore 18 = .ok (.iconst 0, 1) := dk_3 (dk_at dksX1_restore_0 18 rfl rfl)
theorem dX1_restore_19 : decode cX1_restore 19 = .ok (.ireturn, 1) := dk_172 (dk_at dksX1_restore_0 19 rfl rfl)
theorem dX1_restore_20 : decode cX1_restore 20 = .ok (.aload_n 0, 1) := dk_42 (dk_at dksX1_restore_0 20 rfl rfl)
theorem dX1_restore_21 : decode cX1_restore 21 = .ok (.getfield 105, 3) := dk_180 0 105 (dk_at dksX1_restore_0 21 rfl rfl)
theorem dX1_restore_24 : decode cX1_restore 24 = .ok (.aload_n 0, 1) := dk_42 (dk_at dksX1_restore_1 0 rfl rfl)
theorem dX1_restore_25 : decode cX1_restore 25 = .ok (.getfield 168, 3) := dk_180 0 168 (dk_at dksX1_restore_1 1 rfl rfl)
theorem dX1_restore_28 : decode cX1_restore 28 = .ok (.iload_n 1, 1) := dk_27 (dk_at dksX1_restore_1 4 rfl rfl)
theorem dX1_restore_29 : decode cX1_restore 29 = .ok (.aaload, 1) := dk_50 (dk_at dksX1_restore_1 5 rfl rfl)
theorem dX1_restore_30 : decode cX1_restore 30 = .ok (.invokevirtual 444, 3) := dk_182 1 188 (dk_at dksX1_restore_1 6 rfl rfl)
theorem dX1_restore_33 : decode cX1_restore 33 = .ok (.iconst 1, 1) := dk_4 (dk_at dksX1_restore_1 9 rfl rfl)
theorem dX1_restore_34 : decode cX1_restore 34 = .ok (.ireturn, 1) := dk_172 (dk_at dksX1_restore_1 10 rfl rfl)
abbrev cX1_count : ByteArray := prog_1_method_54_code
def yX1_count : MethodName := ⟨RX1, "count", "(I)I"⟩
def dkwX1_count_5 : List UInt8 := [180, 0, 216, 172, 42, 180, 0, 105, 180, 0, 223, 172, 42, 180, 0, 172, 172, 2, 172]
abbrev dktX1_count_5 : List UInt8 := dkwX1_count_5 ++ []
def dkwX1_count_4 : List UInt8 := [180, 0, 105, 180, 0, 202, 180, 1, 192, 172, 42, 180, 0, 105, 180, 1, 137, 172, 42, 180, 0, 105]
abbrev dktX1_count_4 : List UInt8 := dkwX1_count_4 ++ dktX1_count_5
def dkwX1_count_3 : List UInt8 := [42, 180, 0, 105, 180, 0, 202, 180, 0, 229, 172, 42, 180, 0, 105, 180, 0, 202, 180, 0, 226, 172, 42]
abbrev dktX1_count_3 : List UInt8 := dkwX1_count_3 ++ dktX1_count_4
def dkwX1_count_2 : List UInt8 := [170, 0, 0, 0, 0, 0, 0, 106, 0, 0, 0, 0, 0, 0, 0, 6, 0, 0, 0, 44, 0, 0, 0, 55, 0, 0, 0, 66, 0, 0, 0, 77, 0, 0, 0, 85, 0, 0, 0, 93, 0, 0, 0, 101]
abbrev dktX1_count_2 : List UInt8 := dkwX1_count_2 ++ dktX1_count_3
def dkwX1_count_1 : List UInt8 := [180, 1, 101, 172, 27]
abbrev dktX1_count_1 : List UInt8 := dkwX1_count_1 ++ dktX1_count_2
def dkwX1_count_0 : List UInt8 := [27, 16, 10, 16, 15, 184, 0, 219, 153, 0, 19, 42, 180, 0, 105, 180, 1, 97, 27, 16, 10, 100, 50]
abbrev dktX1_count_0 : List UInt8 := dkwX1_count_0 ++ dktX1_count_1
theorem dksX1_count_0 : cX1_count.data.toList.drop 0 = dktX1_count_0 := by decide +kernel
theorem dksX1_count_1 : cX1_count.data.toList.drop 23 = dktX1_count_1 := dk_seg dksX1_count_0 23 rfl rfl
theorem dksX1_count_2 : cX1_count.data.toList.drop 28 = dktX1_count_2 := dk_seg dksX1_count_1 5 rfl rfl
theorem dksX1_count_3 : cX1_count.data.toList.drop 72 = dktX1_count_3 := dk_seg dksX1_count_2 44 rfl rfl
theorem dksX1_count_4 : cX1_count.data.toList.drop 95 = dktX1_count_4 := dk_seg dksX1_count_3 23 rfl rfl
theorem dksX1_count_5 : cX1_count.data.toList.drop 117 = dktX1_count_5 := dk_seg dksX1_count_4 22 rfl rfl
theorem dX1_count_0 : decode cX1_count 0 = .ok (.iload_n 1, 1) := dk_27 (dk_at dksX1_count_0 0 rfl rfl)
theorem dX1_count_1 : decode cX1_count 1 = .ok (.bipush 10, 2) := dk_16 10 (dk_at dksX1_count_0 1 rfl rfl)
theorem dX1_count_3 : decode cX1_count 3 = .ok (.bipush 15, 2) := dk_16 15 (dk_at dksX1_count_0 3 rfl rfl)
theorem dX1_count_5 : decode cX1_count 5 = .ok (.invokestatic 219, 3) := dk_184 0 219 (dk_at dksX1_count_0 5 rfl rfl)
theorem dX1_count_8 : decode cX1_count 8 = .ok (.ifCond .eq 19, 3) := dk_153 0 19 (dk_at dksX1_count_0 8 rfl rfl)
theorem dX1_count_11 : decode cX1_count 11 = .ok (.aload_n 0, 1) := dk_42 (dk_at dksX1_count_0 11 rfl rfl)
theorem dX1_count_12 : decode cX1_count 12 = .ok (.getfield 105, 3) := dk_180 0 105 (dk_at dksX1_count_0 12 rfl rfl)
theorem dX1_count_15 : decode cX1_count 15 = .ok (.getfield 353, 3) := dk_180 1 97 (dk_at dksX1_count_0 15 rfl rfl)
theorem dX1_count_18 : decode cX1_count 18 = .ok (.iload_n 1, 1) := dk_27 (dk_at dksX1_count_0 18 rfl rfl)
theorem dX1_count_19 : decode cX1_count 19 = .ok (.bipush 10, 2) := dk_16 10 (dk_at dksX1_count_0 19 rfl rfl)
theorem dX1_count_21 : decode cX1_count 21 = .ok (.isub, 1) := dk_100 (dk_at dksX1_count_0 21 rfl rfl)
theorem dX1_count_22 : decode cX1_count 22 = .ok (.aaload, 1) := dk_50 (dk_at dksX1_count_0 22 rfl rfl)
theorem dX1_count_23 : decode cX1_count 23 = .ok (.getfield 357, 3) := dk_180 1 101 (dk_at dksX1_count_1 0 rfl rfl)
theorem dX1_count_26 : decode cX1_count 26 = .ok (.ireturn, 1) := dk_172 (dk_at dksX1_count_1 3 rfl rfl)
theorem dX1_count_27 : decode cX1_count 27 = .ok (.iload_n 1, 1) := dk_27 (dk_at dksX1_count_1 4 rfl rfl)
theorem dX1_count_28 : decode cX1_count 28 = .ok (.tableswitch 106 0 6 #[44, 55, 66, 77, 85, 93, 101], 44) := by decide +kernel
theorem dX1_count_72 : decode cX1_count 72 = .ok (.aload_n 0, 1) := dk_42 (dk_at dksX1_count_3 0 rfl rfl)
theorem dX1_count_73 : decode cX1_count 73 = .ok (.getfield 105, 3) := dk_180 0 105 (dk_at dksX1_count_3 1 rfl rfl)
theorem dX1_count_76 : decode cX1_count 76 = .ok (.getfield 202, 3) := dk_180 0 202 (dk_at dksX1_count_3 4 rfl rfl)
theorem dX1_count_79 : decode cX1_count 79 = .ok (.getfield 229, 3) := dk_180 0 229 (dk_at dksX1_count_3 7 rfl rfl)
theorem dX1_count_82 : decode cX1_count 82 = .ok (.ireturn, 1) := dk_172 (dk_at dksX1_count_3 10 rfl rfl)
theorem dX1_count_83 : decode cX1_count 83 = .ok (.aload_n 0, 1) := dk_42 (dk_at dksX1_count_3 11 rfl rfl)
theorem dX1_count_84 : decode cX1_count 84 = .ok (.getfield 105, 3) := dk_180 0 105 (dk_at dksX1_count_3 12 rfl rfl)
theorem dX1_count_87 : decode cX1_count 87 = .ok (.getfield 202, 3) := dk_180 0 202 (dk_at dksX1_count_3 15 rfl rfl)
theorem dX1_count_90 : decode cX1_count 90 = .ok (.getfield 226, 3) := dk_180 0 226 (dk_at dksX1_count_3 18 rfl rfl)
theorem dX1_count_93 : decode cX1_count 93 = .ok (.ireturn, 1) := dk_172 (dk_at dksX1_count_3 21 rfl rfl)
theorem dX1_count_94 : decode cX1_count 94 = .ok (.aload_n 0, 1) := dk_42 (dk_at dksX1_count_3 22 rfl rfl)
theorem dX1_count_95 : decode cX1_count 95 = .ok (.getfield 105, 3) := dk_180 0 105 (dk_at dksX1_count_4 0 rfl rfl)
theorem dX1_count_98 : decode cX1_count 98 = .ok (.getfield 202, 3) := dk_180 0 202 (dk_at dksX1_count_4 3 rfl rfl)
theorem dX1_count_101 : decode cX1_count 101 = .ok (.getfield 448, 3) := dk_180 1 192 (dk_at dksX1_count_4 6 rfl rfl)
theorem dX1_count_104 : decode cX1_count 104 = .ok (.ireturn, 1) := dk_172 (dk_at dksX1_count_4 9 rfl rfl)
theorem dX1_count_105 : decode cX1_count 105 = .ok (.aload_n 0, 1) := dk_42 (dk_at dksX1_count_4 10 rfl rfl)
theorem dX1_count_106 : decode cX1_count 106 = .ok (.getfield 105, 3) := dk_180 0 105 (dk_at dksX1_count_4 11 rfl rfl)
theorem dX1_count_109 : decode cX1_count 109 = .ok (.getfield 393, 3) := dk_180 1 137 (dk_at dksX1_count_4 14 rfl rfl)
theorem dX1_count_112 : decode cX1_count 112 = .ok (.ireturn, 1) := dk_172 (dk_at dksX1_count_4 17 rfl rfl)
theorem dX1_count_113 : decode cX1_count 113 = .ok (.aload_n 0, 1) := dk_42 (dk_at dksX1_count_4 18 rfl rfl)
theorem dX1_count_114 : decode cX1_count 114 = .ok (.getfield 105, 3) := dk_180 0 105 (dk_at dksX1_count_4 19 rfl rfl)
theorem dX1_count_117 : decode cX1_count 117 = .ok (.getfield 216, 3) := dk_180 0 216 (dk_at dksX1_count_5 0 rfl rfl)
theorem dX1_count_120 : decode cX1_count 120 = .ok (.ireturn, 1) := dk_172 (dk_at dksX1_count_5 3 rfl rfl)
theorem dX1_count_121 : decode cX1_count 121 = .ok (.aload_n 0, 1) := dk_42 (dk_at dksX1_count_5 4 rfl rfl)
theorem dX1_count_122 : decode cX1_count 122 = .ok (.getfield 105, 3) := dk_180 0 105 (dk_at dksX1_count_5 5 rfl rfl)
theorem dX1_count_125 : decode cX1_count 125 = .ok (.getfield 223, 3) := dk_180 0 223 (dk_at dksX1_count_5 8 rfl rfl)
theorem dX1_count_128 : decode cX1_count 128 = .ok (.ireturn, 1) := dk_172 (dk_at dksX1_count_5 11 rfl rfl)
theorem dX1_count_129 : decode cX1_count 129 = .ok (.aload_n 0, 1) := dk_42 (dk_at dksX1_count_5 12 rfl rfl)
theorem dX1_count_130 : decode cX1_count 130 = .ok (.getfield 172, 3) := dk_180 0 172 (dk_at dksX1_count_5 13 rfl rfl)
theorem dX1_count_133 : decode cX1_count 133 = .ok (.ireturn, 1) := dk_172 (dk_at dksX1_count_5 16 rfl rfl)
theorem dX1_count_134 : decode cX1_count 134 = .ok (.iconst (-1), 1) := dk_2 (dk_at dksX1_count_5 17 rfl rfl)
theorem dX1_count_135 : decode cX1_count 135 = .ok (.ireturn, 1) := dk_172 (dk_at dksX1_count_5 18 rfl rfl)
abbrev cX1_way : ByteArray := prog_1_method_15_code
def yX1_way : MethodName := ⟨RX1, "way", "(II)I"⟩
def dkwX1_way_5 : List UInt8 := [172]
abbrev dktX1_way_5 : List UInt8 := dkwX1_way_5 ++ []
def dkwX1_way_4 : List UInt8 := [167, 0, 4, 3, 172, 45, 180, 1, 1, 172, 45, 180, 1, 3, 172, 45, 180, 1, 5, 172, 45, 180, 1, 8]
abbrev dktX1_way_4 : List UInt8 := dkwX1_way_4 ++ dktX1_way_5
def dkwX1_way_3 : List UInt8 := [45, 180, 0, 244, 172, 45, 180, 0, 249, 172, 45, 180, 0, 251, 172, 45, 180, 0, 254, 153, 0, 7, 4]
abbrev dktX1_way_3 : List UInt8 := dkwX1_way_3 ++ dktX1_way_4
def dkwX1_way_2 : List UInt8 := [170, 0, 0, 0, 0, 0, 0, 87, 0, 0, 0, 0, 0, 0, 0, 6, 0, 0, 0, 44, 0, 0, 0, 49, 0, 0, 0, 54, 0, 0, 0, 59, 0, 0, 0, 72, 0, 0, 0, 77, 0, 0, 0, 82]
abbrev dktX1_way_2 : List UInt8 := dkwX1_way_2 ++ dktX1_way_3
def dkwX1_way_1 : List UInt8 := [184, 0, 236, 42, 180, 0, 105, 180, 0, 202, 180, 0, 240, 27, 50, 78, 28]
abbrev dktX1_way_1 : List UInt8 := dkwX1_way_1 ++ dktX1_way_2
def dkwX1_way_0 : List UInt8 := [42, 27, 182, 0, 232, 153, 0, 17, 28, 3, 16, 7, 184, 0, 219, 153, 0, 7, 4, 167, 0, 4, 3]
abbrev dktX1_way_0 : List UInt8 := dkwX1_way_0 ++ dktX1_way_1
theorem dksX1_way_0 : cX1_way.data.toList.drop 0 = dktX1_way_0 := by decide +kernel
theorem dksX1_way_1 : cX1_way.data.toList.drop 23 = dktX1_way_1 := dk_seg dksX1_way_0 23 rfl rfl
theorem dksX1_way_2 : cX1_way.data.toList.drop 40 = dktX1_way_2 := dk_seg dksX1_way_1 17 rfl rfl
theorem dksX1_way_3 : cX1_way.data.toList.drop 84 = dktX1_way_3 := dk_seg dksX1_way_2 44 rfl rfl
theorem dksX1_way_4 : cX1_way.data.toList.drop 107 = dktX1_way_4 := dk_seg dksX1_way_3 23 rfl rfl
theorem dksX1_way_5 : cX1_way.data.toList.drop 131 = dktX1_way_5 := dk_seg dksX1_way_4 24 rfl rfl
theorem dX1_way_0 : decode cX1_way 0 = .ok (.aload_n 0, 1) := dk_42 (dk_at dksX1_way_0 0 rfl rfl)
theorem dX1_way_1 : decode cX1_way 1 = .ok (.iload_n 1, 1) := dk_27 (dk_at dksX1_way_0 1 rfl rfl)
theorem dX1_way_2 : decode cX1_way 2 = .ok (.invokevirtual 232, 3) := dk_182 0 232 (dk_at dksX1_way_0 2 rfl rfl)
theorem dX1_way_5 : decode cX1_way 5 = .ok (.ifCond .eq 17, 3) := dk_153 0 17 (dk_at dksX1_way_0 5 rfl rfl)
theorem dX1_way_8 : decode cX1_way 8 = .ok (.iload_n 2, 1) := dk_28 (dk_at dksX1_way_0 8 rfl rfl)
theorem dX1_way_9 : decode cX1_way 9 = .ok (.iconst 0, 1) := dk_3 (dk_at dksX1_way_0 9 rfl rfl)
theorem dX1_way_10 : decode cX1_way 10 = .ok (.bipush 7, 2) := dk_16 7 (dk_at dksX1_way_0 10 rfl rfl)
theorem dX1_way_12 : decode cX1_way 12 = .ok (.invokestatic 219, 3) := dk_184 0 219 (dk_at dksX1_way_0 12 rfl rfl)
theorem dX1_way_15 : decode cX1_way 15 = .ok (.ifCond .eq 7, 3) := dk_153 0 7 (dk_at dksX1_way_0 15 rfl rfl)
theorem dX1_way_18 : decode cX1_way 18 = .ok (.iconst 1, 1) := dk_4 (dk_at dksX1_way_0 18 rfl rfl)
theorem dX1_way_19 : decode cX1_way 19 = .ok (.goto 4, 3) := dk_167 0 4 (dk_at dksX1_way_0 19 rfl rfl)
theorem dX1_way_22 : decode cX1_way 22 = .ok (.iconst 0, 1) := dk_3 (dk_at dksX1_way_0 22 rfl rfl)
theorem dX1_way_23 : decode cX1_way 23 = .ok (.invokestatic 236, 3) := dk_184 0 236 (dk_at dksX1_way_1 0 rfl rfl)
theorem dX1_way_26 : decode cX1_way 26 = .ok (.aload_n 0, 1) := dk_42 (dk_at dksX1_way_1 3 rfl rfl)
theorem dX1_way_27 : decode cX1_way 27 = .ok (.getfield 105, 3) := dk_180 0 105 (dk_at dksX1_way_1 4 rfl rfl)
theorem dX1_way_30 : decode cX1_way 30 = .ok (.getfield 202, 3) := dk_180 0 202 (dk_at dksX1_way_1 7 rfl rfl)
theorem dX1_way_33 : decode cX1_way 33 = .ok (.getfield 240, 3) := dk_180 0 240 (dk_at dksX1_way_1 10 rfl rfl)
theorem dX1_way_36 : decode cX1_way 36 = .ok (.iload_n 1, 1) := dk_27 (dk_at dksX1_way_1 13 rfl rfl)
theorem dX1_way_37 : decode cX1_way 37 = .ok (.aaload, 1) := dk_50 (dk_at dksX1_way_1 14 rfl rfl)
theorem dX1_way_38 : decode cX1_way 38 = .ok (.astore_n 3, 1) := dk_78 (dk_at dksX1_way_1 15 rfl rfl)
theorem dX1_way_39 : decode cX1_way 39 = .ok (.iload_n 2, 1) := dk_28 (dk_at dksX1_way_1 16 rfl rfl)
theorem dX1_way_40 : decode cX1_way 40 = .ok (.tableswitch 87 0 6 #[44, 49, 54, 59, 72, 77, 82], 44) := by decide +kernel
theorem dX1_way_84 : decode cX1_way 84 = .ok (.aload_n 3, 1) := dk_45 (dk_at dksX1_way_3 0 rfl rfl)
theorem dX1_way_85 : decode cX1_way 85 = .ok (.getfield 244, 3) := dk_180 0 244 (dk_at dksX1_way_3 1 rfl rfl)
theorem dX1_way_88 : decode cX1_way 88 = .ok (.ireturn, 1) := dk_172 (dk_at dksX1_way_3 4 rfl rfl)
theorem dX1_way_89 : decode cX1_way 89 = .ok (.aload_n 3, 1) := dk_45 (dk_at dksX1_way_3 5 rfl rfl)
theorem dX1_way_90 : decode cX1_way 90 = .ok (.getfield 249, 3) := dk_180 0 249 (dk_at dksX1_way_3 6 rfl rfl)
theorem dX1_way_93 : decode cX1_way 93 = .ok (.ireturn, 1) := dk_172 (dk_at dksX1_way_3 9 rfl rfl)
theorem dX1_way_94 : decode cX1_way 94 = .ok (.aload_n 3, 1) := dk_45 (dk_at dksX1_way_3 10 rfl rfl)
theorem dX1_way_95 : decode cX1_way 95 = .ok (.getfield 251, 3) := dk_180 0 251 (dk_at dksX1_way_3 11 rfl rfl)
theorem dX1_way_98 : decode cX1_way 98 = .ok (.ireturn, 1) := dk_172 (dk_at dksX1_way_3 14 rfl rfl)
theorem dX1_way_99 : decode cX1_way 99 = .ok (.aload_n 3, 1) := dk_45 (dk_at dksX1_way_3 15 rfl rfl)
theorem dX1_way_100 : decode cX1_way 100 = .ok (.getfield 254, 3) := dk_180 0 254 (dk_at dksX1_way_3 16 rfl rfl)
theorem dX1_way_103 : decode cX1_way 103 = .ok (.ifCond .eq 7, 3) := dk_153 0 7 (dk_at dksX1_way_3 19 rfl rfl)
theorem dX1_way_106 : decode cX1_way 106 = .ok (.iconst 1, 1) := dk_4 (dk_at dksX1_way_3 22 rfl rfl)
theorem dX1_way_107 : decode cX1_way 107 = .ok (.goto 4, 3) := dk_167 0 4 (dk_at dksX1_way_4 0 rfl rfl)
theorem dX1_way_110 : decode cX1_way 110 = .ok (.iconst 0, 1) := dk_3 (dk_at dksX1_way_4 3 rfl rfl)
theorem dX1_way_111 : decode cX1_way 111 = .ok (.ireturn, 1) := dk_172 (dk_at dksX1_way_4 4 rfl rfl)
theorem dX1_way_112 : decode cX1_way 112 = .ok (.aload_n 3, 1) := dk_45 (dk_at dksX1_way_4 5 rfl rfl)
theorem dX1_way_113 : decode cX1_way 113 = .ok (.getfield 257, 3) := dk_180 1 1 (dk_at dksX1_way_4 6 rfl rfl)
theorem dX1_way_116 : decode cX1_way 116 = .ok (.ireturn, 1) := dk_172 (dk_at dksX1_way_4 9 rfl rfl)
theorem dX1_way_117 : decode cX1_way 117 = .ok (.aload_n 3, 1) := dk_45 (dk_at dksX1_way_4 10 rfl rfl)
theorem dX1_way_118 : decode cX1_way 118 = .ok (.getfield 259, 3) := dk_180 1 3 (dk_at dksX1_way_4 11 rfl rfl)
theorem dX1_way_121 : decode cX1_way 121 = .ok (.ireturn, 1) := dk_172 (dk_at dksX1_way_4 14 rfl rfl)
theorem dX1_way_122 : decode cX1_way 122 = .ok (.aload_n 3, 1) := dk_45 (dk_at dksX1_way_4 15 rfl rfl)
theorem dX1_way_123 : decode cX1_way 123 = .ok (.getfield 261, 3) := dk_180 1 5 (dk_at dksX1_way_4 16 rfl rfl)
theorem dX1_way_126 : decode cX1_way 126 = .ok (.ireturn, 1) := dk_172 (dk_at dksX1_way_4 19 rfl rfl)
theorem dX1_way_127 : decode cX1_way 127 = .ok (.aload_n 3, 1) := dk_45 (dk_at dksX1_way_4 20 rfl rfl)
theorem dX1_way_128 : decode cX1_way 128 = .ok (.getfield 264, 3) := dk_180 1 8 (dk_at dksX1_way_4 21 rfl rfl)
theorem dX1_way_131 : decode cX1_way 131 = .ok (.ireturn, 1) := dk_172 (dk_at dksX1_way_5 0 rfl rfl)
abbrev cX1_must : ByteArray := prog_1_method_8_code
def yX1_must : MethodName := ⟨RX1, "must", "(Z)V"⟩
def dkwX1_must_0 : List UInt8 := [26, 154, 0, 11, 187, 0, 183, 89, 183, 0, 185, 191, 177]
abbrev dktX1_must_0 : List UInt8 := dkwX1_must_0 ++ []
theorem dksX1_must_0 : cX1_must.data.toList.drop 0 = dktX1_must_0 := by decide +kernel
theorem dX1_must_0 : decode cX1_must 0 = .ok (.iload_n 0, 1) := dk_26 (dk_at dksX1_must_0 0 rfl rfl)
theorem dX1_must_1 : decode cX1_must 1 = .ok (.ifCond .ne 11, 3) := dk_154 0 11 (dk_at dksX1_must_0 1 rfl rfl)
theorem dX1_must_4 : decode cX1_must 4 = .ok (.new 183, 3) := dk_187 0 183 (dk_at dksX1_must_0 4 rfl rfl)
theorem dX1_must_7 : decode cX1_must 7 = .ok (.dup, 1) := dk_89 (dk_at dksX1_must_0 7 rfl rfl)
theorem dX1_must_8 : decode cX1_must 8 = .ok (.invokespecial 185, 3) := dk_183 0 185 (dk_at dksX1_must_0 8 rfl rfl)
theorem dX1_must_11 : decode cX1_must 11 = .ok (.athrow, 1) := dk_191 (dk_at dksX1_must_0 11 rfl rfl)
theorem dX1_must_12 : decode cX1_must 12 = .ok (.return_, 1) := dk_177 (dk_at dksX1_must_0 12 rfl rfl)
abbrev cX1_thing : ByteArray := prog_1_method_16_code
def yX1_thing : MethodName := ⟨RX1, "thing", "(II)I"⟩
def dkwX1_thing_2 : List UInt8 := [167, 0, 18, 42, 180, 0, 105, 180, 0, 202, 180, 1, 14, 27, 50, 180, 1, 21, 172]
abbrev dktX1_thing_2 : List UInt8 := dkwX1_thing_2 ++ []
def dkwX1_thing_1 : List UInt8 := [184, 0, 236, 28, 154, 0, 21, 42, 180, 0, 105, 180, 0, 202, 180, 1, 14, 27, 50, 180, 1, 18]
abbrev dktX1_thing_1 : List UInt8 := dkwX1_thing_1 ++ dktX1_thing_2
def dkwX1_thing_0 : List UInt8 := [42, 27, 182, 1, 11, 153, 0, 16, 28, 3, 4, 184, 0, 219, 153, 0, 7, 4, 167, 0, 4, 3]
abbrev dktX1_thing_0 : List UInt8 := dkwX1_thing_0 ++ dktX1_thing_1
theorem dksX1_thing_0 : cX1_thing.data.toList.drop 0 = dktX1_thing_0 := by decide +kernel
theorem dksX1_thing_1 : cX1_thing.data.toList.drop 22 = dktX1_thing_1 := dk_seg dksX1_thing_0 22 rfl rfl
theorem dksX1_thing_2 : cX1_thing.data.toList.drop 44 = dktX1_thing_2 := dk_seg dksX1_thing_1 22 rfl rfl
theorem dX1_thing_0 : decode cX1_thing 0 = .ok (.aload_n 0, 1) := dk_42 (dk_at dksX1_thing_0 0 rfl rfl)
theorem dX1_thing_1 : decode cX1_thing 1 = .ok (.iload_n 1, 1) := dk_27 (dk_at dksX1_thing_0 1 rfl rfl)
theorem dX1_thing_2 : decode cX1_thing 2 = .ok (.invokevirtual 267, 3) := dk_182 1 11 (dk_at dksX1_thing_0 2 rfl rfl)
theorem dX1_thing_5 : decode cX1_thing 5 = .ok (.ifCond .eq 16, 3) := dk_153 0 16 (dk_at dksX1_thing_0 5 rfl rfl)
theorem dX1_thing_8 : decode cX1_thing 8 = .ok (.iload_n 2, 1) := dk_28 (dk_at dksX1_thing_0 8 rfl rfl)
theorem dX1_thing_9 : decode cX1_thing 9 = .ok (.iconst 0, 1) := dk_3 (dk_at dksX1_thing_0 9 rfl rfl)
theorem dX1_thing_10 : decode cX1_thing 10 = .ok (.iconst 1, 1) := dk_4 (dk_at dksX1_thing_0 10 rfl rfl)
theorem dX1_thing_11 : decode cX1_thing 11 = .ok (.invokestatic 219, 3) := dk_184 0 219 (dk_at dksX1_thing_0 11 rfl rfl)
theorem dX1_thing_14 : decode cX1_thing 14 = .ok (.ifCond .eq 7, 3) := dk_153 0 7 (dk_at dksX1_thing_0 14 rfl rfl)
theorem dX1_thing_17 : decode cX1_thing 17 = .ok (.iconst 1, 1) := dk_4 (dk_at dksX1_thing_0 17 rfl rfl)
theorem dX1_thing_18 : decode cX1_thing 18 = .ok (.goto 4, 3) := dk_167 0 4 (dk_at dksX1_thing_0 18 rfl rfl)
theorem dX1_thing_21 : decode cX1_thing 21 = .ok (.iconst 0, 1) := dk_3 (dk_at dksX1_thing_0 21 rfl rfl)
theorem dX1_thing_22 : decode cX1_thing 22 = .ok (.invokestatic 236, 3) := dk_184 0 236 (dk_at dksX1_thing_1 0 rfl rfl)
theorem dX1_thing_25 : decode cX1_thing 25 = .ok (.iload_n 2, 1) := dk_28 (dk_at dksX1_thing_1 3 rfl rfl)
theorem dX1_thing_26 : decode cX1_thing 26 = .ok (.ifCond .ne 21, 3) := dk_154 0 21 (dk_at dksX1_thing_1 4 rfl rfl)
theorem dX1_thing_29 : decode cX1_thing 29 = .ok (.aload_n 0, 1) := dk_42 (dk_at dksX1_thing_1 7 rfl rfl)
theorem dX1_thing_30 : decode cX1_thing 30 = .ok (.getfield 105, 3) := dk_180 0 105 (dk_at dksX1_thing_1 8 rfl rfl)
theorem dX1_thing_33 : decode cX1_thing 33 = .ok (.getfield 202, 3) := dk_180 0 202 (dk_at dksX1_thing_1 11 rfl rfl)
theorem dX1_thing_36 : decode cX1_thing 36 = .ok (.getfield 270, 3) := dk_180 1 14 (dk_at dksX1_thing_1 14 rfl rfl)
theorem dX1_thing_39 : decode cX1_thing 39 = .ok (.iload_n 1, 1) := dk_27 (dk_at dksX1_thing_1 17 rfl rfl)
theorem dX1_thing_40 : decode cX1_thing 40 = .ok (.aaload, 1) := dk_50 (dk_at dksX1_thing_1 18 rfl rfl)
theorem dX1_thing_41 : decode cX1_thing 41 = .ok (.getfield 274, 3) := dk_180 1 18 (dk_at dksX1_thing_1 19 rfl rfl)
theorem dX1_thing_44 : decode cX1_thing 44 = .ok (.goto 18, 3) := dk_167 0 18 (dk_at dksX1_thing_2 0 rfl rfl)
theorem dX1_thing_47 : decode cX1_thing 47 = .ok (.aload_n 0, 1) := dk_42 (dk_at dksX1_thing_2 3 rfl rfl)
theorem dX1_thing_48 : decode cX1_thing 48 = .ok (.getfield 105, 3) := dk_180 0 105 (dk_at dksX1_thing_2 4 rfl rfl)
theorem dX1_thing_51 : decode cX1_thing 51 = .ok (.getfield 202, 3) := dk_180 0 202 (dk_at dksX1_thing_2 7 rfl rfl)
theorem dX1_thing_54 : decode cX1_thing 54 = .ok (.getfield 270, 3) := dk_180 1 14 (dk_at dksX1_thing_2 10 rfl rfl)
theorem dX1_thing_57 : decode cX1_thing 57 = .ok (.iload_n 1, 1) := dk_27 (dk_at dksX1_thing_2 13 rfl rfl)
theorem dX1_thing_58 : decode cX1_thing 58 = .ok (.aaload, 1) := dk_50 (dk_at dksX1_thing_2 14 rfl rfl)
theorem dX1_thing_59 : decode cX1_thing 59 = .ok (.getfield 277, 3) := dk_180 1 21 (dk_at dksX1_thing_2 15 rfl rfl)
theorem dX1_thing_62 : decode cX1_thing 62 = .ok (.ireturn, 1) := dk_172 (dk_at dksX1_thing_2 18 rfl rfl)
abbrev cX1_odds : ByteArray := prog_1_method_30_code
def yX1_odds : MethodName := ⟨RX1, "odds", "(IIIIII)J"⟩
def dkwX1_odds_5 : List UInt8 := [100, 21, 8, 126, 54, 11, 167, 255, 195, 22, 9, 173]
abbrev dktX1_odds_5 : List UInt8 := dkwX1_odds_5 ++ []
def dkwX1_odds_4 : List UInt8 := [21, 8, 182, 1, 93, 167, 0, 4, 9, 97, 55, 9, 21, 11, 154, 0, 7, 2, 167, 0, 10, 21, 11, 4]
abbrev dktX1_odds_4 : List UInt8 := dkwX1_odds_4 ++ dktX1_odds_5
def dkwX1_odds_3 : List UInt8 := [42, 25, 7, 42, 180, 0, 105, 180, 0, 216, 21, 11, 3, 182, 1, 60, 27, 160, 0, 14, 42, 21, 11]
abbrev dktX1_odds_3 : List UInt8 := dkwX1_odds_3 ++ dktX1_odds_4
def dkwX1_odds_2 : List UInt8 := [180, 0, 202, 6, 182, 0, 212, 54, 8, 9, 55, 9, 21, 8, 54, 11, 21, 11, 2, 159, 0, 61, 22, 9]
abbrev dktX1_odds_2 : List UInt8 := dkwX1_odds_2 ++ dktX1_odds_3
def dkwX1_odds_1 : List UInt8 := [27, 182, 1, 23, 153, 0, 7, 4, 167, 0, 4, 3, 184, 0, 236, 42, 182, 0, 186, 42, 180, 0, 105]
abbrev dktX1_odds_1 : List UInt8 := dkwX1_odds_1 ++ dktX1_odds_2
def dkwX1_odds_0 : List UInt8 := [42, 28, 29, 21, 4, 21, 5, 21, 6, 42, 180, 0, 172, 182, 1, 56, 58, 7, 25, 7, 198, 0, 15, 42]
abbrev dktX1_odds_0 : List UInt8 := dkwX1_odds_0 ++ dktX1_odds_1
theorem dksX1_odds_0 : cX1_odds.data.toList.drop 0 = dktX1_odds_0 := by decide +kernel
theorem dksX1_odds_1 : cX1_odds.data.toList.drop 24 = dktX1_odds_1 := dk_seg dksX1_odds_0 24 rfl rfl
theorem dksX1_odds_2 : cX1_odds.data.toList.drop 47 = dktX1_odds_2 := dk_seg dksX1_odds_1 23 rfl rfl
theorem dksX1_odds_3 : cX1_odds.data.toList.drop 71 = dktX1_odds_3 := dk_seg dksX1_odds_2 24 rfl rfl
theorem dksX1_odds_4 : cX1_odds.data.toList.drop 94 = dktX1_odds_4 := dk_seg dksX1_odds_3 23 rfl rfl
theorem dksX1_odds_5 : cX1_odds.data.toList.drop 118 = dktX1_odds_5 := dk_seg dksX1_odds_4 24 rfl rfl
theorem dX1_odds_0 : decode cX1_odds 0 = .ok (.aload_n 0, 1) := dk_42 (dk_at dksX1_odds_0 0 rfl rfl)
theorem dX1_odds_1 : decode cX1_odds 1 = .ok (.iload_n 2, 1) := dk_28 (dk_at dksX1_odds_0 1 rfl rfl)
theorem dX1_odds_2 : decode cX1_odds 2 = .ok (.iload_n 3, 1) := dk_29 (dk_at dksX1_odds_0 2 rfl rfl)
theorem dX1_odds_3 : decode cX1_odds 3 = .ok (.iload 4, 2) := dk_21 4 (dk_at dksX1_odds_0 3 rfl rfl)
theorem dX1_odds_5 : decode cX1_odds 5 = .ok (.iload 5, 2) := dk_21 5 (dk_at dksX1_odds_0 5 rfl rfl)
theorem dX1_odds_7 : decode cX1_odds 7 = .ok (.iload 6, 2) := dk_21 6 (dk_at dksX1_odds_0 7 rfl rfl)
theorem dX1_odds_9 : decode cX1_odds 9 = .ok (.aload_n 0, 1) := dk_42 (dk_at dksX1_odds_0 9 rfl rfl)
theorem dX1_odds_10 : decode cX1_odds 10 = .ok (.getfield 172, 3) := dk_180 0 172 (dk_at dksX1_odds_0 10 rfl rfl)
theorem dX1_odds_13 : decode cX1_odds 13 = .ok (.invokevirtual 312, 3) := dk_182 1 56 (dk_at dksX1_odds_0 13 rfl rfl)
theorem dX1_odds_16 : decode cX1_odds 16 = .ok (.astore 7, 2) := dk_58 7 (dk_at dksX1_odds_0 16 rfl rfl)
theorem dX1_odds_18 : decode cX1_odds 18 = .ok (.aload 7, 2) := dk_25 7 (dk_at dksX1_odds_0 18 rfl rfl)
theorem dX1_odds_20 : decode cX1_odds 20 = .ok (.ifnull 15, 3) := dk_198 0 15 (dk_at dksX1_odds_0 20 rfl rfl)
theorem dX1_odds_23 : decode cX1_odds 23 = .ok (.aload_n 0, 1) := dk_42 (dk_at dksX1_odds_0 23 rfl rfl)
theorem dX1_odds_24 : decode cX1_odds 24 = .ok (.iload_n 1, 1) := dk_27 (dk_at dksX1_odds_1 0 rfl rfl)
theorem dX1_odds_25 : decode cX1_odds 25 = .ok (.invokevirtual 279, 3) := dk_182 1 23 (dk_at dksX1_odds_1 1 rfl rfl)
theorem dX1_odds_28 : decode cX1_odds 28 = .ok (.ifCond .eq 7, 3) := dk_153 0 7 (dk_at dksX1_odds_1 4 rfl rfl)
theorem dX1_odds_31 : decode cX1_odds 31 = .ok (.iconst 1, 1) := dk_4 (dk_at dksX1_odds_1 7 rfl rfl)
theorem dX1_odds_32 : decode cX1_odds 32 = .ok (.goto 4, 3) := dk_167 0 4 (dk_at dksX1_odds_1 8 rfl rfl)
theorem dX1_odds_35 : decode cX1_odds 35 = .ok (.iconst 0, 1) := dk_3 (dk_at dksX1_odds_1 11 rfl rfl)
theorem dX1_odds_36 : decode cX1_odds 36 = .ok (.invokestatic 236, 3) := dk_184 0 236 (dk_at dksX1_odds_1 12 rfl rfl)
theorem dX1_odds_39 : decode cX1_odds 39 = .ok (.aload_n 0, 1) := dk_42 (dk_at dksX1_odds_1 15 rfl rfl)
theorem dX1_odds_40 : decode cX1_odds 40 = .ok (.invokevirtual 186, 3) := dk_182 0 186 (dk_at dksX1_odds_1 16 rfl rfl)
theorem dX1_odds_43 : decode cX1_odds 43 = .ok (.aload_n 0, 1) := dk_42 (dk_at dksX1_odds_1 19 rfl rfl)
theorem dX1_odds_44 : decode cX1_odds 44 = .ok (.getfield 105, 3) := dk_180 0 105 (dk_at dksX1_odds_1 20 rfl rfl)
theorem dX1_odds_47 : decode cX1_odds 47 = .ok (.getfield 202, 3) := dk_180 0 202 (dk_at dksX1_odds_2 0 rfl rfl)
theorem dX1_odds_50 : decode cX1_odds 50 = .ok (.iconst 3, 1) := dk_6 (dk_at dksX1_odds_2 3 rfl rfl)
theorem dX1_odds_51 : decode cX1_odds 51 = .ok (.invokevirtual 212, 3) := dk_182 0 212 (dk_at dksX1_odds_2 4 rfl rfl)
theorem dX1_odds_54 : decode cX1_odds 54 = .ok (.istore 8, 2) := dk_54 8 (dk_at dksX1_odds_2 7 rfl rfl)
theorem dX1_odds_56 : decode cX1_odds 56 = .ok (.lconst 0, 1) := dk_9 (dk_at dksX1_odds_2 9 rfl rfl)
theorem dX1_odds_57 : decode cX1_odds 57 = .ok (.lstore 9, 2) := dk_55 9 (dk_at dksX1_odds_2 10 rfl rfl)
theorem dX1_odds_59 : decode cX1_odds 59 = .ok (.iload 8, 2) := dk_21 8 (dk_at dksX1_odds_2 12 rfl rfl)
theorem dX1_odds_61 : decode cX1_odds 61 = .ok (.istore 11, 2) := dk_54 11 (dk_at dksX1_odds_2 14 rfl rfl)
theorem dX1_odds_63 : decode cX1_odds 63 = .ok (.iload 11, 2) := dk_21 11 (dk_at dksX1_odds_2 16 rfl rfl)
theorem dX1_odds_65 : decode cX1_odds 65 = .ok (.iconst (-1), 1) := dk_2 (dk_at dksX1_odds_2 18 rfl rfl)
theorem dX1_odds_66 : decode cX1_odds 66 = .ok (.if_icmp .eq 61, 3) := dk_159 0 61 (dk_at dksX1_odds_2 19 rfl rfl)
theorem dX1_odds_69 : decode cX1_odds 69 = .ok (.lload 9, 2) := dk_22 9 (dk_at dksX1_odds_2 22 rfl rfl)
theorem dX1_odds_71 : decode cX1_odds 71 = .ok (.aload_n 0, 1) := dk_42 (dk_at dksX1_odds_3 0 rfl rfl)
theorem dX1_odds_72 : decode cX1_odds 72 = .ok (.aload 7, 2) := dk_25 7 (dk_at dksX1_odds_3 1 rfl rfl)
theorem dX1_odds_74 : decode cX1_odds 74 = .ok (.aload_n 0, 1) := dk_42 (dk_at dksX1_odds_3 3 rfl rfl)
theorem dX1_odds_75 : decode cX1_odds 75 = .ok (.getfield 105, 3) := dk_180 0 105 (dk_at dksX1_odds_3 4 rfl rfl)
theorem dX1_odds_78 : decode cX1_odds 78 = .ok (.getfield 216, 3) := dk_180 0 216 (dk_at dksX1_odds_3 7 rfl rfl)
theorem dX1_odds_81 : decode cX1_odds 81 = .ok (.iload 11, 2) := dk_21 11 (dk_at dksX1_odds_3 10 rfl rfl)
theorem dX1_odds_83 : decode cX1_odds 83 = .ok (.iconst 0, 1) := dk_3 (dk_at dksX1_odds_3 12 rfl rfl)
theorem dX1_odds_84 : decode cX1_odds 84 = .ok (.invokevirtual 316, 3) := dk_182 1 60 (dk_at dksX1_odds_3 13 rfl rfl)
theorem dX1_odds_87 : decode cX1_odds 87 = .ok (.iload_n 1, 1) := dk_27 (dk_at dksX1_odds_3 16 rfl rfl)
theorem dX1_odds_88 : decode cX1_odds 88 = .ok (.if_icmp .ne 14, 3) := dk_160 0 14 (dk_at dksX1_odds_3 17 rfl rfl)
theorem dX1_odds_91 : decode cX1_odds 91 = .ok (.aload_n 0, 1) := dk_42 (dk_at dksX1_odds_3 20 rfl rfl)
theorem dX1_odds_92 : decode cX1_odds 92 = .ok (.iload 11, 2) := dk_21 11 (dk_at dksX1_odds_3 21 rfl rfl)
theorem dX1_odds_94 : decode cX1_odds 94 = .ok (.iload 8, 2) := dk_21 8 (dk_at dksX1_odds_4 0 rfl rfl)
theorem dX1_odds_96 : decode cX1_odds 96 = .ok (.invokevirtual 349, 3) := dk_182 1 93 (dk_at dksX1_odds_4 2 rfl rfl)
theorem dX1_odds_99 : decode cX1_odds 99 = .ok (.goto 4, 3) := dk_167 0 4 (dk_at dksX1_odds_4 5 rfl rfl)
theorem dX1_odds_102 : decode cX1_odds 102 = .ok (.lconst 0, 1) := dk_9 (dk_at dksX1_odds_4 8 rfl rfl)
theorem dX1_odds_103 : decode cX1_odds 103 = .ok (.ladd, 1) := dk_97 (dk_at dksX1_odds_4 9 rfl rfl)
theorem dX1_odds_104 : decode cX1_odds 104 = .ok (.lstore 9, 2) := dk_55 9 (dk_at dksX1_odds_4 10 rfl rfl)
theorem dX1_odds_106 : decode cX1_odds 106 = .ok (.iload 11, 2) := dk_21 11 (dk_at dksX1_odds_4 12 rfl rfl)
theorem dX1_odds_108 : decode cX1_odds 108 = .ok (.ifCond .ne 7, 3) := dk_154 0 7 (dk_at dksX1_odds_4 14 rfl rfl)
theorem dX1_odds_111 : decode cX1_odds 111 = .ok (.iconst (-1), 1) := dk_2 (dk_at dksX1_odds_4 17 rfl rfl)
theorem dX1_odds_112 : decode cX1_odds 112 = .ok (.goto 10, 3) := dk_167 0 10 (dk_at dksX1_odds_4 18 rfl rfl)
theorem dX1_odds_115 : decode cX1_odds 115 = .ok (.iload 11, 2) := dk_21 11 (dk_at dksX1_odds_4 21 rfl rfl)
theorem dX1_odds_117 : decode cX1_odds 117 = .ok (.iconst 1, 1) := dk_4 (dk_at dksX1_odds_4 23 rfl rfl)
theorem dX1_odds_118 : decode cX1_odds 118 = .ok (.isub, 1) := dk_100 (dk_at dksX1_odds_5 0 rfl rfl)
theorem dX1_odds_119 : decode cX1_odds 119 = .ok (.iload 8, 2) := dk_21 8 (dk_at dksX1_odds_5 1 rfl rfl)
theorem dX1_odds_121 : decode cX1_odds 121 = .ok (.iand, 1) := dk_126 (dk_at dksX1_odds_5 3 rfl rfl)
theorem dX1_odds_122 : decode cX1_odds 122 = .ok (.istore 11, 2) := dk_54 11 (dk_at dksX1_odds_5 4 rfl rfl)
theorem dX1_odds_124 : decode cX1_odds 124 = .ok (.goto (-61), 3) := dk_167 255 195 (dk_at dksX1_odds_5 6 rfl rfl)
theorem dX1_odds_127 : decode cX1_odds 127 = .ok (.lload 9, 2) := dk_22 9 (dk_at dksX1_odds_5 9 rfl rfl)
theorem dX1_odds_129 : decode cX1_odds 129 = .ok (.lreturn, 1) := dk_173 (dk_at dksX1_odds_5 11 rfl rfl)
abbrev cX1_luckyParts : ByteArray := prog_1_method_31_code
def yX1_luckyParts : MethodName := ⟨RX1, "luckyParts", "(II)J"⟩
def dkwX1_luckyParts_3 : List UInt8 := [180, 0, 240, 21, 5, 50, 180, 1, 8, 100, 133, 105, 66, 132, 5, 1, 167, 255, 175, 33, 173]
abbrev dktX1_luckyParts_3 : List UInt8 := dkwX1_luckyParts_3 ++ []
def dkwX1_luckyParts_2 : List UInt8 := [180, 0, 240, 21, 5, 50, 180, 1, 8, 133, 167, 0, 23, 16, 20, 42, 180, 0, 105, 180, 0, 202]
abbrev dktX1_luckyParts_2 : List UInt8 := dkwX1_luckyParts_2 ++ dktX1_luckyParts_3
def dkwX1_luckyParts_1 : List UInt8 := [4, 126, 4, 160, 0, 56, 33, 27, 21, 5, 122, 4, 126, 4, 160, 0, 23, 42, 180, 0, 105, 180, 0, 202]
abbrev dktX1_luckyParts_1 : List UInt8 := dkwX1_luckyParts_1 ++ dktX1_luckyParts_2
def dkwX1_luckyParts_0 : List UInt8 := [10, 66, 3, 54, 5, 21, 5, 42, 180, 0, 105, 180, 0, 202, 180, 0, 226, 162, 0, 72, 28, 21, 5, 122]
abbrev dktX1_luckyParts_0 : List UInt8 := dkwX1_luckyParts_0 ++ dktX1_luckyParts_1
theorem dksX1_luckyParts_0 : cX1_luckyParts.data.toList.drop 0 = dktX1_luckyParts_0 := by decide +kernel
theorem dksX1_luckyParts_1 : cX1_luckyParts.data.toList.drop 24 = dktX1_luckyParts_1 := dk_seg dksX1_luckyParts_0 24 rfl rfl
theorem dksX1_luckyParts_2 : cX1_luckyParts.data.toList.drop 48 = dktX1_luckyParts_2 := dk_seg dksX1_luckyParts_1 24 rfl rfl
theorem dksX1_luckyParts_3 : cX1_luckyParts.data.toList.drop 70 = dktX1_luckyParts_3 := dk_seg dksX1_luckyParts_2 22 rfl rfl
theorem dX1_luckyParts_0 : decode cX1_luckyParts 0 = .ok (.lconst 1, 1) := dk_10 (dk_at dksX1_luckyParts_0 0 rfl rfl)
theorem dX1_luckyParts_1 : decode cX1_luckyParts 1 = .ok (.lstore_n 3, 1) := dk_66 (dk_at dksX1_luckyParts_0 1 rfl rfl)
theorem dX1_luckyParts_2 : decode cX1_luckyParts 2 = .ok (.iconst 0, 1) := dk_3 (dk_at dksX1_luckyParts_0 2 rfl rfl)
theorem dX1_luckyParts_3 : decode cX1_luckyParts 3 = .ok (.istore 5, 2) := dk_54 5 (dk_at dksX1_luckyParts_0 3 rfl rfl)
theorem dX1_luckyParts_5 : decode cX1_luckyParts 5 = .ok (.iload 5, 2) := dk_21 5 (dk_at dksX1_luckyParts_0 5 rfl rfl)
theorem dX1_luckyParts_7 : decode cX1_luckyParts 7 = .ok (.aload_n 0, 1) := dk_42 (dk_at dksX1_luckyParts_0 7 rfl rfl)
theorem dX1_luckyParts_8 : decode cX1_luckyParts 8 = .ok (.getfield 105, 3) := dk_180 0 105 (dk_at dksX1_luckyParts_0 8 rfl rfl)
theorem dX1_luckyParts_11 : decode cX1_luckyParts 11 = .ok (.getfield 202, 3) := dk_180 0 202 (dk_at dksX1_luckyParts_0 11 rfl rfl)
theorem dX1_luckyParts_14 : decode cX1_luckyParts 14 = .ok (.getfield 226, 3) := dk_180 0 226 (dk_at dksX1_luckyParts_0 14 rfl rfl)
theorem dX1_luckyParts_17 : decode cX1_luckyParts 17 = .ok (.if_icmp .ge 72, 3) := dk_162 0 72 (dk_at dksX1_luckyParts_0 17 rfl rfl)
theorem dX1_luckyParts_20 : decode cX1_luckyParts 20 = .ok (.iload_n 2, 1) := dk_28 (dk_at dksX1_luckyParts_0 20 rfl rfl)
theorem dX1_luckyParts_21 : decode cX1_luckyParts 21 = .ok (.iload 5, 2) := dk_21 5 (dk_at dksX1_luckyParts_0 21 rfl rfl)
theorem dX1_luckyParts_23 : decode cX1_luckyParts 23 = .ok (.ishr, 1) := dk_122 (dk_at dksX1_luckyParts_0 23 rfl rfl)
theorem dX1_luckyParts_24 : decode cX1_luckyParts 24 = .ok (.iconst 1, 1) := dk_4 (dk_at dksX1_luckyParts_1 0 rfl rfl)
theorem dX1_luckyParts_25 : decode cX1_luckyParts 25 = .ok (.iand, 1) := dk_126 (dk_at dksX1_luckyParts_1 1 rfl rfl)
theorem dX1_luckyParts_26 : decode cX1_luckyParts 26 = .ok (.iconst 1, 1) := dk_4 (dk_at dksX1_luckyParts_1 2 rfl rfl)
theorem dX1_luckyParts_27 : decode cX1_luckyParts 27 = .ok (.if_icmp .ne 56, 3) := dk_160 0 56 (dk_at dksX1_luckyParts_1 3 rfl rfl)
theorem dX1_luckyParts_30 : decode cX1_luckyParts 30 = .ok (.lload_n 3, 1) := dk_33 (dk_at dksX1_luckyParts_1 6 rfl rfl)
theorem dX1_luckyParts_31 : decode cX1_luckyParts 31 = .ok (.iload_n 1, 1) := dk_27 (dk_at dksX1_luckyParts_1 7 rfl rfl)
theorem dX1_luckyParts_32 : decode cX1_luckyParts 32 = .ok (.iload 5, 2) := dk_21 5 (dk_at dksX1_luckyParts_1 8 rfl rfl)
theorem dX1_luckyParts_34 : decode cX1_luckyParts 34 = .ok (.ishr, 1) := dk_122 (dk_at dksX1_luckyParts_1 10 rfl rfl)
theorem dX1_luckyParts_35 : decode cX1_luckyParts 35 = .ok (.iconst 1, 1) := dk_4 (dk_at dksX1_luckyParts_1 11 rfl rfl)
theorem dX1_luckyParts_36 : decode cX1_luckyParts 36 = .ok (.iand, 1) := dk_126 (dk_at dksX1_luckyParts_1 12 rfl rfl)
theorem dX1_luckyParts_37 : decode cX1_luckyParts 37 = .ok (.iconst 1, 1) := dk_4 (dk_at dksX1_luckyParts_1 13 rfl rfl)
theorem dX1_luckyParts_38 : decode cX1_luckyParts 38 = .ok (.if_icmp .ne 23, 3) := dk_160 0 23 (dk_at dksX1_luckyParts_1 14 rfl rfl)
theorem dX1_luckyParts_41 : decode cX1_luckyParts 41 = .ok (.aload_n 0, 1) := dk_42 (dk_at dksX1_luckyParts_1 17 rfl rfl)
theorem dX1_luckyParts_42 : decode cX1_luckyParts 42 = .ok (.getfield 105, 3) := dk_180 0 105 (dk_at dksX1_luckyParts_1 18 rfl rfl)
theorem dX1_luckyParts_45 : decode cX1_luckyParts 45 = .ok (.getfield 202, 3) := dk_180 0 202 (dk_at dksX1_luckyParts_1 21 rfl rfl)
theorem dX1_luckyParts_48 : decode cX1_luckyParts 48 = .ok (.getfield 240, 3) := dk_180 0 240 (dk_at dksX1_luckyParts_2 0 rfl rfl)
theorem dX1_luckyParts_51 : decode cX1_luckyParts 51 = .ok (.iload 5, 2) := dk_21 5 (dk_at dksX1_luckyParts_2 3 rfl rfl)
theorem dX1_luckyParts_53 : decode cX1_luckyParts 53 = .ok (.aaload, 1) := dk_50 (dk_at dksX1_luckyParts_2 5 rfl rfl)
theorem dX1_luckyParts_54 : decode cX1_luckyParts 54 = .ok (.getfield 264, 3) := dk_180 1 8 (dk_at dksX1_luckyParts_2 6 rfl rfl)
theorem dX1_luckyParts_57 : decode cX1_luckyParts 57 = .ok (.i2l, 1) := dk_133 (dk_at dksX1_luckyParts_2 9 rfl rfl)
theorem dX1_luckyParts_58 : decode cX1_luckyParts 58 = .ok (.goto 23, 3) := dk_167 0 23 (dk_at dksX1_luckyParts_2 10 rfl rfl)
theorem dX1_luckyParts_61 : decode cX1_luckyParts 61 = .ok (.bipush 20, 2) := dk_16 20 (dk_at dksX1_luckyParts_2 13 rfl rfl)
theorem dX1_luckyParts_63 : decode cX1_luckyParts 63 = .ok (.aload_n 0, 1) := dk_42 (dk_at dksX1_luckyParts_2 15 rfl rfl)
theorem dX1_luckyParts_64 : decode cX1_luckyParts 64 = .ok (.getfield 105, 3) := dk_180 0 105 (dk_at dksX1_luckyParts_2 16 rfl rfl)
theorem dX1_luckyParts_67 : decode cX1_luckyParts 67 = .ok (.getfield 202, 3) := dk_180 0 202 (dk_at dksX1_luckyParts_2 19 rfl rfl)
theorem dX1_luckyParts_70 : decode cX1_luckyParts 70 = .ok (.getfield 240, 3) := dk_180 0 240 (dk_at dksX1_luckyParts_3 0 rfl rfl)
theorem dX1_luckyParts_73 : decode cX1_luckyParts 73 = .ok (.iload 5, 2) := dk_21 5 (dk_at dksX1_luckyParts_3 3 rfl rfl)
theorem dX1_luckyParts_75 : decode cX1_luckyParts 75 = .ok (.aaload, 1) := dk_50 (dk_at dksX1_luckyParts_3 5 rfl rfl)
theorem dX1_luckyParts_76 : decode cX1_luckyParts 76 = .ok (.getfield 264, 3) := dk_180 1 8 (dk_at dksX1_luckyParts_3 6 rfl rfl)
theorem dX1_luckyParts_79 : decode cX1_luckyParts 79 = .ok (.isub, 1) := dk_100 (dk_at dksX1_luckyParts_3 9 rfl rfl)
theorem dX1_luckyParts_80 : decode cX1_luckyParts 80 = .ok (.i2l, 1) := dk_133 (dk_at dksX1_luckyParts_3 10 rfl rfl)
theorem dX1_luckyParts_81 : decode cX1_luckyParts 81 = .ok (.lmul, 1) := dk_105 (dk_at dksX1_luckyParts_3 11 rfl rfl)
theorem dX1_luckyParts_82 : decode cX1_luckyParts 82 = .ok (.lstore_n 3, 1) := dk_66 (dk_at dksX1_luckyParts_3 12 rfl rfl)
theorem dX1_luckyParts_83 : decode cX1_luckyParts 83 = .ok (.iinc 5 1, 3) := dk_132 5 1 (dk_at dksX1_luckyParts_3 13 rfl rfl)
theorem dX1_luckyParts_86 : decode cX1_luckyParts 86 = .ok (.goto (-81), 3) := dk_167 255 175 (dk_at dksX1_luckyParts_3 16 rfl rfl)
theorem dX1_luckyParts_89 : decode cX1_luckyParts 89 = .ok (.lload_n 3, 1) := dk_33 (dk_at dksX1_luckyParts_3 19 rfl rfl)
theorem dX1_luckyParts_90 : decode cX1_luckyParts 90 = .ok (.lreturn, 1) := dk_173 (dk_at dksX1_luckyParts_3 20 rfl rfl)
theorem q109 : (Jvm.Cond.initialized "TwoHalves") ∈ lw_all := lw_g (lw_at lw_m1 1 rfl) rfl
theorem q144 : (Jvm.Cond.instantiable "TwoHalves" (34 : Nat)) ∈ lw_all := lw_g (lw_at lw_m1 36 rfl) rfl
theorem q146 : (Jvm.Cond.instanceMethod ({ cls := "TwoHalves", name := "<init>", desc := "()V" } : Jvm.MethodName)) ∈ lw_all := lw_g (lw_at lw_m1 38 rfl) rfl
theorem q147 : (Jvm.Cond.code ({ cls := "TwoHalves", name := "<init>", desc := "()V" } : Jvm.MethodName) prog_1_method_1_code (1 : Nat) (Option.none : Option Jvm.ClassFile.FieldType)) ∈ lw_all := lw_g (lw_at lw_m1 39 rfl) rfl
theorem q148 : (Jvm.Cond.methodLink "TwoHalves" (1 : Nat) ({ cls := "java/lang/Object", name := "<init>", desc := "()V" } : Jvm.MethodName)) ∈ lw_all := lw_g (lw_at lw_m1 40 rfl) rfl
theorem q151 : (Jvm.Cond.classLink "TwoHalves" (13 : Nat) "TwoHalves$Fault") ∈ lw_all := lw_g (lw_at lw_m1 43 rfl) rfl
theorem q189 : (Jvm.Cond.methodLink "TwoHalves" (15 : Nat) ({ cls := "TwoHalves$Fault", name := "<init>", desc := "()V" } : Jvm.MethodName)) ∈ lw_all := lw_g (lw_at lw_m1 81 rfl) rfl
theorem q198 : (Jvm.Cond.fieldLink "TwoHalves" (206 : Nat) "TwoHalves$Fault" "kind" "I") ∈ lw_all := lw_g (lw_at lw_m1 90 rfl) rfl
theorem q200 : (Jvm.Cond.fieldLink "TwoHalves" (209 : Nat) "TwoHalves$Fault" "place" "I") ∈ lw_all := lw_g (lw_at lw_m1 92 rfl) rfl
theorem q220 : (Jvm.Cond.classLink "TwoHalves" (20 : Nat) "java/lang/String") ∈ lw_all := lw_g (lw_at lw_m1 112 rfl) rfl
theorem q222 : (Jvm.Cond.stringRef "TwoHalves" (22 : Nat) "thing") ∈ lw_tbl := lw_at lw_m1 114 rfl
theorem q223 : (Jvm.Cond.stringRef "TwoHalves" (24 : Nat) "suits") ∈ lw_tbl := lw_at lw_m1 115 rfl
theorem q224 : (Jvm.Cond.stringRef "TwoHalves" (26 : Nat) "says") ∈ lw_tbl := lw_at lw_m1 116 rfl
theorem q225 : (Jvm.Cond.stringRef "TwoHalves" (28 : Nat) "way") ∈ lw_tbl := lw_at lw_m1 117 rfl
theorem q226 : (Jvm.Cond.stringRef "TwoHalves" (34 : Nat) "shape") ∈ lw_tbl := lw_at lw_m1 118 rfl
theorem q227 : (Jvm.Cond.stringRef "TwoHalves" (36 : Nat) "word") ∈ lw_tbl := lw_at lw_m1 119 rfl
theorem q228 : (Jvm.Cond.stringRef "TwoHalves" (38 : Nat) "feel") ∈ lw_tbl := lw_at lw_m1 120 rfl
theorem q229 : (Jvm.Cond.stringRef "TwoHalves" (40 : Nat) "sound") ∈ lw_tbl := lw_at lw_m1 121 rfl
theorem q230 : (Jvm.Cond.stringRef "TwoHalves" (45 : Nat) "left") ∈ lw_tbl := lw_at lw_m1 122 rfl
theorem q231 : (Jvm.Cond.stringRef "TwoHalves" (47 : Nat) "right") ∈ lw_tbl := lw_at lw_m1 123 rfl
theorem q232 : (Jvm.Cond.stringRef "TwoHalves" (52 : Nat) "mask") ∈ lw_tbl := lw_at lw_m1 124 rfl
theorem q233 : (Jvm.Cond.stringRef "TwoHalves" (54 : Nat) "quiet") ∈ lw_tbl := lw_at lw_m1 125 rfl
theorem q234 : (Jvm.Cond.stringRef "TwoHalves" (56 : Nat) "short") ∈ lw_tbl := lw_at lw_m1 126 rfl
theorem q235 : (Jvm.Cond.stringRef "TwoHalves" (58 : Nat) "still") ∈ lw_tbl := lw_at lw_m1 127 rfl
theorem q236 : (Jvm.Cond.stringRef "TwoHalves" (60 : Nat) "cloth") ∈ lw_tbl := lw_at lw_m1 128 rfl
theorem q237 : (Jvm.Cond.stringRef "TwoHalves" (62 : Nat) "dark") ∈ lw_tbl := lw_at lw_m1 129 rfl
theorem q238 : (Jvm.Cond.stringRef "TwoHalves" (64 : Nat) "far") ∈ lw_tbl := lw_at lw_m1 130 rfl
theorem q239 : (Jvm.Cond.stringRef "TwoHalves" (66 : Nat) "fixed") ∈ lw_tbl := lw_at lw_m1 131 rfl
theorem q240 : (Jvm.Cond.stringRef "TwoHalves" (71 : Nat) "open") ∈ lw_tbl := lw_at lw_m1 132 rfl
theorem q241 : (Jvm.Cond.stringRef "TwoHalves" (73 : Nat) "cut") ∈ lw_tbl := lw_at lw_m1 133 rfl
theorem q242 : (Jvm.Cond.stringRef "TwoHalves" (75 : Nat) "maybe") ∈ lw_tbl := lw_at lw_m1 134 rfl
theorem q243 : (Jvm.Cond.stringRef "TwoHalves" (77 : Nat) "weak") ∈ lw_tbl := lw_at lw_m1 135 rfl
theorem q244 : (Jvm.Cond.stringRef "TwoHalves" (82 : Nat) "in") ∈ lw_tbl := lw_at lw_m1 136 rfl
theorem q245 : (Jvm.Cond.stringRef "TwoHalves" (84 : Nat) "outer") ∈ lw_tbl := lw_at lw_m1 137 rfl
theorem q246 : (Jvm.Cond.stringRef "TwoHalves" (86 : Nat) "after") ∈ lw_tbl := lw_at lw_m1 138 rfl
theorem q247 : (Jvm.Cond.stringRef "TwoHalves" (88 : Nat) "shut") ∈ lw_tbl := lw_at lw_m1 139 rfl
theorem q248 : (Jvm.Cond.classLink "TwoHalves" (93 : Nat) "TwoHalves$HeadReader") ∈ lw_all := lw_g (lw_at lw_m1 140 rfl) rfl
theorem q250 : (Jvm.Cond.methodLink "TwoHalves" (95 : Nat) ({ cls := "TwoHalves$HeadReader", name := "<init>", desc := "(LTwoHalves;)V" } : Jvm.MethodName)) ∈ lw_all := lw_g (lw_at lw_m1 142 rfl) rfl
theorem q300 : (Jvm.Cond.classLink "TwoHalves" (102 : Nat) "TwoHalves$State") ∈ lw_all := lw_g (lw_at lw_m1 192 rfl) rfl
theorem q302 : (Jvm.Cond.methodLink "TwoHalves" (104 : Nat) ({ cls := "TwoHalves$State", name := "<init>", desc := "()V" } : Jvm.MethodName)) ∈ lw_all := lw_g (lw_at lw_m1 194 rfl) rfl
theorem q319 : (Jvm.Cond.fieldLinkNest "TwoHalves" (270 : Nat) "TwoHalves$Head" "things" "[LTwoHalves$Thing;" "TwoHalves") ∈ lw_tbl := lw_at lw_m1 211 rfl
theorem q324 : (Jvm.Cond.fieldLinkNest "TwoHalves" (240 : Nat) "TwoHalves$Head" "ways" "[LTwoHalves$Way;" "TwoHalves") ∈ lw_tbl := lw_at lw_m1 216 rfl
theorem q330 : (Jvm.Cond.fieldLinkNest "TwoHalves" (229 : Nat) "TwoHalves$Head" "thingMany" "I" "TwoHalves") ∈ lw_tbl := lw_at lw_m1 222 rfl
theorem q335 : (Jvm.Cond.fieldLinkNest "TwoHalves" (226 : Nat) "TwoHalves$Head" "wayMany" "I" "TwoHalves") ∈ lw_tbl := lw_at lw_m1 227 rfl
theorem q337 : (Jvm.Cond.fieldLinkNest "TwoHalves" (448 : Nat) "TwoHalves$Head" "suitMany" "I" "TwoHalves") ∈ lw_tbl := lw_at lw_m1 229 rfl
theorem q340 : (Jvm.Cond.fieldLinkNest "TwoHalves" (344 : Nat) "TwoHalves$Head" "weaks" "I" "TwoHalves") ∈ lw_tbl := lw_at lw_m1 232 rfl
theorem q372 : (Jvm.Cond.fieldLinkNest "TwoHalves" (364 : Nat) "TwoHalves$Book" "rows" "[LTwoHalves$Showing;" "TwoHalves") ∈ lw_tbl := lw_at lw_m2 24 rfl
theorem q375 : (Jvm.Cond.fieldLinkNest "TwoHalves" (357 : Nat) "TwoHalves$Book" "many" "I" "TwoHalves") ∈ lw_tbl := lw_at lw_m2 27 rfl
theorem q385 : (Jvm.Cond.fieldLinkNest "TwoHalves" (202 : Nat) "TwoHalves$State" "head" "LTwoHalves$Head;" "TwoHalves") ∈ lw_tbl := lw_at lw_m2 37 rfl
theorem q387 : (Jvm.Cond.fieldLinkNest "TwoHalves" (216 : Nat) "TwoHalves$State" "world" "I" "TwoHalves") ∈ lw_tbl := lw_at lw_m2 39 rfl
theorem q389 : (Jvm.Cond.fieldLinkNest "TwoHalves" (223 : Nat) "TwoHalves$State" "years" "I" "TwoHalves") ∈ lw_tbl := lw_at lw_m2 41 rfl
theorem q391 : (Jvm.Cond.fieldLinkNest "TwoHalves" (393 : Nat) "TwoHalves$State" "probeMany" "I" "TwoHalves") ∈ lw_tbl := lw_at lw_m2 43 rfl
theorem q394 : (Jvm.Cond.fieldLinkNest "TwoHalves" (353 : Nat) "TwoHalves$State" "books" "[LTwoHalves$Book;" "TwoHalves") ∈ lw_tbl := lw_at lw_m2 46 rfl
theorem q396 : (Jvm.Cond.fieldLinkNest "TwoHalves" (396 : Nat) "TwoHalves$State" "probes" "[LTwoHalves$Showing;" "TwoHalves") ∈ lw_tbl := lw_at lw_m2 48 rfl
theorem q398 : (Jvm.Cond.fieldLinkNest "TwoHalves" (431 : Nat) "TwoHalves$State" "sentence" "LTwoHalves$Cond;" "TwoHalves") ∈ lw_tbl := lw_at lw_m2 50 rfl
theorem q414 : (Jvm.Cond.classLink "TwoHalves" (113 : Nat) "TwoHalves$Mind") ∈ lw_all := lw_g (lw_at lw_m2 66 rfl) rfl
theorem q416 : (Jvm.Cond.methodLinkNest "TwoHalves" (115 : Nat) ({ cls := "TwoHalves$Mind", name := "<init>", desc := "(LTwoHalves;)V" } : Jvm.MethodName) "TwoHalves") ∈ lw_tbl := lw_at lw_m2 68 rfl
theorem q424 : (Jvm.Cond.fieldLinkNest "TwoHalves" (308 : Nat) "TwoHalves$Mind" "since" "[[I" "TwoHalves") ∈ lw_tbl := lw_at lw_m2 76 rfl
theorem q431 : (Jvm.Cond.classLink "TwoHalves" (120 : Nat) "TwoHalves$Hand") ∈ lw_all := lw_g (lw_at lw_m2 83 rfl) rfl
theorem q433 : (Jvm.Cond.methodLink "TwoHalves" (122 : Nat) ({ cls := "TwoHalves$Hand", name := "<init>", desc := "(LTwoHalves;I)V" } : Jvm.MethodName)) ∈ lw_all := lw_g (lw_at lw_m2 85 rfl) rfl
theorem q450 : (Jvm.Cond.classLink "TwoHalves" (132 : Nat) "TwoHalves$Asked") ∈ lw_all := lw_g (lw_at lw_m2 102 rfl) rfl
theorem q452 : (Jvm.Cond.classLink "TwoHalves" (134 : Nat) "TwoHalves$Mouth") ∈ lw_all := lw_g (lw_at lw_m2 104 rfl) rfl
theorem q454 : (Jvm.Cond.methodLinkNest "TwoHalves" (136 : Nat) ({ cls := "TwoHalves$Mouth", name := "<init>", desc := "(LTwoHalves;)V" } : Jvm.MethodName) "TwoHalves") ∈ lw_tbl := lw_at lw_m2 106 rfl
theorem q463 : (Jvm.Cond.constant "TwoHalves" (153 : Nat) (65536 : Int32)) ∈ lw_all := lw_g (lw_at lw_m2 115 rfl) rfl
theorem q464 : (Jvm.Cond.classLink "TwoHalves" (161 : Nat) "TwoHalves$SentenceReader") ∈ lw_all := lw_g (lw_at lw_m2 116 rfl) rfl
theorem q466 : (Jvm.Cond.methodLink "TwoHalves" (163 : Nat) ({ cls := "TwoHalves$SentenceReader", name := "<init>", desc := "(LTwoHalves;)V" } : Jvm.MethodName)) ∈ lw_all := lw_g (lw_at lw_m2 118 rfl) rfl
theorem q481 : (Jvm.Cond.fieldLinkNest "TwoHalves" (435 : Nat) "TwoHalves$SentenceReader" "ones" "I" "TwoHalves") ∈ lw_tbl := lw_at lw_m2 133 rfl
theorem q502 : (Jvm.Cond.fieldLink "TwoHalves" (9 : Nat) "TwoHalves" "tape" "[B") ∈ lw_all := lw_g (lw_at lw_m2 154 rfl) rfl
theorem q504 : (Jvm.Cond.fieldLink "TwoHalves" (172 : Nat) "TwoHalves" "length" "I") ∈ lw_all := lw_g (lw_at lw_m2 156 rfl) rfl
theorem q506 : (Jvm.Cond.fieldLink "TwoHalves" (180 : Nat) "TwoHalves" "size" "I") ∈ lw_all := lw_g (lw_at lw_m2 158 rfl) rfl
theorem q507 : (Jvm.Cond.fieldLink "TwoHalves" (16 : Nat) "TwoHalves" "broken" "LTwoHalves$Fault;") ∈ lw_all := lw_g (lw_at lw_m2 159 rfl) rfl
theorem q509 : (Jvm.Cond.fieldLink "TwoHalves" (30 : Nat) "TwoHalves" "lines" "[Ljava/lang/String;") ∈ lw_all := lw_g (lw_at lw_m2 161 rfl) rfl
theorem q512 : (Jvm.Cond.fieldLink "TwoHalves" (42 : Nat) "TwoHalves" "kinds" "[Ljava/lang/String;") ∈ lw_all := lw_g (lw_at lw_m2 164 rfl) rfl
theorem q515 : (Jvm.Cond.fieldLink "TwoHalves" (49 : Nat) "TwoHalves" "halves" "[Ljava/lang/String;") ∈ lw_all := lw_g (lw_at lw_m2 167 rfl) rfl
theorem q518 : (Jvm.Cond.fieldLink "TwoHalves" (68 : Nat) "TwoHalves" "flags" "[Ljava/lang/String;") ∈ lw_all := lw_g (lw_at lw_m2 170 rfl) rfl
theorem q521 : (Jvm.Cond.fieldLink "TwoHalves" (79 : Nat) "TwoHalves" "states" "[Ljava/lang/String;") ∈ lw_all := lw_g (lw_at lw_m2 173 rfl) rfl
theorem q524 : (Jvm.Cond.fieldLink "TwoHalves" (90 : Nat) "TwoHalves" "others" "[Ljava/lang/String;") ∈ lw_all := lw_g (lw_at lw_m2 176 rfl) rfl
theorem q526 : (Jvm.Cond.fieldLink "TwoHalves" (98 : Nat) "TwoHalves" "headReader" "LTwoHalves$HeadReader;") ∈ lw_all := lw_g (lw_at lw_m2 178 rfl) rfl
theorem q527 : (Jvm.Cond.fieldLink "TwoHalves" (105 : Nat) "TwoHalves" "now" "LTwoHalves$State;") ∈ lw_all := lw_g (lw_at lw_m2 179 rfl) rfl
theorem q532 : (Jvm.Cond.fieldLink "TwoHalves" (189 : Nat) "TwoHalves" "fault" "I") ∈ lw_all := lw_g (lw_at lw_m2 184 rfl) rfl
theorem q533 : (Jvm.Cond.fieldLink "TwoHalves" (109 : Nat) "TwoHalves" "nothingOffered" "[I") ∈ lw_all := lw_g (lw_at lw_m2 185 rfl) rfl
theorem q534 : (Jvm.Cond.fieldLink "TwoHalves" (116 : Nat) "TwoHalves" "mind" "LTwoHalves$Mind;") ∈ lw_all := lw_g (lw_at lw_m2 186 rfl) rfl
theorem q535 : (Jvm.Cond.fieldLink "TwoHalves" (125 : Nat) "TwoHalves" "leftHand" "LTwoHalves$Hand;") ∈ lw_all := lw_g (lw_at lw_m2 187 rfl) rfl
theorem q536 : (Jvm.Cond.fieldLink "TwoHalves" (129 : Nat) "TwoHalves" "rightHand" "LTwoHalves$Hand;") ∈ lw_all := lw_g (lw_at lw_m2 188 rfl) rfl
theorem q537 : (Jvm.Cond.fieldLink "TwoHalves" (137 : Nat) "TwoHalves" "askers" "[LTwoHalves$Asked;") ∈ lw_all := lw_g (lw_at lw_m2 189 rfl) rfl
theorem q538 : (Jvm.Cond.fieldLink "TwoHalves" (320 : Nat) "TwoHalves" "hasWhy" "Z") ∈ lw_all := lw_g (lw_at lw_m2 190 rfl) rfl
theorem q539 : (Jvm.Cond.fieldLink "TwoHalves" (336 : Nat) "TwoHalves" "whyKind" "I") ∈ lw_all := lw_g (lw_at lw_m2 191 rfl) rfl
theorem q540 : (Jvm.Cond.fieldLink "TwoHalves" (323 : Nat) "TwoHalves" "whyTaken" "I") ∈ lw_all := lw_g (lw_at lw_m2 192 rfl) rfl
theorem q541 : (Jvm.Cond.fieldLink "TwoHalves" (330 : Nat) "TwoHalves" "whyCause" "I") ∈ lw_all := lw_g (lw_at lw_m2 193 rfl) rfl
theorem q542 : (Jvm.Cond.fieldLink "TwoHalves" (141 : Nat) "TwoHalves" "fitting" "[I") ∈ lw_all := lw_g (lw_at lw_m2 194 rfl) rfl
theorem q543 : (Jvm.Cond.fieldLink "TwoHalves" (144 : Nat) "TwoHalves" "told" "[I") ∈ lw_all := lw_g (lw_at lw_m2 195 rfl) rfl
theorem q545 : (Jvm.Cond.fieldLink "TwoHalves" (368 : Nat) "TwoHalves" "fitMany" "I") ∈ lw_all := lw_g (lw_at lw_m2 197 rfl) rfl
theorem q546 : (Jvm.Cond.fieldLink "TwoHalves" (381 : Nat) "TwoHalves" "toldMany" "I") ∈ lw_all := lw_g (lw_at lw_m2 198 rfl) rfl
theorem q547 : (Jvm.Cond.fieldLink "TwoHalves" (147 : Nat) "TwoHalves" "alike" "[I") ∈ lw_all := lw_g (lw_at lw_m2 199 rfl) rfl
theorem q548 : (Jvm.Cond.fieldLink "TwoHalves" (150 : Nat) "TwoHalves" "comes" "[B") ∈ lw_all := lw_g (lw_at lw_m2 200 rfl) rfl
theorem q549 : (Jvm.Cond.fieldLink "TwoHalves" (154 : Nat) "TwoHalves" "needed" "[Z") ∈ lw_all := lw_g (lw_at lw_m2 201 rfl) rfl
theorem q550 : (Jvm.Cond.fieldLink "TwoHalves" (158 : Nat) "TwoHalves" "needs" "[I") ∈ lw_all := lw_g (lw_at lw_m2 202 rfl) rfl
theorem q551 : (Jvm.Cond.fieldLink "TwoHalves" (408 : Nat) "TwoHalves" "needMany" "I") ∈ lw_all := lw_g (lw_at lw_m2 203 rfl) rfl
theorem q552 : (Jvm.Cond.fieldLink "TwoHalves" (164 : Nat) "TwoHalves" "sentenceReader" "LTwoHalves$SentenceReader;") ∈ lw_all := lw_g (lw_at lw_m2 204 rfl) rfl
theorem q553 : (Jvm.Cond.fieldLink "TwoHalves" (168 : Nat) "TwoHalves" "images" "[LTwoHalves$State;") ∈ lw_all := lw_g (lw_at lw_m2 205 rfl) rfl
theorem q554 : (Jvm.Cond.laysFinal "TwoHalves" "TwoHalves" "tape" "[B") ∈ lw_all := lw_g (lw_at lw_m2 206 rfl) rfl
theorem q555 : (Jvm.Cond.soleField "TwoHalves" "tape") ∈ lw_all := lw_g (lw_at lw_m2 207 rfl) rfl
theorem q556 : (Jvm.Cond.lays "TwoHalves" "TwoHalves" "length" "I") ∈ lw_all := lw_g (lw_at lw_m2 208 rfl) rfl
theorem q557 : (Jvm.Cond.soleField "TwoHalves" "length") ∈ lw_all := lw_g (lw_at lw_m2 209 rfl) rfl
theorem q558 : (Jvm.Cond.lays "TwoHalves" "TwoHalves" "size" "I") ∈ lw_all := lw_g (lw_at lw_m2 210 rfl) rfl
theorem q559 : (Jvm.Cond.soleField "TwoHalves" "size") ∈ lw_all := lw_g (lw_at lw_m2 211 rfl) rfl
theorem q560 : (Jvm.Cond.lays "TwoHalves" "TwoHalves" "today" "I") ∈ lw_all := lw_g (lw_at lw_m2 212 rfl) rfl
theorem q561 : (Jvm.Cond.soleField "TwoHalves" "today") ∈ lw_all := lw_g (lw_at lw_m2 213 rfl) rfl
theorem q562 : (Jvm.Cond.laysFinal "TwoHalves" "TwoHalves" "broken" "LTwoHalves$Fault;") ∈ lw_all := lw_g (lw_at lw_m2 214 rfl) rfl
theorem q563 : (Jvm.Cond.soleField "TwoHalves" "broken") ∈ lw_all := lw_g (lw_at lw_m2 215 rfl) rfl
theorem q564 : (Jvm.Cond.laysFinal "TwoHalves" "TwoHalves" "lines" "[Ljava/lang/String;") ∈ lw_all := lw_g (lw_at lw_m2 216 rfl) rfl
theorem q565 : (Jvm.Cond.soleField "TwoHalves" "lines") ∈ lw_all := lw_g (lw_at lw_m2 217 rfl) rfl
theorem q566 : (Jvm.Cond.laysFinal "TwoHalves" "TwoHalves" "kinds" "[Ljava/lang/String;") ∈ lw_all := lw_g (lw_at lw_m2 218 rfl) rfl
theorem q567 : (Jvm.Cond.soleField "TwoHalves" "kinds") ∈ lw_all := lw_g (lw_at lw_m2 219 rfl) rfl
theorem q568 : (Jvm.Cond.laysFinal "TwoHalves" "TwoHalves" "halves" "[Ljava/lang/String;") ∈ lw_all := lw_g (lw_at lw_m2 220 rfl) rfl
theorem q569 : (Jvm.Cond.soleField "TwoHalves" "halves") ∈ lw_all := lw_g (lw_at lw_m2 221 rfl) rfl
theorem q570 : (Jvm.Cond.laysFinal "TwoHalves" "TwoHalves" "flags" "[Ljava/lang/String;") ∈ lw_all := lw_g (lw_at lw_m2 222 rfl) rfl
theorem q571 : (Jvm.Cond.soleField "TwoHalves" "flags") ∈ lw_all := lw_g (lw_at lw_m2 223 rfl) rfl
theorem q572 : (Jvm.Cond.laysFinal "TwoHalves" "TwoHalves" "states" "[Ljava/lang/String;") ∈ lw_all := lw_g (lw_at lw_m2 224 rfl) rfl
theorem q573 : (Jvm.Cond.soleField "TwoHalves" "states") ∈ lw_all := lw_g (lw_at lw_m2 225 rfl) rfl
theorem q574 : (Jvm.Cond.laysFinal "TwoHalves" "TwoHalves" "others" "[Ljava/lang/String;") ∈ lw_all := lw_g (lw_at lw_m2 226 rfl) rfl
theorem q575 : (Jvm.Cond.soleField "TwoHalves" "others") ∈ lw_all := lw_g (lw_at lw_m2 227 rfl) rfl
theorem q576 : (Jvm.Cond.laysFinal "TwoHalves" "TwoHalves" "headReader" "LTwoHalves$HeadReader;") ∈ lw_all := lw_g (lw_at lw_m2 228 rfl) rfl
theorem q577 : (Jvm.Cond.soleField "TwoHalves" "headReader") ∈ lw_all := lw_g (lw_at lw_m2 229 rfl) rfl
theorem q578 : (Jvm.Cond.laysFinal "TwoHalves" "TwoHalves" "now" "LTwoHalves$State;") ∈ lw_all := lw_g (lw_at lw_m2 230 rfl) rfl
theorem q579 : (Jvm.Cond.soleField "TwoHalves" "now") ∈ lw_all := lw_g (lw_at lw_m2 231 rfl) rfl
theorem q580 : (Jvm.Cond.lays "TwoHalves" "TwoHalves" "fault" "I") ∈ lw_all := lw_g (lw_at lw_m2 232 rfl) rfl
theorem q581 : (Jvm.Cond.soleField "TwoHalves" "fault") ∈ lw_all := lw_g (lw_at lw_m2 233 rfl) rfl
theorem q582 : (Jvm.Cond.laysFinal "TwoHalves" "TwoHalves" "nothingOffered" "[I") ∈ lw_all := lw_g (lw_at lw_m2 234 rfl) rfl
theorem q583 : (Jvm.Cond.soleField "TwoHalves" "nothingOffered") ∈ lw_all := lw_g (lw_at lw_m2 235 rfl) rfl
theorem q584 : (Jvm.Cond.laysFinal "TwoHalves" "TwoHalves" "mind" "LTwoHalves$Mind;") ∈ lw_all := lw_g (lw_at lw_m2 236 rfl) rfl
theorem q585 : (Jvm.Cond.soleField "TwoHalves" "mind") ∈ lw_all := lw_g (lw_at lw_m2 237 rfl) rfl
theorem q586 : (Jvm.Cond.laysFinal "TwoHalves" "TwoHalves" "leftHand" "LTwoHalves$Hand;") ∈ lw_all := lw_g (lw_at lw_m2 238 rfl) rfl
theorem q587 : (Jvm.Cond.soleField "TwoHalves" "leftHand") ∈ lw_all := lw_g (lw_at lw_m2 239 rfl) rfl
theorem q588 : (Jvm.Cond.laysFinal "TwoHalves" "TwoHalves" "rightHand" "LTwoHalves$Hand;") ∈ lw_all := lw_g (lw_at lw_m3 0 rfl) rfl
theorem q589 : (Jvm.Cond.soleField "TwoHalves" "rightHand") ∈ lw_all := lw_g (lw_at lw_m3 1 rfl) rfl
theorem q590 : (Jvm.Cond.laysFinal "TwoHalves" "TwoHalves" "askers" "[LTwoHalves$Asked;") ∈ lw_all := lw_g (lw_at lw_m3 2 rfl) rfl
theorem q591 : (Jvm.Cond.soleField "TwoHalves" "askers") ∈ lw_all := lw_g (lw_at lw_m3 3 rfl) rfl
theorem q592 : (Jvm.Cond.lays "TwoHalves" "TwoHalves" "hasWhy" "Z") ∈ lw_all := lw_g (lw_at lw_m3 4 rfl) rfl
theorem q593 : (Jvm.Cond.soleField "TwoHalves" "hasWhy") ∈ lw_all := lw_g (lw_at lw_m3 5 rfl) rfl
theorem q594 : (Jvm.Cond.lays "TwoHalves" "TwoHalves" "whyKind" "I") ∈ lw_all := lw_g (lw_at lw_m3 6 rfl) rfl
theorem q595 : (Jvm.Cond.soleField "TwoHalves" "whyKind") ∈ lw_all := lw_g (lw_at lw_m3 7 rfl) rfl
theorem q596 : (Jvm.Cond.lays "TwoHalves" "TwoHalves" "whyTaken" "I") ∈ lw_all := lw_g (lw_at lw_m3 8 rfl) rfl
theorem q597 : (Jvm.Cond.soleField "TwoHalves" "whyTaken") ∈ lw_all := lw_g (lw_at lw_m3 9 rfl) rfl
theorem q598 : (Jvm.Cond.lays "TwoHalves" "TwoHalves" "whyCause" "I") ∈ lw_all := lw_g (lw_at lw_m3 10 rfl) rfl
theorem q599 : (Jvm.Cond.soleField "TwoHalves" "whyCause") ∈ lw_all := lw_g (lw_at lw_m3 11 rfl) rfl
theorem q600 : (Jvm.Cond.laysFinal "TwoHalves" "TwoHalves" "fitting" "[I") ∈ lw_all := lw_g (lw_at lw_m3 12 rfl) rfl
theorem q601 : (Jvm.Cond.soleField "TwoHalves" "fitting") ∈ lw_all := lw_g (lw_at lw_m3 13 rfl) rfl
theorem q602 : (Jvm.Cond.laysFinal "TwoHalves" "TwoHalves" "told" "[I") ∈ lw_all := lw_g (lw_at lw_m3 14 rfl) rfl
theorem q603 : (Jvm.Cond.soleField "TwoHalves" "told") ∈ lw_all := lw_g (lw_at lw_m3 15 rfl) rfl
theorem q604 : (Jvm.Cond.lays "TwoHalves" "TwoHalves" "fitMany" "I") ∈ lw_all := lw_g (lw_at lw_m3 16 rfl) rfl
theorem q605 : (Jvm.Cond.soleField "TwoHalves" "fitMany") ∈ lw_all := lw_g (lw_at lw_m3 17 rfl) rfl
theorem q606 : (Jvm.Cond.lays "TwoHalves" "TwoHalves" "toldMany" "I") ∈ lw_all := lw_g (lw_at lw_m3 18 rfl) rfl
theorem q607 : (Jvm.Cond.soleField "TwoHalves" "toldMany") ∈ lw_all := lw_g (lw_at lw_m3 19 rfl) rfl
theorem q608 : (Jvm.Cond.laysFinal "TwoHalves" "TwoHalves" "alike" "[I") ∈ lw_all := lw_g (lw_at lw_m3 20 rfl) rfl
theorem q609 : (Jvm.Cond.soleField "TwoHalves" "alike") ∈ lw_all := lw_g (lw_at lw_m3 21 rfl) rfl
theorem q610 : (Jvm.Cond.laysFinal "TwoHalves" "TwoHalves" "comes" "[B") ∈ lw_all := lw_g (lw_at lw_m3 22 rfl) rfl
theorem q611 : (Jvm.Cond.soleField "TwoHalves" "comes") ∈ lw_all := lw_g (lw_at lw_m3 23 rfl) rfl
theorem q612 : (Jvm.Cond.laysFinal "TwoHalves" "TwoHalves" "needed" "[Z") ∈ lw_all := lw_g (lw_at lw_m3 24 rfl) rfl
theorem q613 : (Jvm.Cond.soleField "TwoHalves" "needed") ∈ lw_all := lw_g (lw_at lw_m3 25 rfl) rfl
theorem q614 : (Jvm.Cond.laysFinal "TwoHalves" "TwoHalves" "needs" "[I") ∈ lw_all := lw_g (lw_at lw_m3 26 rfl) rfl
theorem q615 : (Jvm.Cond.soleField "TwoHalves" "needs") ∈ lw_all := lw_g (lw_at lw_m3 27 rfl) rfl
theorem q616 : (Jvm.Cond.lays "TwoHalves" "TwoHalves" "needMany" "I") ∈ lw_all := lw_g (lw_at lw_m3 28 rfl) rfl
theorem q617 : (Jvm.Cond.soleField "TwoHalves" "needMany") ∈ lw_all := lw_g (lw_at lw_m3 29 rfl) rfl
theorem q618 : (Jvm.Cond.laysFinal "TwoHalves" "TwoHalves" "sentenceReader" "LTwoHalves$SentenceReader;") ∈ lw_all := lw_g (lw_at lw_m3 30 rfl) rfl
theorem q619 : (Jvm.Cond.soleField "TwoHalves" "sentenceReader") ∈ lw_all := lw_g (lw_at lw_m3 31 rfl) rfl
theorem q620 : (Jvm.Cond.laysFinal "TwoHalves" "TwoHalves" "images" "[LTwoHalves$State;") ∈ lw_all := lw_g (lw_at lw_m3 32 rfl) rfl
theorem q621 : (Jvm.Cond.soleField "TwoHalves" "images") ∈ lw_all := lw_g (lw_at lw_m3 33 rfl) rfl
theorem q622 : (Jvm.Cond.superclass "TwoHalves" "java/lang/Object") ∈ lw_all := lw_g (lw_at lw_m3 34 rfl) rfl
theorem q624 : (Jvm.Cond.instanceMethod ({ cls := "TwoHalves", name := "feed", desc := "(IIIII)I" } : Jvm.MethodName)) ∈ lw_all := lw_g (lw_at lw_m3 36 rfl) rfl
theorem q625 : (Jvm.Cond.selects "TwoHalves" ({ cls := "TwoHalves", name := "feed", desc := "(IIIII)I" } : Jvm.MethodName) ({ cls := "TwoHalves", name := "feed", desc := "(IIIII)I" } : Jvm.MethodName)) ∈ lw_all := lw_g (lw_at lw_m3 37 rfl) rfl
theorem q626 : (Jvm.Cond.code ({ cls := "TwoHalves", name := "feed", desc := "(IIIII)I" } : Jvm.MethodName) prog_1_method_2_code (6 : Nat) (Option.some Jvm.ClassFile.FieldType.int)) ∈ lw_all := lw_g (lw_at lw_m3 38 rfl) rfl
theorem q627 : (Jvm.Cond.methodLink "TwoHalves" (176 : Nat) ({ cls := "TwoHalves", name := "four", desc := "(I)V" } : Jvm.MethodName)) ∈ lw_all := lw_g (lw_at lw_m3 39 rfl) rfl
theorem q628 : (Jvm.Cond.privateMethod ({ cls := "TwoHalves", name := "four", desc := "(I)V" } : Jvm.MethodName)) ∈ lw_tbl := lw_at lw_m3 40 rfl
theorem q629 : (Jvm.Cond.instanceMethod ({ cls := "TwoHalves", name := "four", desc := "(I)V" } : Jvm.MethodName)) ∈ lw_all := lw_g (lw_at lw_m3 41 rfl) rfl
theorem q630 : (Jvm.Cond.code ({ cls := "TwoHalves", name := "four", desc := "(I)V" } : Jvm.MethodName) prog_1_method_3_code (3 : Nat) (Option.none : Option Jvm.ClassFile.FieldType)) ∈ lw_all := lw_g (lw_at lw_m3 42 rfl) rfl
theorem q632 : (Jvm.Cond.instanceMethod ({ cls := "TwoHalves", name := "end", desc := "(I)Z" } : Jvm.MethodName)) ∈ lw_all := lw_g (lw_at lw_m3 44 rfl) rfl
theorem q633 : (Jvm.Cond.selects "TwoHalves" ({ cls := "TwoHalves", name := "end", desc := "(I)Z" } : Jvm.MethodName) ({ cls := "TwoHalves", name := "end", desc := "(I)Z" } : Jvm.MethodName)) ∈ lw_all := lw_g (lw_at lw_m3 45 rfl) rfl
theorem q634 : (Jvm.Cond.code ({ cls := "TwoHalves", name := "end", desc := "(I)Z" } : Jvm.MethodName) prog_1_method_4_code (2 : Nat) (Option.some Jvm.ClassFile.FieldType.boolean)) ∈ lw_all := lw_g (lw_at lw_m3 46 rfl) rfl
theorem q636 : (Jvm.Cond.instanceMethod ({ cls := "TwoHalves", name := "head", desc := "()I" } : Jvm.MethodName)) ∈ lw_all := lw_g (lw_at lw_m3 48 rfl) rfl
theorem q637 : (Jvm.Cond.selects "TwoHalves" ({ cls := "TwoHalves", name := "head", desc := "()I" } : Jvm.MethodName) ({ cls := "TwoHalves", name := "head", desc := "()I" } : Jvm.MethodName)) ∈ lw_all := lw_g (lw_at lw_m3 49 rfl) rfl
theorem q638 : (Jvm.Cond.codeWith ({ cls := "TwoHalves", name := "head", desc := "()I" } : Jvm.MethodName) prog_1_method_9_code (3 : Nat) (Option.some Jvm.ClassFile.FieldType.int) [((17 : Nat), (42 : Nat), (43 : Nat), (13 : Nat))]) ∈ lw_all := lw_g (lw_at lw_m3 50 rfl) rfl
theorem q639 : (Jvm.Cond.methodLink "TwoHalves" (186 : Nat) ({ cls := "TwoHalves", name := "taken", desc := "()V" } : Jvm.MethodName)) ∈ lw_all := lw_g (lw_at lw_m3 51 rfl) rfl
theorem q640 : (Jvm.Cond.privateMethod ({ cls := "TwoHalves", name := "taken", desc := "()V" } : Jvm.MethodName)) ∈ lw_tbl := lw_at lw_m3 52 rfl
theorem q641 : (Jvm.Cond.instanceMethod ({ cls := "TwoHalves", name := "taken", desc := "()V" } : Jvm.MethodName)) ∈ lw_all := lw_g (lw_at lw_m3 53 rfl) rfl
theorem q642 : (Jvm.Cond.code ({ cls := "TwoHalves", name := "taken", desc := "()V" } : Jvm.MethodName) prog_1_method_5_code (1 : Nat) (Option.none : Option Jvm.ClassFile.FieldType)) ∈ lw_all := lw_g (lw_at lw_m3 54 rfl) rfl
theorem q643 : (Jvm.Cond.classLink "TwoHalves" (192 : Nat) "TwoHalves$Head") ∈ lw_all := lw_g (lw_at lw_m3 55 rfl) rfl
theorem q644 : (Jvm.Cond.methodLinkNest "TwoHalves" (194 : Nat) ({ cls := "TwoHalves$Head", name := "<init>", desc := "()V" } : Jvm.MethodName) "TwoHalves") ∈ lw_tbl := lw_at lw_m3 56 rfl
theorem q645 : (Jvm.Cond.methodLink "TwoHalves" (195 : Nat) ({ cls := "TwoHalves$HeadReader", name := "read", desc := "(LTwoHalves$Head;)I" } : Jvm.MethodName)) ∈ lw_all := lw_g (lw_at lw_m3 57 rfl) rfl
theorem q664 : (Jvm.Cond.static ({ cls := "TwoHalves", name := "isIn", desc := "(III)Z" } : Jvm.MethodName)) ∈ lw_all := lw_g (lw_at lw_m3 76 rfl) rfl
theorem q665 : (Jvm.Cond.code ({ cls := "TwoHalves", name := "isIn", desc := "(III)Z" } : Jvm.MethodName) prog_1_method_7_code (3 : Nat) (Option.some Jvm.ClassFile.FieldType.boolean)) ∈ lw_all := lw_g (lw_at lw_m3 77 rfl) rfl
theorem q783 : (Jvm.Cond.fieldLinkNest "TwoHalves" (274 : Nat) "TwoHalves$Thing" "kind" "I" "TwoHalves") ∈ lw_tbl := lw_at lw_m3 195 rfl
theorem q786 : (Jvm.Cond.fieldLinkNest "TwoHalves" (277 : Nat) "TwoHalves$Thing" "suits" "I" "TwoHalves") ∈ lw_tbl := lw_at lw_m3 198 rfl
theorem q827 : (Jvm.Cond.fieldLinkNest "TwoHalves" (244 : Nat) "TwoHalves$Way" "from" "I" "TwoHalves") ∈ lw_tbl := lw_at lw_m3 239 rfl
theorem q830 : (Jvm.Cond.fieldLinkNest "TwoHalves" (249 : Nat) "TwoHalves$Way" "kinds" "I" "TwoHalves") ∈ lw_tbl := lw_at lw_m4 2 rfl
theorem q833 : (Jvm.Cond.fieldLinkNest "TwoHalves" (251 : Nat) "TwoHalves$Way" "ticks" "I" "TwoHalves") ∈ lw_tbl := lw_at lw_m4 5 rfl
theorem q836 : (Jvm.Cond.fieldLinkNest "TwoHalves" (257 : Nat) "TwoHalves$Way" "after" "I" "TwoHalves") ∈ lw_tbl := lw_at lw_m4 8 rfl
theorem q839 : (Jvm.Cond.fieldLinkNest "TwoHalves" (259 : Nat) "TwoHalves$Way" "flags" "I" "TwoHalves") ∈ lw_tbl := lw_at lw_m4 11 rfl
theorem q843 : (Jvm.Cond.fieldLinkNest "TwoHalves" (261 : Nat) "TwoHalves$Way" "state" "I" "TwoHalves") ∈ lw_tbl := lw_at lw_m4 15 rfl
theorem q845 : (Jvm.Cond.fieldLinkNest "TwoHalves" (264 : Nat) "TwoHalves$Way" "luck" "I" "TwoHalves") ∈ lw_tbl := lw_at lw_m4 17 rfl
theorem q848 : (Jvm.Cond.fieldLinkNest "TwoHalves" (254 : Nat) "TwoHalves$Way" "outer" "Z" "TwoHalves") ∈ lw_tbl := lw_at lw_m4 20 rfl
theorem q899 : (Jvm.Cond.methodLink "TwoHalves" (199 : Nat) ({ cls := "TwoHalves$State", name := "empty", desc := "()V" } : Jvm.MethodName)) ∈ lw_all := lw_g (lw_at lw_m4 71 rfl) rfl
theorem q904 : (Jvm.Cond.instanceMethod ({ cls := "TwoHalves", name := "fault", desc := "()I" } : Jvm.MethodName)) ∈ lw_all := lw_g (lw_at lw_m4 76 rfl) rfl
theorem q905 : (Jvm.Cond.selects "TwoHalves" ({ cls := "TwoHalves", name := "fault", desc := "()I" } : Jvm.MethodName) ({ cls := "TwoHalves", name := "fault", desc := "()I" } : Jvm.MethodName)) ∈ lw_all := lw_g (lw_at lw_m4 77 rfl) rfl
theorem q906 : (Jvm.Cond.code ({ cls := "TwoHalves", name := "fault", desc := "()I" } : Jvm.MethodName) prog_1_method_10_code (1 : Nat) (Option.some Jvm.ClassFile.FieldType.int)) ∈ lw_all := lw_g (lw_at lw_m4 78 rfl) rfl
theorem q908 : (Jvm.Cond.instanceMethod ({ cls := "TwoHalves", name := "world", desc := "(I)Z" } : Jvm.MethodName)) ∈ lw_all := lw_g (lw_at lw_m4 80 rfl) rfl
theorem q909 : (Jvm.Cond.selects "TwoHalves" ({ cls := "TwoHalves", name := "world", desc := "(I)Z" } : Jvm.MethodName) ({ cls := "TwoHalves", name := "world", desc := "(I)Z" } : Jvm.MethodName)) ∈ lw_all := lw_g (lw_at lw_m4 81 rfl) rfl
theorem q910 : (Jvm.Cond.code ({ cls := "TwoHalves", name := "world", desc := "(I)Z" } : Jvm.MethodName) prog_1_method_11_code (2 : Nat) (Option.some Jvm.ClassFile.FieldType.boolean)) ∈ lw_all := lw_g (lw_at lw_m4 82 rfl) rfl
theorem q911 : (Jvm.Cond.methodLink "TwoHalves" (212 : Nat) ({ cls := "TwoHalves$Head", name := "of", desc := "(I)I" } : Jvm.MethodName)) ∈ lw_all := lw_g (lw_at lw_m4 83 rfl) rfl
theorem q916 : (Jvm.Cond.instanceMethod ({ cls := "TwoHalves", name := "years", desc := "(I)Z" } : Jvm.MethodName)) ∈ lw_all := lw_g (lw_at lw_m4 88 rfl) rfl
theorem q917 : (Jvm.Cond.selects "TwoHalves" ({ cls := "TwoHalves", name := "years", desc := "(I)Z" } : Jvm.MethodName) ({ cls := "TwoHalves", name := "years", desc := "(I)Z" } : Jvm.MethodName)) ∈ lw_all := lw_g (lw_at lw_m4 89 rfl) rfl
theorem q918 : (Jvm.Cond.code ({ cls := "TwoHalves", name := "years", desc := "(I)Z" } : Jvm.MethodName) prog_1_method_12_code (2 : Nat) (Option.some Jvm.ClassFile.FieldType.boolean)) ∈ lw_all := lw_g (lw_at lw_m4 90 rfl) rfl
theorem q919 : (Jvm.Cond.methodLink "TwoHalves" (219 : Nat) ({ cls := "TwoHalves", name := "isIn", desc := "(III)Z" } : Jvm.MethodName)) ∈ lw_all := lw_g (lw_at lw_m4 91 rfl) rfl
theorem q921 : (Jvm.Cond.instanceMethod ({ cls := "TwoHalves", name := "knows", desc := "(IIIIII)I" } : Jvm.MethodName)) ∈ lw_all := lw_g (lw_at lw_m4 93 rfl) rfl
theorem q922 : (Jvm.Cond.selects "TwoHalves" ({ cls := "TwoHalves", name := "knows", desc := "(IIIIII)I" } : Jvm.MethodName) ({ cls := "TwoHalves", name := "knows", desc := "(IIIIII)I" } : Jvm.MethodName)) ∈ lw_all := lw_g (lw_at lw_m4 94 rfl) rfl
theorem q923 : (Jvm.Cond.code ({ cls := "TwoHalves", name := "knows", desc := "(IIIIII)I" } : Jvm.MethodName) prog_1_method_22_code (7 : Nat) (Option.some Jvm.ClassFile.FieldType.int)) ∈ lw_all := lw_g (lw_at lw_m4 95 rfl) rfl
theorem q924 : (Jvm.Cond.methodLink "TwoHalves" (267 : Nat) ({ cls := "TwoHalves", name := "isThing", desc := "(I)Z" } : Jvm.MethodName)) ∈ lw_all := lw_g (lw_at lw_m4 96 rfl) rfl
theorem q925 : (Jvm.Cond.privateMethod ({ cls := "TwoHalves", name := "isThing", desc := "(I)Z" } : Jvm.MethodName)) ∈ lw_tbl := lw_at lw_m4 97 rfl
theorem q926 : (Jvm.Cond.instanceMethod ({ cls := "TwoHalves", name := "isThing", desc := "(I)Z" } : Jvm.MethodName)) ∈ lw_all := lw_g (lw_at lw_m4 98 rfl) rfl
theorem q927 : (Jvm.Cond.code ({ cls := "TwoHalves", name := "isThing", desc := "(I)Z" } : Jvm.MethodName) prog_1_method_14_code (2 : Nat) (Option.some Jvm.ClassFile.FieldType.boolean)) ∈ lw_all := lw_g (lw_at lw_m4 99 rfl) rfl
theorem q928 : (Jvm.Cond.methodLink "TwoHalves" (285 : Nat) ({ cls := "TwoHalves", name := "isShowing", desc := "(IIII)Z" } : Jvm.MethodName)) ∈ lw_all := lw_g (lw_at lw_m4 100 rfl) rfl
theorem q929 : (Jvm.Cond.privateMethod ({ cls := "TwoHalves", name := "isShowing", desc := "(IIII)Z" } : Jvm.MethodName)) ∈ lw_tbl := lw_at lw_m4 101 rfl
theorem q930 : (Jvm.Cond.instanceMethod ({ cls := "TwoHalves", name := "isShowing", desc := "(IIII)Z" } : Jvm.MethodName)) ∈ lw_all := lw_g (lw_at lw_m4 102 rfl) rfl
theorem q931 : (Jvm.Cond.code ({ cls := "TwoHalves", name := "isShowing", desc := "(IIII)Z" } : Jvm.MethodName) prog_1_method_18_code (5 : Nat) (Option.some Jvm.ClassFile.FieldType.boolean)) ∈ lw_all := lw_g (lw_at lw_m4 103 rfl) rfl
theorem q932 : (Jvm.Cond.methodLink "TwoHalves" (279 : Nat) ({ cls := "TwoHalves", name := "isShown", desc := "(I)Z" } : Jvm.MethodName)) ∈ lw_all := lw_g (lw_at lw_m4 104 rfl) rfl
theorem q933 : (Jvm.Cond.privateMethod ({ cls := "TwoHalves", name := "isShown", desc := "(I)Z" } : Jvm.MethodName)) ∈ lw_tbl := lw_at lw_m4 105 rfl
theorem q934 : (Jvm.Cond.instanceMethod ({ cls := "TwoHalves", name := "isShown", desc := "(I)Z" } : Jvm.MethodName)) ∈ lw_all := lw_g (lw_at lw_m4 106 rfl) rfl
theorem q935 : (Jvm.Cond.code ({ cls := "TwoHalves", name := "isShown", desc := "(I)Z" } : Jvm.MethodName) prog_1_method_17_code (2 : Nat) (Option.some Jvm.ClassFile.FieldType.boolean)) ∈ lw_all := lw_g (lw_at lw_m4 107 rfl) rfl
theorem q936 : (Jvm.Cond.classLink "TwoHalves" (292 : Nat) "TwoHalves$Showing") ∈ lw_all := lw_g (lw_at lw_m4 108 rfl) rfl
theorem q938 : (Jvm.Cond.methodLink "TwoHalves" (294 : Nat) ({ cls := "TwoHalves$Showing", name := "<init>", desc := "(IIIIII[I)V" } : Jvm.MethodName)) ∈ lw_all := lw_g (lw_at lw_m4 110 rfl) rfl
theorem q954 : (Jvm.Cond.fieldLinkNest "TwoHalves" (301 : Nat) "TwoHalves$Showing" "asked" "I" "TwoHalves") ∈ lw_tbl := lw_at lw_m4 126 rfl
theorem q959 : (Jvm.Cond.fieldLinkNest "TwoHalves" (362 : Nat) "TwoHalves$Showing" "told" "I" "TwoHalves") ∈ lw_tbl := lw_at lw_m4 131 rfl
theorem q977 : (Jvm.Cond.methodLink "TwoHalves" (297 : Nat) ({ cls := "TwoHalves$Mind", name := "spread", desc := "(LTwoHalves$Showing;IIZ)V" } : Jvm.MethodName)) ∈ lw_all := lw_g (lw_at lw_m4 149 rfl) rfl
theorem q994 : (Jvm.Cond.instanceMethod ({ cls := "TwoHalves", name := "answer", desc := "(IIIII)I" } : Jvm.MethodName)) ∈ lw_all := lw_g (lw_at lw_m4 166 rfl) rfl
theorem q995 : (Jvm.Cond.selects "TwoHalves" ({ cls := "TwoHalves", name := "answer", desc := "(IIIII)I" } : Jvm.MethodName) ({ cls := "TwoHalves", name := "answer", desc := "(IIIII)I" } : Jvm.MethodName)) ∈ lw_all := lw_g (lw_at lw_m4 167 rfl) rfl
theorem q996 : (Jvm.Cond.code ({ cls := "TwoHalves", name := "answer", desc := "(IIIII)I" } : Jvm.MethodName) prog_1_method_23_code (7 : Nat) (Option.some Jvm.ClassFile.FieldType.int)) ∈ lw_all := lw_g (lw_at lw_m4 168 rfl) rfl
theorem q997 : (Jvm.Cond.methodLink "TwoHalves" (312 : Nat) ({ cls := "TwoHalves", name := "shown", desc := "(IIIIII)LTwoHalves$Showing;" } : Jvm.MethodName)) ∈ lw_all := lw_g (lw_at lw_m4 169 rfl) rfl
theorem q998 : (Jvm.Cond.privateMethod ({ cls := "TwoHalves", name := "shown", desc := "(IIIIII)LTwoHalves$Showing;" } : Jvm.MethodName)) ∈ lw_tbl := lw_at lw_m4 170 rfl
theorem q999 : (Jvm.Cond.instanceMethod ({ cls := "TwoHalves", name := "shown", desc := "(IIIIII)LTwoHalves$Showing;" } : Jvm.MethodName)) ∈ lw_all := lw_g (lw_at lw_m4 171 rfl) rfl
theorem q1000 : (Jvm.Cond.code ({ cls := "TwoHalves", name := "shown", desc := "(IIIIII)LTwoHalves$Showing;" } : Jvm.MethodName) prog_1_method_20_code (9 : Nat) (Option.some (Jvm.ClassFile.FieldType.object "TwoHalves$Showing"))) ∈ lw_all := lw_g (lw_at lw_m4 172 rfl) rfl
theorem q1001 : (Jvm.Cond.methodLink "TwoHalves" (289 : Nat) ({ cls := "TwoHalves", name := "areOffered", desc := "(I)Z" } : Jvm.MethodName)) ∈ lw_all := lw_g (lw_at lw_m4 173 rfl) rfl
theorem q1002 : (Jvm.Cond.privateMethod ({ cls := "TwoHalves", name := "areOffered", desc := "(I)Z" } : Jvm.MethodName)) ∈ lw_tbl := lw_at lw_m4 174 rfl
theorem q1003 : (Jvm.Cond.instanceMethod ({ cls := "TwoHalves", name := "areOffered", desc := "(I)Z" } : Jvm.MethodName)) ∈ lw_all := lw_g (lw_at lw_m4 175 rfl) rfl
theorem q1004 : (Jvm.Cond.code ({ cls := "TwoHalves", name := "areOffered", desc := "(I)Z" } : Jvm.MethodName) prog_1_method_19_code (4 : Nat) (Option.some Jvm.ClassFile.FieldType.boolean)) ∈ lw_all := lw_g (lw_at lw_m4 176 rfl) rfl
theorem q1005 : (Jvm.Cond.methodLink "TwoHalves" (282 : Nat) ({ cls := "TwoHalves", name := "one", desc := "(I)I" } : Jvm.MethodName)) ∈ lw_all := lw_g (lw_at lw_m4 177 rfl) rfl
theorem q1006 : (Jvm.Cond.privateMethod ({ cls := "TwoHalves", name := "one", desc := "(I)I" } : Jvm.MethodName)) ∈ lw_tbl := lw_at lw_m4 178 rfl
theorem q1007 : (Jvm.Cond.instanceMethod ({ cls := "TwoHalves", name := "one", desc := "(I)I" } : Jvm.MethodName)) ∈ lw_all := lw_g (lw_at lw_m4 179 rfl) rfl
theorem q1008 : (Jvm.Cond.code ({ cls := "TwoHalves", name := "one", desc := "(I)I" } : Jvm.MethodName) prog_1_method_6_code (2 : Nat) (Option.some Jvm.ClassFile.FieldType.int)) ∈ lw_all := lw_g (lw_at lw_m4 180 rfl) rfl
theorem q1009 : (Jvm.Cond.methodLink "TwoHalves" (316 : Nat) ({ cls := "TwoHalves", name := "answered", desc := "(LTwoHalves$Showing;IIZ)I" } : Jvm.MethodName)) ∈ lw_all := lw_g (lw_at lw_m4 181 rfl) rfl
theorem q1010 : (Jvm.Cond.privateMethod ({ cls := "TwoHalves", name := "answered", desc := "(LTwoHalves$Showing;IIZ)I" } : Jvm.MethodName)) ∈ lw_tbl := lw_at lw_m4 182 rfl
theorem q1011 : (Jvm.Cond.instanceMethod ({ cls := "TwoHalves", name := "answered", desc := "(LTwoHalves$Showing;IIZ)I" } : Jvm.MethodName)) ∈ lw_all := lw_g (lw_at lw_m4 183 rfl) rfl
theorem q1012 : (Jvm.Cond.code ({ cls := "TwoHalves", name := "answered", desc := "(LTwoHalves$Showing;IIZ)I" } : Jvm.MethodName) prog_1_method_21_code (5 : Nat) (Option.some Jvm.ClassFile.FieldType.int)) ∈ lw_all := lw_g (lw_at lw_m4 184 rfl) rfl
theorem q1013 : (Jvm.Cond.methodLink "TwoHalves" (304 : Nat) ({ cls := "TwoHalves$Asked", name := "answer", desc := "(LTwoHalves$Showing;LTwoHalves$Mind;)I" } : Jvm.MethodName)) ∈ lw_all := lw_g (lw_at lw_m4 185 rfl) rfl
theorem q1038 : (Jvm.Cond.instanceMethod ({ cls := "TwoHalves", name := "why", desc := "(IIIII)I" } : Jvm.MethodName)) ∈ lw_all := lw_g (lw_at lw_m4 210 rfl) rfl
theorem q1039 : (Jvm.Cond.selects "TwoHalves" ({ cls := "TwoHalves", name := "why", desc := "(IIIII)I" } : Jvm.MethodName) ({ cls := "TwoHalves", name := "why", desc := "(IIIII)I" } : Jvm.MethodName)) ∈ lw_all := lw_g (lw_at lw_m4 211 rfl) rfl
theorem q1040 : (Jvm.Cond.code ({ cls := "TwoHalves", name := "why", desc := "(IIIII)I" } : Jvm.MethodName) prog_1_method_24_code (10 : Nat) (Option.some Jvm.ClassFile.FieldType.int)) ∈ lw_all := lw_g (lw_at lw_m4 212 rfl) rfl
theorem q1041 : (Jvm.Cond.methodLink "TwoHalves" (326 : Nat) ({ cls := "TwoHalves$Hand", name := "cause", desc := "(ILTwoHalves$Mind;)I" } : Jvm.MethodName)) ∈ lw_all := lw_g (lw_at lw_m4 213 rfl) rfl
theorem q1045 : (Jvm.Cond.methodLink "TwoHalves" (333 : Nat) ({ cls := "TwoHalves$Mind", name := "said", desc := "(I)I" } : Jvm.MethodName)) ∈ lw_all := lw_g (lw_at lw_m4 217 rfl) rfl
theorem q1047 : (Jvm.Cond.instanceMethod ({ cls := "TwoHalves", name := "filled", desc := "(I)I" } : Jvm.MethodName)) ∈ lw_all := lw_g (lw_at lw_m4 219 rfl) rfl
theorem q1048 : (Jvm.Cond.selects "TwoHalves" ({ cls := "TwoHalves", name := "filled", desc := "(I)I" } : Jvm.MethodName) ({ cls := "TwoHalves", name := "filled", desc := "(I)I" } : Jvm.MethodName)) ∈ lw_all := lw_g (lw_at lw_m4 220 rfl) rfl
theorem q1049 : (Jvm.Cond.code ({ cls := "TwoHalves", name := "filled", desc := "(I)I" } : Jvm.MethodName) prog_1_method_25_code (2 : Nat) (Option.some Jvm.ClassFile.FieldType.int)) ∈ lw_all := lw_g (lw_at lw_m4 221 rfl) rfl
theorem q1051 : (Jvm.Cond.instanceMethod ({ cls := "TwoHalves", name := "fight", desc := "(IIII)I" } : Jvm.MethodName)) ∈ lw_all := lw_g (lw_at lw_m4 223 rfl) rfl
theorem q1052 : (Jvm.Cond.selects "TwoHalves" ({ cls := "TwoHalves", name := "fight", desc := "(IIII)I" } : Jvm.MethodName) ({ cls := "TwoHalves", name := "fight", desc := "(IIII)I" } : Jvm.MethodName)) ∈ lw_all := lw_g (lw_at lw_m4 224 rfl) rfl
theorem q1053 : (Jvm.Cond.code ({ cls := "TwoHalves", name := "fight", desc := "(IIII)I" } : Jvm.MethodName) prog_1_method_26_code (8 : Nat) (Option.some Jvm.ClassFile.FieldType.int)) ∈ lw_all := lw_g (lw_at lw_m4 225 rfl) rfl
theorem q1054 : (Jvm.Cond.methodLink "TwoHalves" (339 : Nat) ({ cls := "TwoHalves$Hand", name := "answer", desc := "(LTwoHalves$Showing;LTwoHalves$Mind;)I" } : Jvm.MethodName)) ∈ lw_all := lw_g (lw_at lw_m4 226 rfl) rfl
theorem q1056 : (Jvm.Cond.instanceMethod ({ cls := "TwoHalves", name := "helped", desc := "(IIIII)I" } : Jvm.MethodName)) ∈ lw_all := lw_g (lw_at lw_m4 228 rfl) rfl
theorem q1057 : (Jvm.Cond.selects "TwoHalves" ({ cls := "TwoHalves", name := "helped", desc := "(IIIII)I" } : Jvm.MethodName) ({ cls := "TwoHalves", name := "helped", desc := "(IIIII)I" } : Jvm.MethodName)) ∈ lw_all := lw_g (lw_at lw_m4 229 rfl) rfl
theorem q1058 : (Jvm.Cond.code ({ cls := "TwoHalves", name := "helped", desc := "(IIIII)I" } : Jvm.MethodName) prog_1_method_27_code (7 : Nat) (Option.some Jvm.ClassFile.FieldType.int)) ∈ lw_all := lw_g (lw_at lw_m4 230 rfl) rfl
theorem q1060 : (Jvm.Cond.instanceMethod ({ cls := "TwoHalves", name := "foretell", desc := "(IIII)I" } : Jvm.MethodName)) ∈ lw_all := lw_g (lw_at lw_m4 232 rfl) rfl
theorem q1061 : (Jvm.Cond.selects "TwoHalves" ({ cls := "TwoHalves", name := "foretell", desc := "(IIII)I" } : Jvm.MethodName) ({ cls := "TwoHalves", name := "foretell", desc := "(IIII)I" } : Jvm.MethodName)) ∈ lw_all := lw_g (lw_at lw_m4 233 rfl) rfl
theorem q1062 : (Jvm.Cond.code ({ cls := "TwoHalves", name := "foretell", desc := "(IIII)I" } : Jvm.MethodName) prog_1_method_28_code (6 : Nat) (Option.some Jvm.ClassFile.FieldType.int)) ∈ lw_all := lw_g (lw_at lw_m4 234 rfl) rfl
theorem q1063 : (Jvm.Cond.methodLink "TwoHalves" (340 : Nat) ({ cls := "TwoHalves$Mind", name := "mean", desc := "(LTwoHalves$Showing;Z)V" } : Jvm.MethodName)) ∈ lw_all := lw_g (lw_at lw_m4 235 rfl) rfl
theorem q1068 : (Jvm.Cond.instanceMethod ({ cls := "TwoHalves", name := "all", desc := "()J" } : Jvm.MethodName)) ∈ lw_all := lw_g (lw_at lw_m5 0 rfl) rfl
theorem q1069 : (Jvm.Cond.selects "TwoHalves" ({ cls := "TwoHalves", name := "all", desc := "()J" } : Jvm.MethodName) ({ cls := "TwoHalves", name := "all", desc := "()J" } : Jvm.MethodName)) ∈ lw_all := lw_g (lw_at lw_m5 1 rfl) rfl
theorem q1070 : (Jvm.Cond.code ({ cls := "TwoHalves", name := "all", desc := "()J" } : Jvm.MethodName) prog_1_method_29_code (4 : Nat) (Option.some Jvm.ClassFile.FieldType.long)) ∈ lw_all := lw_g (lw_at lw_m5 2 rfl) rfl
theorem q1071 : (Jvm.Cond.constantLong "TwoHalves" (347 : Nat) (20 : Int64)) ∈ lw_all := lw_g (lw_at lw_m5 3 rfl) rfl
theorem q1073 : (Jvm.Cond.instanceMethod ({ cls := "TwoHalves", name := "row", desc := "(IIIIII)I" } : Jvm.MethodName)) ∈ lw_all := lw_g (lw_at lw_m5 5 rfl) rfl
theorem q1074 : (Jvm.Cond.selects "TwoHalves" ({ cls := "TwoHalves", name := "row", desc := "(IIIIII)I" } : Jvm.MethodName) ({ cls := "TwoHalves", name := "row", desc := "(IIIIII)I" } : Jvm.MethodName)) ∈ lw_all := lw_g (lw_at lw_m5 6 rfl) rfl
theorem q1075 : (Jvm.Cond.code ({ cls := "TwoHalves", name := "row", desc := "(IIIIII)I" } : Jvm.MethodName) prog_1_method_32_code (9 : Nat) (Option.some Jvm.ClassFile.FieldType.int)) ∈ lw_all := lw_g (lw_at lw_m5 7 rfl) rfl
theorem q1077 : (Jvm.Cond.instanceMethod ({ cls := "TwoHalves", name := "worlds", desc := "(I)I" } : Jvm.MethodName)) ∈ lw_all := lw_g (lw_at lw_m5 9 rfl) rfl
theorem q1078 : (Jvm.Cond.selects "TwoHalves" ({ cls := "TwoHalves", name := "worlds", desc := "(I)I" } : Jvm.MethodName) ({ cls := "TwoHalves", name := "worlds", desc := "(I)I" } : Jvm.MethodName)) ∈ lw_all := lw_g (lw_at lw_m5 10 rfl) rfl
theorem q1079 : (Jvm.Cond.code ({ cls := "TwoHalves", name := "worlds", desc := "(I)I" } : Jvm.MethodName) prog_1_method_36_code (2 : Nat) (Option.some Jvm.ClassFile.FieldType.int)) ∈ lw_all := lw_g (lw_at lw_m5 11 rfl) rfl
theorem q1080 : (Jvm.Cond.methodLink "TwoHalves" (375 : Nat) ({ cls := "TwoHalves", name := "isPerson", desc := "(I)Z" } : Jvm.MethodName)) ∈ lw_all := lw_g (lw_at lw_m5 12 rfl) rfl
theorem q1081 : (Jvm.Cond.static ({ cls := "TwoHalves", name := "isPerson", desc := "(I)Z" } : Jvm.MethodName)) ∈ lw_all := lw_g (lw_at lw_m5 13 rfl) rfl
theorem q1082 : (Jvm.Cond.code ({ cls := "TwoHalves", name := "isPerson", desc := "(I)Z" } : Jvm.MethodName) prog_1_method_35_code (1 : Nat) (Option.some Jvm.ClassFile.FieldType.boolean)) ∈ lw_all := lw_g (lw_at lw_m5 14 rfl) rfl
theorem q1083 : (Jvm.Cond.methodLink "TwoHalves" (378 : Nat) ({ cls := "TwoHalves", name := "explore", desc := "(I)V" } : Jvm.MethodName)) ∈ lw_all := lw_g (lw_at lw_m5 15 rfl) rfl
theorem q1084 : (Jvm.Cond.privateMethod ({ cls := "TwoHalves", name := "explore", desc := "(I)V" } : Jvm.MethodName)) ∈ lw_tbl := lw_at lw_m5 16 rfl
theorem q1085 : (Jvm.Cond.instanceMethod ({ cls := "TwoHalves", name := "explore", desc := "(I)V" } : Jvm.MethodName)) ∈ lw_all := lw_g (lw_at lw_m5 17 rfl) rfl
theorem q1086 : (Jvm.Cond.code ({ cls := "TwoHalves", name := "explore", desc := "(I)V" } : Jvm.MethodName) prog_1_method_34_code (5 : Nat) (Option.none : Option Jvm.ClassFile.FieldType)) ∈ lw_all := lw_g (lw_at lw_m5 18 rfl) rfl
theorem q1087 : (Jvm.Cond.methodLink "TwoHalves" (371 : Nat) ({ cls := "TwoHalves", name := "fits", desc := "(LTwoHalves$Book;I)Z" } : Jvm.MethodName)) ∈ lw_all := lw_g (lw_at lw_m5 19 rfl) rfl
theorem q1088 : (Jvm.Cond.privateMethod ({ cls := "TwoHalves", name := "fits", desc := "(LTwoHalves$Book;I)Z" } : Jvm.MethodName)) ∈ lw_tbl := lw_at lw_m5 20 rfl
theorem q1089 : (Jvm.Cond.instanceMethod ({ cls := "TwoHalves", name := "fits", desc := "(LTwoHalves$Book;I)Z" } : Jvm.MethodName)) ∈ lw_all := lw_g (lw_at lw_m5 21 rfl) rfl
theorem q1090 : (Jvm.Cond.code ({ cls := "TwoHalves", name := "fits", desc := "(LTwoHalves$Book;I)Z" } : Jvm.MethodName) prog_1_method_33_code (4 : Nat) (Option.some Jvm.ClassFile.FieldType.boolean)) ∈ lw_all := lw_g (lw_at lw_m5 22 rfl) rfl
theorem q1091 : (Jvm.Cond.methodLink "TwoHalves" (384 : Nat) ({ cls := "java/lang/System", name := "arraycopy", desc := "(Ljava/lang/Object;ILjava/lang/Object;II)V" } : Jvm.MethodName)) ∈ lw_all := lw_g (lw_at lw_m5 23 rfl) rfl
theorem q1095 : (Jvm.Cond.instanceMethod ({ cls := "TwoHalves", name := "worldAt", desc := "(I)I" } : Jvm.MethodName)) ∈ lw_all := lw_g (lw_at lw_m5 27 rfl) rfl
theorem q1096 : (Jvm.Cond.selects "TwoHalves" ({ cls := "TwoHalves", name := "worldAt", desc := "(I)I" } : Jvm.MethodName) ({ cls := "TwoHalves", name := "worldAt", desc := "(I)I" } : Jvm.MethodName)) ∈ lw_all := lw_g (lw_at lw_m5 28 rfl) rfl
theorem q1097 : (Jvm.Cond.code ({ cls := "TwoHalves", name := "worldAt", desc := "(I)I" } : Jvm.MethodName) prog_1_method_37_code (2 : Nat) (Option.some Jvm.ClassFile.FieldType.int)) ∈ lw_all := lw_g (lw_at lw_m5 29 rfl) rfl
theorem q1099 : (Jvm.Cond.instanceMethod ({ cls := "TwoHalves", name := "sure", desc := "(II)I" } : Jvm.MethodName)) ∈ lw_all := lw_g (lw_at lw_m5 31 rfl) rfl
theorem q1100 : (Jvm.Cond.selects "TwoHalves" ({ cls := "TwoHalves", name := "sure", desc := "(II)I" } : Jvm.MethodName) ({ cls := "TwoHalves", name := "sure", desc := "(II)I" } : Jvm.MethodName)) ∈ lw_all := lw_g (lw_at lw_m5 32 rfl) rfl
theorem q1101 : (Jvm.Cond.code ({ cls := "TwoHalves", name := "sure", desc := "(II)I" } : Jvm.MethodName) prog_1_method_39_code (3 : Nat) (Option.some Jvm.ClassFile.FieldType.int)) ∈ lw_all := lw_g (lw_at lw_m5 33 rfl) rfl
theorem q1102 : (Jvm.Cond.methodLink "TwoHalves" (232 : Nat) ({ cls := "TwoHalves", name := "isWay", desc := "(I)Z" } : Jvm.MethodName)) ∈ lw_all := lw_g (lw_at lw_m5 34 rfl) rfl
theorem q1103 : (Jvm.Cond.privateMethod ({ cls := "TwoHalves", name := "isWay", desc := "(I)Z" } : Jvm.MethodName)) ∈ lw_tbl := lw_at lw_m5 35 rfl
theorem q1104 : (Jvm.Cond.instanceMethod ({ cls := "TwoHalves", name := "isWay", desc := "(I)Z" } : Jvm.MethodName)) ∈ lw_all := lw_g (lw_at lw_m5 36 rfl) rfl
theorem q1105 : (Jvm.Cond.code ({ cls := "TwoHalves", name := "isWay", desc := "(I)Z" } : Jvm.MethodName) prog_1_method_13_code (2 : Nat) (Option.some Jvm.ClassFile.FieldType.boolean)) ∈ lw_all := lw_g (lw_at lw_m5 37 rfl) rfl
theorem q1106 : (Jvm.Cond.methodLink "TwoHalves" (390 : Nat) ({ cls := "TwoHalves", name := "sureOf", desc := "(I)I" } : Jvm.MethodName)) ∈ lw_all := lw_g (lw_at lw_m5 38 rfl) rfl
theorem q1107 : (Jvm.Cond.privateMethod ({ cls := "TwoHalves", name := "sureOf", desc := "(I)I" } : Jvm.MethodName)) ∈ lw_tbl := lw_at lw_m5 39 rfl
theorem q1108 : (Jvm.Cond.instanceMethod ({ cls := "TwoHalves", name := "sureOf", desc := "(I)I" } : Jvm.MethodName)) ∈ lw_all := lw_g (lw_at lw_m5 40 rfl) rfl
theorem q1109 : (Jvm.Cond.code ({ cls := "TwoHalves", name := "sureOf", desc := "(I)I" } : Jvm.MethodName) prog_1_method_38_code (4 : Nat) (Option.some Jvm.ClassFile.FieldType.int)) ∈ lw_all := lw_g (lw_at lw_m5 41 rfl) rfl
theorem q1111 : (Jvm.Cond.instanceMethod ({ cls := "TwoHalves", name := "probe", desc := "(IIIII)I" } : Jvm.MethodName)) ∈ lw_all := lw_g (lw_at lw_m5 43 rfl) rfl
theorem q1112 : (Jvm.Cond.selects "TwoHalves" ({ cls := "TwoHalves", name := "probe", desc := "(IIIII)I" } : Jvm.MethodName) ({ cls := "TwoHalves", name := "probe", desc := "(IIIII)I" } : Jvm.MethodName)) ∈ lw_all := lw_g (lw_at lw_m5 44 rfl) rfl
theorem q1113 : (Jvm.Cond.code ({ cls := "TwoHalves", name := "probe", desc := "(IIIII)I" } : Jvm.MethodName) prog_1_method_40_code (7 : Nat) (Option.some Jvm.ClassFile.FieldType.int)) ∈ lw_all := lw_g (lw_at lw_m5 45 rfl) rfl
theorem q1115 : (Jvm.Cond.instanceMethod ({ cls := "TwoHalves", name := "parts", desc := "(II)I" } : Jvm.MethodName)) ∈ lw_all := lw_g (lw_at lw_m5 47 rfl) rfl
theorem q1116 : (Jvm.Cond.selects "TwoHalves" ({ cls := "TwoHalves", name := "parts", desc := "(II)I" } : Jvm.MethodName) ({ cls := "TwoHalves", name := "parts", desc := "(II)I" } : Jvm.MethodName)) ∈ lw_all := lw_g (lw_at lw_m5 48 rfl) rfl
theorem q1117 : (Jvm.Cond.code ({ cls := "TwoHalves", name := "parts", desc := "(II)I" } : Jvm.MethodName) prog_1_method_42_code (3 : Nat) (Option.some Jvm.ClassFile.FieldType.int)) ∈ lw_all := lw_g (lw_at lw_m5 49 rfl) rfl
theorem q1118 : (Jvm.Cond.methodLink "TwoHalves" (405 : Nat) ({ cls := "TwoHalves", name := "partsOf", desc := "(I)I" } : Jvm.MethodName)) ∈ lw_all := lw_g (lw_at lw_m5 50 rfl) rfl
theorem q1119 : (Jvm.Cond.privateMethod ({ cls := "TwoHalves", name := "partsOf", desc := "(I)I" } : Jvm.MethodName)) ∈ lw_tbl := lw_at lw_m5 51 rfl
theorem q1120 : (Jvm.Cond.instanceMethod ({ cls := "TwoHalves", name := "partsOf", desc := "(I)I" } : Jvm.MethodName)) ∈ lw_all := lw_g (lw_at lw_m5 52 rfl) rfl
theorem q1121 : (Jvm.Cond.code ({ cls := "TwoHalves", name := "partsOf", desc := "(I)I" } : Jvm.MethodName) prog_1_method_41_code (5 : Nat) (Option.some Jvm.ClassFile.FieldType.int)) ∈ lw_all := lw_g (lw_at lw_m5 53 rfl) rfl
theorem q1122 : (Jvm.Cond.methodLink "TwoHalves" (399 : Nat) ({ cls := "java/lang/Math", name := "max", desc := "(II)I" } : Jvm.MethodName)) ∈ lw_all := lw_g (lw_at lw_m5 54 rfl) rfl
theorem q1124 : (Jvm.Cond.instanceMethod ({ cls := "TwoHalves", name := "best", desc := "(I)I" } : Jvm.MethodName)) ∈ lw_all := lw_g (lw_at lw_m5 56 rfl) rfl
theorem q1125 : (Jvm.Cond.selects "TwoHalves" ({ cls := "TwoHalves", name := "best", desc := "(I)I" } : Jvm.MethodName) ({ cls := "TwoHalves", name := "best", desc := "(I)I" } : Jvm.MethodName)) ∈ lw_all := lw_g (lw_at lw_m5 57 rfl) rfl
theorem q1126 : (Jvm.Cond.code ({ cls := "TwoHalves", name := "best", desc := "(I)I" } : Jvm.MethodName) prog_1_method_43_code (4 : Nat) (Option.some Jvm.ClassFile.FieldType.int)) ∈ lw_all := lw_g (lw_at lw_m5 58 rfl) rfl
theorem q1128 : (Jvm.Cond.instanceMethod ({ cls := "TwoHalves", name := "fewest", desc := "(I)I" } : Jvm.MethodName)) ∈ lw_all := lw_g (lw_at lw_m5 60 rfl) rfl
theorem q1129 : (Jvm.Cond.selects "TwoHalves" ({ cls := "TwoHalves", name := "fewest", desc := "(I)I" } : Jvm.MethodName) ({ cls := "TwoHalves", name := "fewest", desc := "(I)I" } : Jvm.MethodName)) ∈ lw_all := lw_g (lw_at lw_m5 61 rfl) rfl
theorem q1130 : (Jvm.Cond.code ({ cls := "TwoHalves", name := "fewest", desc := "(I)I" } : Jvm.MethodName) prog_1_method_44_code (5 : Nat) (Option.some Jvm.ClassFile.FieldType.int)) ∈ lw_all := lw_g (lw_at lw_m5 62 rfl) rfl
theorem q1131 : (Jvm.Cond.methodLink "TwoHalves" (411 : Nat) ({ cls := "TwoHalves", name := "parting", desc := "(II)I" } : Jvm.MethodName)) ∈ lw_all := lw_g (lw_at lw_m5 63 rfl) rfl
theorem q1132 : (Jvm.Cond.privateMethod ({ cls := "TwoHalves", name := "parting", desc := "(II)I" } : Jvm.MethodName)) ∈ lw_tbl := lw_at lw_m5 64 rfl
theorem q1133 : (Jvm.Cond.instanceMethod ({ cls := "TwoHalves", name := "parting", desc := "(II)I" } : Jvm.MethodName)) ∈ lw_all := lw_g (lw_at lw_m5 65 rfl) rfl
theorem q1134 : (Jvm.Cond.code ({ cls := "TwoHalves", name := "parting", desc := "(II)I" } : Jvm.MethodName) prog_1_method_45_code (5 : Nat) (Option.some Jvm.ClassFile.FieldType.int)) ∈ lw_all := lw_g (lw_at lw_m5 66 rfl) rfl
theorem q1135 : (Jvm.Cond.methodLink "TwoHalves" (414 : Nat) ({ cls := "TwoHalves", name := "need", desc := "(I)V" } : Jvm.MethodName)) ∈ lw_all := lw_g (lw_at lw_m5 67 rfl) rfl
theorem q1136 : (Jvm.Cond.privateMethod ({ cls := "TwoHalves", name := "need", desc := "(I)V" } : Jvm.MethodName)) ∈ lw_tbl := lw_at lw_m5 68 rfl
theorem q1137 : (Jvm.Cond.instanceMethod ({ cls := "TwoHalves", name := "need", desc := "(I)V" } : Jvm.MethodName)) ∈ lw_all := lw_g (lw_at lw_m5 69 rfl) rfl
theorem q1138 : (Jvm.Cond.code ({ cls := "TwoHalves", name := "need", desc := "(I)V" } : Jvm.MethodName) prog_1_method_46_code (2 : Nat) (Option.none : Option Jvm.ClassFile.FieldType)) ∈ lw_all := lw_g (lw_at lw_m5 70 rfl) rfl
theorem q1139 : (Jvm.Cond.methodLink "TwoHalves" (417 : Nat) ({ cls := "java/lang/Integer", name := "bitCount", desc := "(I)I" } : Jvm.MethodName)) ∈ lw_all := lw_g (lw_at lw_m5 71 rfl) rfl
theorem q1145 : (Jvm.Cond.methodLink "TwoHalves" (422 : Nat) ({ cls := "TwoHalves", name := "partsAll", desc := "(I)Z" } : Jvm.MethodName)) ∈ lw_all := lw_g (lw_at lw_m5 77 rfl) rfl
theorem q1146 : (Jvm.Cond.privateMethod ({ cls := "TwoHalves", name := "partsAll", desc := "(I)Z" } : Jvm.MethodName)) ∈ lw_tbl := lw_at lw_m5 78 rfl
theorem q1147 : (Jvm.Cond.instanceMethod ({ cls := "TwoHalves", name := "partsAll", desc := "(I)Z" } : Jvm.MethodName)) ∈ lw_all := lw_g (lw_at lw_m5 79 rfl) rfl
theorem q1148 : (Jvm.Cond.code ({ cls := "TwoHalves", name := "partsAll", desc := "(I)Z" } : Jvm.MethodName) prog_1_method_47_code (3 : Nat) (Option.some Jvm.ClassFile.FieldType.boolean)) ∈ lw_all := lw_g (lw_at lw_m5 80 rfl) rfl
theorem q1150 : (Jvm.Cond.instanceMethod ({ cls := "TwoHalves", name := "shutting", desc := "(I)I" } : Jvm.MethodName)) ∈ lw_all := lw_g (lw_at lw_m5 82 rfl) rfl
theorem q1151 : (Jvm.Cond.selects "TwoHalves" ({ cls := "TwoHalves", name := "shutting", desc := "(I)I" } : Jvm.MethodName) ({ cls := "TwoHalves", name := "shutting", desc := "(I)I" } : Jvm.MethodName)) ∈ lw_all := lw_g (lw_at lw_m5 83 rfl) rfl
theorem q1152 : (Jvm.Cond.code ({ cls := "TwoHalves", name := "shutting", desc := "(I)I" } : Jvm.MethodName) prog_1_method_48_code (6 : Nat) (Option.some Jvm.ClassFile.FieldType.int)) ∈ lw_all := lw_g (lw_at lw_m5 84 rfl) rfl
theorem q1153 : (Jvm.Cond.methodLink "TwoHalves" (425 : Nat) ({ cls := "TwoHalves", name := "leftBy", desc := "(I)I" } : Jvm.MethodName)) ∈ lw_all := lw_g (lw_at lw_m5 85 rfl) rfl
theorem q1154 : (Jvm.Cond.privateMethod ({ cls := "TwoHalves", name := "leftBy", desc := "(I)I" } : Jvm.MethodName)) ∈ lw_tbl := lw_at lw_m5 86 rfl
theorem q1155 : (Jvm.Cond.instanceMethod ({ cls := "TwoHalves", name := "leftBy", desc := "(I)I" } : Jvm.MethodName)) ∈ lw_all := lw_g (lw_at lw_m5 87 rfl) rfl
theorem q1156 : (Jvm.Cond.code ({ cls := "TwoHalves", name := "leftBy", desc := "(I)I" } : Jvm.MethodName) prog_1_method_49_code (4 : Nat) (Option.some Jvm.ClassFile.FieldType.int)) ∈ lw_all := lw_g (lw_at lw_m5 88 rfl) rfl
theorem q1158 : (Jvm.Cond.instanceMethod ({ cls := "TwoHalves", name := "sentence", desc := "()I" } : Jvm.MethodName)) ∈ lw_all := lw_g (lw_at lw_m5 90 rfl) rfl
theorem q1159 : (Jvm.Cond.selects "TwoHalves" ({ cls := "TwoHalves", name := "sentence", desc := "()I" } : Jvm.MethodName) ({ cls := "TwoHalves", name := "sentence", desc := "()I" } : Jvm.MethodName)) ∈ lw_all := lw_g (lw_at lw_m5 91 rfl) rfl
theorem q1160 : (Jvm.Cond.codeWith ({ cls := "TwoHalves", name := "sentence", desc := "()I" } : Jvm.MethodName) prog_1_method_50_code (2 : Nat) (Option.some Jvm.ClassFile.FieldType.int) [((9 : Nat), (30 : Nat), (31 : Nat), (13 : Nat))]) ∈ lw_all := lw_g (lw_at lw_m5 92 rfl) rfl
theorem q1161 : (Jvm.Cond.methodLink "TwoHalves" (428 : Nat) ({ cls := "TwoHalves$SentenceReader", name := "read", desc := "()LTwoHalves$Cond;" } : Jvm.MethodName)) ∈ lw_all := lw_g (lw_at lw_m5 93 rfl) rfl
theorem q1285 : (Jvm.Cond.instanceMethod ({ cls := "TwoHalves", name := "whom", desc := "()I" } : Jvm.MethodName)) ∈ lw_all := lw_g (lw_at lw_m5 217 rfl) rfl
theorem q1286 : (Jvm.Cond.selects "TwoHalves" ({ cls := "TwoHalves", name := "whom", desc := "()I" } : Jvm.MethodName) ({ cls := "TwoHalves", name := "whom", desc := "()I" } : Jvm.MethodName)) ∈ lw_all := lw_g (lw_at lw_m5 218 rfl) rfl
theorem q1287 : (Jvm.Cond.code ({ cls := "TwoHalves", name := "whom", desc := "()I" } : Jvm.MethodName) prog_1_method_51_code (3 : Nat) (Option.some Jvm.ClassFile.FieldType.int)) ∈ lw_all := lw_g (lw_at lw_m5 219 rfl) rfl
theorem q1288 : (Jvm.Cond.methodLink "TwoHalves" (438 : Nat) ({ cls := "TwoHalves$Cond", name := "is", desc := "(LTwoHalves;I)Z" } : Jvm.MethodName)) ∈ lw_all := lw_g (lw_at lw_m5 220 rfl) rfl
theorem q1311 : (Jvm.Cond.instanceMethod ({ cls := "TwoHalves", name := "image", desc := "(I)Z" } : Jvm.MethodName)) ∈ lw_all := lw_g (lw_at lw_m6 3 rfl) rfl
theorem q1312 : (Jvm.Cond.selects "TwoHalves" ({ cls := "TwoHalves", name := "image", desc := "(I)Z" } : Jvm.MethodName) ({ cls := "TwoHalves", name := "image", desc := "(I)Z" } : Jvm.MethodName)) ∈ lw_all := lw_g (lw_at lw_m6 4 rfl) rfl
theorem q1313 : (Jvm.Cond.code ({ cls := "TwoHalves", name := "image", desc := "(I)Z" } : Jvm.MethodName) prog_1_method_52_code (2 : Nat) (Option.some Jvm.ClassFile.FieldType.boolean)) ∈ lw_all := lw_g (lw_at lw_m6 5 rfl) rfl
theorem q1314 : (Jvm.Cond.methodLink "TwoHalves" (444 : Nat) ({ cls := "TwoHalves$State", name := "be", desc := "(LTwoHalves$State;)V" } : Jvm.MethodName)) ∈ lw_all := lw_g (lw_at lw_m6 6 rfl) rfl
theorem q1320 : (Jvm.Cond.instanceMethod ({ cls := "TwoHalves", name := "restore", desc := "(I)Z" } : Jvm.MethodName)) ∈ lw_all := lw_g (lw_at lw_m6 12 rfl) rfl
theorem q1321 : (Jvm.Cond.selects "TwoHalves" ({ cls := "TwoHalves", name := "restore", desc := "(I)Z" } : Jvm.MethodName) ({ cls := "TwoHalves", name := "restore", desc := "(I)Z" } : Jvm.MethodName)) ∈ lw_all := lw_g (lw_at lw_m6 13 rfl) rfl
theorem q1322 : (Jvm.Cond.code ({ cls := "TwoHalves", name := "restore", desc := "(I)Z" } : Jvm.MethodName) prog_1_method_53_code (2 : Nat) (Option.some Jvm.ClassFile.FieldType.boolean)) ∈ lw_all := lw_g (lw_at lw_m6 14 rfl) rfl
theorem q1324 : (Jvm.Cond.instanceMethod ({ cls := "TwoHalves", name := "count", desc := "(I)I" } : Jvm.MethodName)) ∈ lw_all := lw_g (lw_at lw_m6 16 rfl) rfl
theorem q1325 : (Jvm.Cond.selects "TwoHalves" ({ cls := "TwoHalves", name := "count", desc := "(I)I" } : Jvm.MethodName) ({ cls := "TwoHalves", name := "count", desc := "(I)I" } : Jvm.MethodName)) ∈ lw_all := lw_g (lw_at lw_m6 17 rfl) rfl
theorem q1326 : (Jvm.Cond.code ({ cls := "TwoHalves", name := "count", desc := "(I)I" } : Jvm.MethodName) prog_1_method_54_code (2 : Nat) (Option.some Jvm.ClassFile.FieldType.int)) ∈ lw_all := lw_g (lw_at lw_m6 18 rfl) rfl
theorem q1332 : (Jvm.Cond.instanceMethod ({ cls := "TwoHalves", name := "way", desc := "(II)I" } : Jvm.MethodName)) ∈ lw_all := lw_g (lw_at lw_m6 24 rfl) rfl
theorem q1333 : (Jvm.Cond.selects "TwoHalves" ({ cls := "TwoHalves", name := "way", desc := "(II)I" } : Jvm.MethodName) ({ cls := "TwoHalves", name := "way", desc := "(II)I" } : Jvm.MethodName)) ∈ lw_all := lw_g (lw_at lw_m6 25 rfl) rfl
theorem q1334 : (Jvm.Cond.code ({ cls := "TwoHalves", name := "way", desc := "(II)I" } : Jvm.MethodName) prog_1_method_15_code (4 : Nat) (Option.some Jvm.ClassFile.FieldType.int)) ∈ lw_all := lw_g (lw_at lw_m6 26 rfl) rfl
theorem q1335 : (Jvm.Cond.methodLink "TwoHalves" (236 : Nat) ({ cls := "TwoHalves", name := "must", desc := "(Z)V" } : Jvm.MethodName)) ∈ lw_all := lw_g (lw_at lw_m6 27 rfl) rfl
theorem q1336 : (Jvm.Cond.static ({ cls := "TwoHalves", name := "must", desc := "(Z)V" } : Jvm.MethodName)) ∈ lw_all := lw_g (lw_at lw_m6 28 rfl) rfl
theorem q1337 : (Jvm.Cond.code ({ cls := "TwoHalves", name := "must", desc := "(Z)V" } : Jvm.MethodName) prog_1_method_8_code (1 : Nat) (Option.none : Option Jvm.ClassFile.FieldType)) ∈ lw_all := lw_g (lw_at lw_m6 29 rfl) rfl
theorem q1338 : (Jvm.Cond.classLink "TwoHalves" (183 : Nat) "java/util/NoSuchElementException") ∈ lw_all := lw_g (lw_at lw_m6 30 rfl) rfl
theorem q1349 : (Jvm.Cond.methodLink "TwoHalves" (185 : Nat) ({ cls := "java/util/NoSuchElementException", name := "<init>", desc := "()V" } : Jvm.MethodName)) ∈ lw_all := lw_g (lw_at lw_m6 41 rfl) rfl
theorem q1365 : (Jvm.Cond.instanceMethod ({ cls := "TwoHalves", name := "thing", desc := "(II)I" } : Jvm.MethodName)) ∈ lw_all := lw_g (lw_at lw_m6 57 rfl) rfl
theorem q1366 : (Jvm.Cond.selects "TwoHalves" ({ cls := "TwoHalves", name := "thing", desc := "(II)I" } : Jvm.MethodName) ({ cls := "TwoHalves", name := "thing", desc := "(II)I" } : Jvm.MethodName)) ∈ lw_all := lw_g (lw_at lw_m6 58 rfl) rfl
theorem q1367 : (Jvm.Cond.code ({ cls := "TwoHalves", name := "thing", desc := "(II)I" } : Jvm.MethodName) prog_1_method_16_code (3 : Nat) (Option.some Jvm.ClassFile.FieldType.int)) ∈ lw_all := lw_g (lw_at lw_m6 59 rfl) rfl
theorem q1372 : (Jvm.Cond.instanceMethod ({ cls := "TwoHalves", name := "odds", desc := "(IIIIII)J" } : Jvm.MethodName)) ∈ lw_all := lw_g (lw_at lw_m6 64 rfl) rfl
theorem q1373 : (Jvm.Cond.selects "TwoHalves" ({ cls := "TwoHalves", name := "odds", desc := "(IIIIII)J" } : Jvm.MethodName) ({ cls := "TwoHalves", name := "odds", desc := "(IIIIII)J" } : Jvm.MethodName)) ∈ lw_all := lw_g (lw_at lw_m6 65 rfl) rfl
theorem q1374 : (Jvm.Cond.code ({ cls := "TwoHalves", name := "odds", desc := "(IIIIII)J" } : Jvm.MethodName) prog_1_method_30_code (12 : Nat) (Option.some Jvm.ClassFile.FieldType.long)) ∈ lw_all := lw_g (lw_at lw_m6 66 rfl) rfl
theorem q1375 : (Jvm.Cond.methodLink "TwoHalves" (349 : Nat) ({ cls := "TwoHalves", name := "luckyParts", desc := "(II)J" } : Jvm.MethodName)) ∈ lw_all := lw_g (lw_at lw_m6 67 rfl) rfl
theorem q1376 : (Jvm.Cond.privateMethod ({ cls := "TwoHalves", name := "luckyParts", desc := "(II)J" } : Jvm.MethodName)) ∈ lw_tbl := lw_at lw_m6 68 rfl
theorem q1377 : (Jvm.Cond.instanceMethod ({ cls := "TwoHalves", name := "luckyParts", desc := "(II)J" } : Jvm.MethodName)) ∈ lw_all := lw_g (lw_at lw_m6 69 rfl) rfl
theorem q1378 : (Jvm.Cond.code ({ cls := "TwoHalves", name := "luckyParts", desc := "(II)J" } : Jvm.MethodName) prog_1_method_31_code (6 : Nat) (Option.some Jvm.ClassFile.FieldType.long)) ∈ lw_all := lw_g (lw_at lw_m6 70 rfl) rfl
theorem q1970 : (Jvm.Cond.castable "TwoHalves" "java/lang/Object") ∈ lw_tbl := lw_at lw_m8 182 rfl
theorem in_X1 : ∀ w ∈ wsX10, w ∈ lw_all := lw_in wsX10 [554, 556, 558, 560, 562, 564, 566, 568, 570, 572, 574, 576, 578, 580, 582, 584, 586, 588, 590, 592, 594, 596, 598, 600, 602, 604, 606, 608, 610, 612, 614, 616, 618, 620] (by decide +kernel) (by decide +kernel)
