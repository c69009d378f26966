/-! TwoHalvesModel -/
set_option maxRecDepth 100000
def RX13 : String := "TwoHalvesModel"
def TX13 : u_T := fun k => match k with
  | 0 => ("TwoHalvesModel", "thrown", "I", false)
  | 1 => ("TwoHalvesModel", "tape", "[I", true)
  | 2 => ("TwoHalvesModel", "taped", "I", false)
  | 3 => ("TwoHalvesModel", "size", "I", false)
  | 4 => ("TwoHalvesModel", "limit", "I", false)
  | 5 => ("TwoHalvesModel", "to", "I", false)
  | 6 => ("TwoHalvesModel", "from", "I", false)
  | 7 => ("TwoHalvesModel", "kind", "I", false)
  | 8 => ("TwoHalvesModel", "number", "I", false)
  | 9 => ("TwoHalvesModel", "sign", "I", false)
  | 10 => ("TwoHalvesModel", "place", "I", false)
  | 11 => ("TwoHalvesModel", "word", "J", false)
  | 12 => ("TwoHalvesModel", "told", "I", false)
  | 13 => ("TwoHalvesModel", "now", "[I", true)
  | 14 => ("TwoHalvesModel", "read", "[I", true)
  | 15 => ("TwoHalvesModel", "kept", "[I", true)
  | 16 => ("TwoHalvesModel", "name", "[J", true)
  | 17 => ("TwoHalvesModel", "readName", "[J", true)
  | 18 => ("TwoHalvesModel", "keptName", "[J", true)
  | 19 => ("TwoHalvesModel", "isKept", "[Z", true)
  | 20 => ("TwoHalvesModel", "isBegun", "Z", false)
  | 21 => ("TwoHalvesModel", "maybes", "I", false)
  | 22 => ("TwoHalvesModel", "weaks", "I", false)
  | 23 => ("TwoHalvesModel", "saidBy", "[I", true)
  | 24 => ("TwoHalvesModel", "left", "I", false)
  | 25 => ("TwoHalvesModel", "right", "I", false)
  | 26 => ("TwoHalvesModel", "ticks", "I", false)
  | 27 => ("TwoHalvesModel", "flags", "I", false)
  | 28 => ("TwoHalvesModel", "asked", "I", false)
  | 29 => ("TwoHalvesModel", "years", "I", false)
  | 30 => ("TwoHalvesModel", "offers", "I", false)
  | 31 => ("TwoHalvesModel", "offer", "[I", true)
  | 32 => ("TwoHalvesModel", "since", "[I", true)
  | 33 => ("TwoHalvesModel", "fit", "[I", true)
  | 34 => ("TwoHalvesModel", "fitMany", "I", false)
  | 35 => ("TwoHalvesModel", "reply", "[I", true)
  | 36 => ("TwoHalvesModel", "needed", "[Z", true)
  | 37 => ("TwoHalvesModel", "node", "[I", true)
  | 38 => ("TwoHalvesModel", "nodes", "I", false)
  | 39 => ("TwoHalvesModel", "ones", "I", false)
  | 40 => ("TwoHalvesModel", "within", "I", false)
  | _ => ("TwoHalvesModel", "top", "I", false)
def tyX13 : Nat → FieldType := fun k => match k with
  | 0 => .int
  | 1 => .array .int
  | 2 => .int
  | 3 => .int
  | 4 => .int
  | 5 => .int
  | 6 => .int
  | 7 => .int
  | 8 => .int
  | 9 => .int
  | 10 => .int
  | 11 => .long
  | 12 => .int
  | 13 => .array .int
  | 14 => .array .int
  | 15 => .array .int
  | 16 => .array .long
  | 17 => .array .long
  | 18 => .array .long
  | 19 => .array .boolean
  | 20 => .boolean
  | 21 => .int
  | 22 => .int
  | 23 => .array .int
  | 24 => .int
  | 25 => .int
  | 26 => .int
  | 27 => .int
  | 28 => .int
  | 29 => .int
  | 30 => .int
  | 31 => .array .int
  | 32 => .array .int
  | 33 => .array .int
  | 34 => .int
  | 35 => .array .int
  | 36 => .array .boolean
  | 37 => .array .int
  | 38 => .int
  | 39 => .int
  | 40 => .int
  | _ => .int
abbrev wsX130 : List Cond := u_ws RX13 TX13 42
set_option maxRecDepth 100000 in
theorem nmX13 : ∀ a, a < 42 → ∀ b, b < 42 → a ≠ b → (TX13 a).2.1 ≠ (TX13 b).2.1 := by decide +kernel
set_option maxRecDepth 100000 in
theorem tyX13_ok : ∀ k, k < 42 → parseFieldDescriptor (TX13 k).2.2.1 = some (tyX13 k) := by decide +kernel
abbrev cX13_init : ByteArray := prog_24_method_1_code
def yX13_init : MethodName := ⟨RX13, "<init>", "()V"⟩
def dkwX13_init_5 : List UInt8 := [188, 4, 181, 0, 52, 42, 17, 0, 240, 188, 10, 181, 0, 55, 177]
abbrev dktX13_init_5 : List UInt8 := dkwX13_init_5 ++ []
def dkwX13_init_4 : List UInt8 := [181, 0, 42, 42, 17, 1, 0, 188, 10, 181, 0, 45, 42, 17, 16, 0, 188, 10, 181, 0, 48, 42, 18, 51]
abbrev dktX13_init_4 : List UInt8 := dkwX13_init_4 ++ dktX13_init_5
def dkwX13_init_3 : List UInt8 := [181, 0, 32, 42, 5, 188, 10, 181, 0, 36, 42, 16, 8, 188, 10, 181, 0, 39, 42, 7, 188, 10]
abbrev dktX13_init_3 : List UInt8 := dkwX13_init_3 ++ dktX13_init_4
def dkwX13_init_2 : List UInt8 := [181, 0, 22, 42, 16, 28, 188, 11, 181, 0, 26, 42, 16, 84, 188, 11, 181, 0, 29, 42, 6, 188, 4]
abbrev dktX13_init_2 : List UInt8 := dkwX13_init_2 ++ dktX13_init_3
def dkwX13_init_1 : List UInt8 := [17, 0, 140, 188, 10, 181, 0, 16, 42, 17, 56, 124, 188, 10, 181, 0, 19, 42, 16, 28, 188, 11]
abbrev dktX13_init_1 : List UInt8 := dkwX13_init_1 ++ dktX13_init_2
def dkwX13_init_0 : List UInt8 := [42, 183, 0, 1, 42, 17, 3, 172, 188, 10, 181, 0, 7, 42, 17, 18, 212, 188, 10, 181, 0, 13, 42]
abbrev dktX13_init_0 : List UInt8 := dkwX13_init_0 ++ dktX13_init_1
theorem dksX13_init_0 : cX13_init.data.toList.drop 0 = dktX13_init_0 := by decide +kernel
theorem dksX13_init_1 : cX13_init.data.toList.drop 23 = dktX13_init_1 := dk_seg dksX13_init_0 23 rfl rfl
theorem dksX13_init_2 : cX13_init.data.toList.drop 45 = dktX13_init_2 := dk_seg dksX13_init_1 22 rfl rfl
theorem dksX13_init_3 : cX13_init.data.toList.drop 68 = dktX13_init_3 := dk_seg dksX13_init_2 23 rfl rfl
theorem dksX13_init_4 : cX13_init.data.toList.drop 90 = dktX13_init_4 := dk_seg dksX13_init_3 22 rfl rfl
theorem dksX13_init_5 : cX13_init.data.toList.drop 114 = dktX13_init_5 := dk_seg dksX13_init_4 24 rfl rfl
theorem dX13_init_0 : decode cX13_init 0 = .ok (.aload_n 0, 1) := dk_42 (dk_at dksX13_init_0 0 rfl rfl)
theorem dX13_init_1 : decode cX13_init 1 = .ok (.invokespecial 1, 3) := dk_183 0 1 (dk_at dksX13_init_0 1 rfl rfl)
theorem dX13_init_4 : decode cX13_init 4 = .ok (.aload_n 0, 1) := dk_42 (dk_at dksX13_init_0 4 rfl rfl)
theorem dX13_init_5 : decode cX13_init 5 = .ok (.sipush 940, 3) := dk_17 3 172 (dk_at dksX13_init_0 5 rfl rfl)
theorem dX13_init_8 : decode cX13_init 8 = .ok (.newarray .int, 2) := dk_188_10 (dk_at dksX13_init_0 8 rfl rfl)
theorem dX13_init_10 : decode cX13_init 10 = .ok (.putfield 7, 3) := dk_181 0 7 (dk_at dksX13_init_0 10 rfl rfl)
theorem dX13_init_13 : decode cX13_init 13 = .ok (.aload_n 0, 1) := dk_42 (dk_at dksX13_init_0 13 rfl rfl)
theorem dX13_init_14 : decode cX13_init 14 = .ok (.sipush 4820, 3) := dk_17 18 212 (dk_at dksX13_init_0 14 rfl rfl)
theorem dX13_init_17 : decode cX13_init 17 = .ok (.newarray .int, 2) := dk_188_10 (dk_at dksX13_init_0 17 rfl rfl)
theorem dX13_init_19 : decode cX13_init 19 = .ok (.putfield 13, 3) := dk_181 0 13 (dk_at dksX13_init_0 19 rfl rfl)
theorem dX13_init_22 : decode cX13_init 22 = .ok (.aload_n 0, 1) := dk_42 (dk_at dksX13_init_0 22 rfl rfl)
theorem dX13_init_23 : decode cX13_init 23 = .ok (.sipush 140, 3) := dk_17 0 140 (dk_at dksX13_init_1 0 rfl rfl)
theorem dX13_init_26 : decode cX13_init 26 = .ok (.newarray .int, 2) := dk_188_10 (dk_at dksX13_init_1 3 rfl rfl)
theorem dX13_init_28 : decode cX13_init 28 = .ok (.putfield 16, 3) := dk_181 0 16 (dk_at dksX13_init_1 5 rfl rfl)
theorem dX13_init_31 : decode cX13_init 31 = .ok (.aload_n 0, 1) := dk_42 (dk_at dksX13_init_1 8 rfl rfl)
theorem dX13_init_32 : decode cX13_init 32 = .ok (.sipush 14460, 3) := dk_17 56 124 (dk_at dksX13_init_1 9 rfl rfl)
theorem dX13_init_35 : decode cX13_init 35 = .ok (.newarray .int, 2) := dk_188_10 (dk_at dksX13_init_1 12 rfl rfl)
theorem dX13_init_37 : decode cX13_init 37 = .ok (.putfield 19, 3) := dk_181 0 19 (dk_at dksX13_init_1 14 rfl rfl)
theorem dX13_init_40 : decode cX13_init 40 = .ok (.aload_n 0, 1) := dk_42 (dk_at dksX13_init_1 17 rfl rfl)
theorem dX13_init_41 : decode cX13_init 41 = .ok (.bipush 28, 2) := dk_16 28 (dk_at dksX13_init_1 18 rfl rfl)
theorem dX13_init_43 : decode cX13_init 43 = .ok (.newarray .long, 2) := dk_188_11 (dk_at dksX13_init_1 20 rfl rfl)
theorem dX13_init_45 : decode cX13_init 45 = .ok (.putfield 22, 3) := dk_181 0 22 (dk_at dksX13_init_2 0 rfl rfl)
theorem dX13_init_48 : decode cX13_init 48 = .ok (.aload_n 0, 1) := dk_42 (dk_at dksX13_init_2 3 rfl rfl)
theorem dX13_init_49 : decode cX13_init 49 = .ok (.bipush 28, 2) := dk_16 28 (dk_at dksX13_init_2 4 rfl rfl)
theorem dX13_init_51 : decode cX13_init 51 = .ok (.newarray .long, 2) := dk_188_11 (dk_at dksX13_init_2 6 rfl rfl)
theorem dX13_init_53 : decode cX13_init 53 = .ok (.putfield 26, 3) := dk_181 0 26 (dk_at dksX13_init_2 8 rfl rfl)
theorem dX13_init_56 : decode cX13_init 56 = .ok (.aload_n 0, 1) := dk_42 (dk_at dksX13_init_2 11 rfl rfl)
theorem dX13_init_57 : decode cX13_init 57 = .ok (.bipush 84, 2) := dk_16 84 (dk_at dksX13_init_2 12 rfl rfl)
theorem dX13_init_59 : decode cX13_init 59 = .ok (.newarray .long, 2) := dk_188_11 (dk_at dksX13_init_2 14 rfl rfl)
theorem dX13_init_61 : decode cX13_init 61 = .ok (.putfield 29, 3) := dk_181 0 29 (dk_at dksX13_init_2 16 rfl rfl)
theorem dX13_init_64 : decode cX13_init 64 = .ok (.aload_n 0, 1) := dk_42 (dk_at dksX13_init_2 19 rfl rfl)
theorem dX13_init_65 : decode cX13_init 65 = .ok (.iconst 3, 1) := dk_6 (dk_at dksX13_init_2 20 rfl rfl)
theorem dX13_init_66 : decode cX13_init 66 = .ok (.newarray .boolean, 2) := dk_188_4 (dk_at dksX13_init_2 21 rfl rfl)
theorem dX13_init_68 : decode cX13_init 68 = .ok (.putfield 32, 3) := dk_181 0 32 (dk_at dksX13_init_3 0 rfl rfl)
theorem dX13_init_71 : decode cX13_init 71 = .ok (.aload_n 0, 1) := dk_42 (dk_at dksX13_init_3 3 rfl rfl)
theorem dX13_init_72 : decode cX13_init 72 = .ok (.iconst 2, 1) := dk_5 (dk_at dksX13_init_3 4 rfl rfl)
theorem dX13_init_73 : decode cX13_init 73 = .ok (.newarray .int, 2) := dk_188_10 (dk_at dksX13_init_3 5 rfl rfl)
theorem dX13_init_75 : decode cX13_init 75 = .ok (.putfield 36, 3) := dk_181 0 36 (dk_at dksX13_init_3 7 rfl rfl)
theorem dX13_init_78 : decode cX13_init 78 = .ok (.aload_n 0, 1) := dk_42 (dk_at dksX13_init_3 10 rfl rfl)
theorem dX13_init_79 : decode cX13_init 79 = .ok (.bipush 8, 2) := dk_16 8 (dk_at dksX13_init_3 11 rfl rfl)
theorem dX13_init_81 : decode cX13_init 81 = .ok (.newarray .int, 2) := dk_188_10 (dk_at dksX13_init_3 13 rfl rfl)
theorem dX13_init_83 : decode cX13_init 83 = .ok (.putfield 39, 3) := dk_181 0 39 (dk_at dksX13_init_3 15 rfl rfl)
theorem dX13_init_86 : decode cX13_init 86 = .ok (.aload_n 0, 1) := dk_42 (dk_at dksX13_init_3 18 rfl rfl)
theorem dX13_init_87 : decode cX13_init 87 = .ok (.iconst 4, 1) := dk_7 (dk_at dksX13_init_3 19 rfl rfl)
theorem dX13_init_88 : decode cX13_init 88 = .ok (.newarray .int, 2) := dk_188_10 (dk_at dksX13_init_3 20 rfl rfl)
theorem dX13_init_90 : decode cX13_init 90 = .ok (.putfield 42, 3) := dk_181 0 42 (dk_at dksX13_init_4 0 rfl rfl)
theorem dX13_init_93 : decode cX13_init 93 = .ok (.aload_n 0, 1) := dk_42 (dk_at dksX13_init_4 3 rfl rfl)
theorem dX13_init_94 : decode cX13_init 94 = .ok (.sipush 256, 3) := dk_17 1 0 (dk_at dksX13_init_4 4 rfl rfl)
theorem dX13_init_97 : decode cX13_init 97 = .ok (.newarray .int, 2) := dk_188_10 (dk_at dksX13_init_4 7 rfl rfl)
theorem dX13_init_99 : decode cX13_init 99 = .ok (.putfield 45, 3) := dk_181 0 45 (dk_at dksX13_init_4 9 rfl rfl)
theorem dX13_init_102 : decode cX13_init 102 = .ok (.aload_n 0, 1) := dk_42 (dk_at dksX13_init_4 12 rfl rfl)
theorem dX13_init_103 : decode cX13_init 103 = .ok (.sipush 4096, 3) := dk_17 16 0 (dk_at dksX13_init_4 13 rfl rfl)
theorem dX13_init_106 : decode cX13_init 106 = .ok (.newarray .int, 2) := dk_188_10 (dk_at dksX13_init_4 16 rfl rfl)
theorem dX13_init_108 : decode cX13_init 108 = .ok (.putfield 48, 3) := dk_181 0 48 (dk_at dksX13_init_4 18 rfl rfl)
theorem dX13_init_111 : decode cX13_init 111 = .ok (.aload_n 0, 1) := dk_42 (dk_at dksX13_init_4 21 rfl rfl)
theorem dX13_init_112 : decode cX13_init 112 = .ok (.ldc 51, 2) := dk_18 51 (dk_at dksX13_init_4 22 rfl rfl)
theorem dX13_init_114 : decode cX13_init 114 = .ok (.newarray .boolean, 2) := dk_188_4 (dk_at dksX13_init_5 0 rfl rfl)
theorem dX13_init_116 : decode cX13_init 116 = .ok (.putfield 52, 3) := dk_181 0 52 (dk_at dksX13_init_5 2 rfl rfl)
theorem dX13_init_119 : decode cX13_init 119 = .ok (.aload_n 0, 1) := dk_42 (dk_at dksX13_init_5 5 rfl rfl)
theorem dX13_init_120 : decode cX13_init 120 = .ok (.sipush 240, 3) := dk_17 0 240 (dk_at dksX13_init_5 6 rfl rfl)
theorem dX13_init_123 : decode cX13_init 123 = .ok (.newarray .int, 2) := dk_188_10 (dk_at dksX13_init_5 9 rfl rfl)
theorem dX13_init_125 : decode cX13_init 125 = .ok (.putfield 55, 3) := dk_181 0 55 (dk_at dksX13_init_5 11 rfl rfl)
theorem dX13_init_128 : decode cX13_init 128 = .ok (.return_, 1) := dk_177 (dk_at dksX13_init_5 14 rfl rfl)
abbrev cX13_thrown : ByteArray := prog_24_method_2_code
def yX13_thrown : MethodName := ⟨RX13, "thrown", "()I"⟩
theorem dX13_thrown_0 : decode cX13_thrown 0 = .ok (.aload_n 0, 1) := by decide +kernel
theorem dX13_thrown_1 : decode cX13_thrown 1 = .ok (.getfield 58, 3) := by decide +kernel
theorem dX13_thrown_4 : decode cX13_thrown 4 = .ok (.ireturn, 1) := by decide +kernel
abbrev cX13_feed : ByteArray := prog_24_method_5_code
def yX13_feed : MethodName := ⟨RX13, "feed", "(IIIII)I"⟩
def dkwX13_feed_2 : List UInt8 := [182, 0, 65, 42, 180, 0, 62, 172]
abbrev dktX13_feed_2 : List UInt8 := dkwX13_feed_2 ++ []
def dkwX13_feed_1 : List UInt8 := [182, 0, 65, 42, 28, 182, 0, 65, 42, 29, 182, 0, 65, 42, 21, 4, 182, 0, 65, 42, 21, 5]
abbrev dktX13_feed_1 : List UInt8 := dkwX13_feed_1 ++ dktX13_feed_2
def dkwX13_feed_0 : List UInt8 := [42, 3, 181, 0, 58, 42, 180, 0, 62, 16, 20, 96, 17, 3, 172, 164, 0, 5, 2, 172, 42, 27]
abbrev dktX13_feed_0 : List UInt8 := dkwX13_feed_0 ++ dktX13_feed_1
theorem dksX13_feed_0 : cX13_feed.data.toList.drop 0 = dktX13_feed_0 := by decide +kernel
theorem dksX13_feed_1 : cX13_feed.data.toList.drop 22 = dktX13_feed_1 := dk_seg dksX13_feed_0 22 rfl rfl
theorem dksX13_feed_2 : cX13_feed.data.toList.drop 44 = dktX13_feed_2 := dk_seg dksX13_feed_1 22 rfl rfl
theorem dX13_feed_0 : decode cX13_feed 0 = .ok (.aload_n 0, 1) := dk_42 (dk_at dksX13_feed_0 0 rfl rfl)
theorem dX13_feed_1 : decode cX13_feed 1 = .ok (.iconst 0, 1) := dk_3 (dk_at dksX13_feed_0 1 rfl rfl)
theorem dX13_feed_2 : decode cX13_feed 2 = .ok (.putfield 58, 3) := dk_181 0 58 (dk_at dksX13_feed_0 2 rfl rfl)
theorem dX13_feed_5 : decode cX13_feed 5 = .ok (.aload_n 0, 1) := dk_42 (dk_at dksX13_feed_0 5 rfl rfl)
theorem dX13_feed_6 : decode cX13_feed 6 = .ok (.getfield 62, 3) := dk_180 0 62 (dk_at dksX13_feed_0 6 rfl rfl)
theorem dX13_feed_9 : decode cX13_feed 9 = .ok (.bipush 20, 2) := dk_16 20 (dk_at dksX13_feed_0 9 rfl rfl)
theorem dX13_feed_11 : decode cX13_feed 11 = .ok (.iadd, 1) := dk_96 (dk_at dksX13_feed_0 11 rfl rfl)
theorem dX13_feed_12 : decode cX13_feed 12 = .ok (.sipush 940, 3) := dk_17 3 172 (dk_at dksX13_feed_0 12 rfl rfl)
theorem dX13_feed_15 : decode cX13_feed 15 = .ok (.if_icmp .le 5, 3) := dk_164 0 5 (dk_at dksX13_feed_0 15 rfl rfl)
theorem dX13_feed_18 : decode cX13_feed 18 = .ok (.iconst (-1), 1) := dk_2 (dk_at dksX13_feed_0 18 rfl rfl)
theorem dX13_feed_19 : decode cX13_feed 19 = .ok (.ireturn, 1) := dk_172 (dk_at dksX13_feed_0 19 rfl rfl)
theorem dX13_feed_20 : decode cX13_feed 20 = .ok (.aload_n 0, 1) := dk_42 (dk_at dksX13_feed_0 20 rfl rfl)
theorem dX13_feed_21 : decode cX13_feed 21 = .ok (.iload_n 1, 1) := dk_27 (dk_at dksX13_feed_0 21 rfl rfl)
theorem dX13_feed_22 : decode cX13_feed 22 = .ok (.invokevirtual 65, 3) := dk_182 0 65 (dk_at dksX13_feed_1 0 rfl rfl)
theorem dX13_feed_25 : decode cX13_feed 25 = .ok (.aload_n 0, 1) := dk_42 (dk_at dksX13_feed_1 3 rfl rfl)
theorem dX13_feed_26 : decode cX13_feed 26 = .ok (.iload_n 2, 1) := dk_28 (dk_at dksX13_feed_1 4 rfl rfl)
theorem dX13_feed_27 : decode cX13_feed 27 = .ok (.invokevirtual 65, 3) := dk_182 0 65 (dk_at dksX13_feed_1 5 rfl rfl)
theorem dX13_feed_30 : decode cX13_feed 30 = .ok (.aload_n 0, 1) := dk_42 (dk_at dksX13_feed_1 8 rfl rfl)
theorem dX13_feed_31 : decode cX13_feed 31 = .ok (.iload_n 3, 1) := dk_29 (dk_at dksX13_feed_1 9 rfl rfl)
theorem dX13_feed_32 : decode cX13_feed 32 = .ok (.invokevirtual 65, 3) := dk_182 0 65 (dk_at dksX13_feed_1 10 rfl rfl)
theorem dX13_feed_35 : decode cX13_feed 35 = .ok (.aload_n 0, 1) := dk_42 (dk_at dksX13_feed_1 13 rfl rfl)
theorem dX13_feed_36 : decode cX13_feed 36 = .ok (.iload 4, 2) := dk_21 4 (dk_at dksX13_feed_1 14 rfl rfl)
theorem dX13_feed_38 : decode cX13_feed 38 = .ok (.invokevirtual 65, 3) := dk_182 0 65 (dk_at dksX13_feed_1 16 rfl rfl)
theorem dX13_feed_41 : decode cX13_feed 41 = .ok (.aload_n 0, 1) := dk_42 (dk_at dksX13_feed_1 19 rfl rfl)
theorem dX13_feed_42 : decode cX13_feed 42 = .ok (.iload 5, 2) := dk_21 5 (dk_at dksX13_feed_1 20 rfl rfl)
theorem dX13_feed_44 : decode cX13_feed 44 = .ok (.invokevirtual 65, 3) := dk_182 0 65 (dk_at dksX13_feed_2 0 rfl rfl)
theorem dX13_feed_47 : decode cX13_feed 47 = .ok (.aload_n 0, 1) := dk_42 (dk_at dksX13_feed_2 3 rfl rfl)
theorem dX13_feed_48 : decode cX13_feed 48 = .ok (.getfield 62, 3) := dk_180 0 62 (dk_at dksX13_feed_2 4 rfl rfl)
theorem dX13_feed_51 : decode cX13_feed 51 = .ok (.ireturn, 1) := dk_172 (dk_at dksX13_feed_2 7 rfl rfl)
abbrev cX13_come : ByteArray := prog_24_method_4_code
def yX13_come : MethodName := ⟨RX13, "come", "(I)V"⟩
def dkwX13_come_1 : List UInt8 := [89, 180, 0, 62, 4, 96, 181, 0, 62, 132, 2, 248, 167, 255, 223, 177]
abbrev dktX13_come_1 : List UInt8 := dkwX13_come_1 ++ []
def dkwX13_come_0 : List UInt8 := [16, 24, 61, 28, 155, 0, 35, 42, 180, 0, 7, 42, 180, 0, 62, 27, 28, 124, 17, 0, 255, 126, 79, 42]
abbrev dktX13_come_0 : List UInt8 := dkwX13_come_0 ++ dktX13_come_1
theorem dksX13_come_0 : cX13_come.data.toList.drop 0 = dktX13_come_0 := by decide +kernel
theorem dksX13_come_1 : cX13_come.data.toList.drop 24 = dktX13_come_1 := dk_seg dksX13_come_0 24 rfl rfl
theorem dX13_come_0 : decode cX13_come 0 = .ok (.bipush 24, 2) := dk_16 24 (dk_at dksX13_come_0 0 rfl rfl)
theorem dX13_come_2 : decode cX13_come 2 = .ok (.istore_n 2, 1) := dk_61 (dk_at dksX13_come_0 2 rfl rfl)
theorem dX13_come_3 : decode cX13_come 3 = .ok (.iload_n 2, 1) := dk_28 (dk_at dksX13_come_0 3 rfl rfl)
theorem dX13_come_4 : decode cX13_come 4 = .ok (.ifCond .lt 35, 3) := dk_155 0 35 (dk_at dksX13_come_0 4 rfl rfl)
theorem dX13_come_7 : decode cX13_come 7 = .ok (.aload_n 0, 1) := dk_42 (dk_at dksX13_come_0 7 rfl rfl)
theorem dX13_come_8 : decode cX13_come 8 = .ok (.getfield 7, 3) := dk_180 0 7 (dk_at dksX13_come_0 8 rfl rfl)
theorem dX13_come_11 : decode cX13_come 11 = .ok (.aload_n 0, 1) := dk_42 (dk_at dksX13_come_0 11 rfl rfl)
theorem dX13_come_12 : decode cX13_come 12 = .ok (.getfield 62, 3) := dk_180 0 62 (dk_at dksX13_come_0 12 rfl rfl)
theorem dX13_come_15 : decode cX13_come 15 = .ok (.iload_n 1, 1) := dk_27 (dk_at dksX13_come_0 15 rfl rfl)
theorem dX13_come_16 : decode cX13_come 16 = .ok (.iload_n 2, 1) := dk_28 (dk_at dksX13_come_0 16 rfl rfl)
theorem dX13_come_17 : decode cX13_come 17 = .ok (.iushr, 1) := dk_124 (dk_at dksX13_come_0 17 rfl rfl)
theorem dX13_come_18 : decode cX13_come 18 = .ok (.sipush 255, 3) := dk_17 0 255 (dk_at dksX13_come_0 18 rfl rfl)
theorem dX13_come_21 : decode cX13_come 21 = .ok (.iand, 1) := dk_126 (dk_at dksX13_come_0 21 rfl rfl)
theorem dX13_come_22 : decode cX13_come 22 = .ok (.iastore, 1) := dk_79 (dk_at dksX13_come_0 22 rfl rfl)
theorem dX13_come_23 : decode cX13_come 23 = .ok (.aload_n 0, 1) := dk_42 (dk_at dksX13_come_0 23 rfl rfl)
theorem dX13_come_24 : decode cX13_come 24 = .ok (.dup, 1) := dk_89 (dk_at dksX13_come_1 0 rfl rfl)
theorem dX13_come_25 : decode cX13_come 25 = .ok (.getfield 62, 3) := dk_180 0 62 (dk_at dksX13_come_1 1 rfl rfl)
theorem dX13_come_28 : decode cX13_come 28 = .ok (.iconst 1, 1) := dk_4 (dk_at dksX13_come_1 4 rfl rfl)
theorem dX13_come_29 : decode cX13_come 29 = .ok (.iadd, 1) := dk_96 (dk_at dksX13_come_1 5 rfl rfl)
theorem dX13_come_30 : decode cX13_come 30 = .ok (.putfield 62, 3) := dk_181 0 62 (dk_at dksX13_come_1 6 rfl rfl)
theorem dX13_come_33 : decode cX13_come 33 = .ok (.iinc 2 (-8), 3) := dk_132 2 248 (dk_at dksX13_come_1 9 rfl rfl)
theorem dX13_come_36 : decode cX13_come 36 = .ok (.goto (-33), 3) := dk_167 255 223 (dk_at dksX13_come_1 12 rfl rfl)
theorem dX13_come_39 : decode cX13_come 39 = .ok (.return_, 1) := dk_177 (dk_at dksX13_come_1 15 rfl rfl)
abbrev cX13_end : ByteArray := prog_24_method_6_code
def yX13_end : MethodName := ⟨RX13, "end", "(I)Z"⟩
def dkwX13_end_1 : List UInt8 := [4, 172]
abbrev dktX13_end_1 : List UInt8 := dkwX13_end_1 ++ []
def dkwX13_end_0 : List UInt8 := [42, 3, 181, 0, 58, 27, 155, 0, 11, 27, 42, 180, 0, 62, 164, 0, 5, 3, 172, 42, 27, 181, 0, 62]
abbrev dktX13_end_0 : List UInt8 := dkwX13_end_0 ++ dktX13_end_1
theorem dksX13_end_0 : cX13_end.data.toList.drop 0 = dktX13_end_0 := by decide +kernel
theorem dksX13_end_1 : cX13_end.data.toList.drop 24 = dktX13_end_1 := dk_seg dksX13_end_0 24 rfl rfl
theorem dX13_end_0 : decode cX13_end 0 = .ok (.aload_n 0, 1) := dk_42 (dk_at dksX13_end_0 0 rfl rfl)
theorem dX13_end_1 : decode cX13_end 1 = .ok (.iconst 0, 1) := dk_3 (dk_at dksX13_end_0 1 rfl rfl)
theorem dX13_end_2 : decode cX13_end 2 = .ok (.putfield 58, 3) := dk_181 0 58 (dk_at dksX13_end_0 2 rfl rfl)
theorem dX13_end_5 : decode cX13_end 5 = .ok (.iload_n 1, 1) := dk_27 (dk_at dksX13_end_0 5 rfl rfl)
theorem dX13_end_6 : decode cX13_end 6 = .ok (.ifCond .lt 11, 3) := dk_155 0 11 (dk_at dksX13_end_0 6 rfl rfl)
theorem dX13_end_9 : decode cX13_end 9 = .ok (.iload_n 1, 1) := dk_27 (dk_at dksX13_end_0 9 rfl rfl)
theorem dX13_end_10 : decode cX13_end 10 = .ok (.aload_n 0, 1) := dk_42 (dk_at dksX13_end_0 10 rfl rfl)
theorem dX13_end_11 : decode cX13_end 11 = .ok (.getfield 62, 3) := dk_180 0 62 (dk_at dksX13_end_0 11 rfl rfl)
theorem dX13_end_14 : decode cX13_end 14 = .ok (.if_icmp .le 5, 3) := dk_164 0 5 (dk_at dksX13_end_0 14 rfl rfl)
theorem dX13_end_17 : decode cX13_end 17 = .ok (.iconst 0, 1) := dk_3 (dk_at dksX13_end_0 17 rfl rfl)
theorem dX13_end_18 : decode cX13_end 18 = .ok (.ireturn, 1) := dk_172 (dk_at dksX13_end_0 18 rfl rfl)
theorem dX13_end_19 : decode cX13_end 19 = .ok (.aload_n 0, 1) := dk_42 (dk_at dksX13_end_0 19 rfl rfl)
theorem dX13_end_20 : decode cX13_end 20 = .ok (.iload_n 1, 1) := dk_27 (dk_at dksX13_end_0 20 rfl rfl)
theorem dX13_end_21 : decode cX13_end 21 = .ok (.putfield 62, 3) := dk_181 0 62 (dk_at dksX13_end_0 21 rfl rfl)
theorem dX13_end_24 : decode cX13_end 24 = .ok (.iconst 1, 1) := dk_4 (dk_at dksX13_end_1 0 rfl rfl)
theorem dX13_end_25 : decode cX13_end 25 = .ok (.ireturn, 1) := dk_172 (dk_at dksX13_end_1 1 rfl rfl)
abbrev cX13_head : ByteArray := prog_24_method_43_code
def yX13_head : MethodName := ⟨RX13, "head", "()I"⟩
def dkwX13_head_9 : List UInt8 := [17, 0, 143, 28, 96, 3, 79, 132, 2, 1, 167, 255, 236, 42, 180, 0, 13, 17, 0, 150, 3, 79, 27, 172]
abbrev dktX13_head_9 : List UInt8 := dkwX13_head_9 ++ []
def dkwX13_head_8 : List UInt8 := [3, 79, 42, 180, 0, 13, 17, 0, 142, 3, 79, 3, 61, 28, 16, 6, 162, 0, 20, 42, 180, 0, 13]
abbrev dktX13_head_8 : List UInt8 := dkwX13_head_8 ++ dktX13_head_9
def dkwX13_head_7 : List UInt8 := [180, 0, 22, 28, 42, 180, 0, 26, 28, 47, 80, 132, 2, 1, 167, 255, 235, 42, 180, 0, 13, 17, 0, 140]
abbrev dktX13_head_7 : List UInt8 := dkwX13_head_7 ++ dktX13_head_8
def dkwX13_head_6 : List UInt8 := [42, 180, 0, 16, 28, 46, 79, 132, 2, 1, 167, 255, 234, 3, 61, 28, 16, 28, 162, 0, 21, 42]
abbrev dktX13_head_6 : List UInt8 := dkwX13_head_6 ++ dktX13_head_7
def dkwX13_head_5 : List UInt8 := [17, 0, 132, 42, 180, 0, 36, 4, 46, 79, 3, 61, 28, 17, 0, 140, 162, 0, 21, 42, 180, 0, 13, 28]
abbrev dktX13_head_5 : List UInt8 := dkwX13_head_5 ++ dktX13_head_6
def dkwX13_head_4 : List UInt8 := [180, 0, 36, 3, 46, 154, 0, 8, 16, 15, 167, 0, 9, 42, 180, 0, 36, 3, 46, 79, 42, 180, 0, 16]
abbrev dktX13_head_4 : List UInt8 := dkwX13_head_4 ++ dktX13_head_5
def dkwX13_head_3 : List UInt8 := [154, 0, 10, 2, 42, 180, 0, 109, 100, 172, 132, 1, 1, 167, 255, 232, 42, 180, 0, 16, 17, 0, 131, 42]
abbrev dktX13_head_3 : List UInt8 := dkwX13_head_3 ++ dktX13_head_4
def dkwX13_head_2 : List UInt8 := [3, 3, 79, 42, 180, 0, 36, 4, 3, 79, 3, 60, 42, 180, 0, 81, 153, 0, 23, 42, 182, 0, 221]
abbrev dktX13_head_2 : List UInt8 := dkwX13_head_2 ++ dktX13_head_3
def dkwX13_head_1 : List UInt8 := [79, 42, 180, 0, 16, 17, 0, 130, 3, 79, 42, 3, 181, 0, 191, 42, 3, 181, 0, 194, 42, 180, 0, 36]
abbrev dktX13_head_1 : List UInt8 := dkwX13_head_1 ++ dktX13_head_2
def dkwX13_head_0 : List UInt8 := [42, 17, 3, 132, 182, 0, 218, 42, 180, 0, 16, 17, 0, 128, 3, 79, 42, 180, 0, 16, 17, 0, 129, 3]
abbrev dktX13_head_0 : List UInt8 := dkwX13_head_0 ++ dktX13_head_1
theorem dksX13_head_0 : cX13_head.data.toList.drop 0 = dktX13_head_0 := by decide +kernel
theorem dksX13_head_1 : cX13_head.data.toList.drop 24 = dktX13_head_1 := dk_seg dksX13_head_0 24 rfl rfl
theorem dksX13_head_2 : cX13_head.data.toList.drop 48 = dktX13_head_2 := dk_seg dksX13_head_1 24 rfl rfl
theorem dksX13_head_3 : cX13_head.data.toList.drop 71 = dktX13_head_3 := dk_seg dksX13_head_2 23 rfl rfl
theorem dksX13_head_4 : cX13_head.data.toList.drop 95 = dktX13_head_4 := dk_seg dksX13_head_3 24 rfl rfl
theorem dksX13_head_5 : cX13_head.data.toList.drop 119 = dktX13_head_5 := dk_seg dksX13_head_4 24 rfl rfl
theorem dksX13_head_6 : cX13_head.data.toList.drop 143 = dktX13_head_6 := dk_seg dksX13_head_5 24 rfl rfl
theorem dksX13_head_7 : cX13_head.data.toList.drop 165 = dktX13_head_7 := dk_seg dksX13_head_6 22 rfl rfl
theorem dksX13_head_8 : cX13_head.data.toList.drop 189 = dktX13_head_8 := dk_seg dksX13_head_7 24 rfl rfl
theorem dksX13_head_9 : cX13_head.data.toList.drop 212 = dktX13_head_9 := dk_seg dksX13_head_8 23 rfl rfl
theorem dX13_head_0 : decode cX13_head 0 = .ok (.aload_n 0, 1) := dk_42 (dk_at dksX13_head_0 0 rfl rfl)
theorem dX13_head_1 : decode cX13_head 1 = .ok (.sipush 900, 3) := dk_17 3 132 (dk_at dksX13_head_0 1 rfl rfl)
theorem dX13_head_4 : decode cX13_head 4 = .ok (.invokevirtual 218, 3) := dk_182 0 218 (dk_at dksX13_head_0 4 rfl rfl)
theorem dX13_head_7 : decode cX13_head 7 = .ok (.aload_n 0, 1) := dk_42 (dk_at dksX13_head_0 7 rfl rfl)
theorem dX13_head_8 : decode cX13_head 8 = .ok (.getfield 16, 3) := dk_180 0 16 (dk_at dksX13_head_0 8 rfl rfl)
theorem dX13_head_11 : decode cX13_head 11 = .ok (.sipush 128, 3) := dk_17 0 128 (dk_at dksX13_head_0 11 rfl rfl)
theorem dX13_head_14 : decode cX13_head 14 = .ok (.iconst 0, 1) := dk_3 (dk_at dksX13_head_0 14 rfl rfl)
theorem dX13_head_15 : decode cX13_head 15 = .ok (.iastore, 1) := dk_79 (dk_at dksX13_head_0 15 rfl rfl)
theorem dX13_head_16 : decode cX13_head 16 = .ok (.aload_n 0, 1) := dk_42 (dk_at dksX13_head_0 16 rfl rfl)
theorem dX13_head_17 : decode cX13_head 17 = .ok (.getfield 16, 3) := dk_180 0 16 (dk_at dksX13_head_0 17 rfl rfl)
theorem dX13_head_20 : decode cX13_head 20 = .ok (.sipush 129, 3) := dk_17 0 129 (dk_at dksX13_head_0 20 rfl rfl)
theorem dX13_head_23 : decode cX13_head 23 = .ok (.iconst 0, 1) := dk_3 (dk_at dksX13_head_0 23 rfl rfl)
theorem dX13_head_24 : decode cX13_head 24 = .ok (.iastore, 1) := dk_79 (dk_at dksX13_head_1 0 rfl rfl)
theorem dX13_head_25 : decode cX13_head 25 = .ok (.aload_n 0, 1) := dk_42 (dk_at dksX13_head_1 1 rfl rfl)
theorem dX13_head_26 : decode cX13_head 26 = .ok (.getfield 16, 3) := dk_180 0 16 (dk_at dksX13_head_1 2 rfl rfl)
theorem dX13_head_29 : decode cX13_head 29 = .ok (.sipush 130, 3) := dk_17 0 130 (dk_at dksX13_head_1 5 rfl rfl)
theorem dX13_head_32 : decode cX13_head 32 = .ok (.iconst 0, 1) := dk_3 (dk_at dksX13_head_1 8 rfl rfl)
theorem dX13_head_33 : decode cX13_head 33 = .ok (.iastore, 1) := dk_79 (dk_at dksX13_head_1 9 rfl rfl)
theorem dX13_head_34 : decode cX13_head 34 = .ok (.aload_n 0, 1) := dk_42 (dk_at dksX13_head_1 10 rfl rfl)
theorem dX13_head_35 : decode cX13_head 35 = .ok (.iconst 0, 1) := dk_3 (dk_at dksX13_head_1 11 rfl rfl)
theorem dX13_head_36 : decode cX13_head 36 = .ok (.putfield 191, 3) := dk_181 0 191 (dk_at dksX13_head_1 12 rfl rfl)
theorem dX13_head_39 : decode cX13_head 39 = .ok (.aload_n 0, 1) := dk_42 (dk_at dksX13_head_1 15 rfl rfl)
theorem dX13_head_40 : decode cX13_head 40 = .ok (.iconst 0, 1) := dk_3 (dk_at dksX13_head_1 16 rfl rfl)
theorem dX13_head_41 : decode cX13_head 41 = .ok (.putfield 194, 3) := dk_181 0 194 (dk_at dksX13_head_1 17 rfl rfl)
theorem dX13_head_44 : decode cX13_head 44 = .ok (.aload_n 0, 1) := dk_42 (dk_at dksX13_head_1 20 rfl rfl)
theorem dX13_head_45 : decode cX13_head 45 = .ok (.getfield 36, 3) := dk_180 0 36 (dk_at dksX13_head_1 21 rfl rfl)
theorem dX13_head_48 : decode cX13_head 48 = .ok (.iconst 0, 1) := dk_3 (dk_at dksX13_head_2 0 rfl rfl)
theorem dX13_head_49 : decode cX13_head 49 = .ok (.iconst 0, 1) := dk_3 (dk_at dksX13_head_2 1 rfl rfl)
theorem dX13_head_50 : decode cX13_head 50 = .ok (.iastore, 1) := dk_79 (dk_at dksX13_head_2 2 rfl rfl)
theorem dX13_head_51 : decode cX13_head 51 = .ok (.aload_n 0, 1) := dk_42 (dk_at dksX13_head_2 3 rfl rfl)
theorem dX13_head_52 : decode cX13_head 52 = .ok (.getfield 36, 3) := dk_180 0 36 (dk_at dksX13_head_2 4 rfl rfl)
theorem dX13_head_55 : decode cX13_head 55 = .ok (.iconst 1, 1) := dk_4 (dk_at dksX13_head_2 7 rfl rfl)
theorem dX13_head_56 : decode cX13_head 56 = .ok (.iconst 0, 1) := dk_3 (dk_at dksX13_head_2 8 rfl rfl)
theorem dX13_head_57 : decode cX13_head 57 = .ok (.iastore, 1) := dk_79 (dk_at dksX13_head_2 9 rfl rfl)
theorem dX13_head_58 : decode cX13_head 58 = .ok (.iconst 0, 1) := dk_3 (dk_at dksX13_head_2 10 rfl rfl)
theorem dX13_head_59 : decode cX13_head 59 = .ok (.istore_n 1, 1) := dk_60 (dk_at dksX13_head_2 11 rfl rfl)
theorem dX13_head_60 : decode cX13_head 60 = .ok (.aload_n 0, 1) := dk_42 (dk_at dksX13_head_2 12 rfl rfl)
theorem dX13_head_61 : decode cX13_head 61 = .ok (.getfield 81, 3) := dk_180 0 81 (dk_at dksX13_head_2 13 rfl rfl)
theorem dX13_head_64 : decode cX13_head 64 = .ok (.ifCond .eq 23, 3) := dk_153 0 23 (dk_at dksX13_head_2 16 rfl rfl)
theorem dX13_head_67 : decode cX13_head 67 = .ok (.aload_n 0, 1) := dk_42 (dk_at dksX13_head_2 19 rfl rfl)
theorem dX13_head_68 : decode cX13_head 68 = .ok (.invokevirtual 221, 3) := dk_182 0 221 (dk_at dksX13_head_2 20 rfl rfl)
theorem dX13_head_71 : decode cX13_head 71 = .ok (.ifCond .ne 10, 3) := dk_154 0 10 (dk_at dksX13_head_3 0 rfl rfl)
theorem dX13_head_74 : decode cX13_head 74 = .ok (.iconst (-1), 1) := dk_2 (dk_at dksX13_head_3 3 rfl rfl)
theorem dX13_head_75 : decode cX13_head 75 = .ok (.aload_n 0, 1) := dk_42 (dk_at dksX13_head_3 4 rfl rfl)
theorem dX13_head_76 : decode cX13_head 76 = .ok (.getfield 109, 3) := dk_180 0 109 (dk_at dksX13_head_3 5 rfl rfl)
theorem dX13_head_79 : decode cX13_head 79 = .ok (.isub, 1) := dk_100 (dk_at dksX13_head_3 8 rfl rfl)
theorem dX13_head_80 : decode cX13_head 80 = .ok (.ireturn, 1) := dk_172 (dk_at dksX13_head_3 9 rfl rfl)
theorem dX13_head_81 : decode cX13_head 81 = .ok (.iinc 1 1, 3) := dk_132 1 1 (dk_at dksX13_head_3 10 rfl rfl)
theorem dX13_head_84 : decode cX13_head 84 = .ok (.goto (-24), 3) := dk_167 255 232 (dk_at dksX13_head_3 13 rfl rfl)
theorem dX13_head_87 : decode cX13_head 87 = .ok (.aload_n 0, 1) := dk_42 (dk_at dksX13_head_3 16 rfl rfl)
theorem dX13_head_88 : decode cX13_head 88 = .ok (.getfield 16, 3) := dk_180 0 16 (dk_at dksX13_head_3 17 rfl rfl)
theorem dX13_head_91 : decode cX13_head 91 = .ok (.sipush 131, 3) := dk_17 0 131 (dk_at dksX13_head_3 20 rfl rfl)
theorem dX13_head_94 : decode cX13_head 94 = .ok (.aload_n 0, 1) := dk_42 (dk_at dksX13_head_3 23 rfl rfl)
theorem dX13_head_95 : decode cX13_head 95 = .ok (.getfield 36, 3) := dk_180 0 36 (dk_at dksX13_head_4 0 rfl rfl)
theorem dX13_head_98 : decode cX13_head 98 = .ok (.iconst 0, 1) := dk_3 (dk_at dksX13_head_4 3 rfl rfl)
theorem dX13_head_99 : decode cX13_head 99 = .ok (.iaload, 1) := dk_46 (dk_at dksX13_head_4 4 rfl rfl)
theorem dX13_head_100 : decode cX13_head 100 = .ok (.ifCond .ne 8, 3) := dk_154 0 8 (dk_at dksX13_head_4 5 rfl rfl)
theorem dX13_head_103 : decode cX13_head 103 = .ok (.bipush 15, 2) := dk_16 15 (dk_at dksX13_head_4 8 rfl rfl)
theorem dX13_head_105 : decode cX13_head 105 = .ok (.goto 9, 3) := dk_167 0 9 (dk_at dksX13_head_4 10 rfl rfl)
theorem dX13_head_108 : decode cX13_head 108 = .ok (.aload_n 0, 1) := dk_42 (dk_at dksX13_head_4 13 rfl rfl)
theorem dX13_head_109 : decode cX13_head 109 = .ok (.getfield 36, 3) := dk_180 0 36 (dk_at dksX13_head_4 14 rfl rfl)
theorem dX13_head_112 : decode cX13_head 112 = .ok (.iconst 0, 1) := dk_3 (dk_at dksX13_head_4 17 rfl rfl)
theorem dX13_head_113 : decode cX13_head 113 = .ok (.iaload, 1) := dk_46 (dk_at dksX13_head_4 18 rfl rfl)
theorem dX13_head_114 : decode cX13_head 114 = .ok (.iastore, 1) := dk_79 (dk_at dksX13_head_4 19 rfl rfl)
theorem dX13_head_115 : decode cX13_head 115 = .ok (.aload_n 0, 1) := dk_42 (dk_at dksX13_head_4 20 rfl rfl)
theorem dX13_head_116 : decode cX13_head 116 = .ok (.getfield 16, 3) := dk_180 0 16 (dk_at dksX13_head_4 21 rfl rfl)
theorem dX13_head_119 : decode cX13_head 119 = .ok (.sipush 132, 3) := dk_17 0 132 (dk_at dksX13_head_5 0 rfl rfl)
theorem dX13_head_122 : decode cX13_head 122 = .ok (.aload_n 0, 1) := dk_42 (dk_at dksX13_head_5 3 rfl rfl)
theorem dX13_head_123 : decode cX13_head 123 = .ok (.getfield 36, 3) := dk_180 0 36 (dk_at dksX13_head_5 4 rfl rfl)
theorem dX13_head_126 : decode cX13_head 126 = .ok (.iconst 1, 1) := dk_4 (dk_at dksX13_head_5 7 rfl rfl)
theorem dX13_head_127 : decode cX13_head 127 = .ok (.iaload, 1) := dk_46 (dk_at dksX13_head_5 8 rfl rfl)
theorem dX13_head_128 : decode cX13_head 128 = .ok (.iastore, 1) := dk_79 (dk_at dksX13_head_5 9 rfl rfl)
theorem dX13_head_129 : decode cX13_head 129 = .ok (.iconst 0, 1) := dk_3 (dk_at dksX13_head_5 10 rfl rfl)
theorem dX13_head_130 : decode cX13_head 130 = .ok (.istore_n 2, 1) := dk_61 (dk_at dksX13_head_5 11 rfl rfl)
theorem dX13_head_131 : decode cX13_head 131 = .ok (.iload_n 2, 1) := dk_28 (dk_at dksX13_head_5 12 rfl rfl)
theorem dX13_head_132 : decode cX13_head 132 = .ok (.sipush 140, 3) := dk_17 0 140 (dk_at dksX13_head_5 13 rfl rfl)
theorem dX13_head_135 : decode cX13_head 135 = .ok (.if_icmp .ge 21, 3) := dk_162 0 21 (dk_at dksX13_head_5 16 rfl rfl)
theorem dX13_head_138 : decode cX13_head 138 = .ok (.aload_n 0, 1) := dk_42 (dk_at dksX13_head_5 19 rfl rfl)
theorem dX13_head_139 : decode cX13_head 139 = .ok (.getfield 13, 3) := dk_180 0 13 (dk_at dksX13_head_5 20 rfl rfl)
theorem dX13_head_142 : decode cX13_head 142 = .ok (.iload_n 2, 1) := dk_28 (dk_at dksX13_head_5 23 rfl rfl)
theorem dX13_head_143 : decode cX13_head 143 = .ok (.aload_n 0, 1) := dk_42 (dk_at dksX13_head_6 0 rfl rfl)
theorem dX13_head_144 : decode cX13_head 144 = .ok (.getfield 16, 3) := dk_180 0 16 (dk_at dksX13_head_6 1 rfl rfl)
theorem dX13_head_147 : decode cX13_head 147 = .ok (.iload_n 2, 1) := dk_28 (dk_at dksX13_head_6 4 rfl rfl)
theorem dX13_head_148 : decode cX13_head 148 = .ok (.iaload, 1) := dk_46 (dk_at dksX13_head_6 5 rfl rfl)
theorem dX13_head_149 : decode cX13_head 149 = .ok (.iastore, 1) := dk_79 (dk_at dksX13_head_6 6 rfl rfl)
theorem dX13_head_150 : decode cX13_head 150 = .ok (.iinc 2 1, 3) := dk_132 2 1 (dk_at dksX13_head_6 7 rfl rfl)
theorem dX13_head_153 : decode cX13_head 153 = .ok (.goto (-22), 3) := dk_167 255 234 (dk_at dksX13_head_6 10 rfl rfl)
theorem dX13_head_156 : decode cX13_head 156 = .ok (.iconst 0, 1) := dk_3 (dk_at dksX13_head_6 13 rfl rfl)
theorem dX13_head_157 : decode cX13_head 157 = .ok (.istore_n 2, 1) := dk_61 (dk_at dksX13_head_6 14 rfl rfl)
theorem dX13_head_158 : decode cX13_head 158 = .ok (.iload_n 2, 1) := dk_28 (dk_at dksX13_head_6 15 rfl rfl)
theorem dX13_head_159 : decode cX13_head 159 = .ok (.bipush 28, 2) := dk_16 28 (dk_at dksX13_head_6 16 rfl rfl)
theorem dX13_head_161 : decode cX13_head 161 = .ok (.if_icmp .ge 21, 3) := dk_162 0 21 (dk_at dksX13_head_6 18 rfl rfl)
theorem dX13_head_164 : decode cX13_head 164 = .ok (.aload_n 0, 1) := dk_42 (dk_at dksX13_head_6 21 rfl rfl)
theorem dX13_head_165 : decode cX13_head 165 = .ok (.getfield 22, 3) := dk_180 0 22 (dk_at dksX13_head_7 0 rfl rfl)
theorem dX13_head_168 : decode cX13_head 168 = .ok (.iload_n 2, 1) := dk_28 (dk_at dksX13_head_7 3 rfl rfl)
theorem dX13_head_169 : decode cX13_head 169 = .ok (.aload_n 0, 1) := dk_42 (dk_at dksX13_head_7 4 rfl rfl)
theorem dX13_head_170 : decode cX13_head 170 = .ok (.getfield 26, 3) := dk_180 0 26 (dk_at dksX13_head_7 5 rfl rfl)
theorem dX13_head_173 : decode cX13_head 173 = .ok (.iload_n 2, 1) := dk_28 (dk_at dksX13_head_7 8 rfl rfl)
theorem dX13_head_174 : decode cX13_head 174 = .ok (.laload, 1) := dk_47 (dk_at dksX13_head_7 9 rfl rfl)
theorem dX13_head_175 : decode cX13_head 175 = .ok (.lastore, 1) := dk_80 (dk_at dksX13_head_7 10 rfl rfl)
theorem dX13_head_176 : decode cX13_head 176 = .ok (.iinc 2 1, 3) := dk_132 2 1 (dk_at dksX13_head_7 11 rfl rfl)
theorem dX13_head_179 : decode cX13_head 179 = .ok (.goto (-21), 3) := dk_167 255 235 (dk_at dksX13_head_7 14 rfl rfl)
theorem dX13_head_182 : decode cX13_head 182 = .ok (.aload_n 0, 1) := dk_42 (dk_at dksX13_head_7 17 rfl rfl)
theorem dX13_head_183 : decode cX13_head 183 = .ok (.getfield 13, 3) := dk_180 0 13 (dk_at dksX13_head_7 18 rfl rfl)
theorem dX13_head_186 : decode cX13_head 186 = .ok (.sipush 140, 3) := dk_17 0 140 (dk_at dksX13_head_7 21 rfl rfl)
theorem dX13_head_189 : decode cX13_head 189 = .ok (.iconst 0, 1) := dk_3 (dk_at dksX13_head_8 0 rfl rfl)
theorem dX13_head_190 : decode cX13_head 190 = .ok (.iastore, 1) := dk_79 (dk_at dksX13_head_8 1 rfl rfl)
theorem dX13_head_191 : decode cX13_head 191 = .ok (.aload_n 0, 1) := dk_42 (dk_at dksX13_head_8 2 rfl rfl)
theorem dX13_head_192 : decode cX13_head 192 = .ok (.getfield 13, 3) := dk_180 0 13 (dk_at dksX13_head_8 3 rfl rfl)
theorem dX13_head_195 : decode cX13_head 195 = .ok (.sipush 142, 3) := dk_17 0 142 (dk_at dksX13_head_8 6 rfl rfl)
theorem dX13_head_198 : decode cX13_head 198 = .ok (.iconst 0, 1) := dk_3 (dk_at dksX13_head_8 9 rfl rfl)
theorem dX13_head_199 : decode cX13_head 199 = .ok (.iastore, 1) := dk_79 (dk_at dksX13_head_8 10 rfl rfl)
theorem dX13_head_200 : decode cX13_head 200 = .ok (.iconst 0, 1) := dk_3 (dk_at dksX13_head_8 11 rfl rfl)
theorem dX13_head_201 : decode cX13_head 201 = .ok (.istore_n 2, 1) := dk_61 (dk_at dksX13_head_8 12 rfl rfl)
theorem dX13_head_202 : decode cX13_head 202 = .ok (.iload_n 2, 1) := dk_28 (dk_at dksX13_head_8 13 rfl rfl)
theorem dX13_head_203 : decode cX13_head 203 = .ok (.bipush 6, 2) := dk_16 6 (dk_at dksX13_head_8 14 rfl rfl)
theorem dX13_head_205 : decode cX13_head 205 = .ok (.if_icmp .ge 20, 3) := dk_162 0 20 (dk_at dksX13_head_8 16 rfl rfl)
theorem dX13_head_208 : decode cX13_head 208 = .ok (.aload_n 0, 1) := dk_42 (dk_at dksX13_head_8 19 rfl rfl)
theorem dX13_head_209 : decode cX13_head 209 = .ok (.getfield 13, 3) := dk_180 0 13 (dk_at dksX13_head_8 20 rfl rfl)
theorem dX13_head_212 : decode cX13_head 212 = .ok (.sipush 143, 3) := dk_17 0 143 (dk_at dksX13_head_9 0 rfl rfl)
theorem dX13_head_215 : decode cX13_head 215 = .ok (.iload_n 2, 1) := dk_28 (dk_at dksX13_head_9 3 rfl rfl)
theorem dX13_head_216 : decode cX13_head 216 = .ok (.iadd, 1) := dk_96 (dk_at dksX13_head_9 4 rfl rfl)
theorem dX13_head_217 : decode cX13_head 217 = .ok (.iconst 0, 1) := dk_3 (dk_at dksX13_head_9 5 rfl rfl)
theorem dX13_head_218 : decode cX13_head 218 = .ok (.iastore, 1) := dk_79 (dk_at dksX13_head_9 6 rfl rfl)
theorem dX13_head_219 : decode cX13_head 219 = .ok (.iinc 2 1, 3) := dk_132 2 1 (dk_at dksX13_head_9 7 rfl rfl)
theorem dX13_head_222 : decode cX13_head 222 = .ok (.goto (-20), 3) := dk_167 255 236 (dk_at dksX13_head_9 10 rfl rfl)
theorem dX13_head_225 : decode cX13_head 225 = .ok (.aload_n 0, 1) := dk_42 (dk_at dksX13_head_9 13 rfl rfl)
theorem dX13_head_226 : decode cX13_head 226 = .ok (.getfield 13, 3) := dk_180 0 13 (dk_at dksX13_head_9 14 rfl rfl)
theorem dX13_head_229 : decode cX13_head 229 = .ok (.sipush 150, 3) := dk_17 0 150 (dk_at dksX13_head_9 17 rfl rfl)
theorem dX13_head_232 : decode cX13_head 232 = .ok (.iconst 0, 1) := dk_3 (dk_at dksX13_head_9 20 rfl rfl)
theorem dX13_head_233 : decode cX13_head 233 = .ok (.iastore, 1) := dk_79 (dk_at dksX13_head_9 21 rfl rfl)
theorem dX13_head_234 : decode cX13_head 234 = .ok (.iload_n 1, 1) := dk_27 (dk_at dksX13_head_9 22 rfl rfl)
theorem dX13_head_235 : decode cX13_head 235 = .ok (.ireturn, 1) := dk_172 (dk_at dksX13_head_9 23 rfl rfl)
abbrev cX13_begin : ByteArray := prog_24_method_42_code
def yX13_begin : MethodName := ⟨RX13, "begin", "(I)V"⟩
def dkwX13_begin_1 : List UInt8 := [180, 0, 13, 17, 0, 149, 3, 79, 42, 3, 181, 0, 72, 42, 182, 0, 122, 177]
abbrev dktX13_begin_1 : List UInt8 := dkwX13_begin_1 ++ []
def dkwX13_begin_0 : List UInt8 := [42, 3, 181, 0, 58, 42, 182, 0, 212, 42, 42, 182, 0, 215, 181, 0, 69, 42, 27, 181, 0, 78, 42]
abbrev dktX13_begin_0 : List UInt8 := dkwX13_begin_0 ++ dktX13_begin_1
theorem dksX13_begin_0 : cX13_begin.data.toList.drop 0 = dktX13_begin_0 := by decide +kernel
theorem dksX13_begin_1 : cX13_begin.data.toList.drop 23 = dktX13_begin_1 := dk_seg dksX13_begin_0 23 rfl rfl
theorem dX13_begin_0 : decode cX13_begin 0 = .ok (.aload_n 0, 1) := dk_42 (dk_at dksX13_begin_0 0 rfl rfl)
theorem dX13_begin_1 : decode cX13_begin 1 = .ok (.iconst 0, 1) := dk_3 (dk_at dksX13_begin_0 1 rfl rfl)
theorem dX13_begin_2 : decode cX13_begin 2 = .ok (.putfield 58, 3) := dk_181 0 58 (dk_at dksX13_begin_0 2 rfl rfl)
theorem dX13_begin_5 : decode cX13_begin 5 = .ok (.aload_n 0, 1) := dk_42 (dk_at dksX13_begin_0 5 rfl rfl)
theorem dX13_begin_6 : decode cX13_begin 6 = .ok (.invokevirtual 212, 3) := dk_182 0 212 (dk_at dksX13_begin_0 6 rfl rfl)
theorem dX13_begin_9 : decode cX13_begin 9 = .ok (.aload_n 0, 1) := dk_42 (dk_at dksX13_begin_0 9 rfl rfl)
theorem dX13_begin_10 : decode cX13_begin 10 = .ok (.aload_n 0, 1) := dk_42 (dk_at dksX13_begin_0 10 rfl rfl)
theorem dX13_begin_11 : decode cX13_begin 11 = .ok (.invokevirtual 215, 3) := dk_182 0 215 (dk_at dksX13_begin_0 11 rfl rfl)
theorem dX13_begin_14 : decode cX13_begin 14 = .ok (.putfield 69, 3) := dk_181 0 69 (dk_at dksX13_begin_0 14 rfl rfl)
theorem dX13_begin_17 : decode cX13_begin 17 = .ok (.aload_n 0, 1) := dk_42 (dk_at dksX13_begin_0 17 rfl rfl)
theorem dX13_begin_18 : decode cX13_begin 18 = .ok (.iload_n 1, 1) := dk_27 (dk_at dksX13_begin_0 18 rfl rfl)
theorem dX13_begin_19 : decode cX13_begin 19 = .ok (.putfield 78, 3) := dk_181 0 78 (dk_at dksX13_begin_0 19 rfl rfl)
theorem dX13_begin_22 : decode cX13_begin 22 = .ok (.aload_n 0, 1) := dk_42 (dk_at dksX13_begin_0 22 rfl rfl)
theorem dX13_begin_23 : decode cX13_begin 23 = .ok (.getfield 13, 3) := dk_180 0 13 (dk_at dksX13_begin_1 0 rfl rfl)
theorem dX13_begin_26 : decode cX13_begin 26 = .ok (.sipush 149, 3) := dk_17 0 149 (dk_at dksX13_begin_1 3 rfl rfl)
theorem dX13_begin_29 : decode cX13_begin 29 = .ok (.iconst 0, 1) := dk_3 (dk_at dksX13_begin_1 6 rfl rfl)
theorem dX13_begin_30 : decode cX13_begin 30 = .ok (.iastore, 1) := dk_79 (dk_at dksX13_begin_1 7 rfl rfl)
theorem dX13_begin_31 : decode cX13_begin 31 = .ok (.aload_n 0, 1) := dk_42 (dk_at dksX13_begin_1 8 rfl rfl)
theorem dX13_begin_32 : decode cX13_begin 32 = .ok (.iconst 0, 1) := dk_3 (dk_at dksX13_begin_1 9 rfl rfl)
theorem dX13_begin_33 : decode cX13_begin 33 = .ok (.putfield 72, 3) := dk_181 0 72 (dk_at dksX13_begin_1 10 rfl rfl)
theorem dX13_begin_36 : decode cX13_begin 36 = .ok (.aload_n 0, 1) := dk_42 (dk_at dksX13_begin_1 13 rfl rfl)
theorem dX13_begin_37 : decode cX13_begin 37 = .ok (.invokevirtual 122, 3) := dk_182 0 122 (dk_at dksX13_begin_1 14 rfl rfl)
theorem dX13_begin_40 : decode cX13_begin 40 = .ok (.return_, 1) := dk_177 (dk_at dksX13_begin_1 17 rfl rfl)
abbrev cX13_lay : ByteArray := prog_24_method_29_code
def yX13_lay : MethodName := ⟨RX13, "lay", "()V"⟩
def dkwX13_lay_2 : List UInt8 := [2, 79, 132, 1, 1, 167, 255, 239, 177]
abbrev dktX13_lay_2 : List UInt8 := dkwX13_lay_2 ++ []
def dkwX13_lay_1 : List UInt8 := [180, 0, 13, 17, 0, 150, 3, 79, 17, 0, 152, 60, 27, 17, 0, 155, 162, 0, 16, 42, 180, 0, 13, 27]
abbrev dktX13_lay_1 : List UInt8 := dkwX13_lay_1 ++ dktX13_lay_2
def dkwX13_lay_0 : List UInt8 := [42, 180, 0, 168, 153, 0, 4, 177, 42, 4, 181, 0, 168, 42, 180, 0, 13, 17, 0, 131, 16, 15, 79, 42]
abbrev dktX13_lay_0 : List UInt8 := dkwX13_lay_0 ++ dktX13_lay_1
theorem dksX13_lay_0 : cX13_lay.data.toList.drop 0 = dktX13_lay_0 := by decide +kernel
theorem dksX13_lay_1 : cX13_lay.data.toList.drop 24 = dktX13_lay_1 := dk_seg dksX13_lay_0 24 rfl rfl
theorem dksX13_lay_2 : cX13_lay.data.toList.drop 48 = dktX13_lay_2 := dk_seg dksX13_lay_1 24 rfl rfl
theorem dX13_lay_0 : decode cX13_lay 0 = .ok (.aload_n 0, 1) := dk_42 (dk_at dksX13_lay_0 0 rfl rfl)
theorem dX13_lay_1 : decode cX13_lay 1 = .ok (.getfield 168, 3) := dk_180 0 168 (dk_at dksX13_lay_0 1 rfl rfl)
theorem dX13_lay_4 : decode cX13_lay 4 = .ok (.ifCond .eq 4, 3) := dk_153 0 4 (dk_at dksX13_lay_0 4 rfl rfl)
theorem dX13_lay_7 : decode cX13_lay 7 = .ok (.return_, 1) := dk_177 (dk_at dksX13_lay_0 7 rfl rfl)
theorem dX13_lay_8 : decode cX13_lay 8 = .ok (.aload_n 0, 1) := dk_42 (dk_at dksX13_lay_0 8 rfl rfl)
theorem dX13_lay_9 : decode cX13_lay 9 = .ok (.iconst 1, 1) := dk_4 (dk_at dksX13_lay_0 9 rfl rfl)
theorem dX13_lay_10 : decode cX13_lay 10 = .ok (.putfield 168, 3) := dk_181 0 168 (dk_at dksX13_lay_0 10 rfl rfl)
theorem dX13_lay_13 : decode cX13_lay 13 = .ok (.aload_n 0, 1) := dk_42 (dk_at dksX13_lay_0 13 rfl rfl)
theorem dX13_lay_14 : decode cX13_lay 14 = .ok (.getfield 13, 3) := dk_180 0 13 (dk_at dksX13_lay_0 14 rfl rfl)
theorem dX13_lay_17 : decode cX13_lay 17 = .ok (.sipush 131, 3) := dk_17 0 131 (dk_at dksX13_lay_0 17 rfl rfl)
theorem dX13_lay_20 : decode cX13_lay 20 = .ok (.bipush 15, 2) := dk_16 15 (dk_at dksX13_lay_0 20 rfl rfl)
theorem dX13_lay_22 : decode cX13_lay 22 = .ok (.iastore, 1) := dk_79 (dk_at dksX13_lay_0 22 rfl rfl)
theorem dX13_lay_23 : decode cX13_lay 23 = .ok (.aload_n 0, 1) := dk_42 (dk_at dksX13_lay_0 23 rfl rfl)
theorem dX13_lay_24 : decode cX13_lay 24 = .ok (.getfield 13, 3) := dk_180 0 13 (dk_at dksX13_lay_1 0 rfl rfl)
theorem dX13_lay_27 : decode cX13_lay 27 = .ok (.sipush 150, 3) := dk_17 0 150 (dk_at dksX13_lay_1 3 rfl rfl)
theorem dX13_lay_30 : decode cX13_lay 30 = .ok (.iconst 0, 1) := dk_3 (dk_at dksX13_lay_1 6 rfl rfl)
theorem dX13_lay_31 : decode cX13_lay 31 = .ok (.iastore, 1) := dk_79 (dk_at dksX13_lay_1 7 rfl rfl)
theorem dX13_lay_32 : decode cX13_lay 32 = .ok (.sipush 152, 3) := dk_17 0 152 (dk_at dksX13_lay_1 8 rfl rfl)
theorem dX13_lay_35 : decode cX13_lay 35 = .ok (.istore_n 1, 1) := dk_60 (dk_at dksX13_lay_1 11 rfl rfl)
theorem dX13_lay_36 : decode cX13_lay 36 = .ok (.iload_n 1, 1) := dk_27 (dk_at dksX13_lay_1 12 rfl rfl)
theorem dX13_lay_37 : decode cX13_lay 37 = .ok (.sipush 155, 3) := dk_17 0 155 (dk_at dksX13_lay_1 13 rfl rfl)
theorem dX13_lay_40 : decode cX13_lay 40 = .ok (.if_icmp .ge 16, 3) := dk_162 0 16 (dk_at dksX13_lay_1 16 rfl rfl)
theorem dX13_lay_43 : decode cX13_lay 43 = .ok (.aload_n 0, 1) := dk_42 (dk_at dksX13_lay_1 19 rfl rfl)
theorem dX13_lay_44 : decode cX13_lay 44 = .ok (.getfield 13, 3) := dk_180 0 13 (dk_at dksX13_lay_1 20 rfl rfl)
theorem dX13_lay_47 : decode cX13_lay 47 = .ok (.iload_n 1, 1) := dk_27 (dk_at dksX13_lay_1 23 rfl rfl)
theorem dX13_lay_48 : decode cX13_lay 48 = .ok (.iconst (-1), 1) := dk_2 (dk_at dksX13_lay_2 0 rfl rfl)
theorem dX13_lay_49 : decode cX13_lay 49 = .ok (.iastore, 1) := dk_79 (dk_at dksX13_lay_2 1 rfl rfl)
theorem dX13_lay_50 : decode cX13_lay 50 = .ok (.iinc 1 1, 3) := dk_132 1 1 (dk_at dksX13_lay_2 2 rfl rfl)
theorem dX13_lay_53 : decode cX13_lay 53 = .ok (.goto (-17), 3) := dk_167 255 239 (dk_at dksX13_lay_2 5 rfl rfl)
theorem dX13_lay_56 : decode cX13_lay 56 = .ok (.return_, 1) := dk_177 (dk_at dksX13_lay_2 8 rfl rfl)
abbrev cX13_take : ByteArray := prog_24_method_7_code
def yX13_take : MethodName := ⟨RX13, "take", "()I"⟩
def dkwX13_take_0 : List UInt8 := [42, 180, 0, 62, 60, 42, 3, 181, 0, 62, 27, 172]
abbrev dktX13_take_0 : List UInt8 := dkwX13_take_0 ++ []
theorem dksX13_take_0 : cX13_take.data.toList.drop 0 = dktX13_take_0 := by decide +kernel
theorem dX13_take_0 : decode cX13_take 0 = .ok (.aload_n 0, 1) := dk_42 (dk_at dksX13_take_0 0 rfl rfl)
theorem dX13_take_1 : decode cX13_take 1 = .ok (.getfield 62, 3) := dk_180 0 62 (dk_at dksX13_take_0 1 rfl rfl)
theorem dX13_take_4 : decode cX13_take 4 = .ok (.istore_n 1, 1) := dk_60 (dk_at dksX13_take_0 4 rfl rfl)
theorem dX13_take_5 : decode cX13_take 5 = .ok (.aload_n 0, 1) := dk_42 (dk_at dksX13_take_0 5 rfl rfl)
theorem dX13_take_6 : decode cX13_take 6 = .ok (.iconst 0, 1) := dk_3 (dk_at dksX13_take_0 6 rfl rfl)
theorem dX13_take_7 : decode cX13_take 7 = .ok (.putfield 62, 3) := dk_181 0 62 (dk_at dksX13_take_0 7 rfl rfl)
theorem dX13_take_10 : decode cX13_take 10 = .ok (.iload_n 1, 1) := dk_27 (dk_at dksX13_take_0 10 rfl rfl)
theorem dX13_take_11 : decode cX13_take 11 = .ok (.ireturn, 1) := dk_172 (dk_at dksX13_take_0 11 rfl rfl)
abbrev cX13_go : ByteArray := prog_24_method_12_code
def yX13_go : MethodName := ⟨RX13, "go", "()V"⟩
def dkwX13_go_16 : List UInt8 := [167, 0, 4, 5, 164, 0, 7, 4, 167, 0, 12, 28, 153, 0, 7, 5, 167, 0, 4, 6, 181, 0, 81, 177]
abbrev dktX13_go_16 : List UInt8 := dkwX13_go_16 ++ []
def dkwX13_go_15 : List UInt8 := [167, 255, 124, 42, 29, 153, 0, 25, 42, 180, 0, 72, 42, 180, 0, 75, 100, 28, 153, 0, 8, 16, 6]
abbrev dktX13_go_15 : List UInt8 := dkwX13_go_15 ++ dktX13_go_16
def dkwX13_go_14 : List UInt8 := [180, 0, 98, 104, 21, 4, 96, 16, 48, 100, 181, 0, 98, 42, 89, 180, 0, 72, 4, 96, 181, 0, 72]
abbrev dktX13_go_14 : List UInt8 := dkwX13_go_14 ++ dktX13_go_15
def dkwX13_go_13 : List UInt8 := [20, 0, 107, 101, 181, 0, 94, 42, 180, 0, 72, 42, 180, 0, 75, 100, 5, 162, 0, 20, 42, 16, 10, 42]
abbrev dktX13_go_13 : List UInt8 := dkwX13_go_13 ++ dktX13_go_14
def dkwX13_go_12 : List UInt8 := [180, 0, 75, 100, 16, 6, 162, 0, 23, 42, 20, 0, 105, 42, 180, 0, 94, 105, 21, 4, 133, 97]
abbrev dktX13_go_12 : List UInt8 := dkwX13_go_12 ++ dktX13_go_13
def dkwX13_go_11 : List UInt8 := [153, 0, 16, 21, 4, 184, 0, 84, 28, 160, 0, 7, 4, 167, 0, 4, 3, 62, 42, 180, 0, 72, 42]
abbrev dktX13_go_11 : List UInt8 := dkwX13_go_11 ++ dktX13_go_12
def dkwX13_go_10 : List UInt8 := [180, 0, 72, 182, 0, 101, 184, 0, 88, 153, 0, 110, 42, 180, 0, 7, 42, 180, 0, 72, 46, 54, 4, 29]
abbrev dktX13_go_10 : List UInt8 := dkwX13_go_10 ++ dktX13_go_11
def dkwX13_go_9 : List UInt8 := [181, 0, 94, 42, 3, 181, 0, 98, 42, 42, 180, 0, 72, 182, 0, 101, 184, 0, 84, 154, 0, 17, 42, 42]
abbrev dktX13_go_9 : List UInt8 := dkwX13_go_9 ++ dktX13_go_10
def dkwX13_go_8 : List UInt8 := [181, 0, 91, 42, 89, 180, 0, 72, 4, 96, 181, 0, 72, 177, 27, 184, 0, 84, 61, 4, 62, 42, 9]
abbrev dktX13_go_8 : List UInt8 := dkwX13_go_8 ++ dktX13_go_9
def dkwX13_go_7 : List UInt8 := [27, 16, 40, 159, 0, 9, 27, 16, 41, 160, 0, 7, 7, 167, 0, 4, 4, 181, 0, 81, 42, 27]
abbrev dktX13_go_7 : List UInt8 := dkwX13_go_7 ++ dktX13_go_8
def dkwX13_go_6 : List UInt8 := [27, 16, 59, 159, 0, 33, 27, 16, 60, 159, 0, 27, 27, 16, 61, 159, 0, 21, 27, 16, 62, 159, 0, 15]
abbrev dktX13_go_6 : List UInt8 := dkwX13_go_6 ++ dktX13_go_7
def dkwX13_go_5 : List UInt8 := [180, 0, 7, 42, 180, 0, 72, 46, 60, 27, 184, 0, 84, 154, 0, 71, 27, 184, 0, 88, 154, 0, 64, 42]
abbrev dktX13_go_5 : List UInt8 := dkwX13_go_5 ++ dktX13_go_6
def dkwX13_go_4 : List UInt8 := [181, 0, 81, 177, 42, 180, 0, 72, 42, 180, 0, 69, 161, 0, 9, 42, 3, 181, 0, 81, 177, 42]
abbrev dktX13_go_4 : List UInt8 := dkwX13_go_4 ++ dktX13_go_5
def dkwX13_go_3 : List UInt8 := [164, 0, 28, 42, 180, 0, 75, 42, 180, 0, 78, 161, 0, 17, 42, 42, 180, 0, 78, 181, 0, 75, 42, 4]
abbrev dktX13_go_3 : List UInt8 := dkwX13_go_3 ++ dktX13_go_4
def dkwX13_go_2 : List UInt8 := [181, 0, 72, 167, 255, 207, 42, 42, 180, 0, 72, 181, 0, 75, 42, 180, 0, 69, 42, 180, 0, 78]
abbrev dktX13_go_2 : List UInt8 := dkwX13_go_2 ++ dktX13_go_3
def dkwX13_go_1 : List UInt8 := [159, 0, 17, 42, 180, 0, 7, 42, 180, 0, 72, 46, 16, 10, 160, 0, 16, 42, 89, 180, 0, 72, 4, 96]
abbrev dktX13_go_1 : List UInt8 := dkwX13_go_1 ++ dktX13_go_2
def dkwX13_go_0 : List UInt8 := [42, 180, 0, 72, 42, 180, 0, 69, 162, 0, 44, 42, 180, 0, 7, 42, 180, 0, 72, 46, 16, 32]
abbrev dktX13_go_0 : List UInt8 := dkwX13_go_0 ++ dktX13_go_1
theorem dksX13_go_0 : cX13_go.data.toList.drop 0 = dktX13_go_0 := by decide +kernel
theorem dksX13_go_1 : cX13_go.data.toList.drop 22 = dktX13_go_1 := dk_seg dksX13_go_0 22 rfl rfl
theorem dksX13_go_2 : cX13_go.data.toList.drop 46 = dktX13_go_2 := dk_seg dksX13_go_1 24 rfl rfl
theorem dksX13_go_3 : cX13_go.data.toList.drop 68 = dktX13_go_3 := dk_seg dksX13_go_2 22 rfl rfl
theorem dksX13_go_4 : cX13_go.data.toList.drop 92 = dktX13_go_4 := dk_seg dksX13_go_3 24 rfl rfl
theorem dksX13_go_5 : cX13_go.data.toList.drop 114 = dktX13_go_5 := dk_seg dksX13_go_4 22 rfl rfl
theorem dksX13_go_6 : cX13_go.data.toList.drop 138 = dktX13_go_6 := dk_seg dksX13_go_5 24 rfl rfl
theorem dksX13_go_7 : cX13_go.data.toList.drop 162 = dktX13_go_7 := dk_seg dksX13_go_6 24 rfl rfl
theorem dksX13_go_8 : cX13_go.data.toList.drop 184 = dktX13_go_8 := dk_seg dksX13_go_7 22 rfl rfl
theorem dksX13_go_9 : cX13_go.data.toList.drop 207 = dktX13_go_9 := dk_seg dksX13_go_8 23 rfl rfl
theorem dksX13_go_10 : cX13_go.data.toList.drop 231 = dktX13_go_10 := dk_seg dksX13_go_9 24 rfl rfl
theorem dksX13_go_11 : cX13_go.data.toList.drop 255 = dktX13_go_11 := dk_seg dksX13_go_10 24 rfl rfl
theorem dksX13_go_12 : cX13_go.data.toList.drop 278 = dktX13_go_12 := dk_seg dksX13_go_11 23 rfl rfl
theorem dksX13_go_13 : cX13_go.data.toList.drop 300 = dktX13_go_13 := dk_seg dksX13_go_12 22 rfl rfl
theorem dksX13_go_14 : cX13_go.data.toList.drop 324 = dktX13_go_14 := dk_seg dksX13_go_13 24 rfl rfl
theorem dksX13_go_15 : cX13_go.data.toList.drop 347 = dktX13_go_15 := dk_seg dksX13_go_14 23 rfl rfl
theorem dksX13_go_16 : cX13_go.data.toList.drop 370 = dktX13_go_16 := dk_seg dksX13_go_15 23 rfl rfl
theorem dX13_go_0 : decode cX13_go 0 = .ok (.aload_n 0, 1) := dk_42 (dk_at dksX13_go_0 0 rfl rfl)
theorem dX13_go_1 : decode cX13_go 1 = .ok (.getfield 72, 3) := dk_180 0 72 (dk_at dksX13_go_0 1 rfl rfl)
theorem dX13_go_4 : decode cX13_go 4 = .ok (.aload_n 0, 1) := dk_42 (dk_at dksX13_go_0 4 rfl rfl)
theorem dX13_go_5 : decode cX13_go 5 = .ok (.getfield 69, 3) := dk_180 0 69 (dk_at dksX13_go_0 5 rfl rfl)
theorem dX13_go_8 : decode cX13_go 8 = .ok (.if_icmp .ge 44, 3) := dk_162 0 44 (dk_at dksX13_go_0 8 rfl rfl)
theorem dX13_go_11 : decode cX13_go 11 = .ok (.aload_n 0, 1) := dk_42 (dk_at dksX13_go_0 11 rfl rfl)
theorem dX13_go_12 : decode cX13_go 12 = .ok (.getfield 7, 3) := dk_180 0 7 (dk_at dksX13_go_0 12 rfl rfl)
theorem dX13_go_15 : decode cX13_go 15 = .ok (.aload_n 0, 1) := dk_42 (dk_at dksX13_go_0 15 rfl rfl)
theorem dX13_go_16 : decode cX13_go 16 = .ok (.getfield 72, 3) := dk_180 0 72 (dk_at dksX13_go_0 16 rfl rfl)
theorem dX13_go_19 : decode cX13_go 19 = .ok (.iaload, 1) := dk_46 (dk_at dksX13_go_0 19 rfl rfl)
theorem dX13_go_20 : decode cX13_go 20 = .ok (.bipush 32, 2) := dk_16 32 (dk_at dksX13_go_0 20 rfl rfl)
theorem dX13_go_22 : decode cX13_go 22 = .ok (.if_icmp .eq 17, 3) := dk_159 0 17 (dk_at dksX13_go_1 0 rfl rfl)
theorem dX13_go_25 : decode cX13_go 25 = .ok (.aload_n 0, 1) := dk_42 (dk_at dksX13_go_1 3 rfl rfl)
theorem dX13_go_26 : decode cX13_go 26 = .ok (.getfield 7, 3) := dk_180 0 7 (dk_at dksX13_go_1 4 rfl rfl)
theorem dX13_go_29 : decode cX13_go 29 = .ok (.aload_n 0, 1) := dk_42 (dk_at dksX13_go_1 7 rfl rfl)
theorem dX13_go_30 : decode cX13_go 30 = .ok (.getfield 72, 3) := dk_180 0 72 (dk_at dksX13_go_1 8 rfl rfl)
theorem dX13_go_33 : decode cX13_go 33 = .ok (.iaload, 1) := dk_46 (dk_at dksX13_go_1 11 rfl rfl)
theorem dX13_go_34 : decode cX13_go 34 = .ok (.bipush 10, 2) := dk_16 10 (dk_at dksX13_go_1 12 rfl rfl)
theorem dX13_go_36 : decode cX13_go 36 = .ok (.if_icmp .ne 16, 3) := dk_160 0 16 (dk_at dksX13_go_1 14 rfl rfl)
theorem dX13_go_39 : decode cX13_go 39 = .ok (.aload_n 0, 1) := dk_42 (dk_at dksX13_go_1 17 rfl rfl)
theorem dX13_go_40 : decode cX13_go 40 = .ok (.dup, 1) := dk_89 (dk_at dksX13_go_1 18 rfl rfl)
theorem dX13_go_41 : decode cX13_go 41 = .ok (.getfield 72, 3) := dk_180 0 72 (dk_at dksX13_go_1 19 rfl rfl)
theorem dX13_go_44 : decode cX13_go 44 = .ok (.iconst 1, 1) := dk_4 (dk_at dksX13_go_1 22 rfl rfl)
theorem dX13_go_45 : decode cX13_go 45 = .ok (.iadd, 1) := dk_96 (dk_at dksX13_go_1 23 rfl rfl)
theorem dX13_go_46 : decode cX13_go 46 = .ok (.putfield 72, 3) := dk_181 0 72 (dk_at dksX13_go_2 0 rfl rfl)
theorem dX13_go_49 : decode cX13_go 49 = .ok (.goto (-49), 3) := dk_167 255 207 (dk_at dksX13_go_2 3 rfl rfl)
theorem dX13_go_52 : decode cX13_go 52 = .ok (.aload_n 0, 1) := dk_42 (dk_at dksX13_go_2 6 rfl rfl)
theorem dX13_go_53 : decode cX13_go 53 = .ok (.aload_n 0, 1) := dk_42 (dk_at dksX13_go_2 7 rfl rfl)
theorem dX13_go_54 : decode cX13_go 54 = .ok (.getfield 72, 3) := dk_180 0 72 (dk_at dksX13_go_2 8 rfl rfl)
theorem dX13_go_57 : decode cX13_go 57 = .ok (.putfield 75, 3) := dk_181 0 75 (dk_at dksX13_go_2 11 rfl rfl)
theorem dX13_go_60 : decode cX13_go 60 = .ok (.aload_n 0, 1) := dk_42 (dk_at dksX13_go_2 14 rfl rfl)
theorem dX13_go_61 : decode cX13_go 61 = .ok (.getfield 69, 3) := dk_180 0 69 (dk_at dksX13_go_2 15 rfl rfl)
theorem dX13_go_64 : decode cX13_go 64 = .ok (.aload_n 0, 1) := dk_42 (dk_at dksX13_go_2 18 rfl rfl)
theorem dX13_go_65 : decode cX13_go 65 = .ok (.getfield 78, 3) := dk_180 0 78 (dk_at dksX13_go_2 19 rfl rfl)
theorem dX13_go_68 : decode cX13_go 68 = .ok (.if_icmp .le 28, 3) := dk_164 0 28 (dk_at dksX13_go_3 0 rfl rfl)
theorem dX13_go_71 : decode cX13_go 71 = .ok (.aload_n 0, 1) := dk_42 (dk_at dksX13_go_3 3 rfl rfl)
theorem dX13_go_72 : decode cX13_go 72 = .ok (.getfield 75, 3) := dk_180 0 75 (dk_at dksX13_go_3 4 rfl rfl)
theorem dX13_go_75 : decode cX13_go 75 = .ok (.aload_n 0, 1) := dk_42 (dk_at dksX13_go_3 7 rfl rfl)
theorem dX13_go_76 : decode cX13_go 76 = .ok (.getfield 78, 3) := dk_180 0 78 (dk_at dksX13_go_3 8 rfl rfl)
theorem dX13_go_79 : decode cX13_go 79 = .ok (.if_icmp .lt 17, 3) := dk_161 0 17 (dk_at dksX13_go_3 11 rfl rfl)
theorem dX13_go_82 : decode cX13_go 82 = .ok (.aload_n 0, 1) := dk_42 (dk_at dksX13_go_3 14 rfl rfl)
theorem dX13_go_83 : decode cX13_go 83 = .ok (.aload_n 0, 1) := dk_42 (dk_at dksX13_go_3 15 rfl rfl)
theorem dX13_go_84 : decode cX13_go 84 = .ok (.getfield 78, 3) := dk_180 0 78 (dk_at dksX13_go_3 16 rfl rfl)
theorem dX13_go_87 : decode cX13_go 87 = .ok (.putfield 75, 3) := dk_181 0 75 (dk_at dksX13_go_3 19 rfl rfl)
theorem dX13_go_90 : decode cX13_go 90 = .ok (.aload_n 0, 1) := dk_42 (dk_at dksX13_go_3 22 rfl rfl)
theorem dX13_go_91 : decode cX13_go 91 = .ok (.iconst 1, 1) := dk_4 (dk_at dksX13_go_3 23 rfl rfl)
theorem dX13_go_92 : decode cX13_go 92 = .ok (.putfield 81, 3) := dk_181 0 81 (dk_at dksX13_go_4 0 rfl rfl)
theorem dX13_go_95 : decode cX13_go 95 = .ok (.return_, 1) := dk_177 (dk_at dksX13_go_4 3 rfl rfl)
theorem dX13_go_96 : decode cX13_go 96 = .ok (.aload_n 0, 1) := dk_42 (dk_at dksX13_go_4 4 rfl rfl)
theorem dX13_go_97 : decode cX13_go 97 = .ok (.getfield 72, 3) := dk_180 0 72 (dk_at dksX13_go_4 5 rfl rfl)
theorem dX13_go_100 : decode cX13_go 100 = .ok (.aload_n 0, 1) := dk_42 (dk_at dksX13_go_4 8 rfl rfl)
theorem dX13_go_101 : decode cX13_go 101 = .ok (.getfield 69, 3) := dk_180 0 69 (dk_at dksX13_go_4 9 rfl rfl)
theorem dX13_go_104 : decode cX13_go 104 = .ok (.if_icmp .lt 9, 3) := dk_161 0 9 (dk_at dksX13_go_4 12 rfl rfl)
theorem dX13_go_107 : decode cX13_go 107 = .ok (.aload_n 0, 1) := dk_42 (dk_at dksX13_go_4 15 rfl rfl)
theorem dX13_go_108 : decode cX13_go 108 = .ok (.iconst 0, 1) := dk_3 (dk_at dksX13_go_4 16 rfl rfl)
theorem dX13_go_109 : decode cX13_go 109 = .ok (.putfield 81, 3) := dk_181 0 81 (dk_at dksX13_go_4 17 rfl rfl)
theorem dX13_go_112 : decode cX13_go 112 = .ok (.return_, 1) := dk_177 (dk_at dksX13_go_4 20 rfl rfl)
theorem dX13_go_113 : decode cX13_go 113 = .ok (.aload_n 0, 1) := dk_42 (dk_at dksX13_go_4 21 rfl rfl)
theorem dX13_go_114 : decode cX13_go 114 = .ok (.getfield 7, 3) := dk_180 0 7 (dk_at dksX13_go_5 0 rfl rfl)
theorem dX13_go_117 : decode cX13_go 117 = .ok (.aload_n 0, 1) := dk_42 (dk_at dksX13_go_5 3 rfl rfl)
theorem dX13_go_118 : decode cX13_go 118 = .ok (.getfield 72, 3) := dk_180 0 72 (dk_at dksX13_go_5 4 rfl rfl)
theorem dX13_go_121 : decode cX13_go 121 = .ok (.iaload, 1) := dk_46 (dk_at dksX13_go_5 7 rfl rfl)
theorem dX13_go_122 : decode cX13_go 122 = .ok (.istore_n 1, 1) := dk_60 (dk_at dksX13_go_5 8 rfl rfl)
theorem dX13_go_123 : decode cX13_go 123 = .ok (.iload_n 1, 1) := dk_27 (dk_at dksX13_go_5 9 rfl rfl)
theorem dX13_go_124 : decode cX13_go 124 = .ok (.invokestatic 84, 3) := dk_184 0 84 (dk_at dksX13_go_5 10 rfl rfl)
theorem dX13_go_127 : decode cX13_go 127 = .ok (.ifCond .ne 71, 3) := dk_154 0 71 (dk_at dksX13_go_5 13 rfl rfl)
theorem dX13_go_130 : decode cX13_go 130 = .ok (.iload_n 1, 1) := dk_27 (dk_at dksX13_go_5 16 rfl rfl)
theorem dX13_go_131 : decode cX13_go 131 = .ok (.invokestatic 88, 3) := dk_184 0 88 (dk_at dksX13_go_5 17 rfl rfl)
theorem dX13_go_134 : decode cX13_go 134 = .ok (.ifCond .ne 64, 3) := dk_154 0 64 (dk_at dksX13_go_5 20 rfl rfl)
theorem dX13_go_137 : decode cX13_go 137 = .ok (.aload_n 0, 1) := dk_42 (dk_at dksX13_go_5 23 rfl rfl)
theorem dX13_go_138 : decode cX13_go 138 = .ok (.iload_n 1, 1) := dk_27 (dk_at dksX13_go_6 0 rfl rfl)
theorem dX13_go_139 : decode cX13_go 139 = .ok (.bipush 59, 2) := dk_16 59 (dk_at dksX13_go_6 1 rfl rfl)
theorem dX13_go_141 : decode cX13_go 141 = .ok (.if_icmp .eq 33, 3) := dk_159 0 33 (dk_at dksX13_go_6 3 rfl rfl)
theorem dX13_go_144 : decode cX13_go 144 = .ok (.iload_n 1, 1) := dk_27 (dk_at dksX13_go_6 6 rfl rfl)
theorem dX13_go_145 : decode cX13_go 145 = .ok (.bipush 60, 2) := dk_16 60 (dk_at dksX13_go_6 7 rfl rfl)
theorem dX13_go_147 : decode cX13_go 147 = .ok (.if_icmp .eq 27, 3) := dk_159 0 27 (dk_at dksX13_go_6 9 rfl rfl)
theorem dX13_go_150 : decode cX13_go 150 = .ok (.iload_n 1, 1) := dk_27 (dk_at dksX13_go_6 12 rfl rfl)
theorem dX13_go_151 : decode cX13_go 151 = .ok (.bipush 61, 2) := dk_16 61 (dk_at dksX13_go_6 13 rfl rfl)
theorem dX13_go_153 : decode cX13_go 153 = .ok (.if_icmp .eq 21, 3) := dk_159 0 21 (dk_at dksX13_go_6 15 rfl rfl)
theorem dX13_go_156 : decode cX13_go 156 = .ok (.iload_n 1, 1) := dk_27 (dk_at dksX13_go_6 18 rfl rfl)
theorem dX13_go_157 : decode cX13_go 157 = .ok (.bipush 62, 2) := dk_16 62 (dk_at dksX13_go_6 19 rfl rfl)
theorem dX13_go_159 : decode cX13_go 159 = .ok (.if_icmp .eq 15, 3) := dk_159 0 15 (dk_at dksX13_go_6 21 rfl rfl)
theorem dX13_go_162 : decode cX13_go 162 = .ok (.iload_n 1, 1) := dk_27 (dk_at dksX13_go_7 0 rfl rfl)
theorem dX13_go_163 : decode cX13_go 163 = .ok (.bipush 40, 2) := dk_16 40 (dk_at dksX13_go_7 1 rfl rfl)
theorem dX13_go_165 : decode cX13_go 165 = .ok (.if_icmp .eq 9, 3) := dk_159 0 9 (dk_at dksX13_go_7 3 rfl rfl)
theorem dX13_go_168 : decode cX13_go 168 = .ok (.iload_n 1, 1) := dk_27 (dk_at dksX13_go_7 6 rfl rfl)
theorem dX13_go_169 : decode cX13_go 169 = .ok (.bipush 41, 2) := dk_16 41 (dk_at dksX13_go_7 7 rfl rfl)
theorem dX13_go_171 : decode cX13_go 171 = .ok (.if_icmp .ne 7, 3) := dk_160 0 7 (dk_at dksX13_go_7 9 rfl rfl)
theorem dX13_go_174 : decode cX13_go 174 = .ok (.iconst 4, 1) := dk_7 (dk_at dksX13_go_7 12 rfl rfl)
theorem dX13_go_175 : decode cX13_go 175 = .ok (.goto 4, 3) := dk_167 0 4 (dk_at dksX13_go_7 13 rfl rfl)
theorem dX13_go_178 : decode cX13_go 178 = .ok (.iconst 1, 1) := dk_4 (dk_at dksX13_go_7 16 rfl rfl)
theorem dX13_go_179 : decode cX13_go 179 = .ok (.putfield 81, 3) := dk_181 0 81 (dk_at dksX13_go_7 17 rfl rfl)
theorem dX13_go_182 : decode cX13_go 182 = .ok (.aload_n 0, 1) := dk_42 (dk_at dksX13_go_7 20 rfl rfl)
theorem dX13_go_183 : decode cX13_go 183 = .ok (.iload_n 1, 1) := dk_27 (dk_at dksX13_go_7 21 rfl rfl)
theorem dX13_go_184 : decode cX13_go 184 = .ok (.putfield 91, 3) := dk_181 0 91 (dk_at dksX13_go_8 0 rfl rfl)
theorem dX13_go_187 : decode cX13_go 187 = .ok (.aload_n 0, 1) := dk_42 (dk_at dksX13_go_8 3 rfl rfl)
theorem dX13_go_188 : decode cX13_go 188 = .ok (.dup, 1) := dk_89 (dk_at dksX13_go_8 4 rfl rfl)
theorem dX13_go_189 : decode cX13_go 189 = .ok (.getfield 72, 3) := dk_180 0 72 (dk_at dksX13_go_8 5 rfl rfl)
theorem dX13_go_192 : decode cX13_go 192 = .ok (.iconst 1, 1) := dk_4 (dk_at dksX13_go_8 8 rfl rfl)
theorem dX13_go_193 : decode cX13_go 193 = .ok (.iadd, 1) := dk_96 (dk_at dksX13_go_8 9 rfl rfl)
theorem dX13_go_194 : decode cX13_go 194 = .ok (.putfield 72, 3) := dk_181 0 72 (dk_at dksX13_go_8 10 rfl rfl)
theorem dX13_go_197 : decode cX13_go 197 = .ok (.return_, 1) := dk_177 (dk_at dksX13_go_8 13 rfl rfl)
theorem dX13_go_198 : decode cX13_go 198 = .ok (.iload_n 1, 1) := dk_27 (dk_at dksX13_go_8 14 rfl rfl)
theorem dX13_go_199 : decode cX13_go 199 = .ok (.invokestatic 84, 3) := dk_184 0 84 (dk_at dksX13_go_8 15 rfl rfl)
theorem dX13_go_202 : decode cX13_go 202 = .ok (.istore_n 2, 1) := dk_61 (dk_at dksX13_go_8 18 rfl rfl)
theorem dX13_go_203 : decode cX13_go 203 = .ok (.iconst 1, 1) := dk_4 (dk_at dksX13_go_8 19 rfl rfl)
theorem dX13_go_204 : decode cX13_go 204 = .ok (.istore_n 3, 1) := dk_62 (dk_at dksX13_go_8 20 rfl rfl)
theorem dX13_go_205 : decode cX13_go 205 = .ok (.aload_n 0, 1) := dk_42 (dk_at dksX13_go_8 21 rfl rfl)
theorem dX13_go_206 : decode cX13_go 206 = .ok (.lconst 0, 1) := dk_9 (dk_at dksX13_go_8 22 rfl rfl)
theorem dX13_go_207 : decode cX13_go 207 = .ok (.putfield 94, 3) := dk_181 0 94 (dk_at dksX13_go_9 0 rfl rfl)
theorem dX13_go_210 : decode cX13_go 210 = .ok (.aload_n 0, 1) := dk_42 (dk_at dksX13_go_9 3 rfl rfl)
theorem dX13_go_211 : decode cX13_go 211 = .ok (.iconst 0, 1) := dk_3 (dk_at dksX13_go_9 4 rfl rfl)
theorem dX13_go_212 : decode cX13_go 212 = .ok (.putfield 98, 3) := dk_181 0 98 (dk_at dksX13_go_9 5 rfl rfl)
theorem dX13_go_215 : decode cX13_go 215 = .ok (.aload_n 0, 1) := dk_42 (dk_at dksX13_go_9 8 rfl rfl)
theorem dX13_go_216 : decode cX13_go 216 = .ok (.aload_n 0, 1) := dk_42 (dk_at dksX13_go_9 9 rfl rfl)
theorem dX13_go_217 : decode cX13_go 217 = .ok (.getfield 72, 3) := dk_180 0 72 (dk_at dksX13_go_9 10 rfl rfl)
theorem dX13_go_220 : decode cX13_go 220 = .ok (.invokevirtual 101, 3) := dk_182 0 101 (dk_at dksX13_go_9 13 rfl rfl)
theorem dX13_go_223 : decode cX13_go 223 = .ok (.invokestatic 84, 3) := dk_184 0 84 (dk_at dksX13_go_9 16 rfl rfl)
theorem dX13_go_226 : decode cX13_go 226 = .ok (.ifCond .ne 17, 3) := dk_154 0 17 (dk_at dksX13_go_9 19 rfl rfl)
theorem dX13_go_229 : decode cX13_go 229 = .ok (.aload_n 0, 1) := dk_42 (dk_at dksX13_go_9 22 rfl rfl)
theorem dX13_go_230 : decode cX13_go 230 = .ok (.aload_n 0, 1) := dk_42 (dk_at dksX13_go_9 23 rfl rfl)
theorem dX13_go_231 : decode cX13_go 231 = .ok (.getfield 72, 3) := dk_180 0 72 (dk_at dksX13_go_10 0 rfl rfl)
theorem dX13_go_234 : decode cX13_go 234 = .ok (.invokevirtual 101, 3) := dk_182 0 101 (dk_at dksX13_go_10 3 rfl rfl)
theorem dX13_go_237 : decode cX13_go 237 = .ok (.invokestatic 88, 3) := dk_184 0 88 (dk_at dksX13_go_10 6 rfl rfl)
theorem dX13_go_240 : decode cX13_go 240 = .ok (.ifCond .eq 110, 3) := dk_153 0 110 (dk_at dksX13_go_10 9 rfl rfl)
theorem dX13_go_243 : decode cX13_go 243 = .ok (.aload_n 0, 1) := dk_42 (dk_at dksX13_go_10 12 rfl rfl)
theorem dX13_go_244 : decode cX13_go 244 = .ok (.getfield 7, 3) := dk_180 0 7 (dk_at dksX13_go_10 13 rfl rfl)
theorem dX13_go_247 : decode cX13_go 247 = .ok (.aload_n 0, 1) := dk_42 (dk_at dksX13_go_10 16 rfl rfl)
theorem dX13_go_248 : decode cX13_go 248 = .ok (.getfield 72, 3) := dk_180 0 72 (dk_at dksX13_go_10 17 rfl rfl)
theorem dX13_go_251 : decode cX13_go 251 = .ok (.iaload, 1) := dk_46 (dk_at dksX13_go_10 20 rfl rfl)
theorem dX13_go_252 : decode cX13_go 252 = .ok (.istore 4, 2) := dk_54 4 (dk_at dksX13_go_10 21 rfl rfl)
theorem dX13_go_254 : decode cX13_go 254 = .ok (.iload_n 3, 1) := dk_29 (dk_at dksX13_go_10 23 rfl rfl)
theorem dX13_go_255 : decode cX13_go 255 = .ok (.ifCond .eq 16, 3) := dk_153 0 16 (dk_at dksX13_go_11 0 rfl rfl)
theorem dX13_go_258 : decode cX13_go 258 = .ok (.iload 4, 2) := dk_21 4 (dk_at dksX13_go_11 3 rfl rfl)
theorem dX13_go_260 : decode cX13_go 260 = .ok (.invokestatic 84, 3) := dk_184 0 84 (dk_at dksX13_go_11 5 rfl rfl)
theorem dX13_go_263 : decode cX13_go 263 = .ok (.iload_n 2, 1) := dk_28 (dk_at dksX13_go_11 8 rfl rfl)
theorem dX13_go_264 : decode cX13_go 264 = .ok (.if_icmp .ne 7, 3) := dk_160 0 7 (dk_at dksX13_go_11 9 rfl rfl)
theorem dX13_go_267 : decode cX13_go 267 = .ok (.iconst 1, 1) := dk_4 (dk_at dksX13_go_11 12 rfl rfl)
theorem dX13_go_268 : decode cX13_go 268 = .ok (.goto 4, 3) := dk_167 0 4 (dk_at dksX13_go_11 13 rfl rfl)
theorem dX13_go_271 : decode cX13_go 271 = .ok (.iconst 0, 1) := dk_3 (dk_at dksX13_go_11 16 rfl rfl)
theorem dX13_go_272 : decode cX13_go 272 = .ok (.istore_n 3, 1) := dk_62 (dk_at dksX13_go_11 17 rfl rfl)
theorem dX13_go_273 : decode cX13_go 273 = .ok (.aload_n 0, 1) := dk_42 (dk_at dksX13_go_11 18 rfl rfl)
theorem dX13_go_274 : decode cX13_go 274 = .ok (.getfield 72, 3) := dk_180 0 72 (dk_at dksX13_go_11 19 rfl rfl)
theorem dX13_go_277 : decode cX13_go 277 = .ok (.aload_n 0, 1) := dk_42 (dk_at dksX13_go_11 22 rfl rfl)
theorem dX13_go_278 : decode cX13_go 278 = .ok (.getfield 75, 3) := dk_180 0 75 (dk_at dksX13_go_12 0 rfl rfl)
theorem dX13_go_281 : decode cX13_go 281 = .ok (.isub, 1) := dk_100 (dk_at dksX13_go_12 3 rfl rfl)
theorem dX13_go_282 : decode cX13_go 282 = .ok (.bipush 6, 2) := dk_16 6 (dk_at dksX13_go_12 4 rfl rfl)
theorem dX13_go_284 : decode cX13_go 284 = .ok (.if_icmp .ge 23, 3) := dk_162 0 23 (dk_at dksX13_go_12 6 rfl rfl)
theorem dX13_go_287 : decode cX13_go 287 = .ok (.aload_n 0, 1) := dk_42 (dk_at dksX13_go_12 9 rfl rfl)
theorem dX13_go_288 : decode cX13_go 288 = .ok (.ldc2_w 105, 3) := dk_20 0 105 (dk_at dksX13_go_12 10 rfl rfl)
theorem dX13_go_291 : decode cX13_go 291 = .ok (.aload_n 0, 1) := dk_42 (dk_at dksX13_go_12 13 rfl rfl)
theorem dX13_go_292 : decode cX13_go 292 = .ok (.getfield 94, 3) := dk_180 0 94 (dk_at dksX13_go_12 14 rfl rfl)
theorem dX13_go_295 : decode cX13_go 295 = .ok (.lmul, 1) := dk_105 (dk_at dksX13_go_12 17 rfl rfl)
theorem dX13_go_296 : decode cX13_go 296 = .ok (.iload 4, 2) := dk_21 4 (dk_at dksX13_go_12 18 rfl rfl)
theorem dX13_go_298 : decode cX13_go 298 = .ok (.i2l, 1) := dk_133 (dk_at dksX13_go_12 20 rfl rfl)
theorem dX13_go_299 : decode cX13_go 299 = .ok (.ladd, 1) := dk_97 (dk_at dksX13_go_12 21 rfl rfl)
theorem dX13_go_300 : decode cX13_go 300 = .ok (.ldc2_w 107, 3) := dk_20 0 107 (dk_at dksX13_go_13 0 rfl rfl)
theorem dX13_go_303 : decode cX13_go 303 = .ok (.lsub, 1) := dk_101 (dk_at dksX13_go_13 3 rfl rfl)
theorem dX13_go_304 : decode cX13_go 304 = .ok (.putfield 94, 3) := dk_181 0 94 (dk_at dksX13_go_13 4 rfl rfl)
theorem dX13_go_307 : decode cX13_go 307 = .ok (.aload_n 0, 1) := dk_42 (dk_at dksX13_go_13 7 rfl rfl)
theorem dX13_go_308 : decode cX13_go 308 = .ok (.getfield 72, 3) := dk_180 0 72 (dk_at dksX13_go_13 8 rfl rfl)
theorem dX13_go_311 : decode cX13_go 311 = .ok (.aload_n 0, 1) := dk_42 (dk_at dksX13_go_13 11 rfl rfl)
theorem dX13_go_312 : decode cX13_go 312 = .ok (.getfield 75, 3) := dk_180 0 75 (dk_at dksX13_go_13 12 rfl rfl)
theorem dX13_go_315 : decode cX13_go 315 = .ok (.isub, 1) := dk_100 (dk_at dksX13_go_13 15 rfl rfl)
theorem dX13_go_316 : decode cX13_go 316 = .ok (.iconst 2, 1) := dk_5 (dk_at dksX13_go_13 16 rfl rfl)
theorem dX13_go_317 : decode cX13_go 317 = .ok (.if_icmp .ge 20, 3) := dk_162 0 20 (dk_at dksX13_go_13 17 rfl rfl)
theorem dX13_go_320 : decode cX13_go 320 = .ok (.aload_n 0, 1) := dk_42 (dk_at dksX13_go_13 20 rfl rfl)
theorem dX13_go_321 : decode cX13_go 321 = .ok (.bipush 10, 2) := dk_16 10 (dk_at dksX13_go_13 21 rfl rfl)
theorem dX13_go_323 : decode cX13_go 323 = .ok (.aload_n 0, 1) := dk_42 (dk_at dksX13_go_13 23 rfl rfl)
theorem dX13_go_324 : decode cX13_go 324 = .ok (.getfield 98, 3) := dk_180 0 98 (dk_at dksX13_go_14 0 rfl rfl)
theorem dX13_go_327 : decode cX13_go 327 = .ok (.imul, 1) := dk_104 (dk_at dksX13_go_14 3 rfl rfl)
theorem dX13_go_328 : decode cX13_go 328 = .ok (.iload 4, 2) := dk_21 4 (dk_at dksX13_go_14 4 rfl rfl)
theorem dX13_go_330 : decode cX13_go 330 = .ok (.iadd, 1) := dk_96 (dk_at dksX13_go_14 6 rfl rfl)
theorem dX13_go_331 : decode cX13_go 331 = .ok (.bipush 48, 2) := dk_16 48 (dk_at dksX13_go_14 7 rfl rfl)
theorem dX13_go_333 : decode cX13_go 333 = .ok (.isub, 1) := dk_100 (dk_at dksX13_go_14 9 rfl rfl)
theorem dX13_go_334 : decode cX13_go 334 = .ok (.putfield 98, 3) := dk_181 0 98 (dk_at dksX13_go_14 10 rfl rfl)
theorem dX13_go_337 : decode cX13_go 337 = .ok (.aload_n 0, 1) := dk_42 (dk_at dksX13_go_14 13 rfl rfl)
theorem dX13_go_338 : decode cX13_go 338 = .ok (.dup, 1) := dk_89 (dk_at dksX13_go_14 14 rfl rfl)
theorem dX13_go_339 : decode cX13_go 339 = .ok (.getfield 72, 3) := dk_180 0 72 (dk_at dksX13_go_14 15 rfl rfl)
theorem dX13_go_342 : decode cX13_go 342 = .ok (.iconst 1, 1) := dk_4 (dk_at dksX13_go_14 18 rfl rfl)
theorem dX13_go_343 : decode cX13_go 343 = .ok (.iadd, 1) := dk_96 (dk_at dksX13_go_14 19 rfl rfl)
theorem dX13_go_344 : decode cX13_go 344 = .ok (.putfield 72, 3) := dk_181 0 72 (dk_at dksX13_go_14 20 rfl rfl)
theorem dX13_go_347 : decode cX13_go 347 = .ok (.goto (-132), 3) := dk_167 255 124 (dk_at dksX13_go_15 0 rfl rfl)
theorem dX13_go_350 : decode cX13_go 350 = .ok (.aload_n 0, 1) := dk_42 (dk_at dksX13_go_15 3 rfl rfl)
theorem dX13_go_351 : decode cX13_go 351 = .ok (.iload_n 3, 1) := dk_29 (dk_at dksX13_go_15 4 rfl rfl)
theorem dX13_go_352 : decode cX13_go 352 = .ok (.ifCond .eq 25, 3) := dk_153 0 25 (dk_at dksX13_go_15 5 rfl rfl)
theorem dX13_go_355 : decode cX13_go 355 = .ok (.aload_n 0, 1) := dk_42 (dk_at dksX13_go_15 8 rfl rfl)
theorem dX13_go_356 : decode cX13_go 356 = .ok (.getfield 72, 3) := dk_180 0 72 (dk_at dksX13_go_15 9 rfl rfl)
theorem dX13_go_359 : decode cX13_go 359 = .ok (.aload_n 0, 1) := dk_42 (dk_at dksX13_go_15 12 rfl rfl)
theorem dX13_go_360 : decode cX13_go 360 = .ok (.getfield 75, 3) := dk_180 0 75 (dk_at dksX13_go_15 13 rfl rfl)
theorem dX13_go_363 : decode cX13_go 363 = .ok (.isub, 1) := dk_100 (dk_at dksX13_go_15 16 rfl rfl)
theorem dX13_go_364 : decode cX13_go 364 = .ok (.iload_n 2, 1) := dk_28 (dk_at dksX13_go_15 17 rfl rfl)
theorem dX13_go_365 : decode cX13_go 365 = .ok (.ifCond .eq 8, 3) := dk_153 0 8 (dk_at dksX13_go_15 18 rfl rfl)
theorem dX13_go_368 : decode cX13_go 368 = .ok (.bipush 6, 2) := dk_16 6 (dk_at dksX13_go_15 21 rfl rfl)
theorem dX13_go_370 : decode cX13_go 370 = .ok (.goto 4, 3) := dk_167 0 4 (dk_at dksX13_go_16 0 rfl rfl)
theorem dX13_go_373 : decode cX13_go 373 = .ok (.iconst 2, 1) := dk_5 (dk_at dksX13_go_16 3 rfl rfl)
theorem dX13_go_374 : decode cX13_go 374 = .ok (.if_icmp .le 7, 3) := dk_164 0 7 (dk_at dksX13_go_16 4 rfl rfl)
theorem dX13_go_377 : decode cX13_go 377 = .ok (.iconst 1, 1) := dk_4 (dk_at dksX13_go_16 7 rfl rfl)
theorem dX13_go_378 : decode cX13_go 378 = .ok (.goto 12, 3) := dk_167 0 12 (dk_at dksX13_go_16 8 rfl rfl)
theorem dX13_go_381 : decode cX13_go 381 = .ok (.iload_n 2, 1) := dk_28 (dk_at dksX13_go_16 11 rfl rfl)
theorem dX13_go_382 : decode cX13_go 382 = .ok (.ifCond .eq 7, 3) := dk_153 0 7 (dk_at dksX13_go_16 12 rfl rfl)
theorem dX13_go_385 : decode cX13_go 385 = .ok (.iconst 2, 1) := dk_5 (dk_at dksX13_go_16 15 rfl rfl)
theorem dX13_go_386 : decode cX13_go 386 = .ok (.goto 4, 3) := dk_167 0 4 (dk_at dksX13_go_16 16 rfl rfl)
theorem dX13_go_389 : decode cX13_go 389 = .ok (.iconst 3, 1) := dk_6 (dk_at dksX13_go_16 19 rfl rfl)
theorem dX13_go_390 : decode cX13_go 390 = .ok (.putfield 81, 3) := dk_181 0 81 (dk_at dksX13_go_16 20 rfl rfl)
theorem dX13_go_393 : decode cX13_go 393 = .ok (.return_, 1) := dk_177 (dk_at dksX13_go_16 23 rfl rfl)
abbrev cX13_isLetter : ByteArray := prog_24_method_11_code
def yX13_isLetter : MethodName := ⟨RX13, "isLetter", "(I)Z"⟩
def dkwX13_isLetter_0 : List UInt8 := [26, 16, 97, 161, 0, 13, 26, 16, 122, 163, 0, 7, 4, 167, 0, 4, 3, 172]
abbrev dktX13_isLetter_0 : List UInt8 := dkwX13_isLetter_0 ++ []
theorem dksX13_isLetter_0 : cX13_isLetter.data.toList.drop 0 = dktX13_isLetter_0 := by decide +kernel
theorem dX13_isLetter_0 : decode cX13_isLetter 0 = .ok (.iload_n 0, 1) := dk_26 (dk_at dksX13_isLetter_0 0 rfl rfl)
theorem dX13_isLetter_1 : decode cX13_isLetter 1 = .ok (.bipush 97, 2) := dk_16 97 (dk_at dksX13_isLetter_0 1 rfl rfl)
theorem dX13_isLetter_3 : decode cX13_isLetter 3 = .ok (.if_icmp .lt 13, 3) := dk_161 0 13 (dk_at dksX13_isLetter_0 3 rfl rfl)
theorem dX13_isLetter_6 : decode cX13_isLetter 6 = .ok (.iload_n 0, 1) := dk_26 (dk_at dksX13_isLetter_0 6 rfl rfl)
theorem dX13_isLetter_7 : decode cX13_isLetter 7 = .ok (.bipush 122, 2) := dk_16 122 (dk_at dksX13_isLetter_0 7 rfl rfl)
theorem dX13_isLetter_9 : decode cX13_isLetter 9 = .ok (.if_icmp .gt 7, 3) := dk_163 0 7 (dk_at dksX13_isLetter_0 9 rfl rfl)
theorem dX13_isLetter_12 : decode cX13_isLetter 12 = .ok (.iconst 1, 1) := dk_4 (dk_at dksX13_isLetter_0 12 rfl rfl)
theorem dX13_isLetter_13 : decode cX13_isLetter 13 = .ok (.goto 4, 3) := dk_167 0 4 (dk_at dksX13_isLetter_0 13 rfl rfl)
theorem dX13_isLetter_16 : decode cX13_isLetter 16 = .ok (.iconst 0, 1) := dk_3 (dk_at dksX13_isLetter_0 16 rfl rfl)
theorem dX13_isLetter_17 : decode cX13_isLetter 17 = .ok (.ireturn, 1) := dk_172 (dk_at dksX13_isLetter_0 17 rfl rfl)
abbrev cX13_isDigit : ByteArray := prog_24_method_10_code
def yX13_isDigit : MethodName := ⟨RX13, "isDigit", "(I)Z"⟩
def dkwX13_isDigit_0 : List UInt8 := [26, 16, 48, 161, 0, 13, 26, 16, 57, 163, 0, 7, 4, 167, 0, 4, 3, 172]
abbrev dktX13_isDigit_0 : List UInt8 := dkwX13_isDigit_0 ++ []
theorem dksX13_isDigit_0 : cX13_isDigit.data.toList.drop 0 = dktX13_isDigit_0 := by decide +kernel
theorem dX13_isDigit_0 : decode cX13_isDigit 0 = .ok (.iload_n 0, 1) := dk_26 (dk_at dksX13_isDigit_0 0 rfl rfl)
theorem dX13_isDigit_1 : decode cX13_isDigit 1 = .ok (.bipush 48, 2) := dk_16 48 (dk_at dksX13_isDigit_0 1 rfl rfl)
theorem dX13_isDigit_3 : decode cX13_isDigit 3 = .ok (.if_icmp .lt 13, 3) := dk_161 0 13 (dk_at dksX13_isDigit_0 3 rfl rfl)
theorem dX13_isDigit_6 : decode cX13_isDigit 6 = .ok (.iload_n 0, 1) := dk_26 (dk_at dksX13_isDigit_0 6 rfl rfl)
theorem dX13_isDigit_7 : decode cX13_isDigit 7 = .ok (.bipush 57, 2) := dk_16 57 (dk_at dksX13_isDigit_0 7 rfl rfl)
theorem dX13_isDigit_9 : decode cX13_isDigit 9 = .ok (.if_icmp .gt 7, 3) := dk_163 0 7 (dk_at dksX13_isDigit_0 9 rfl rfl)
theorem dX13_isDigit_12 : decode cX13_isDigit 12 = .ok (.iconst 1, 1) := dk_4 (dk_at dksX13_isDigit_0 12 rfl rfl)
theorem dX13_isDigit_13 : decode cX13_isDigit 13 = .ok (.goto 4, 3) := dk_167 0 4 (dk_at dksX13_isDigit_0 13 rfl rfl)
theorem dX13_isDigit_16 : decode cX13_isDigit 16 = .ok (.iconst 0, 1) := dk_3 (dk_at dksX13_isDigit_0 16 rfl rfl)
theorem dX13_isDigit_17 : decode cX13_isDigit 17 = .ok (.ireturn, 1) := dk_172 (dk_at dksX13_isDigit_0 17 rfl rfl)
abbrev cX13_byteAt : ByteArray := prog_24_method_9_code
def yX13_byteAt : MethodName := ⟨RX13, "byteAt", "(I)I"⟩
def dkwX13_byteAt_0 : List UInt8 := [27, 42, 180, 0, 69, 162, 0, 12, 42, 180, 0, 7, 27, 46, 167, 0, 4, 3, 172]
abbrev dktX13_byteAt_0 : List UInt8 := dkwX13_byteAt_0 ++ []
theorem dksX13_byteAt_0 : cX13_byteAt.data.toList.drop 0 = dktX13_byteAt_0 := by decide +kernel
theorem dX13_byteAt_0 : decode cX13_byteAt 0 = .ok (.iload_n 1, 1) := dk_27 (dk_at dksX13_byteAt_0 0 rfl rfl)
theorem dX13_byteAt_1 : decode cX13_byteAt 1 = .ok (.aload_n 0, 1) := dk_42 (dk_at dksX13_byteAt_0 1 rfl rfl)
theorem dX13_byteAt_2 : decode cX13_byteAt 2 = .ok (.getfield 69, 3) := dk_180 0 69 (dk_at dksX13_byteAt_0 2 rfl rfl)
theorem dX13_byteAt_5 : decode cX13_byteAt 5 = .ok (.if_icmp .ge 12, 3) := dk_162 0 12 (dk_at dksX13_byteAt_0 5 rfl rfl)
theorem dX13_byteAt_8 : decode cX13_byteAt 8 = .ok (.aload_n 0, 1) := dk_42 (dk_at dksX13_byteAt_0 8 rfl rfl)
theorem dX13_byteAt_9 : decode cX13_byteAt 9 = .ok (.getfield 7, 3) := dk_180 0 7 (dk_at dksX13_byteAt_0 9 rfl rfl)
theorem dX13_byteAt_12 : decode cX13_byteAt 12 = .ok (.iload_n 1, 1) := dk_27 (dk_at dksX13_byteAt_0 12 rfl rfl)
theorem dX13_byteAt_13 : decode cX13_byteAt 13 = .ok (.iaload, 1) := dk_46 (dk_at dksX13_byteAt_0 13 rfl rfl)
theorem dX13_byteAt_14 : decode cX13_byteAt 14 = .ok (.goto 4, 3) := dk_167 0 4 (dk_at dksX13_byteAt_0 14 rfl rfl)
theorem dX13_byteAt_17 : decode cX13_byteAt 17 = .ok (.iconst 0, 1) := dk_3 (dk_at dksX13_byteAt_0 17 rfl rfl)
theorem dX13_byteAt_18 : decode cX13_byteAt 18 = .ok (.ireturn, 1) := dk_172 (dk_at dksX13_byteAt_0 18 rfl rfl)
abbrev cX13_readLine : ByteArray := prog_24_method_41_code
def yX13_readLine : MethodName := ⟨RX13, "readLine", "()Z"⟩
def dkwX13_readLine_3 : List UInt8 := [4, 182, 0, 112, 172, 42, 182, 0, 122, 4, 172]
abbrev dktX13_readLine_3 : List UInt8 := dkwX13_readLine_3 ++ []
def dkwX13_readLine_2 : List UInt8 := [167, 0, 7, 42, 182, 0, 206, 61, 28, 154, 0, 5, 3, 172, 42, 16, 59, 182, 0, 209, 154, 0, 9, 42]
abbrev dktX13_readLine_2 : List UInt8 := dkwX13_readLine_2 ++ dktX13_readLine_3
def dkwX13_readLine_1 : List UInt8 := [167, 0, 31, 27, 4, 160, 0, 10, 42, 182, 0, 200, 167, 0, 19, 27, 5, 160, 0, 10, 42, 182, 0, 203]
abbrev dktX13_readLine_1 : List UInt8 := dkwX13_readLine_1 ++ dktX13_readLine_2
def dkwX13_readLine_0 : List UInt8 := [42, 182, 0, 152, 60, 27, 2, 160, 0, 9, 42, 4, 182, 0, 112, 172, 27, 154, 0, 10, 42, 182, 0, 197]
abbrev dktX13_readLine_0 : List UInt8 := dkwX13_readLine_0 ++ dktX13_readLine_1
theorem dksX13_readLine_0 : cX13_readLine.data.toList.drop 0 = dktX13_readLine_0 := by decide +kernel
theorem dksX13_readLine_1 : cX13_readLine.data.toList.drop 24 = dktX13_readLine_1 := dk_seg dksX13_readLine_0 24 rfl rfl
theorem dksX13_readLine_2 : cX13_readLine.data.toList.drop 48 = dktX13_readLine_2 := dk_seg dksX13_readLine_1 24 rfl rfl
theorem dksX13_readLine_3 : cX13_readLine.data.toList.drop 72 = dktX13_readLine_3 := dk_seg dksX13_readLine_2 24 rfl rfl
theorem dX13_readLine_0 : decode cX13_readLine 0 = .ok (.aload_n 0, 1) := dk_42 (dk_at dksX13_readLine_0 0 rfl rfl)
theorem dX13_readLine_1 : decode cX13_readLine 1 = .ok (.invokevirtual 152, 3) := dk_182 0 152 (dk_at dksX13_readLine_0 1 rfl rfl)
theorem dX13_readLine_4 : decode cX13_readLine 4 = .ok (.istore_n 1, 1) := dk_60 (dk_at dksX13_readLine_0 4 rfl rfl)
theorem dX13_readLine_5 : decode cX13_readLine 5 = .ok (.iload_n 1, 1) := dk_27 (dk_at dksX13_readLine_0 5 rfl rfl)
theorem dX13_readLine_6 : decode cX13_readLine 6 = .ok (.iconst (-1), 1) := dk_2 (dk_at dksX13_readLine_0 6 rfl rfl)
theorem dX13_readLine_7 : decode cX13_readLine 7 = .ok (.if_icmp .ne 9, 3) := dk_160 0 9 (dk_at dksX13_readLine_0 7 rfl rfl)
theorem dX13_readLine_10 : decode cX13_readLine 10 = .ok (.aload_n 0, 1) := dk_42 (dk_at dksX13_readLine_0 10 rfl rfl)
theorem dX13_readLine_11 : decode cX13_readLine 11 = .ok (.iconst 1, 1) := dk_4 (dk_at dksX13_readLine_0 11 rfl rfl)
theorem dX13_readLine_12 : decode cX13_readLine 12 = .ok (.invokevirtual 112, 3) := dk_182 0 112 (dk_at dksX13_readLine_0 12 rfl rfl)
theorem dX13_readLine_15 : decode cX13_readLine 15 = .ok (.ireturn, 1) := dk_172 (dk_at dksX13_readLine_0 15 rfl rfl)
theorem dX13_readLine_16 : decode cX13_readLine 16 = .ok (.iload_n 1, 1) := dk_27 (dk_at dksX13_readLine_0 16 rfl rfl)
theorem dX13_readLine_17 : decode cX13_readLine 17 = .ok (.ifCond .ne 10, 3) := dk_154 0 10 (dk_at dksX13_readLine_0 17 rfl rfl)
theorem dX13_readLine_20 : decode cX13_readLine 20 = .ok (.aload_n 0, 1) := dk_42 (dk_at dksX13_readLine_0 20 rfl rfl)
theorem dX13_readLine_21 : decode cX13_readLine 21 = .ok (.invokevirtual 197, 3) := dk_182 0 197 (dk_at dksX13_readLine_0 21 rfl rfl)
theorem dX13_readLine_24 : decode cX13_readLine 24 = .ok (.goto 31, 3) := dk_167 0 31 (dk_at dksX13_readLine_1 0 rfl rfl)
theorem dX13_readLine_27 : decode cX13_readLine 27 = .ok (.iload_n 1, 1) := dk_27 (dk_at dksX13_readLine_1 3 rfl rfl)
theorem dX13_readLine_28 : decode cX13_readLine 28 = .ok (.iconst 1, 1) := dk_4 (dk_at dksX13_readLine_1 4 rfl rfl)
theorem dX13_readLine_29 : decode cX13_readLine 29 = .ok (.if_icmp .ne 10, 3) := dk_160 0 10 (dk_at dksX13_readLine_1 5 rfl rfl)
theorem dX13_readLine_32 : decode cX13_readLine 32 = .ok (.aload_n 0, 1) := dk_42 (dk_at dksX13_readLine_1 8 rfl rfl)
theorem dX13_readLine_33 : decode cX13_readLine 33 = .ok (.invokevirtual 200, 3) := dk_182 0 200 (dk_at dksX13_readLine_1 9 rfl rfl)
theorem dX13_readLine_36 : decode cX13_readLine 36 = .ok (.goto 19, 3) := dk_167 0 19 (dk_at dksX13_readLine_1 12 rfl rfl)
theorem dX13_readLine_39 : decode cX13_readLine 39 = .ok (.iload_n 1, 1) := dk_27 (dk_at dksX13_readLine_1 15 rfl rfl)
theorem dX13_readLine_40 : decode cX13_readLine 40 = .ok (.iconst 2, 1) := dk_5 (dk_at dksX13_readLine_1 16 rfl rfl)
theorem dX13_readLine_41 : decode cX13_readLine 41 = .ok (.if_icmp .ne 10, 3) := dk_160 0 10 (dk_at dksX13_readLine_1 17 rfl rfl)
theorem dX13_readLine_44 : decode cX13_readLine 44 = .ok (.aload_n 0, 1) := dk_42 (dk_at dksX13_readLine_1 20 rfl rfl)
theorem dX13_readLine_45 : decode cX13_readLine 45 = .ok (.invokevirtual 203, 3) := dk_182 0 203 (dk_at dksX13_readLine_1 21 rfl rfl)
theorem dX13_readLine_48 : decode cX13_readLine 48 = .ok (.goto 7, 3) := dk_167 0 7 (dk_at dksX13_readLine_2 0 rfl rfl)
theorem dX13_readLine_51 : decode cX13_readLine 51 = .ok (.aload_n 0, 1) := dk_42 (dk_at dksX13_readLine_2 3 rfl rfl)
theorem dX13_readLine_52 : decode cX13_readLine 52 = .ok (.invokevirtual 206, 3) := dk_182 0 206 (dk_at dksX13_readLine_2 4 rfl rfl)
theorem dX13_readLine_55 : decode cX13_readLine 55 = .ok (.istore_n 2, 1) := dk_61 (dk_at dksX13_readLine_2 7 rfl rfl)
theorem dX13_readLine_56 : decode cX13_readLine 56 = .ok (.iload_n 2, 1) := dk_28 (dk_at dksX13_readLine_2 8 rfl rfl)
theorem dX13_readLine_57 : decode cX13_readLine 57 = .ok (.ifCond .ne 5, 3) := dk_154 0 5 (dk_at dksX13_readLine_2 9 rfl rfl)
theorem dX13_readLine_60 : decode cX13_readLine 60 = .ok (.iconst 0, 1) := dk_3 (dk_at dksX13_readLine_2 12 rfl rfl)
theorem dX13_readLine_61 : decode cX13_readLine 61 = .ok (.ireturn, 1) := dk_172 (dk_at dksX13_readLine_2 13 rfl rfl)
theorem dX13_readLine_62 : decode cX13_readLine 62 = .ok (.aload_n 0, 1) := dk_42 (dk_at dksX13_readLine_2 14 rfl rfl)
theorem dX13_readLine_63 : decode cX13_readLine 63 = .ok (.bipush 59, 2) := dk_16 59 (dk_at dksX13_readLine_2 15 rfl rfl)
theorem dX13_readLine_65 : decode cX13_readLine 65 = .ok (.invokevirtual 209, 3) := dk_182 0 209 (dk_at dksX13_readLine_2 17 rfl rfl)
theorem dX13_readLine_68 : decode cX13_readLine 68 = .ok (.ifCond .ne 9, 3) := dk_154 0 9 (dk_at dksX13_readLine_2 20 rfl rfl)
theorem dX13_readLine_71 : decode cX13_readLine 71 = .ok (.aload_n 0, 1) := dk_42 (dk_at dksX13_readLine_2 23 rfl rfl)
theorem dX13_readLine_72 : decode cX13_readLine 72 = .ok (.iconst 1, 1) := dk_4 (dk_at dksX13_readLine_3 0 rfl rfl)
theorem dX13_readLine_73 : decode cX13_readLine 73 = .ok (.invokevirtual 112, 3) := dk_182 0 112 (dk_at dksX13_readLine_3 1 rfl rfl)
theorem dX13_readLine_76 : decode cX13_readLine 76 = .ok (.ireturn, 1) := dk_172 (dk_at dksX13_readLine_3 4 rfl rfl)
theorem dX13_readLine_77 : decode cX13_readLine 77 = .ok (.aload_n 0, 1) := dk_42 (dk_at dksX13_readLine_3 5 rfl rfl)
theorem dX13_readLine_78 : decode cX13_readLine 78 = .ok (.invokevirtual 122, 3) := dk_182 0 122 (dk_at dksX13_readLine_3 6 rfl rfl)
theorem dX13_readLine_81 : decode cX13_readLine 81 = .ok (.iconst 1, 1) := dk_4 (dk_at dksX13_readLine_3 9 rfl rfl)
theorem dX13_readLine_82 : decode cX13_readLine 82 = .ok (.ireturn, 1) := dk_172 (dk_at dksX13_readLine_3 10 rfl rfl)
abbrev cX13_lineAtHand : ByteArray := prog_24_method_23_code
def yX13_lineAtHand : MethodName := ⟨RX13, "lineAtHand", "()I"⟩
def dkwX13_lineAtHand_2 : List UInt8 := [16, 115, 3, 184, 0, 125, 16, 119, 16, 97, 16, 121, 3, 3, 184, 0, 125, 184, 0, 129, 172]
abbrev dktX13_lineAtHand_2 : List UInt8 := dkwX13_lineAtHand_2 ++ []
def dkwX13_lineAtHand_1 : List UInt8 := [16, 103, 184, 0, 125, 16, 115, 16, 117, 16, 105, 16, 116, 16, 115, 184, 0, 125, 16, 115, 16, 97, 16, 121]
abbrev dktX13_lineAtHand_1 : List UInt8 := dkwX13_lineAtHand_1 ++ dktX13_lineAtHand_2
def dkwX13_lineAtHand_0 : List UInt8 := [42, 180, 0, 81, 5, 159, 0, 7, 2, 167, 0, 59, 42, 180, 0, 94, 16, 116, 16, 104, 16, 105, 16, 110]
abbrev dktX13_lineAtHand_0 : List UInt8 := dkwX13_lineAtHand_0 ++ dktX13_lineAtHand_1
theorem dksX13_lineAtHand_0 : cX13_lineAtHand.data.toList.drop 0 = dktX13_lineAtHand_0 := by decide +kernel
theorem dksX13_lineAtHand_1 : cX13_lineAtHand.data.toList.drop 24 = dktX13_lineAtHand_1 := dk_seg dksX13_lineAtHand_0 24 rfl rfl
theorem dksX13_lineAtHand_2 : cX13_lineAtHand.data.toList.drop 48 = dktX13_lineAtHand_2 := dk_seg dksX13_lineAtHand_1 24 rfl rfl
theorem dX13_lineAtHand_0 : decode cX13_lineAtHand 0 = .ok (.aload_n 0, 1) := dk_42 (dk_at dksX13_lineAtHand_0 0 rfl rfl)
theorem dX13_lineAtHand_1 : decode cX13_lineAtHand 1 = .ok (.getfield 81, 3) := dk_180 0 81 (dk_at dksX13_lineAtHand_0 1 rfl rfl)
theorem dX13_lineAtHand_4 : decode cX13_lineAtHand 4 = .ok (.iconst 2, 1) := dk_5 (dk_at dksX13_lineAtHand_0 4 rfl rfl)
theorem dX13_lineAtHand_5 : decode cX13_lineAtHand 5 = .ok (.if_icmp .eq 7, 3) := dk_159 0 7 (dk_at dksX13_lineAtHand_0 5 rfl rfl)
theorem dX13_lineAtHand_8 : decode cX13_lineAtHand 8 = .ok (.iconst (-1), 1) := dk_2 (dk_at dksX13_lineAtHand_0 8 rfl rfl)
theorem dX13_lineAtHand_9 : decode cX13_lineAtHand 9 = .ok (.goto 59, 3) := dk_167 0 59 (dk_at dksX13_lineAtHand_0 9 rfl rfl)
theorem dX13_lineAtHand_12 : decode cX13_lineAtHand 12 = .ok (.aload_n 0, 1) := dk_42 (dk_at dksX13_lineAtHand_0 12 rfl rfl)
theorem dX13_lineAtHand_13 : decode cX13_lineAtHand 13 = .ok (.getfield 94, 3) := dk_180 0 94 (dk_at dksX13_lineAtHand_0 13 rfl rfl)
theorem dX13_lineAtHand_16 : decode cX13_lineAtHand 16 = .ok (.bipush 116, 2) := dk_16 116 (dk_at dksX13_lineAtHand_0 16 rfl rfl)
theorem dX13_lineAtHand_18 : decode cX13_lineAtHand 18 = .ok (.bipush 104, 2) := dk_16 104 (dk_at dksX13_lineAtHand_0 18 rfl rfl)
theorem dX13_lineAtHand_20 : decode cX13_lineAtHand 20 = .ok (.bipush 105, 2) := dk_16 105 (dk_at dksX13_lineAtHand_0 20 rfl rfl)
theorem dX13_lineAtHand_22 : decode cX13_lineAtHand 22 = .ok (.bipush 110, 2) := dk_16 110 (dk_at dksX13_lineAtHand_0 22 rfl rfl)
theorem dX13_lineAtHand_24 : decode cX13_lineAtHand 24 = .ok (.bipush 103, 2) := dk_16 103 (dk_at dksX13_lineAtHand_1 0 rfl rfl)
theorem dX13_lineAtHand_26 : decode cX13_lineAtHand 26 = .ok (.invokestatic 125, 3) := dk_184 0 125 (dk_at dksX13_lineAtHand_1 2 rfl rfl)
theorem dX13_lineAtHand_29 : decode cX13_lineAtHand 29 = .ok (.bipush 115, 2) := dk_16 115 (dk_at dksX13_lineAtHand_1 5 rfl rfl)
theorem dX13_lineAtHand_31 : decode cX13_lineAtHand 31 = .ok (.bipush 117, 2) := dk_16 117 (dk_at dksX13_lineAtHand_1 7 rfl rfl)
theorem dX13_lineAtHand_33 : decode cX13_lineAtHand 33 = .ok (.bipush 105, 2) := dk_16 105 (dk_at dksX13_lineAtHand_1 9 rfl rfl)
theorem dX13_lineAtHand_35 : decode cX13_lineAtHand 35 = .ok (.bipush 116, 2) := dk_16 116 (dk_at dksX13_lineAtHand_1 11 rfl rfl)
theorem dX13_lineAtHand_37 : decode cX13_lineAtHand 37 = .ok (.bipush 115, 2) := dk_16 115 (dk_at dksX13_lineAtHand_1 13 rfl rfl)
theorem dX13_lineAtHand_39 : decode cX13_lineAtHand 39 = .ok (.invokestatic 125, 3) := dk_184 0 125 (dk_at dksX13_lineAtHand_1 15 rfl rfl)
theorem dX13_lineAtHand_42 : decode cX13_lineAtHand 42 = .ok (.bipush 115, 2) := dk_16 115 (dk_at dksX13_lineAtHand_1 18 rfl rfl)
theorem dX13_lineAtHand_44 : decode cX13_lineAtHand 44 = .ok (.bipush 97, 2) := dk_16 97 (dk_at dksX13_lineAtHand_1 20 rfl rfl)
theorem dX13_lineAtHand_46 : decode cX13_lineAtHand 46 = .ok (.bipush 121, 2) := dk_16 121 (dk_at dksX13_lineAtHand_1 22 rfl rfl)
theorem dX13_lineAtHand_48 : decode cX13_lineAtHand 48 = .ok (.bipush 115, 2) := dk_16 115 (dk_at dksX13_lineAtHand_2 0 rfl rfl)
theorem dX13_lineAtHand_50 : decode cX13_lineAtHand 50 = .ok (.iconst 0, 1) := dk_3 (dk_at dksX13_lineAtHand_2 2 rfl rfl)
theorem dX13_lineAtHand_51 : decode cX13_lineAtHand 51 = .ok (.invokestatic 125, 3) := dk_184 0 125 (dk_at dksX13_lineAtHand_2 3 rfl rfl)
theorem dX13_lineAtHand_54 : decode cX13_lineAtHand 54 = .ok (.bipush 119, 2) := dk_16 119 (dk_at dksX13_lineAtHand_2 6 rfl rfl)
theorem dX13_lineAtHand_56 : decode cX13_lineAtHand 56 = .ok (.bipush 97, 2) := dk_16 97 (dk_at dksX13_lineAtHand_2 8 rfl rfl)
theorem dX13_lineAtHand_58 : decode cX13_lineAtHand 58 = .ok (.bipush 121, 2) := dk_16 121 (dk_at dksX13_lineAtHand_2 10 rfl rfl)
theorem dX13_lineAtHand_60 : decode cX13_lineAtHand 60 = .ok (.iconst 0, 1) := dk_3 (dk_at dksX13_lineAtHand_2 12 rfl rfl)
theorem dX13_lineAtHand_61 : decode cX13_lineAtHand 61 = .ok (.iconst 0, 1) := dk_3 (dk_at dksX13_lineAtHand_2 13 rfl rfl)
theorem dX13_lineAtHand_62 : decode cX13_lineAtHand 62 = .ok (.invokestatic 125, 3) := dk_184 0 125 (dk_at dksX13_lineAtHand_2 14 rfl rfl)
theorem dX13_lineAtHand_65 : decode cX13_lineAtHand 65 = .ok (.invokestatic 129, 3) := dk_184 0 129 (dk_at dksX13_lineAtHand_2 17 rfl rfl)
theorem dX13_lineAtHand_68 : decode cX13_lineAtHand 68 = .ok (.ireturn, 1) := dk_172 (dk_at dksX13_lineAtHand_2 20 rfl rfl)
abbrev cX13_spelt : ByteArray := prog_24_method_13_code
def yX13_spelt : MethodName := ⟨RX13, "spelt", "(IIIII)J"⟩
def dkwX13_spelt_3 : List UInt8 := [97, 20, 0, 107, 101, 167, 0, 5, 22, 5, 173]
abbrev dktX13_spelt_3 : List UInt8 := dkwX13_spelt_3 ++ []
def dkwX13_spelt_2 : List UInt8 := [105, 29, 133, 97, 20, 0, 107, 101, 55, 5, 21, 4, 158, 0, 20, 20, 0, 105, 22, 5, 105, 21, 4, 133]
abbrev dktX13_spelt_2 : List UInt8 := dkwX13_spelt_2 ++ dktX13_spelt_3
def dkwX13_spelt_1 : List UInt8 := [20, 0, 105, 22, 5, 105, 28, 133, 97, 20, 0, 107, 101, 55, 5, 29, 158, 0, 18, 20, 0, 105, 22, 5]
abbrev dktX13_spelt_1 : List UInt8 := dkwX13_spelt_1 ++ dktX13_spelt_2
def dkwX13_spelt_0 : List UInt8 := [20, 0, 105, 26, 133, 20, 0, 107, 101, 105, 27, 133, 97, 20, 0, 107, 101, 55, 5, 28, 158, 0, 18]
abbrev dktX13_spelt_0 : List UInt8 := dkwX13_spelt_0 ++ dktX13_spelt_1
theorem dksX13_spelt_0 : cX13_spelt.data.toList.drop 0 = dktX13_spelt_0 := by decide +kernel
theorem dksX13_spelt_1 : cX13_spelt.data.toList.drop 23 = dktX13_spelt_1 := dk_seg dksX13_spelt_0 23 rfl rfl
theorem dksX13_spelt_2 : cX13_spelt.data.toList.drop 47 = dktX13_spelt_2 := dk_seg dksX13_spelt_1 24 rfl rfl
theorem dksX13_spelt_3 : cX13_spelt.data.toList.drop 71 = dktX13_spelt_3 := dk_seg dksX13_spelt_2 24 rfl rfl
theorem dX13_spelt_0 : decode cX13_spelt 0 = .ok (.ldc2_w 105, 3) := dk_20 0 105 (dk_at dksX13_spelt_0 0 rfl rfl)
theorem dX13_spelt_3 : decode cX13_spelt 3 = .ok (.iload_n 0, 1) := dk_26 (dk_at dksX13_spelt_0 3 rfl rfl)
theorem dX13_spelt_4 : decode cX13_spelt 4 = .ok (.i2l, 1) := dk_133 (dk_at dksX13_spelt_0 4 rfl rfl)
theorem dX13_spelt_5 : decode cX13_spelt 5 = .ok (.ldc2_w 107, 3) := dk_20 0 107 (dk_at dksX13_spelt_0 5 rfl rfl)
theorem dX13_spelt_8 : decode cX13_spelt 8 = .ok (.lsub, 1) := dk_101 (dk_at dksX13_spelt_0 8 rfl rfl)
theorem dX13_spelt_9 : decode cX13_spelt 9 = .ok (.lmul, 1) := dk_105 (dk_at dksX13_spelt_0 9 rfl rfl)
theorem dX13_spelt_10 : decode cX13_spelt 10 = .ok (.iload_n 1, 1) := dk_27 (dk_at dksX13_spelt_0 10 rfl rfl)
theorem dX13_spelt_11 : decode cX13_spelt 11 = .ok (.i2l, 1) := dk_133 (dk_at dksX13_spelt_0 11 rfl rfl)
theorem dX13_spelt_12 : decode cX13_spelt 12 = .ok (.ladd, 1) := dk_97 (dk_at dksX13_spelt_0 12 rfl rfl)
theorem dX13_spelt_13 : decode cX13_spelt 13 = .ok (.ldc2_w 107, 3) := dk_20 0 107 (dk_at dksX13_spelt_0 13 rfl rfl)
theorem dX13_spelt_16 : decode cX13_spelt 16 = .ok (.lsub, 1) := dk_101 (dk_at dksX13_spelt_0 16 rfl rfl)
theorem dX13_spelt_17 : decode cX13_spelt 17 = .ok (.lstore 5, 2) := dk_55 5 (dk_at dksX13_spelt_0 17 rfl rfl)
theorem dX13_spelt_19 : decode cX13_spelt 19 = .ok (.iload_n 2, 1) := dk_28 (dk_at dksX13_spelt_0 19 rfl rfl)
theorem dX13_spelt_20 : decode cX13_spelt 20 = .ok (.ifCond .le 18, 3) := dk_158 0 18 (dk_at dksX13_spelt_0 20 rfl rfl)
theorem dX13_spelt_23 : decode cX13_spelt 23 = .ok (.ldc2_w 105, 3) := dk_20 0 105 (dk_at dksX13_spelt_1 0 rfl rfl)
theorem dX13_spelt_26 : decode cX13_spelt 26 = .ok (.lload 5, 2) := dk_22 5 (dk_at dksX13_spelt_1 3 rfl rfl)
theorem dX13_spelt_28 : decode cX13_spelt 28 = .ok (.lmul, 1) := dk_105 (dk_at dksX13_spelt_1 5 rfl rfl)
theorem dX13_spelt_29 : decode cX13_spelt 29 = .ok (.iload_n 2, 1) := dk_28 (dk_at dksX13_spelt_1 6 rfl rfl)
theorem dX13_spelt_30 : decode cX13_spelt 30 = .ok (.i2l, 1) := dk_133 (dk_at dksX13_spelt_1 7 rfl rfl)
theorem dX13_spelt_31 : decode cX13_spelt 31 = .ok (.ladd, 1) := dk_97 (dk_at dksX13_spelt_1 8 rfl rfl)
theorem dX13_spelt_32 : decode cX13_spelt 32 = .ok (.ldc2_w 107, 3) := dk_20 0 107 (dk_at dksX13_spelt_1 9 rfl rfl)
theorem dX13_spelt_35 : decode cX13_spelt 35 = .ok (.lsub, 1) := dk_101 (dk_at dksX13_spelt_1 12 rfl rfl)
theorem dX13_spelt_36 : decode cX13_spelt 36 = .ok (.lstore 5, 2) := dk_55 5 (dk_at dksX13_spelt_1 13 rfl rfl)
theorem dX13_spelt_38 : decode cX13_spelt 38 = .ok (.iload_n 3, 1) := dk_29 (dk_at dksX13_spelt_1 15 rfl rfl)
theorem dX13_spelt_39 : decode cX13_spelt 39 = .ok (.ifCond .le 18, 3) := dk_158 0 18 (dk_at dksX13_spelt_1 16 rfl rfl)
theorem dX13_spelt_42 : decode cX13_spelt 42 = .ok (.ldc2_w 105, 3) := dk_20 0 105 (dk_at dksX13_spelt_1 19 rfl rfl)
theorem dX13_spelt_45 : decode cX13_spelt 45 = .ok (.lload 5, 2) := dk_22 5 (dk_at dksX13_spelt_1 22 rfl rfl)
theorem dX13_spelt_47 : decode cX13_spelt 47 = .ok (.lmul, 1) := dk_105 (dk_at dksX13_spelt_2 0 rfl rfl)
theorem dX13_spelt_48 : decode cX13_spelt 48 = .ok (.iload_n 3, 1) := dk_29 (dk_at dksX13_spelt_2 1 rfl rfl)
theorem dX13_spelt_49 : decode cX13_spelt 49 = .ok (.i2l, 1) := dk_133 (dk_at dksX13_spelt_2 2 rfl rfl)
theorem dX13_spelt_50 : decode cX13_spelt 50 = .ok (.ladd, 1) := dk_97 (dk_at dksX13_spelt_2 3 rfl rfl)
theorem dX13_spelt_51 : decode cX13_spelt 51 = .ok (.ldc2_w 107, 3) := dk_20 0 107 (dk_at dksX13_spelt_2 4 rfl rfl)
theorem dX13_spelt_54 : decode cX13_spelt 54 = .ok (.lsub, 1) := dk_101 (dk_at dksX13_spelt_2 7 rfl rfl)
theorem dX13_spelt_55 : decode cX13_spelt 55 = .ok (.lstore 5, 2) := dk_55 5 (dk_at dksX13_spelt_2 8 rfl rfl)
theorem dX13_spelt_57 : decode cX13_spelt 57 = .ok (.iload 4, 2) := dk_21 4 (dk_at dksX13_spelt_2 10 rfl rfl)
theorem dX13_spelt_59 : decode cX13_spelt 59 = .ok (.ifCond .le 20, 3) := dk_158 0 20 (dk_at dksX13_spelt_2 12 rfl rfl)
theorem dX13_spelt_62 : decode cX13_spelt 62 = .ok (.ldc2_w 105, 3) := dk_20 0 105 (dk_at dksX13_spelt_2 15 rfl rfl)
theorem dX13_spelt_65 : decode cX13_spelt 65 = .ok (.lload 5, 2) := dk_22 5 (dk_at dksX13_spelt_2 18 rfl rfl)
theorem dX13_spelt_67 : decode cX13_spelt 67 = .ok (.lmul, 1) := dk_105 (dk_at dksX13_spelt_2 20 rfl rfl)
theorem dX13_spelt_68 : decode cX13_spelt 68 = .ok (.iload 4, 2) := dk_21 4 (dk_at dksX13_spelt_2 21 rfl rfl)
theorem dX13_spelt_70 : decode cX13_spelt 70 = .ok (.i2l, 1) := dk_133 (dk_at dksX13_spelt_2 23 rfl rfl)
theorem dX13_spelt_71 : decode cX13_spelt 71 = .ok (.ladd, 1) := dk_97 (dk_at dksX13_spelt_3 0 rfl rfl)
theorem dX13_spelt_72 : decode cX13_spelt 72 = .ok (.ldc2_w 107, 3) := dk_20 0 107 (dk_at dksX13_spelt_3 1 rfl rfl)
theorem dX13_spelt_75 : decode cX13_spelt 75 = .ok (.lsub, 1) := dk_101 (dk_at dksX13_spelt_3 4 rfl rfl)
theorem dX13_spelt_76 : decode cX13_spelt 76 = .ok (.goto 5, 3) := dk_167 0 5 (dk_at dksX13_spelt_3 5 rfl rfl)
theorem dX13_spelt_79 : decode cX13_spelt 79 = .ok (.lload 5, 2) := dk_22 5 (dk_at dksX13_spelt_3 8 rfl rfl)
theorem dX13_spelt_81 : decode cX13_spelt 81 = .ok (.lreturn, 1) := dk_173 (dk_at dksX13_spelt_3 10 rfl rfl)
abbrev cX13_among : ByteArray := prog_24_method_18_code
def yX13_among : MethodName := ⟨RX13, "among", "(JJJJJ)I"⟩
def dkwX13_among_1 : List UInt8 := [148, 154, 0, 7, 5, 167, 0, 15, 30, 22, 8, 148, 154, 0, 7, 6, 167, 0, 4, 2, 172]
abbrev dktX13_among_1 : List UInt8 := dkwX13_among_1 ++ []
def dkwX13_among_0 : List UInt8 := [30, 32, 148, 154, 0, 7, 3, 167, 0, 37, 30, 22, 4, 148, 154, 0, 7, 4, 167, 0, 26, 30, 22, 6]
abbrev dktX13_among_0 : List UInt8 := dkwX13_among_0 ++ dktX13_among_1
theorem dksX13_among_0 : cX13_among.data.toList.drop 0 = dktX13_among_0 := by decide +kernel
theorem dksX13_among_1 : cX13_among.data.toList.drop 24 = dktX13_among_1 := dk_seg dksX13_among_0 24 rfl rfl
theorem dX13_among_0 : decode cX13_among 0 = .ok (.lload_n 0, 1) := dk_30 (dk_at dksX13_among_0 0 rfl rfl)
theorem dX13_among_1 : decode cX13_among 1 = .ok (.lload_n 2, 1) := dk_32 (dk_at dksX13_among_0 1 rfl rfl)
theorem dX13_among_2 : decode cX13_among 2 = .ok (.lcmp, 1) := dk_148 (dk_at dksX13_among_0 2 rfl rfl)
theorem dX13_among_3 : decode cX13_among 3 = .ok (.ifCond .ne 7, 3) := dk_154 0 7 (dk_at dksX13_among_0 3 rfl rfl)
theorem dX13_among_6 : decode cX13_among 6 = .ok (.iconst 0, 1) := dk_3 (dk_at dksX13_among_0 6 rfl rfl)
theorem dX13_among_7 : decode cX13_among 7 = .ok (.goto 37, 3) := dk_167 0 37 (dk_at dksX13_among_0 7 rfl rfl)
theorem dX13_among_10 : decode cX13_among 10 = .ok (.lload_n 0, 1) := dk_30 (dk_at dksX13_among_0 10 rfl rfl)
theorem dX13_among_11 : decode cX13_among 11 = .ok (.lload 4, 2) := dk_22 4 (dk_at dksX13_among_0 11 rfl rfl)
theorem dX13_among_13 : decode cX13_among 13 = .ok (.lcmp, 1) := dk_148 (dk_at dksX13_among_0 13 rfl rfl)
theorem dX13_among_14 : decode cX13_among 14 = .ok (.ifCond .ne 7, 3) := dk_154 0 7 (dk_at dksX13_among_0 14 rfl rfl)
theorem dX13_among_17 : decode cX13_among 17 = .ok (.iconst 1, 1) := dk_4 (dk_at dksX13_among_0 17 rfl rfl)
theorem dX13_among_18 : decode cX13_among 18 = .ok (.goto 26, 3) := dk_167 0 26 (dk_at dksX13_among_0 18 rfl rfl)
theorem dX13_among_21 : decode cX13_among 21 = .ok (.lload_n 0, 1) := dk_30 (dk_at dksX13_among_0 21 rfl rfl)
theorem dX13_among_22 : decode cX13_among 22 = .ok (.lload 6, 2) := dk_22 6 (dk_at dksX13_among_0 22 rfl rfl)
theorem dX13_among_24 : decode cX13_among 24 = .ok (.lcmp, 1) := dk_148 (dk_at dksX13_among_1 0 rfl rfl)
theorem dX13_among_25 : decode cX13_among 25 = .ok (.ifCond .ne 7, 3) := dk_154 0 7 (dk_at dksX13_among_1 1 rfl rfl)
theorem dX13_among_28 : decode cX13_among 28 = .ok (.iconst 2, 1) := dk_5 (dk_at dksX13_among_1 4 rfl rfl)
theorem dX13_among_29 : decode cX13_among 29 = .ok (.goto 15, 3) := dk_167 0 15 (dk_at dksX13_among_1 5 rfl rfl)
theorem dX13_among_32 : decode cX13_among 32 = .ok (.lload_n 0, 1) := dk_30 (dk_at dksX13_among_1 8 rfl rfl)
theorem dX13_among_33 : decode cX13_among 33 = .ok (.lload 8, 2) := dk_22 8 (dk_at dksX13_among_1 9 rfl rfl)
theorem dX13_among_35 : decode cX13_among 35 = .ok (.lcmp, 1) := dk_148 (dk_at dksX13_among_1 11 rfl rfl)
theorem dX13_among_36 : decode cX13_among 36 = .ok (.ifCond .ne 7, 3) := dk_154 0 7 (dk_at dksX13_among_1 12 rfl rfl)
theorem dX13_among_39 : decode cX13_among 39 = .ok (.iconst 3, 1) := dk_6 (dk_at dksX13_among_1 15 rfl rfl)
theorem dX13_among_40 : decode cX13_among 40 = .ok (.goto 4, 3) := dk_167 0 4 (dk_at dksX13_among_1 16 rfl rfl)
theorem dX13_among_43 : decode cX13_among 43 = .ok (.iconst (-1), 1) := dk_2 (dk_at dksX13_among_1 19 rfl rfl)
theorem dX13_among_44 : decode cX13_among 44 = .ok (.ireturn, 1) := dk_172 (dk_at dksX13_among_1 20 rfl rfl)
abbrev cX13_bad : ByteArray := prog_24_method_16_code
def yX13_bad : MethodName := ⟨RX13, "bad", "(I)Z"⟩
def dkwX13_bad_1 : List UInt8 := [180, 0, 75, 181, 0, 109, 3, 172]
abbrev dktX13_bad_1 : List UInt8 := dkwX13_bad_1 ++ []
def dkwX13_bad_0 : List UInt8 := [42, 180, 0, 13, 17, 0, 149, 42, 180, 0, 81, 4, 160, 0, 7, 4, 167, 0, 4, 27, 79, 42, 42]
abbrev dktX13_bad_0 : List UInt8 := dkwX13_bad_0 ++ dktX13_bad_1
theorem dksX13_bad_0 : cX13_bad.data.toList.drop 0 = dktX13_bad_0 := by decide +kernel
theorem dksX13_bad_1 : cX13_bad.data.toList.drop 23 = dktX13_bad_1 := dk_seg dksX13_bad_0 23 rfl rfl
theorem dX13_bad_0 : decode cX13_bad 0 = .ok (.aload_n 0, 1) := dk_42 (dk_at dksX13_bad_0 0 rfl rfl)
theorem dX13_bad_1 : decode cX13_bad 1 = .ok (.getfield 13, 3) := dk_180 0 13 (dk_at dksX13_bad_0 1 rfl rfl)
theorem dX13_bad_4 : decode cX13_bad 4 = .ok (.sipush 149, 3) := dk_17 0 149 (dk_at dksX13_bad_0 4 rfl rfl)
theorem dX13_bad_7 : decode cX13_bad 7 = .ok (.aload_n 0, 1) := dk_42 (dk_at dksX13_bad_0 7 rfl rfl)
theorem dX13_bad_8 : decode cX13_bad 8 = .ok (.getfield 81, 3) := dk_180 0 81 (dk_at dksX13_bad_0 8 rfl rfl)
theorem dX13_bad_11 : decode cX13_bad 11 = .ok (.iconst 1, 1) := dk_4 (dk_at dksX13_bad_0 11 rfl rfl)
theorem dX13_bad_12 : decode cX13_bad 12 = .ok (.if_icmp .ne 7, 3) := dk_160 0 7 (dk_at dksX13_bad_0 12 rfl rfl)
theorem dX13_bad_15 : decode cX13_bad 15 = .ok (.iconst 1, 1) := dk_4 (dk_at dksX13_bad_0 15 rfl rfl)
theorem dX13_bad_16 : decode cX13_bad 16 = .ok (.goto 4, 3) := dk_167 0 4 (dk_at dksX13_bad_0 16 rfl rfl)
theorem dX13_bad_19 : decode cX13_bad 19 = .ok (.iload_n 1, 1) := dk_27 (dk_at dksX13_bad_0 19 rfl rfl)
theorem dX13_bad_20 : decode cX13_bad 20 = .ok (.iastore, 1) := dk_79 (dk_at dksX13_bad_0 20 rfl rfl)
theorem dX13_bad_21 : decode cX13_bad 21 = .ok (.aload_n 0, 1) := dk_42 (dk_at dksX13_bad_0 21 rfl rfl)
theorem dX13_bad_22 : decode cX13_bad 22 = .ok (.aload_n 0, 1) := dk_42 (dk_at dksX13_bad_0 22 rfl rfl)
theorem dX13_bad_23 : decode cX13_bad 23 = .ok (.getfield 75, 3) := dk_180 0 75 (dk_at dksX13_bad_1 0 rfl rfl)
theorem dX13_bad_26 : decode cX13_bad 26 = .ok (.putfield 109, 3) := dk_181 0 109 (dk_at dksX13_bad_1 3 rfl rfl)
theorem dX13_bad_29 : decode cX13_bad 29 = .ok (.iconst 0, 1) := dk_3 (dk_at dksX13_bad_1 6 rfl rfl)
theorem dX13_bad_30 : decode cX13_bad 30 = .ok (.ireturn, 1) := dk_172 (dk_at dksX13_bad_1 7 rfl rfl)
abbrev cX13_readThingLine : ByteArray := prog_24_method_36_code
def yX13_readThingLine : MethodName := ⟨RX13, "readThingLine", "()Z"⟩
def dkwX13_readThingLine_3 : List UInt8 := [42, 180, 0, 16, 17, 0, 128, 92, 46, 4, 96, 79, 42, 182, 0, 122, 4, 172]
abbrev dktX13_readThingLine_3 : List UInt8 := dkwX13_readThingLine_3 ++ []
def dkwX13_readThingLine_2 : List UInt8 := [4, 182, 0, 112, 172, 42, 180, 0, 16, 3, 27, 96, 28, 79, 42, 180, 0, 16, 16, 16, 27, 96, 3, 79]
abbrev dktX13_readThingLine_2 : List UInt8 := dkwX13_readThingLine_2 ++ dktX13_readThingLine_3
def dkwX13_readThingLine_1 : List UInt8 := [182, 0, 122, 42, 27, 182, 0, 178, 154, 0, 5, 3, 172, 42, 182, 0, 139, 61, 28, 2, 160, 0, 9, 42]
abbrev dktX13_readThingLine_1 : List UInt8 := dkwX13_readThingLine_1 ++ dktX13_readThingLine_2
def dkwX13_readThingLine_0 : List UInt8 := [42, 180, 0, 16, 17, 0, 128, 46, 60, 27, 16, 16, 160, 0, 9, 42, 7, 182, 0, 112, 172, 42]
abbrev dktX13_readThingLine_0 : List UInt8 := dkwX13_readThingLine_0 ++ dktX13_readThingLine_1
theorem dksX13_readThingLine_0 : cX13_readThingLine.data.toList.drop 0 = dktX13_readThingLine_0 := by decide +kernel
theorem dksX13_readThingLine_1 : cX13_readThingLine.data.toList.drop 22 = dktX13_readThingLine_1 := dk_seg dksX13_readThingLine_0 22 rfl rfl
theorem dksX13_readThingLine_2 : cX13_readThingLine.data.toList.drop 46 = dktX13_readThingLine_2 := dk_seg dksX13_readThingLine_1 24 rfl rfl
theorem dksX13_readThingLine_3 : cX13_readThingLine.data.toList.drop 70 = dktX13_readThingLine_3 := dk_seg dksX13_readThingLine_2 24 rfl rfl
theorem dX13_readThingLine_0 : decode cX13_readThingLine 0 = .ok (.aload_n 0, 1) := dk_42 (dk_at dksX13_readThingLine_0 0 rfl rfl)
theorem dX13_readThingLine_1 : decode cX13_readThingLine 1 = .ok (.getfield 16, 3) := dk_180 0 16 (dk_at dksX13_readThingLine_0 1 rfl rfl)
theorem dX13_readThingLine_4 : decode cX13_readThingLine 4 = .ok (.sipush 128, 3) := dk_17 0 128 (dk_at dksX13_readThingLine_0 4 rfl rfl)
theorem dX13_readThingLine_7 : decode cX13_readThingLine 7 = .ok (.iaload, 1) := dk_46 (dk_at dksX13_readThingLine_0 7 rfl rfl)
theorem dX13_readThingLine_8 : decode cX13_readThingLine 8 = .ok (.istore_n 1, 1) := dk_60 (dk_at dksX13_readThingLine_0 8 rfl rfl)
theorem dX13_readThingLine_9 : decode cX13_readThingLine 9 = .ok (.iload_n 1, 1) := dk_27 (dk_at dksX13_readThingLine_0 9 rfl rfl)
theorem dX13_readThingLine_10 : decode cX13_readThingLine 10 = .ok (.bipush 16, 2) := dk_16 16 (dk_at dksX13_readThingLine_0 10 rfl rfl)
theorem dX13_readThingLine_12 : decode cX13_readThingLine 12 = .ok (.if_icmp .ne 9, 3) := dk_160 0 9 (dk_at dksX13_readThingLine_0 12 rfl rfl)
theorem dX13_readThingLine_15 : decode cX13_readThingLine 15 = .ok (.aload_n 0, 1) := dk_42 (dk_at dksX13_readThingLine_0 15 rfl rfl)
theorem dX13_readThingLine_16 : decode cX13_readThingLine 16 = .ok (.iconst 4, 1) := dk_7 (dk_at dksX13_readThingLine_0 16 rfl rfl)
theorem dX13_readThingLine_17 : decode cX13_readThingLine 17 = .ok (.invokevirtual 112, 3) := dk_182 0 112 (dk_at dksX13_readThingLine_0 17 rfl rfl)
theorem dX13_readThingLine_20 : decode cX13_readThingLine 20 = .ok (.ireturn, 1) := dk_172 (dk_at dksX13_readThingLine_0 20 rfl rfl)
theorem dX13_readThingLine_21 : decode cX13_readThingLine 21 = .ok (.aload_n 0, 1) := dk_42 (dk_at dksX13_readThingLine_0 21 rfl rfl)
theorem dX13_readThingLine_22 : decode cX13_readThingLine 22 = .ok (.invokevirtual 122, 3) := dk_182 0 122 (dk_at dksX13_readThingLine_1 0 rfl rfl)
theorem dX13_readThingLine_25 : decode cX13_readThingLine 25 = .ok (.aload_n 0, 1) := dk_42 (dk_at dksX13_readThingLine_1 3 rfl rfl)
theorem dX13_readThingLine_26 : decode cX13_readThingLine 26 = .ok (.iload_n 1, 1) := dk_27 (dk_at dksX13_readThingLine_1 4 rfl rfl)
theorem dX13_readThingLine_27 : decode cX13_readThingLine 27 = .ok (.invokevirtual 178, 3) := dk_182 0 178 (dk_at dksX13_readThingLine_1 5 rfl rfl)
theorem dX13_readThingLine_30 : decode cX13_readThingLine 30 = .ok (.ifCond .ne 5, 3) := dk_154 0 5 (dk_at dksX13_readThingLine_1 8 rfl rfl)
theorem dX13_readThingLine_33 : decode cX13_readThingLine 33 = .ok (.iconst 0, 1) := dk_3 (dk_at dksX13_readThingLine_1 11 rfl rfl)
theorem dX13_readThingLine_34 : decode cX13_readThingLine 34 = .ok (.ireturn, 1) := dk_172 (dk_at dksX13_readThingLine_1 12 rfl rfl)
theorem dX13_readThingLine_35 : decode cX13_readThingLine 35 = .ok (.aload_n 0, 1) := dk_42 (dk_at dksX13_readThingLine_1 13 rfl rfl)
theorem dX13_readThingLine_36 : decode cX13_readThingLine 36 = .ok (.invokevirtual 139, 3) := dk_182 0 139 (dk_at dksX13_readThingLine_1 14 rfl rfl)
theorem dX13_readThingLine_39 : decode cX13_readThingLine 39 = .ok (.istore_n 2, 1) := dk_61 (dk_at dksX13_readThingLine_1 17 rfl rfl)
theorem dX13_readThingLine_40 : decode cX13_readThingLine 40 = .ok (.iload_n 2, 1) := dk_28 (dk_at dksX13_readThingLine_1 18 rfl rfl)
theorem dX13_readThingLine_41 : decode cX13_readThingLine 41 = .ok (.iconst (-1), 1) := dk_2 (dk_at dksX13_readThingLine_1 19 rfl rfl)
theorem dX13_readThingLine_42 : decode cX13_readThingLine 42 = .ok (.if_icmp .ne 9, 3) := dk_160 0 9 (dk_at dksX13_readThingLine_1 20 rfl rfl)
theorem dX13_readThingLine_45 : decode cX13_readThingLine 45 = .ok (.aload_n 0, 1) := dk_42 (dk_at dksX13_readThingLine_1 23 rfl rfl)
theorem dX13_readThingLine_46 : decode cX13_readThingLine 46 = .ok (.iconst 1, 1) := dk_4 (dk_at dksX13_readThingLine_2 0 rfl rfl)
theorem dX13_readThingLine_47 : decode cX13_readThingLine 47 = .ok (.invokevirtual 112, 3) := dk_182 0 112 (dk_at dksX13_readThingLine_2 1 rfl rfl)
theorem dX13_readThingLine_50 : decode cX13_readThingLine 50 = .ok (.ireturn, 1) := dk_172 (dk_at dksX13_readThingLine_2 4 rfl rfl)
theorem dX13_readThingLine_51 : decode cX13_readThingLine 51 = .ok (.aload_n 0, 1) := dk_42 (dk_at dksX13_readThingLine_2 5 rfl rfl)
theorem dX13_readThingLine_52 : decode cX13_readThingLine 52 = .ok (.getfield 16, 3) := dk_180 0 16 (dk_at dksX13_readThingLine_2 6 rfl rfl)
theorem dX13_readThingLine_55 : decode cX13_readThingLine 55 = .ok (.iconst 0, 1) := dk_3 (dk_at dksX13_readThingLine_2 9 rfl rfl)
theorem dX13_readThingLine_56 : decode cX13_readThingLine 56 = .ok (.iload_n 1, 1) := dk_27 (dk_at dksX13_readThingLine_2 10 rfl rfl)
theorem dX13_readThingLine_57 : decode cX13_readThingLine 57 = .ok (.iadd, 1) := dk_96 (dk_at dksX13_readThingLine_2 11 rfl rfl)
theorem dX13_readThingLine_58 : decode cX13_readThingLine 58 = .ok (.iload_n 2, 1) := dk_28 (dk_at dksX13_readThingLine_2 12 rfl rfl)
theorem dX13_readThingLine_59 : decode cX13_readThingLine 59 = .ok (.iastore, 1) := dk_79 (dk_at dksX13_readThingLine_2 13 rfl rfl)
theorem dX13_readThingLine_60 : decode cX13_readThingLine 60 = .ok (.aload_n 0, 1) := dk_42 (dk_at dksX13_readThingLine_2 14 rfl rfl)
theorem dX13_readThingLine_61 : decode cX13_readThingLine 61 = .ok (.getfield 16, 3) := dk_180 0 16 (dk_at dksX13_readThingLine_2 15 rfl rfl)
theorem dX13_readThingLine_64 : decode cX13_readThingLine 64 = .ok (.bipush 16, 2) := dk_16 16 (dk_at dksX13_readThingLine_2 18 rfl rfl)
theorem dX13_readThingLine_66 : decode cX13_readThingLine 66 = .ok (.iload_n 1, 1) := dk_27 (dk_at dksX13_readThingLine_2 20 rfl rfl)
theorem dX13_readThingLine_67 : decode cX13_readThingLine 67 = .ok (.iadd, 1) := dk_96 (dk_at dksX13_readThingLine_2 21 rfl rfl)
theorem dX13_readThingLine_68 : decode cX13_readThingLine 68 = .ok (.iconst 0, 1) := dk_3 (dk_at dksX13_readThingLine_2 22 rfl rfl)
theorem dX13_readThingLine_69 : decode cX13_readThingLine 69 = .ok (.iastore, 1) := dk_79 (dk_at dksX13_readThingLine_2 23 rfl rfl)
theorem dX13_readThingLine_70 : decode cX13_readThingLine 70 = .ok (.aload_n 0, 1) := dk_42 (dk_at dksX13_readThingLine_3 0 rfl rfl)
theorem dX13_readThingLine_71 : decode cX13_readThingLine 71 = .ok (.getfield 16, 3) := dk_180 0 16 (dk_at dksX13_readThingLine_3 1 rfl rfl)
theorem dX13_readThingLine_74 : decode cX13_readThingLine 74 = .ok (.sipush 128, 3) := dk_17 0 128 (dk_at dksX13_readThingLine_3 4 rfl rfl)
theorem dX13_readThingLine_77 : decode cX13_readThingLine 77 = .ok (.dup2, 1) := dk_92 (dk_at dksX13_readThingLine_3 7 rfl rfl)
theorem dX13_readThingLine_78 : decode cX13_readThingLine 78 = .ok (.iaload, 1) := dk_46 (dk_at dksX13_readThingLine_3 8 rfl rfl)
theorem dX13_readThingLine_79 : decode cX13_readThingLine 79 = .ok (.iconst 1, 1) := dk_4 (dk_at dksX13_readThingLine_3 9 rfl rfl)
theorem dX13_readThingLine_80 : decode cX13_readThingLine 80 = .ok (.iadd, 1) := dk_96 (dk_at dksX13_readThingLine_3 10 rfl rfl)
theorem dX13_readThingLine_81 : decode cX13_readThingLine 81 = .ok (.iastore, 1) := dk_79 (dk_at dksX13_readThingLine_3 11 rfl rfl)
theorem dX13_readThingLine_82 : decode cX13_readThingLine 82 = .ok (.aload_n 0, 1) := dk_42 (dk_at dksX13_readThingLine_3 12 rfl rfl)
theorem dX13_readThingLine_83 : decode cX13_readThingLine 83 = .ok (.invokevirtual 122, 3) := dk_182 0 122 (dk_at dksX13_readThingLine_3 13 rfl rfl)
theorem dX13_readThingLine_86 : decode cX13_readThingLine 86 = .ok (.iconst 1, 1) := dk_4 (dk_at dksX13_readThingLine_3 16 rfl rfl)
theorem dX13_readThingLine_87 : decode cX13_readThingLine 87 = .ok (.ireturn, 1) := dk_172 (dk_at dksX13_readThingLine_3 17 rfl rfl)
abbrev cX13_readNew : ByteArray := prog_24_method_34_code
def yX13_readNew : MethodName := ⟨RX13, "readNew", "(I)Z"⟩
def dkwX13_readNew_1 : List UInt8 := [182, 0, 112, 172, 42, 180, 0, 26, 27, 42, 180, 0, 94, 80, 42, 182, 0, 122, 4, 172]
abbrev dktX13_readNew_1 : List UInt8 := dkwX13_readNew_1 ++ []
def dkwX13_readNew_0 : List UInt8 := [42, 182, 0, 172, 154, 0, 9, 42, 4, 182, 0, 112, 172, 42, 182, 0, 175, 2, 159, 0, 9, 42, 6]
abbrev dktX13_readNew_0 : List UInt8 := dkwX13_readNew_0 ++ dktX13_readNew_1
theorem dksX13_readNew_0 : cX13_readNew.data.toList.drop 0 = dktX13_readNew_0 := by decide +kernel
theorem dksX13_readNew_1 : cX13_readNew.data.toList.drop 23 = dktX13_readNew_1 := dk_seg dksX13_readNew_0 23 rfl rfl
theorem dX13_readNew_0 : decode cX13_readNew 0 = .ok (.aload_n 0, 1) := dk_42 (dk_at dksX13_readNew_0 0 rfl rfl)
theorem dX13_readNew_1 : decode cX13_readNew 1 = .ok (.invokevirtual 172, 3) := dk_182 0 172 (dk_at dksX13_readNew_0 1 rfl rfl)
theorem dX13_readNew_4 : decode cX13_readNew 4 = .ok (.ifCond .ne 9, 3) := dk_154 0 9 (dk_at dksX13_readNew_0 4 rfl rfl)
theorem dX13_readNew_7 : decode cX13_readNew 7 = .ok (.aload_n 0, 1) := dk_42 (dk_at dksX13_readNew_0 7 rfl rfl)
theorem dX13_readNew_8 : decode cX13_readNew 8 = .ok (.iconst 1, 1) := dk_4 (dk_at dksX13_readNew_0 8 rfl rfl)
theorem dX13_readNew_9 : decode cX13_readNew 9 = .ok (.invokevirtual 112, 3) := dk_182 0 112 (dk_at dksX13_readNew_0 9 rfl rfl)
theorem dX13_readNew_12 : decode cX13_readNew 12 = .ok (.ireturn, 1) := dk_172 (dk_at dksX13_readNew_0 12 rfl rfl)
theorem dX13_readNew_13 : decode cX13_readNew 13 = .ok (.aload_n 0, 1) := dk_42 (dk_at dksX13_readNew_0 13 rfl rfl)
theorem dX13_readNew_14 : decode cX13_readNew 14 = .ok (.invokevirtual 175, 3) := dk_182 0 175 (dk_at dksX13_readNew_0 14 rfl rfl)
theorem dX13_readNew_17 : decode cX13_readNew 17 = .ok (.iconst (-1), 1) := dk_2 (dk_at dksX13_readNew_0 17 rfl rfl)
theorem dX13_readNew_18 : decode cX13_readNew 18 = .ok (.if_icmp .eq 9, 3) := dk_159 0 9 (dk_at dksX13_readNew_0 18 rfl rfl)
theorem dX13_readNew_21 : decode cX13_readNew 21 = .ok (.aload_n 0, 1) := dk_42 (dk_at dksX13_readNew_0 21 rfl rfl)
theorem dX13_readNew_22 : decode cX13_readNew 22 = .ok (.iconst 3, 1) := dk_6 (dk_at dksX13_readNew_0 22 rfl rfl)
theorem dX13_readNew_23 : decode cX13_readNew 23 = .ok (.invokevirtual 112, 3) := dk_182 0 112 (dk_at dksX13_readNew_1 0 rfl rfl)
theorem dX13_readNew_26 : decode cX13_readNew 26 = .ok (.ireturn, 1) := dk_172 (dk_at dksX13_readNew_1 3 rfl rfl)
theorem dX13_readNew_27 : decode cX13_readNew 27 = .ok (.aload_n 0, 1) := dk_42 (dk_at dksX13_readNew_1 4 rfl rfl)
theorem dX13_readNew_28 : decode cX13_readNew 28 = .ok (.getfield 26, 3) := dk_180 0 26 (dk_at dksX13_readNew_1 5 rfl rfl)
theorem dX13_readNew_31 : decode cX13_readNew 31 = .ok (.iload_n 1, 1) := dk_27 (dk_at dksX13_readNew_1 8 rfl rfl)
theorem dX13_readNew_32 : decode cX13_readNew 32 = .ok (.aload_n 0, 1) := dk_42 (dk_at dksX13_readNew_1 9 rfl rfl)
theorem dX13_readNew_33 : decode cX13_readNew 33 = .ok (.getfield 94, 3) := dk_180 0 94 (dk_at dksX13_readNew_1 10 rfl rfl)
theorem dX13_readNew_36 : decode cX13_readNew 36 = .ok (.lastore, 1) := dk_80 (dk_at dksX13_readNew_1 13 rfl rfl)
theorem dX13_readNew_37 : decode cX13_readNew 37 = .ok (.aload_n 0, 1) := dk_42 (dk_at dksX13_readNew_1 14 rfl rfl)
theorem dX13_readNew_38 : decode cX13_readNew 38 = .ok (.invokevirtual 122, 3) := dk_182 0 122 (dk_at dksX13_readNew_1 15 rfl rfl)
theorem dX13_readNew_41 : decode cX13_readNew 41 = .ok (.iconst 1, 1) := dk_4 (dk_at dksX13_readNew_1 18 rfl rfl)
theorem dX13_readNew_42 : decode cX13_readNew 42 = .ok (.ireturn, 1) := dk_172 (dk_at dksX13_readNew_1 19 rfl rfl)
abbrev cX13_isName : ByteArray := prog_24_method_28_code
def yX13_isName : MethodName := ⟨RX13, "isName", "()Z"⟩
def dkwX13_isName_3 : List UInt8 := [182, 0, 165, 154, 0, 7, 4, 167, 0, 4, 3, 172]
abbrev dktX13_isName_3 : List UInt8 := dkwX13_isName_3 ++ []
def dkwX13_isName_2 : List UInt8 := [3, 172, 42, 182, 0, 155, 154, 0, 28, 42, 182, 0, 159, 154, 0, 21, 42, 182, 0, 162, 154, 0, 14, 42]
abbrev dktX13_isName_2 : List UInt8 := dkwX13_isName_2 ++ dktX13_isName_3
def dkwX13_isName_1 : List UInt8 := [42, 182, 0, 146, 2, 160, 0, 19, 42, 182, 0, 149, 2, 160, 0, 11, 42, 182, 0, 152, 2, 159, 0, 5]
abbrev dktX13_isName_1 : List UInt8 := dkwX13_isName_1 ++ dktX13_isName_2
def dkwX13_isName_0 : List UInt8 := [42, 180, 0, 81, 5, 160, 0, 43, 42, 182, 0, 139, 2, 160, 0, 35, 42, 182, 0, 143, 2, 160, 0, 27]
abbrev dktX13_isName_0 : List UInt8 := dkwX13_isName_0 ++ dktX13_isName_1
theorem dksX13_isName_0 : cX13_isName.data.toList.drop 0 = dktX13_isName_0 := by decide +kernel
theorem dksX13_isName_1 : cX13_isName.data.toList.drop 24 = dktX13_isName_1 := dk_seg dksX13_isName_0 24 rfl rfl
theorem dksX13_isName_2 : cX13_isName.data.toList.drop 48 = dktX13_isName_2 := dk_seg dksX13_isName_1 24 rfl rfl
theorem dksX13_isName_3 : cX13_isName.data.toList.drop 72 = dktX13_isName_3 := dk_seg dksX13_isName_2 24 rfl rfl
theorem dX13_isName_0 : decode cX13_isName 0 = .ok (.aload_n 0, 1) := dk_42 (dk_at dksX13_isName_0 0 rfl rfl)
theorem dX13_isName_1 : decode cX13_isName 1 = .ok (.getfield 81, 3) := dk_180 0 81 (dk_at dksX13_isName_0 1 rfl rfl)
theorem dX13_isName_4 : decode cX13_isName 4 = .ok (.iconst 2, 1) := dk_5 (dk_at dksX13_isName_0 4 rfl rfl)
theorem dX13_isName_5 : decode cX13_isName 5 = .ok (.if_icmp .ne 43, 3) := dk_160 0 43 (dk_at dksX13_isName_0 5 rfl rfl)
theorem dX13_isName_8 : decode cX13_isName 8 = .ok (.aload_n 0, 1) := dk_42 (dk_at dksX13_isName_0 8 rfl rfl)
theorem dX13_isName_9 : decode cX13_isName 9 = .ok (.invokevirtual 139, 3) := dk_182 0 139 (dk_at dksX13_isName_0 9 rfl rfl)
theorem dX13_isName_12 : decode cX13_isName 12 = .ok (.iconst (-1), 1) := dk_2 (dk_at dksX13_isName_0 12 rfl rfl)
theorem dX13_isName_13 : decode cX13_isName 13 = .ok (.if_icmp .ne 35, 3) := dk_160 0 35 (dk_at dksX13_isName_0 13 rfl rfl)
theorem dX13_isName_16 : decode cX13_isName 16 = .ok (.aload_n 0, 1) := dk_42 (dk_at dksX13_isName_0 16 rfl rfl)
theorem dX13_isName_17 : decode cX13_isName 17 = .ok (.invokevirtual 143, 3) := dk_182 0 143 (dk_at dksX13_isName_0 17 rfl rfl)
theorem dX13_isName_20 : decode cX13_isName 20 = .ok (.iconst (-1), 1) := dk_2 (dk_at dksX13_isName_0 20 rfl rfl)
theorem dX13_isName_21 : decode cX13_isName 21 = .ok (.if_icmp .ne 27, 3) := dk_160 0 27 (dk_at dksX13_isName_0 21 rfl rfl)
theorem dX13_isName_24 : decode cX13_isName 24 = .ok (.aload_n 0, 1) := dk_42 (dk_at dksX13_isName_1 0 rfl rfl)
theorem dX13_isName_25 : decode cX13_isName 25 = .ok (.invokevirtual 146, 3) := dk_182 0 146 (dk_at dksX13_isName_1 1 rfl rfl)
theorem dX13_isName_28 : decode cX13_isName 28 = .ok (.iconst (-1), 1) := dk_2 (dk_at dksX13_isName_1 4 rfl rfl)
theorem dX13_isName_29 : decode cX13_isName 29 = .ok (.if_icmp .ne 19, 3) := dk_160 0 19 (dk_at dksX13_isName_1 5 rfl rfl)
theorem dX13_isName_32 : decode cX13_isName 32 = .ok (.aload_n 0, 1) := dk_42 (dk_at dksX13_isName_1 8 rfl rfl)
theorem dX13_isName_33 : decode cX13_isName 33 = .ok (.invokevirtual 149, 3) := dk_182 0 149 (dk_at dksX13_isName_1 9 rfl rfl)
theorem dX13_isName_36 : decode cX13_isName 36 = .ok (.iconst (-1), 1) := dk_2 (dk_at dksX13_isName_1 12 rfl rfl)
theorem dX13_isName_37 : decode cX13_isName 37 = .ok (.if_icmp .ne 11, 3) := dk_160 0 11 (dk_at dksX13_isName_1 13 rfl rfl)
theorem dX13_isName_40 : decode cX13_isName 40 = .ok (.aload_n 0, 1) := dk_42 (dk_at dksX13_isName_1 16 rfl rfl)
theorem dX13_isName_41 : decode cX13_isName 41 = .ok (.invokevirtual 152, 3) := dk_182 0 152 (dk_at dksX13_isName_1 17 rfl rfl)
theorem dX13_isName_44 : decode cX13_isName 44 = .ok (.iconst (-1), 1) := dk_2 (dk_at dksX13_isName_1 20 rfl rfl)
theorem dX13_isName_45 : decode cX13_isName 45 = .ok (.if_icmp .eq 5, 3) := dk_159 0 5 (dk_at dksX13_isName_1 21 rfl rfl)
theorem dX13_isName_48 : decode cX13_isName 48 = .ok (.iconst 0, 1) := dk_3 (dk_at dksX13_isName_2 0 rfl rfl)
theorem dX13_isName_49 : decode cX13_isName 49 = .ok (.ireturn, 1) := dk_172 (dk_at dksX13_isName_2 1 rfl rfl)
theorem dX13_isName_50 : decode cX13_isName 50 = .ok (.aload_n 0, 1) := dk_42 (dk_at dksX13_isName_2 2 rfl rfl)
theorem dX13_isName_51 : decode cX13_isName 51 = .ok (.invokevirtual 155, 3) := dk_182 0 155 (dk_at dksX13_isName_2 3 rfl rfl)
theorem dX13_isName_54 : decode cX13_isName 54 = .ok (.ifCond .ne 28, 3) := dk_154 0 28 (dk_at dksX13_isName_2 6 rfl rfl)
theorem dX13_isName_57 : decode cX13_isName 57 = .ok (.aload_n 0, 1) := dk_42 (dk_at dksX13_isName_2 9 rfl rfl)
theorem dX13_isName_58 : decode cX13_isName 58 = .ok (.invokevirtual 159, 3) := dk_182 0 159 (dk_at dksX13_isName_2 10 rfl rfl)
theorem dX13_isName_61 : decode cX13_isName 61 = .ok (.ifCond .ne 21, 3) := dk_154 0 21 (dk_at dksX13_isName_2 13 rfl rfl)
theorem dX13_isName_64 : decode cX13_isName 64 = .ok (.aload_n 0, 1) := dk_42 (dk_at dksX13_isName_2 16 rfl rfl)
theorem dX13_isName_65 : decode cX13_isName 65 = .ok (.invokevirtual 162, 3) := dk_182 0 162 (dk_at dksX13_isName_2 17 rfl rfl)
theorem dX13_isName_68 : decode cX13_isName 68 = .ok (.ifCond .ne 14, 3) := dk_154 0 14 (dk_at dksX13_isName_2 20 rfl rfl)
theorem dX13_isName_71 : decode cX13_isName 71 = .ok (.aload_n 0, 1) := dk_42 (dk_at dksX13_isName_2 23 rfl rfl)
theorem dX13_isName_72 : decode cX13_isName 72 = .ok (.invokevirtual 165, 3) := dk_182 0 165 (dk_at dksX13_isName_3 0 rfl rfl)
theorem dX13_isName_75 : decode cX13_isName 75 = .ok (.ifCond .ne 7, 3) := dk_154 0 7 (dk_at dksX13_isName_3 3 rfl rfl)
theorem dX13_isName_78 : decode cX13_isName 78 = .ok (.iconst 1, 1) := dk_4 (dk_at dksX13_isName_3 6 rfl rfl)
theorem dX13_isName_79 : decode cX13_isName 79 = .ok (.goto 4, 3) := dk_167 0 4 (dk_at dksX13_isName_3 7 rfl rfl)
theorem dX13_isName_82 : decode cX13_isName 82 = .ok (.iconst 0, 1) := dk_3 (dk_at dksX13_isName_3 10 rfl rfl)
theorem dX13_isName_83 : decode cX13_isName 83 = .ok (.ireturn, 1) := dk_172 (dk_at dksX13_isName_3 11 rfl rfl)
abbrev cX13_kindAtHand : ByteArray := prog_24_method_19_code
def yX13_kindAtHand : MethodName := ⟨RX13, "kindAtHand", "()I"⟩
def dkwX13_kindAtHand_2 : List UInt8 := [16, 108, 3, 184, 0, 125, 16, 115, 16, 111, 16, 117, 16, 110, 16, 100, 184, 0, 125, 184, 0, 129, 172]
abbrev dktX13_kindAtHand_2 : List UInt8 := dkwX13_kindAtHand_2 ++ []
def dkwX13_kindAtHand_1 : List UInt8 := [16, 101, 184, 0, 125, 16, 119, 16, 111, 16, 114, 16, 100, 3, 184, 0, 125, 16, 102, 16, 101, 16, 101]
abbrev dktX13_kindAtHand_1 : List UInt8 := dkwX13_kindAtHand_1 ++ dktX13_kindAtHand_2
def dkwX13_kindAtHand_0 : List UInt8 := [42, 180, 0, 81, 5, 159, 0, 7, 2, 167, 0, 60, 42, 180, 0, 94, 16, 115, 16, 104, 16, 97, 16, 112]
abbrev dktX13_kindAtHand_0 : List UInt8 := dkwX13_kindAtHand_0 ++ dktX13_kindAtHand_1
theorem dksX13_kindAtHand_0 : cX13_kindAtHand.data.toList.drop 0 = dktX13_kindAtHand_0 := by decide +kernel
theorem dksX13_kindAtHand_1 : cX13_kindAtHand.data.toList.drop 24 = dktX13_kindAtHand_1 := dk_seg dksX13_kindAtHand_0 24 rfl rfl
theorem dksX13_kindAtHand_2 : cX13_kindAtHand.data.toList.drop 47 = dktX13_kindAtHand_2 := dk_seg dksX13_kindAtHand_1 23 rfl rfl
theorem dX13_kindAtHand_0 : decode cX13_kindAtHand 0 = .ok (.aload_n 0, 1) := dk_42 (dk_at dksX13_kindAtHand_0 0 rfl rfl)
theorem dX13_kindAtHand_1 : decode cX13_kindAtHand 1 = .ok (.getfield 81, 3) := dk_180 0 81 (dk_at dksX13_kindAtHand_0 1 rfl rfl)
theorem dX13_kindAtHand_4 : decode cX13_kindAtHand 4 = .ok (.iconst 2, 1) := dk_5 (dk_at dksX13_kindAtHand_0 4 rfl rfl)
theorem dX13_kindAtHand_5 : decode cX13_kindAtHand 5 = .ok (.if_icmp .eq 7, 3) := dk_159 0 7 (dk_at dksX13_kindAtHand_0 5 rfl rfl)
theorem dX13_kindAtHand_8 : decode cX13_kindAtHand 8 = .ok (.iconst (-1), 1) := dk_2 (dk_at dksX13_kindAtHand_0 8 rfl rfl)
theorem dX13_kindAtHand_9 : decode cX13_kindAtHand 9 = .ok (.goto 60, 3) := dk_167 0 60 (dk_at dksX13_kindAtHand_0 9 rfl rfl)
theorem dX13_kindAtHand_12 : decode cX13_kindAtHand 12 = .ok (.aload_n 0, 1) := dk_42 (dk_at dksX13_kindAtHand_0 12 rfl rfl)
theorem dX13_kindAtHand_13 : decode cX13_kindAtHand 13 = .ok (.getfield 94, 3) := dk_180 0 94 (dk_at dksX13_kindAtHand_0 13 rfl rfl)
theorem dX13_kindAtHand_16 : decode cX13_kindAtHand 16 = .ok (.bipush 115, 2) := dk_16 115 (dk_at dksX13_kindAtHand_0 16 rfl rfl)
theorem dX13_kindAtHand_18 : decode cX13_kindAtHand 18 = .ok (.bipush 104, 2) := dk_16 104 (dk_at dksX13_kindAtHand_0 18 rfl rfl)
theorem dX13_kindAtHand_20 : decode cX13_kindAtHand 20 = .ok (.bipush 97, 2) := dk_16 97 (dk_at dksX13_kindAtHand_0 20 rfl rfl)
theorem dX13_kindAtHand_22 : decode cX13_kindAtHand 22 = .ok (.bipush 112, 2) := dk_16 112 (dk_at dksX13_kindAtHand_0 22 rfl rfl)
theorem dX13_kindAtHand_24 : decode cX13_kindAtHand 24 = .ok (.bipush 101, 2) := dk_16 101 (dk_at dksX13_kindAtHand_1 0 rfl rfl)
theorem dX13_kindAtHand_26 : decode cX13_kindAtHand 26 = .ok (.invokestatic 125, 3) := dk_184 0 125 (dk_at dksX13_kindAtHand_1 2 rfl rfl)
theorem dX13_kindAtHand_29 : decode cX13_kindAtHand 29 = .ok (.bipush 119, 2) := dk_16 119 (dk_at dksX13_kindAtHand_1 5 rfl rfl)
theorem dX13_kindAtHand_31 : decode cX13_kindAtHand 31 = .ok (.bipush 111, 2) := dk_16 111 (dk_at dksX13_kindAtHand_1 7 rfl rfl)
theorem dX13_kindAtHand_33 : decode cX13_kindAtHand 33 = .ok (.bipush 114, 2) := dk_16 114 (dk_at dksX13_kindAtHand_1 9 rfl rfl)
theorem dX13_kindAtHand_35 : decode cX13_kindAtHand 35 = .ok (.bipush 100, 2) := dk_16 100 (dk_at dksX13_kindAtHand_1 11 rfl rfl)
theorem dX13_kindAtHand_37 : decode cX13_kindAtHand 37 = .ok (.iconst 0, 1) := dk_3 (dk_at dksX13_kindAtHand_1 13 rfl rfl)
theorem dX13_kindAtHand_38 : decode cX13_kindAtHand 38 = .ok (.invokestatic 125, 3) := dk_184 0 125 (dk_at dksX13_kindAtHand_1 14 rfl rfl)
theorem dX13_kindAtHand_41 : decode cX13_kindAtHand 41 = .ok (.bipush 102, 2) := dk_16 102 (dk_at dksX13_kindAtHand_1 17 rfl rfl)
theorem dX13_kindAtHand_43 : decode cX13_kindAtHand 43 = .ok (.bipush 101, 2) := dk_16 101 (dk_at dksX13_kindAtHand_1 19 rfl rfl)
theorem dX13_kindAtHand_45 : decode cX13_kindAtHand 45 = .ok (.bipush 101, 2) := dk_16 101 (dk_at dksX13_kindAtHand_1 21 rfl rfl)
theorem dX13_kindAtHand_47 : decode cX13_kindAtHand 47 = .ok (.bipush 108, 2) := dk_16 108 (dk_at dksX13_kindAtHand_2 0 rfl rfl)
theorem dX13_kindAtHand_49 : decode cX13_kindAtHand 49 = .ok (.iconst 0, 1) := dk_3 (dk_at dksX13_kindAtHand_2 2 rfl rfl)
theorem dX13_kindAtHand_50 : decode cX13_kindAtHand 50 = .ok (.invokestatic 125, 3) := dk_184 0 125 (dk_at dksX13_kindAtHand_2 3 rfl rfl)
theorem dX13_kindAtHand_53 : decode cX13_kindAtHand 53 = .ok (.bipush 115, 2) := dk_16 115 (dk_at dksX13_kindAtHand_2 6 rfl rfl)
theorem dX13_kindAtHand_55 : decode cX13_kindAtHand 55 = .ok (.bipush 111, 2) := dk_16 111 (dk_at dksX13_kindAtHand_2 8 rfl rfl)
theorem dX13_kindAtHand_57 : decode cX13_kindAtHand 57 = .ok (.bipush 117, 2) := dk_16 117 (dk_at dksX13_kindAtHand_2 10 rfl rfl)
theorem dX13_kindAtHand_59 : decode cX13_kindAtHand 59 = .ok (.bipush 110, 2) := dk_16 110 (dk_at dksX13_kindAtHand_2 12 rfl rfl)
theorem dX13_kindAtHand_61 : decode cX13_kindAtHand 61 = .ok (.bipush 100, 2) := dk_16 100 (dk_at dksX13_kindAtHand_2 14 rfl rfl)
theorem dX13_kindAtHand_63 : decode cX13_kindAtHand 63 = .ok (.invokestatic 125, 3) := dk_184 0 125 (dk_at dksX13_kindAtHand_2 16 rfl rfl)
theorem dX13_kindAtHand_66 : decode cX13_kindAtHand 66 = .ok (.invokestatic 129, 3) := dk_184 0 129 (dk_at dksX13_kindAtHand_2 19 rfl rfl)
theorem dX13_kindAtHand_69 : decode cX13_kindAtHand 69 = .ok (.ireturn, 1) := dk_172 (dk_at dksX13_kindAtHand_2 22 rfl rfl)
abbrev cX13_halfAtHand : ByteArray := prog_24_method_20_code
def yX13_halfAtHand : MethodName := ⟨RX13, "halfAtHand", "()I"⟩
def dkwX13_halfAtHand_2 : List UInt8 := [184, 0, 129, 172]
abbrev dktX13_halfAtHand_2 : List UInt8 := dkwX13_halfAtHand_2 ++ []
def dkwX13_halfAtHand_1 : List UInt8 := [3, 184, 0, 125, 16, 114, 16, 105, 16, 103, 16, 104, 16, 116, 184, 0, 125, 20, 0, 133, 20, 0, 133]
abbrev dktX13_halfAtHand_1 : List UInt8 := dkwX13_halfAtHand_1 ++ dktX13_halfAtHand_2
def dkwX13_halfAtHand_0 : List UInt8 := [42, 180, 0, 81, 5, 159, 0, 7, 2, 167, 0, 41, 42, 180, 0, 94, 16, 108, 16, 101, 16, 102, 16, 116]
abbrev dktX13_halfAtHand_0 : List UInt8 := dkwX13_halfAtHand_0 ++ dktX13_halfAtHand_1
theorem dksX13_halfAtHand_0 : cX13_halfAtHand.data.toList.drop 0 = dktX13_halfAtHand_0 := by decide +kernel
theorem dksX13_halfAtHand_1 : cX13_halfAtHand.data.toList.drop 24 = dktX13_halfAtHand_1 := dk_seg dksX13_halfAtHand_0 24 rfl rfl
theorem dksX13_halfAtHand_2 : cX13_halfAtHand.data.toList.drop 47 = dktX13_halfAtHand_2 := dk_seg dksX13_halfAtHand_1 23 rfl rfl
theorem dX13_halfAtHand_0 : decode cX13_halfAtHand 0 = .ok (.aload_n 0, 1) := dk_42 (dk_at dksX13_halfAtHand_0 0 rfl rfl)
theorem dX13_halfAtHand_1 : decode cX13_halfAtHand 1 = .ok (.getfield 81, 3) := dk_180 0 81 (dk_at dksX13_halfAtHand_0 1 rfl rfl)
theorem dX13_halfAtHand_4 : decode cX13_halfAtHand 4 = .ok (.iconst 2, 1) := dk_5 (dk_at dksX13_halfAtHand_0 4 rfl rfl)
theorem dX13_halfAtHand_5 : decode cX13_halfAtHand 5 = .ok (.if_icmp .eq 7, 3) := dk_159 0 7 (dk_at dksX13_halfAtHand_0 5 rfl rfl)
theorem dX13_halfAtHand_8 : decode cX13_halfAtHand 8 = .ok (.iconst (-1), 1) := dk_2 (dk_at dksX13_halfAtHand_0 8 rfl rfl)
theorem dX13_halfAtHand_9 : decode cX13_halfAtHand 9 = .ok (.goto 41, 3) := dk_167 0 41 (dk_at dksX13_halfAtHand_0 9 rfl rfl)
theorem dX13_halfAtHand_12 : decode cX13_halfAtHand 12 = .ok (.aload_n 0, 1) := dk_42 (dk_at dksX13_halfAtHand_0 12 rfl rfl)
theorem dX13_halfAtHand_13 : decode cX13_halfAtHand 13 = .ok (.getfield 94, 3) := dk_180 0 94 (dk_at dksX13_halfAtHand_0 13 rfl rfl)
theorem dX13_halfAtHand_16 : decode cX13_halfAtHand 16 = .ok (.bipush 108, 2) := dk_16 108 (dk_at dksX13_halfAtHand_0 16 rfl rfl)
theorem dX13_halfAtHand_18 : decode cX13_halfAtHand 18 = .ok (.bipush 101, 2) := dk_16 101 (dk_at dksX13_halfAtHand_0 18 rfl rfl)
theorem dX13_halfAtHand_20 : decode cX13_halfAtHand 20 = .ok (.bipush 102, 2) := dk_16 102 (dk_at dksX13_halfAtHand_0 20 rfl rfl)
theorem dX13_halfAtHand_22 : decode cX13_halfAtHand 22 = .ok (.bipush 116, 2) := dk_16 116 (dk_at dksX13_halfAtHand_0 22 rfl rfl)
theorem dX13_halfAtHand_24 : decode cX13_halfAtHand 24 = .ok (.iconst 0, 1) := dk_3 (dk_at dksX13_halfAtHand_1 0 rfl rfl)
theorem dX13_halfAtHand_25 : decode cX13_halfAtHand 25 = .ok (.invokestatic 125, 3) := dk_184 0 125 (dk_at dksX13_halfAtHand_1 1 rfl rfl)
theorem dX13_halfAtHand_28 : decode cX13_halfAtHand 28 = .ok (.bipush 114, 2) := dk_16 114 (dk_at dksX13_halfAtHand_1 4 rfl rfl)
theorem dX13_halfAtHand_30 : decode cX13_halfAtHand 30 = .ok (.bipush 105, 2) := dk_16 105 (dk_at dksX13_halfAtHand_1 6 rfl rfl)
theorem dX13_halfAtHand_32 : decode cX13_halfAtHand 32 = .ok (.bipush 103, 2) := dk_16 103 (dk_at dksX13_halfAtHand_1 8 rfl rfl)
theorem dX13_halfAtHand_34 : decode cX13_halfAtHand 34 = .ok (.bipush 104, 2) := dk_16 104 (dk_at dksX13_halfAtHand_1 10 rfl rfl)
theorem dX13_halfAtHand_36 : decode cX13_halfAtHand 36 = .ok (.bipush 116, 2) := dk_16 116 (dk_at dksX13_halfAtHand_1 12 rfl rfl)
theorem dX13_halfAtHand_38 : decode cX13_halfAtHand 38 = .ok (.invokestatic 125, 3) := dk_184 0 125 (dk_at dksX13_halfAtHand_1 14 rfl rfl)
theorem dX13_halfAtHand_41 : decode cX13_halfAtHand 41 = .ok (.ldc2_w 133, 3) := dk_20 0 133 (dk_at dksX13_halfAtHand_1 17 rfl rfl)
theorem dX13_halfAtHand_44 : decode cX13_halfAtHand 44 = .ok (.ldc2_w 133, 3) := dk_20 0 133 (dk_at dksX13_halfAtHand_1 20 rfl rfl)
theorem dX13_halfAtHand_47 : decode cX13_halfAtHand 47 = .ok (.invokestatic 129, 3) := dk_184 0 129 (dk_at dksX13_halfAtHand_2 0 rfl rfl)
theorem dX13_halfAtHand_50 : decode cX13_halfAtHand 50 = .ok (.ireturn, 1) := dk_172 (dk_at dksX13_halfAtHand_2 3 rfl rfl)
abbrev cX13_flagAtHand : ByteArray := prog_24_method_21_code
def yX13_flagAtHand : MethodName := ⟨RX13, "flagAtHand", "()I"⟩
def dkwX13_flagAtHand_6 : List UInt8 := [7, 27, 96, 172]
abbrev dktX13_flagAtHand_6 : List UInt8 := dkwX13_flagAtHand_6 ++ []
def dkwX13_flagAtHand_5 : List UInt8 := [16, 105, 16, 120, 16, 101, 16, 100, 184, 0, 125, 184, 0, 129, 60, 27, 2, 160, 0, 7, 2, 167, 0, 6]
abbrev dktX13_flagAtHand_5 : List UInt8 := dkwX13_flagAtHand_5 ++ dktX13_flagAtHand_6
def dkwX13_flagAtHand_4 : List UInt8 := [16, 97, 16, 114, 16, 107, 3, 184, 0, 125, 16, 102, 16, 97, 16, 114, 3, 3, 184, 0, 125, 16, 102]
abbrev dktX13_flagAtHand_4 : List UInt8 := dkwX13_flagAtHand_4 ++ dktX13_flagAtHand_5
def dkwX13_flagAtHand_3 : List UInt8 := [159, 0, 5, 27, 172, 42, 180, 0, 94, 16, 99, 16, 108, 16, 111, 16, 116, 16, 104, 184, 0, 125, 16, 100]
abbrev dktX13_flagAtHand_3 : List UInt8 := dkwX13_flagAtHand_3 ++ dktX13_flagAtHand_4
def dkwX13_flagAtHand_2 : List UInt8 := [16, 116, 184, 0, 125, 16, 115, 16, 116, 16, 105, 16, 108, 16, 108, 184, 0, 125, 184, 0, 129, 60, 27, 2]
abbrev dktX13_flagAtHand_2 : List UInt8 := dkwX13_flagAtHand_2 ++ dktX13_flagAtHand_3
def dkwX13_flagAtHand_1 : List UInt8 := [184, 0, 125, 16, 113, 16, 117, 16, 105, 16, 101, 16, 116, 184, 0, 125, 16, 115, 16, 104, 16, 111, 16, 114]
abbrev dktX13_flagAtHand_1 : List UInt8 := dkwX13_flagAtHand_1 ++ dktX13_flagAtHand_2
def dkwX13_flagAtHand_0 : List UInt8 := [42, 180, 0, 81, 5, 159, 0, 5, 2, 172, 42, 180, 0, 94, 16, 109, 16, 97, 16, 115, 16, 107, 3]
abbrev dktX13_flagAtHand_0 : List UInt8 := dkwX13_flagAtHand_0 ++ dktX13_flagAtHand_1
theorem dksX13_flagAtHand_0 : cX13_flagAtHand.data.toList.drop 0 = dktX13_flagAtHand_0 := by decide +kernel
theorem dksX13_flagAtHand_1 : cX13_flagAtHand.data.toList.drop 23 = dktX13_flagAtHand_1 := dk_seg dksX13_flagAtHand_0 23 rfl rfl
theorem dksX13_flagAtHand_2 : cX13_flagAtHand.data.toList.drop 47 = dktX13_flagAtHand_2 := dk_seg dksX13_flagAtHand_1 24 rfl rfl
theorem dksX13_flagAtHand_3 : cX13_flagAtHand.data.toList.drop 71 = dktX13_flagAtHand_3 := dk_seg dksX13_flagAtHand_2 24 rfl rfl
theorem dksX13_flagAtHand_4 : cX13_flagAtHand.data.toList.drop 95 = dktX13_flagAtHand_4 := dk_seg dksX13_flagAtHand_3 24 rfl rfl
theorem dksX13_flagAtHand_5 : cX13_flagAtHand.data.toList.drop 118 = dktX13_flagAtHand_5 := dk_seg dksX13_flagAtHand_4 23 rfl rfl
theorem dksX13_flagAtHand_6 : cX13_flagAtHand.data.toList.drop 142 = dktX13_flagAtHand_6 := dk_seg dksX13_flagAtHand_5 24 rfl rfl
theorem dX13_flagAtHand_0 : decode cX13_flagAtHand 0 = .ok (.aload_n 0, 1) := dk_42 (dk_at dksX13_flagAtHand_0 0 rfl rfl)
theorem dX13_flagAtHand_1 : decode cX13_flagAtHand 1 = .ok (.getfield 81, 3) := dk_180 0 81 (dk_at dksX13_flagAtHand_0 1 rfl rfl)
theorem dX13_flagAtHand_4 : decode cX13_flagAtHand 4 = .ok (.iconst 2, 1) := dk_5 (dk_at dksX13_flagAtHand_0 4 rfl rfl)
theorem dX13_flagAtHand_5 : decode cX13_flagAtHand 5 = .ok (.if_icmp .eq 5, 3) := dk_159 0 5 (dk_at dksX13_flagAtHand_0 5 rfl rfl)
theorem dX13_flagAtHand_8 : decode cX13_flagAtHand 8 = .ok (.iconst (-1), 1) := dk_2 (dk_at dksX13_flagAtHand_0 8 rfl rfl)
theorem dX13_flagAtHand_9 : decode cX13_flagAtHand 9 = .ok (.ireturn, 1) := dk_172 (dk_at dksX13_flagAtHand_0 9 rfl rfl)
theorem dX13_flagAtHand_10 : decode cX13_flagAtHand 10 = .ok (.aload_n 0, 1) := dk_42 (dk_at dksX13_flagAtHand_0 10 rfl rfl)
theorem dX13_flagAtHand_11 : decode cX13_flagAtHand 11 = .ok (.getfield 94, 3) := dk_180 0 94 (dk_at dksX13_flagAtHand_0 11 rfl rfl)
theorem dX13_flagAtHand_14 : decode cX13_flagAtHand 14 = .ok (.bipush 109, 2) := dk_16 109 (dk_at dksX13_flagAtHand_0 14 rfl rfl)
theorem dX13_flagAtHand_16 : decode cX13_flagAtHand 16 = .ok (.bipush 97, 2) := dk_16 97 (dk_at dksX13_flagAtHand_0 16 rfl rfl)
theorem dX13_flagAtHand_18 : decode cX13_flagAtHand 18 = .ok (.bipush 115, 2) := dk_16 115 (dk_at dksX13_flagAtHand_0 18 rfl rfl)
theorem dX13_flagAtHand_20 : decode cX13_flagAtHand 20 = .ok (.bipush 107, 2) := dk_16 107 (dk_at dksX13_flagAtHand_0 20 rfl rfl)
theorem dX13_flagAtHand_22 : decode cX13_flagAtHand 22 = .ok (.iconst 0, 1) := dk_3 (dk_at dksX13_flagAtHand_0 22 rfl rfl)
theorem dX13_flagAtHand_23 : decode cX13_flagAtHand 23 = .ok (.invokestatic 125, 3) := dk_184 0 125 (dk_at dksX13_flagAtHand_1 0 rfl rfl)
theorem dX13_flagAtHand_26 : decode cX13_flagAtHand 26 = .ok (.bipush 113, 2) := dk_16 113 (dk_at dksX13_flagAtHand_1 3 rfl rfl)
theorem dX13_flagAtHand_28 : decode cX13_flagAtHand 28 = .ok (.bipush 117, 2) := dk_16 117 (dk_at dksX13_flagAtHand_1 5 rfl rfl)
theorem dX13_flagAtHand_30 : decode cX13_flagAtHand 30 = .ok (.bipush 105, 2) := dk_16 105 (dk_at dksX13_flagAtHand_1 7 rfl rfl)
theorem dX13_flagAtHand_32 : decode cX13_flagAtHand 32 = .ok (.bipush 101, 2) := dk_16 101 (dk_at dksX13_flagAtHand_1 9 rfl rfl)
theorem dX13_flagAtHand_34 : decode cX13_flagAtHand 34 = .ok (.bipush 116, 2) := dk_16 116 (dk_at dksX13_flagAtHand_1 11 rfl rfl)
theorem dX13_flagAtHand_36 : decode cX13_flagAtHand 36 = .ok (.invokestatic 125, 3) := dk_184 0 125 (dk_at dksX13_flagAtHand_1 13 rfl rfl)
theorem dX13_flagAtHand_39 : decode cX13_flagAtHand 39 = .ok (.bipush 115, 2) := dk_16 115 (dk_at dksX13_flagAtHand_1 16 rfl rfl)
theorem dX13_flagAtHand_41 : decode cX13_flagAtHand 41 = .ok (.bipush 104, 2) := dk_16 104 (dk_at dksX13_flagAtHand_1 18 rfl rfl)
theorem dX13_flagAtHand_43 : decode cX13_flagAtHand 43 = .ok (.bipush 111, 2) := dk_16 111 (dk_at dksX13_flagAtHand_1 20 rfl rfl)
theorem dX13_flagAtHand_45 : decode cX13_flagAtHand 45 = .ok (.bipush 114, 2) := dk_16 114 (dk_at dksX13_flagAtHand_1 22 rfl rfl)
theorem dX13_flagAtHand_47 : decode cX13_flagAtHand 47 = .ok (.bipush 116, 2) := dk_16 116 (dk_at dksX13_flagAtHand_2 0 rfl rfl)
theorem dX13_flagAtHand_49 : decode cX13_flagAtHand 49 = .ok (.invokestatic 125, 3) := dk_184 0 125 (dk_at dksX13_flagAtHand_2 2 rfl rfl)
theorem dX13_flagAtHand_52 : decode cX13_flagAtHand 52 = .ok (.bipush 115, 2) := dk_16 115 (dk_at dksX13_flagAtHand_2 5 rfl rfl)
theorem dX13_flagAtHand_54 : decode cX13_flagAtHand 54 = .ok (.bipush 116, 2) := dk_16 116 (dk_at dksX13_flagAtHand_2 7 rfl rfl)
theorem dX13_flagAtHand_56 : decode cX13_flagAtHand 56 = .ok (.bipush 105, 2) := dk_16 105 (dk_at dksX13_flagAtHand_2 9 rfl rfl)
theorem dX13_flagAtHand_58 : decode cX13_flagAtHand 58 = .ok (.bipush 108, 2) := dk_16 108 (dk_at dksX13_flagAtHand_2 11 rfl rfl)
theorem dX13_flagAtHand_60 : decode cX13_flagAtHand 60 = .ok (.bipush 108, 2) := dk_16 108 (dk_at dksX13_flagAtHand_2 13 rfl rfl)
theorem dX13_flagAtHand_62 : decode cX13_flagAtHand 62 = .ok (.invokestatic 125, 3) := dk_184 0 125 (dk_at dksX13_flagAtHand_2 15 rfl rfl)
theorem dX13_flagAtHand_65 : decode cX13_flagAtHand 65 = .ok (.invokestatic 129, 3) := dk_184 0 129 (dk_at dksX13_flagAtHand_2 18 rfl rfl)
theorem dX13_flagAtHand_68 : decode cX13_flagAtHand 68 = .ok (.istore_n 1, 1) := dk_60 (dk_at dksX13_flagAtHand_2 21 rfl rfl)
theorem dX13_flagAtHand_69 : decode cX13_flagAtHand 69 = .ok (.iload_n 1, 1) := dk_27 (dk_at dksX13_flagAtHand_2 22 rfl rfl)
theorem dX13_flagAtHand_70 : decode cX13_flagAtHand 70 = .ok (.iconst (-1), 1) := dk_2 (dk_at dksX13_flagAtHand_2 23 rfl rfl)
theorem dX13_flagAtHand_71 : decode cX13_flagAtHand 71 = .ok (.if_icmp .eq 5, 3) := dk_159 0 5 (dk_at dksX13_flagAtHand_3 0 rfl rfl)
theorem dX13_flagAtHand_74 : decode cX13_flagAtHand 74 = .ok (.iload_n 1, 1) := dk_27 (dk_at dksX13_flagAtHand_3 3 rfl rfl)
theorem dX13_flagAtHand_75 : decode cX13_flagAtHand 75 = .ok (.ireturn, 1) := dk_172 (dk_at dksX13_flagAtHand_3 4 rfl rfl)
theorem dX13_flagAtHand_76 : decode cX13_flagAtHand 76 = .ok (.aload_n 0, 1) := dk_42 (dk_at dksX13_flagAtHand_3 5 rfl rfl)
theorem dX13_flagAtHand_77 : decode cX13_flagAtHand 77 = .ok (.getfield 94, 3) := dk_180 0 94 (dk_at dksX13_flagAtHand_3 6 rfl rfl)
theorem dX13_flagAtHand_80 : decode cX13_flagAtHand 80 = .ok (.bipush 99, 2) := dk_16 99 (dk_at dksX13_flagAtHand_3 9 rfl rfl)
theorem dX13_flagAtHand_82 : decode cX13_flagAtHand 82 = .ok (.bipush 108, 2) := dk_16 108 (dk_at dksX13_flagAtHand_3 11 rfl rfl)
theorem dX13_flagAtHand_84 : decode cX13_flagAtHand 84 = .ok (.bipush 111, 2) := dk_16 111 (dk_at dksX13_flagAtHand_3 13 rfl rfl)
theorem dX13_flagAtHand_86 : decode cX13_flagAtHand 86 = .ok (.bipush 116, 2) := dk_16 116 (dk_at dksX13_flagAtHand_3 15 rfl rfl)
theorem dX13_flagAtHand_88 : decode cX13_flagAtHand 88 = .ok (.bipush 104, 2) := dk_16 104 (dk_at dksX13_flagAtHand_3 17 rfl rfl)
theorem dX13_flagAtHand_90 : decode cX13_flagAtHand 90 = .ok (.invokestatic 125, 3) := dk_184 0 125 (dk_at dksX13_flagAtHand_3 19 rfl rfl)
theorem dX13_flagAtHand_93 : decode cX13_flagAtHand 93 = .ok (.bipush 100, 2) := dk_16 100 (dk_at dksX13_flagAtHand_3 22 rfl rfl)
theorem dX13_flagAtHand_95 : decode cX13_flagAtHand 95 = .ok (.bipush 97, 2) := dk_16 97 (dk_at dksX13_flagAtHand_4 0 rfl rfl)
theorem dX13_flagAtHand_97 : decode cX13_flagAtHand 97 = .ok (.bipush 114, 2) := dk_16 114 (dk_at dksX13_flagAtHand_4 2 rfl rfl)
theorem dX13_flagAtHand_99 : decode cX13_flagAtHand 99 = .ok (.bipush 107, 2) := dk_16 107 (dk_at dksX13_flagAtHand_4 4 rfl rfl)
theorem dX13_flagAtHand_101 : decode cX13_flagAtHand 101 = .ok (.iconst 0, 1) := dk_3 (dk_at dksX13_flagAtHand_4 6 rfl rfl)
theorem dX13_flagAtHand_102 : decode cX13_flagAtHand 102 = .ok (.invokestatic 125, 3) := dk_184 0 125 (dk_at dksX13_flagAtHand_4 7 rfl rfl)
theorem dX13_flagAtHand_105 : decode cX13_flagAtHand 105 = .ok (.bipush 102, 2) := dk_16 102 (dk_at dksX13_flagAtHand_4 10 rfl rfl)
theorem dX13_flagAtHand_107 : decode cX13_flagAtHand 107 = .ok (.bipush 97, 2) := dk_16 97 (dk_at dksX13_flagAtHand_4 12 rfl rfl)
theorem dX13_flagAtHand_109 : decode cX13_flagAtHand 109 = .ok (.bipush 114, 2) := dk_16 114 (dk_at dksX13_flagAtHand_4 14 rfl rfl)
theorem dX13_flagAtHand_111 : decode cX13_flagAtHand 111 = .ok (.iconst 0, 1) := dk_3 (dk_at dksX13_flagAtHand_4 16 rfl rfl)
theorem dX13_flagAtHand_112 : decode cX13_flagAtHand 112 = .ok (.iconst 0, 1) := dk_3 (dk_at dksX13_flagAtHand_4 17 rfl rfl)
theorem dX13_flagAtHand_113 : decode cX13_flagAtHand 113 = .ok (.invokestatic 125, 3) := dk_184 0 125 (dk_at dksX13_flagAtHand_4 18 rfl rfl)
theorem dX13_flagAtHand_116 : decode cX13_flagAtHand 116 = .ok (.bipush 102, 2) := dk_16 102 (dk_at dksX13_flagAtHand_4 21 rfl rfl)
theorem dX13_flagAtHand_118 : decode cX13_flagAtHand 118 = .ok (.bipush 105, 2) := dk_16 105 (dk_at dksX13_flagAtHand_5 0 rfl rfl)
theorem dX13_flagAtHand_120 : decode cX13_flagAtHand 120 = .ok (.bipush 120, 2) := dk_16 120 (dk_at dksX13_flagAtHand_5 2 rfl rfl)
theorem dX13_flagAtHand_122 : decode cX13_flagAtHand 122 = .ok (.bipush 101, 2) := dk_16 101 (dk_at dksX13_flagAtHand_5 4 rfl rfl)
theorem dX13_flagAtHand_124 : decode cX13_flagAtHand 124 = .ok (.bipush 100, 2) := dk_16 100 (dk_at dksX13_flagAtHand_5 6 rfl rfl)
theorem dX13_flagAtHand_126 : decode cX13_flagAtHand 126 = .ok (.invokestatic 125, 3) := dk_184 0 125 (dk_at dksX13_flagAtHand_5 8 rfl rfl)
theorem dX13_flagAtHand_129 : decode cX13_flagAtHand 129 = .ok (.invokestatic 129, 3) := dk_184 0 129 (dk_at dksX13_flagAtHand_5 11 rfl rfl)
theorem dX13_flagAtHand_132 : decode cX13_flagAtHand 132 = .ok (.istore_n 1, 1) := dk_60 (dk_at dksX13_flagAtHand_5 14 rfl rfl)
theorem dX13_flagAtHand_133 : decode cX13_flagAtHand 133 = .ok (.iload_n 1, 1) := dk_27 (dk_at dksX13_flagAtHand_5 15 rfl rfl)
theorem dX13_flagAtHand_134 : decode cX13_flagAtHand 134 = .ok (.iconst (-1), 1) := dk_2 (dk_at dksX13_flagAtHand_5 16 rfl rfl)
theorem dX13_flagAtHand_135 : decode cX13_flagAtHand 135 = .ok (.if_icmp .ne 7, 3) := dk_160 0 7 (dk_at dksX13_flagAtHand_5 17 rfl rfl)
theorem dX13_flagAtHand_138 : decode cX13_flagAtHand 138 = .ok (.iconst (-1), 1) := dk_2 (dk_at dksX13_flagAtHand_5 20 rfl rfl)
theorem dX13_flagAtHand_139 : decode cX13_flagAtHand 139 = .ok (.goto 6, 3) := dk_167 0 6 (dk_at dksX13_flagAtHand_5 21 rfl rfl)
theorem dX13_flagAtHand_142 : decode cX13_flagAtHand 142 = .ok (.iconst 4, 1) := dk_7 (dk_at dksX13_flagAtHand_6 0 rfl rfl)
theorem dX13_flagAtHand_143 : decode cX13_flagAtHand 143 = .ok (.iload_n 1, 1) := dk_27 (dk_at dksX13_flagAtHand_6 1 rfl rfl)
theorem dX13_flagAtHand_144 : decode cX13_flagAtHand 144 = .ok (.iadd, 1) := dk_96 (dk_at dksX13_flagAtHand_6 2 rfl rfl)
theorem dX13_flagAtHand_145 : decode cX13_flagAtHand 145 = .ok (.ireturn, 1) := dk_172 (dk_at dksX13_flagAtHand_6 3 rfl rfl)
abbrev cX13_stateAtHand : ByteArray := prog_24_method_22_code
def yX13_stateAtHand : MethodName := ⟨RX13, "stateAtHand", "()I"⟩
def dkwX13_stateAtHand_2 : List UInt8 := [16, 101, 184, 0, 125, 16, 119, 16, 101, 16, 97, 16, 107, 3, 184, 0, 125, 184, 0, 129, 172]
abbrev dktX13_stateAtHand_2 : List UInt8 := dkwX13_stateAtHand_2 ++ []
def dkwX13_stateAtHand_1 : List UInt8 := [3, 184, 0, 125, 16, 99, 16, 117, 16, 116, 3, 3, 184, 0, 125, 16, 109, 16, 97, 16, 121, 16, 98]
abbrev dktX13_stateAtHand_1 : List UInt8 := dkwX13_stateAtHand_1 ++ dktX13_stateAtHand_2
def dkwX13_stateAtHand_0 : List UInt8 := [42, 180, 0, 81, 5, 159, 0, 7, 2, 167, 0, 58, 42, 180, 0, 94, 16, 111, 16, 112, 16, 101, 16, 110]
abbrev dktX13_stateAtHand_0 : List UInt8 := dkwX13_stateAtHand_0 ++ dktX13_stateAtHand_1
theorem dksX13_stateAtHand_0 : cX13_stateAtHand.data.toList.drop 0 = dktX13_stateAtHand_0 := by decide +kernel
theorem dksX13_stateAtHand_1 : cX13_stateAtHand.data.toList.drop 24 = dktX13_stateAtHand_1 := dk_seg dksX13_stateAtHand_0 24 rfl rfl
theorem dksX13_stateAtHand_2 : cX13_stateAtHand.data.toList.drop 47 = dktX13_stateAtHand_2 := dk_seg dksX13_stateAtHand_1 23 rfl rfl
theorem dX13_stateAtHand_0 : decode cX13_stateAtHand 0 = .ok (.aload_n 0, 1) := dk_42 (dk_at dksX13_stateAtHand_0 0 rfl rfl)
theorem dX13_stateAtHand_1 : decode cX13_stateAtHand 1 = .ok (.getfield 81, 3) := dk_180 0 81 (dk_at dksX13_stateAtHand_0 1 rfl rfl)
theorem dX13_stateAtHand_4 : decode cX13_stateAtHand 4 = .ok (.iconst 2, 1) := dk_5 (dk_at dksX13_stateAtHand_0 4 rfl rfl)
theorem dX13_stateAtHand_5 : decode cX13_stateAtHand 5 = .ok (.if_icmp .eq 7, 3) := dk_159 0 7 (dk_at dksX13_stateAtHand_0 5 rfl rfl)
theorem dX13_stateAtHand_8 : decode cX13_stateAtHand 8 = .ok (.iconst (-1), 1) := dk_2 (dk_at dksX13_stateAtHand_0 8 rfl rfl)
theorem dX13_stateAtHand_9 : decode cX13_stateAtHand 9 = .ok (.goto 58, 3) := dk_167 0 58 (dk_at dksX13_stateAtHand_0 9 rfl rfl)
theorem dX13_stateAtHand_12 : decode cX13_stateAtHand 12 = .ok (.aload_n 0, 1) := dk_42 (dk_at dksX13_stateAtHand_0 12 rfl rfl)
theorem dX13_stateAtHand_13 : decode cX13_stateAtHand 13 = .ok (.getfield 94, 3) := dk_180 0 94 (dk_at dksX13_stateAtHand_0 13 rfl rfl)
theorem dX13_stateAtHand_16 : decode cX13_stateAtHand 16 = .ok (.bipush 111, 2) := dk_16 111 (dk_at dksX13_stateAtHand_0 16 rfl rfl)
theorem dX13_stateAtHand_18 : decode cX13_stateAtHand 18 = .ok (.bipush 112, 2) := dk_16 112 (dk_at dksX13_stateAtHand_0 18 rfl rfl)
theorem dX13_stateAtHand_20 : decode cX13_stateAtHand 20 = .ok (.bipush 101, 2) := dk_16 101 (dk_at dksX13_stateAtHand_0 20 rfl rfl)
theorem dX13_stateAtHand_22 : decode cX13_stateAtHand 22 = .ok (.bipush 110, 2) := dk_16 110 (dk_at dksX13_stateAtHand_0 22 rfl rfl)
theorem dX13_stateAtHand_24 : decode cX13_stateAtHand 24 = .ok (.iconst 0, 1) := dk_3 (dk_at dksX13_stateAtHand_1 0 rfl rfl)
theorem dX13_stateAtHand_25 : decode cX13_stateAtHand 25 = .ok (.invokestatic 125, 3) := dk_184 0 125 (dk_at dksX13_stateAtHand_1 1 rfl rfl)
theorem dX13_stateAtHand_28 : decode cX13_stateAtHand 28 = .ok (.bipush 99, 2) := dk_16 99 (dk_at dksX13_stateAtHand_1 4 rfl rfl)
theorem dX13_stateAtHand_30 : decode cX13_stateAtHand 30 = .ok (.bipush 117, 2) := dk_16 117 (dk_at dksX13_stateAtHand_1 6 rfl rfl)
theorem dX13_stateAtHand_32 : decode cX13_stateAtHand 32 = .ok (.bipush 116, 2) := dk_16 116 (dk_at dksX13_stateAtHand_1 8 rfl rfl)
theorem dX13_stateAtHand_34 : decode cX13_stateAtHand 34 = .ok (.iconst 0, 1) := dk_3 (dk_at dksX13_stateAtHand_1 10 rfl rfl)
theorem dX13_stateAtHand_35 : decode cX13_stateAtHand 35 = .ok (.iconst 0, 1) := dk_3 (dk_at dksX13_stateAtHand_1 11 rfl rfl)
theorem dX13_stateAtHand_36 : decode cX13_stateAtHand 36 = .ok (.invokestatic 125, 3) := dk_184 0 125 (dk_at dksX13_stateAtHand_1 12 rfl rfl)
theorem dX13_stateAtHand_39 : decode cX13_stateAtHand 39 = .ok (.bipush 109, 2) := dk_16 109 (dk_at dksX13_stateAtHand_1 15 rfl rfl)
theorem dX13_stateAtHand_41 : decode cX13_stateAtHand 41 = .ok (.bipush 97, 2) := dk_16 97 (dk_at dksX13_stateAtHand_1 17 rfl rfl)
theorem dX13_stateAtHand_43 : decode cX13_stateAtHand 43 = .ok (.bipush 121, 2) := dk_16 121 (dk_at dksX13_stateAtHand_1 19 rfl rfl)
theorem dX13_stateAtHand_45 : decode cX13_stateAtHand 45 = .ok (.bipush 98, 2) := dk_16 98 (dk_at dksX13_stateAtHand_1 21 rfl rfl)
theorem dX13_stateAtHand_47 : decode cX13_stateAtHand 47 = .ok (.bipush 101, 2) := dk_16 101 (dk_at dksX13_stateAtHand_2 0 rfl rfl)
theorem dX13_stateAtHand_49 : decode cX13_stateAtHand 49 = .ok (.invokestatic 125, 3) := dk_184 0 125 (dk_at dksX13_stateAtHand_2 2 rfl rfl)
theorem dX13_stateAtHand_52 : decode cX13_stateAtHand 52 = .ok (.bipush 119, 2) := dk_16 119 (dk_at dksX13_stateAtHand_2 5 rfl rfl)
theorem dX13_stateAtHand_54 : decode cX13_stateAtHand 54 = .ok (.bipush 101, 2) := dk_16 101 (dk_at dksX13_stateAtHand_2 7 rfl rfl)
theorem dX13_stateAtHand_56 : decode cX13_stateAtHand 56 = .ok (.bipush 97, 2) := dk_16 97 (dk_at dksX13_stateAtHand_2 9 rfl rfl)
theorem dX13_stateAtHand_58 : decode cX13_stateAtHand 58 = .ok (.bipush 107, 2) := dk_16 107 (dk_at dksX13_stateAtHand_2 11 rfl rfl)
theorem dX13_stateAtHand_60 : decode cX13_stateAtHand 60 = .ok (.iconst 0, 1) := dk_3 (dk_at dksX13_stateAtHand_2 13 rfl rfl)
theorem dX13_stateAtHand_61 : decode cX13_stateAtHand 61 = .ok (.invokestatic 125, 3) := dk_184 0 125 (dk_at dksX13_stateAtHand_2 14 rfl rfl)
theorem dX13_stateAtHand_64 : decode cX13_stateAtHand 64 = .ok (.invokestatic 129, 3) := dk_184 0 129 (dk_at dksX13_stateAtHand_2 17 rfl rfl)
theorem dX13_stateAtHand_67 : decode cX13_stateAtHand 67 = .ok (.ireturn, 1) := dk_172 (dk_at dksX13_stateAtHand_2 20 rfl rfl)
abbrev cX13_isInWord : ByteArray := prog_24_method_24_code
def yX13_isInWord : MethodName := ⟨RX13, "isInWord", "()Z"⟩
def dkwX13_isInWord_0 : List UInt8 := [42, 16, 105, 16, 110, 3, 3, 3, 184, 0, 125, 182, 0, 135, 172]
abbrev dktX13_isInWord_0 : List UInt8 := dkwX13_isInWord_0 ++ []
theorem dksX13_isInWord_0 : cX13_isInWord.data.toList.drop 0 = dktX13_isInWord_0 := by decide +kernel
theorem dX13_isInWord_0 : decode cX13_isInWord 0 = .ok (.aload_n 0, 1) := dk_42 (dk_at dksX13_isInWord_0 0 rfl rfl)
theorem dX13_isInWord_1 : decode cX13_isInWord 1 = .ok (.bipush 105, 2) := dk_16 105 (dk_at dksX13_isInWord_0 1 rfl rfl)
theorem dX13_isInWord_3 : decode cX13_isInWord 3 = .ok (.bipush 110, 2) := dk_16 110 (dk_at dksX13_isInWord_0 3 rfl rfl)
theorem dX13_isInWord_5 : decode cX13_isInWord 5 = .ok (.iconst 0, 1) := dk_3 (dk_at dksX13_isInWord_0 5 rfl rfl)
theorem dX13_isInWord_6 : decode cX13_isInWord 6 = .ok (.iconst 0, 1) := dk_3 (dk_at dksX13_isInWord_0 6 rfl rfl)
theorem dX13_isInWord_7 : decode cX13_isInWord 7 = .ok (.iconst 0, 1) := dk_3 (dk_at dksX13_isInWord_0 7 rfl rfl)
theorem dX13_isInWord_8 : decode cX13_isInWord 8 = .ok (.invokestatic 125, 3) := dk_184 0 125 (dk_at dksX13_isInWord_0 8 rfl rfl)
theorem dX13_isInWord_11 : decode cX13_isInWord 11 = .ok (.invokevirtual 135, 3) := dk_182 0 135 (dk_at dksX13_isInWord_0 11 rfl rfl)
theorem dX13_isInWord_14 : decode cX13_isInWord 14 = .ok (.ireturn, 1) := dk_172 (dk_at dksX13_isInWord_0 14 rfl rfl)
abbrev cX13_isKey : ByteArray := prog_24_method_14_code
def yX13_isKey : MethodName := ⟨RX13, "isKey", "(J)Z"⟩
def dkwX13_isKey_0 : List UInt8 := [42, 180, 0, 81, 5, 160, 0, 16, 42, 180, 0, 94, 31, 148, 154, 0, 7, 4, 167, 0, 4, 3, 172]
abbrev dktX13_isKey_0 : List UInt8 := dkwX13_isKey_0 ++ []
theorem dksX13_isKey_0 : cX13_isKey.data.toList.drop 0 = dktX13_isKey_0 := by decide +kernel
theorem dX13_isKey_0 : decode cX13_isKey 0 = .ok (.aload_n 0, 1) := dk_42 (dk_at dksX13_isKey_0 0 rfl rfl)
theorem dX13_isKey_1 : decode cX13_isKey 1 = .ok (.getfield 81, 3) := dk_180 0 81 (dk_at dksX13_isKey_0 1 rfl rfl)
theorem dX13_isKey_4 : decode cX13_isKey 4 = .ok (.iconst 2, 1) := dk_5 (dk_at dksX13_isKey_0 4 rfl rfl)
theorem dX13_isKey_5 : decode cX13_isKey 5 = .ok (.if_icmp .ne 16, 3) := dk_160 0 16 (dk_at dksX13_isKey_0 5 rfl rfl)
theorem dX13_isKey_8 : decode cX13_isKey 8 = .ok (.aload_n 0, 1) := dk_42 (dk_at dksX13_isKey_0 8 rfl rfl)
theorem dX13_isKey_9 : decode cX13_isKey 9 = .ok (.getfield 94, 3) := dk_180 0 94 (dk_at dksX13_isKey_0 9 rfl rfl)
theorem dX13_isKey_12 : decode cX13_isKey 12 = .ok (.lload_n 1, 1) := dk_31 (dk_at dksX13_isKey_0 12 rfl rfl)
theorem dX13_isKey_13 : decode cX13_isKey 13 = .ok (.lcmp, 1) := dk_148 (dk_at dksX13_isKey_0 13 rfl rfl)
theorem dX13_isKey_14 : decode cX13_isKey 14 = .ok (.ifCond .ne 7, 3) := dk_154 0 7 (dk_at dksX13_isKey_0 14 rfl rfl)
theorem dX13_isKey_17 : decode cX13_isKey 17 = .ok (.iconst 1, 1) := dk_4 (dk_at dksX13_isKey_0 17 rfl rfl)
theorem dX13_isKey_18 : decode cX13_isKey 18 = .ok (.goto 4, 3) := dk_167 0 4 (dk_at dksX13_isKey_0 18 rfl rfl)
theorem dX13_isKey_21 : decode cX13_isKey 21 = .ok (.iconst 0, 1) := dk_3 (dk_at dksX13_isKey_0 21 rfl rfl)
theorem dX13_isKey_22 : decode cX13_isKey 22 = .ok (.ireturn, 1) := dk_172 (dk_at dksX13_isKey_0 22 rfl rfl)
abbrev cX13_isOuter : ByteArray := prog_24_method_25_code
def yX13_isOuter : MethodName := ⟨RX13, "isOuter", "()Z"⟩
def dkwX13_isOuter_0 : List UInt8 := [42, 16, 111, 16, 117, 16, 116, 16, 101, 16, 114, 184, 0, 125, 182, 0, 135, 172]
abbrev dktX13_isOuter_0 : List UInt8 := dkwX13_isOuter_0 ++ []
theorem dksX13_isOuter_0 : cX13_isOuter.data.toList.drop 0 = dktX13_isOuter_0 := by decide +kernel
theorem dX13_isOuter_0 : decode cX13_isOuter 0 = .ok (.aload_n 0, 1) := dk_42 (dk_at dksX13_isOuter_0 0 rfl rfl)
theorem dX13_isOuter_1 : decode cX13_isOuter 1 = .ok (.bipush 111, 2) := dk_16 111 (dk_at dksX13_isOuter_0 1 rfl rfl)
theorem dX13_isOuter_3 : decode cX13_isOuter 3 = .ok (.bipush 117, 2) := dk_16 117 (dk_at dksX13_isOuter_0 3 rfl rfl)
theorem dX13_isOuter_5 : decode cX13_isOuter 5 = .ok (.bipush 116, 2) := dk_16 116 (dk_at dksX13_isOuter_0 5 rfl rfl)
theorem dX13_isOuter_7 : decode cX13_isOuter 7 = .ok (.bipush 101, 2) := dk_16 101 (dk_at dksX13_isOuter_0 7 rfl rfl)
theorem dX13_isOuter_9 : decode cX13_isOuter 9 = .ok (.bipush 114, 2) := dk_16 114 (dk_at dksX13_isOuter_0 9 rfl rfl)
theorem dX13_isOuter_11 : decode cX13_isOuter 11 = .ok (.invokestatic 125, 3) := dk_184 0 125 (dk_at dksX13_isOuter_0 11 rfl rfl)
theorem dX13_isOuter_14 : decode cX13_isOuter 14 = .ok (.invokevirtual 135, 3) := dk_182 0 135 (dk_at dksX13_isOuter_0 14 rfl rfl)
theorem dX13_isOuter_17 : decode cX13_isOuter 17 = .ok (.ireturn, 1) := dk_172 (dk_at dksX13_isOuter_0 17 rfl rfl)
abbrev cX13_isAfter : ByteArray := prog_24_method_26_code
def yX13_isAfter : MethodName := ⟨RX13, "isAfter", "()Z"⟩
def dkwX13_isAfter_0 : List UInt8 := [42, 16, 97, 16, 102, 16, 116, 16, 101, 16, 114, 184, 0, 125, 182, 0, 135, 172]
abbrev dktX13_isAfter_0 : List UInt8 := dkwX13_isAfter_0 ++ []
theorem dksX13_isAfter_0 : cX13_isAfter.data.toList.drop 0 = dktX13_isAfter_0 := by decide +kernel
theorem dX13_isAfter_0 : decode cX13_isAfter 0 = .ok (.aload_n 0, 1) := dk_42 (dk_at dksX13_isAfter_0 0 rfl rfl)
theorem dX13_isAfter_1 : decode cX13_isAfter 1 = .ok (.bipush 97, 2) := dk_16 97 (dk_at dksX13_isAfter_0 1 rfl rfl)
theorem dX13_isAfter_3 : decode cX13_isAfter 3 = .ok (.bipush 102, 2) := dk_16 102 (dk_at dksX13_isAfter_0 3 rfl rfl)
theorem dX13_isAfter_5 : decode cX13_isAfter 5 = .ok (.bipush 116, 2) := dk_16 116 (dk_at dksX13_isAfter_0 5 rfl rfl)
theorem dX13_isAfter_7 : decode cX13_isAfter 7 = .ok (.bipush 101, 2) := dk_16 101 (dk_at dksX13_isAfter_0 7 rfl rfl)
theorem dX13_isAfter_9 : decode cX13_isAfter 9 = .ok (.bipush 114, 2) := dk_16 114 (dk_at dksX13_isAfter_0 9 rfl rfl)
theorem dX13_isAfter_11 : decode cX13_isAfter 11 = .ok (.invokestatic 125, 3) := dk_184 0 125 (dk_at dksX13_isAfter_0 11 rfl rfl)
theorem dX13_isAfter_14 : decode cX13_isAfter 14 = .ok (.invokevirtual 135, 3) := dk_182 0 135 (dk_at dksX13_isAfter_0 14 rfl rfl)
theorem dX13_isAfter_17 : decode cX13_isAfter 17 = .ok (.ireturn, 1) := dk_172 (dk_at dksX13_isAfter_0 17 rfl rfl)
abbrev cX13_isShut : ByteArray := prog_24_method_27_code
def yX13_isShut : MethodName := ⟨RX13, "isShut", "()Z"⟩
def dkwX13_isShut_0 : List UInt8 := [42, 16, 115, 16, 104, 16, 117, 16, 116, 3, 184, 0, 125, 182, 0, 135, 172]
abbrev dktX13_isShut_0 : List UInt8 := dkwX13_isShut_0 ++ []
theorem dksX13_isShut_0 : cX13_isShut.data.toList.drop 0 = dktX13_isShut_0 := by decide +kernel
theorem dX13_isShut_0 : decode cX13_isShut 0 = .ok (.aload_n 0, 1) := dk_42 (dk_at dksX13_isShut_0 0 rfl rfl)
theorem dX13_isShut_1 : decode cX13_isShut 1 = .ok (.bipush 115, 2) := dk_16 115 (dk_at dksX13_isShut_0 1 rfl rfl)
theorem dX13_isShut_3 : decode cX13_isShut 3 = .ok (.bipush 104, 2) := dk_16 104 (dk_at dksX13_isShut_0 3 rfl rfl)
theorem dX13_isShut_5 : decode cX13_isShut 5 = .ok (.bipush 117, 2) := dk_16 117 (dk_at dksX13_isShut_0 5 rfl rfl)
theorem dX13_isShut_7 : decode cX13_isShut 7 = .ok (.bipush 116, 2) := dk_16 116 (dk_at dksX13_isShut_0 7 rfl rfl)
theorem dX13_isShut_9 : decode cX13_isShut 9 = .ok (.iconst 0, 1) := dk_3 (dk_at dksX13_isShut_0 9 rfl rfl)
theorem dX13_isShut_10 : decode cX13_isShut 10 = .ok (.invokestatic 125, 3) := dk_184 0 125 (dk_at dksX13_isShut_0 10 rfl rfl)
theorem dX13_isShut_13 : decode cX13_isShut 13 = .ok (.invokevirtual 135, 3) := dk_182 0 135 (dk_at dksX13_isShut_0 13 rfl rfl)
theorem dX13_isShut_16 : decode cX13_isShut 16 = .ok (.ireturn, 1) := dk_172 (dk_at dksX13_isShut_0 16 rfl rfl)
abbrev cX13_findRead : ByteArray := prog_24_method_33_code
def yX13_findRead : MethodName := ⟨RX13, "findRead", "()I"⟩
def dkwX13_findRead_3 : List UInt8 := [172, 132, 1, 1, 167, 255, 219, 2, 172]
abbrev dktX13_findRead_3 : List UInt8 := dkwX13_findRead_3 ++ []
def dkwX13_findRead_2 : List UInt8 := [162, 0, 31, 42, 180, 0, 26, 16, 16, 27, 96, 47, 42, 180, 0, 94, 148, 154, 0, 8, 16, 16, 27, 96]
abbrev dktX13_findRead_2 : List UInt8 := dkwX13_findRead_2 ++ dktX13_findRead_3
def dkwX13_findRead_1 : List UInt8 := [148, 154, 0, 5, 27, 172, 132, 1, 1, 167, 255, 225, 3, 60, 27, 42, 180, 0, 16, 17, 0, 129, 46]
abbrev dktX13_findRead_1 : List UInt8 := dkwX13_findRead_1 ++ dktX13_findRead_2
def dkwX13_findRead_0 : List UInt8 := [3, 60, 27, 42, 180, 0, 16, 17, 0, 128, 46, 162, 0, 25, 42, 180, 0, 26, 27, 47, 42, 180, 0, 94]
abbrev dktX13_findRead_0 : List UInt8 := dkwX13_findRead_0 ++ dktX13_findRead_1
theorem dksX13_findRead_0 : cX13_findRead.data.toList.drop 0 = dktX13_findRead_0 := by decide +kernel
theorem dksX13_findRead_1 : cX13_findRead.data.toList.drop 24 = dktX13_findRead_1 := dk_seg dksX13_findRead_0 24 rfl rfl
theorem dksX13_findRead_2 : cX13_findRead.data.toList.drop 47 = dktX13_findRead_2 := dk_seg dksX13_findRead_1 23 rfl rfl
theorem dksX13_findRead_3 : cX13_findRead.data.toList.drop 71 = dktX13_findRead_3 := dk_seg dksX13_findRead_2 24 rfl rfl
theorem dX13_findRead_0 : decode cX13_findRead 0 = .ok (.iconst 0, 1) := dk_3 (dk_at dksX13_findRead_0 0 rfl rfl)
theorem dX13_findRead_1 : decode cX13_findRead 1 = .ok (.istore_n 1, 1) := dk_60 (dk_at dksX13_findRead_0 1 rfl rfl)
theorem dX13_findRead_2 : decode cX13_findRead 2 = .ok (.iload_n 1, 1) := dk_27 (dk_at dksX13_findRead_0 2 rfl rfl)
theorem dX13_findRead_3 : decode cX13_findRead 3 = .ok (.aload_n 0, 1) := dk_42 (dk_at dksX13_findRead_0 3 rfl rfl)
theorem dX13_findRead_4 : decode cX13_findRead 4 = .ok (.getfield 16, 3) := dk_180 0 16 (dk_at dksX13_findRead_0 4 rfl rfl)
theorem dX13_findRead_7 : decode cX13_findRead 7 = .ok (.sipush 128, 3) := dk_17 0 128 (dk_at dksX13_findRead_0 7 rfl rfl)
theorem dX13_findRead_10 : decode cX13_findRead 10 = .ok (.iaload, 1) := dk_46 (dk_at dksX13_findRead_0 10 rfl rfl)
theorem dX13_findRead_11 : decode cX13_findRead 11 = .ok (.if_icmp .ge 25, 3) := dk_162 0 25 (dk_at dksX13_findRead_0 11 rfl rfl)
theorem dX13_findRead_14 : decode cX13_findRead 14 = .ok (.aload_n 0, 1) := dk_42 (dk_at dksX13_findRead_0 14 rfl rfl)
theorem dX13_findRead_15 : decode cX13_findRead 15 = .ok (.getfield 26, 3) := dk_180 0 26 (dk_at dksX13_findRead_0 15 rfl rfl)
theorem dX13_findRead_18 : decode cX13_findRead 18 = .ok (.iload_n 1, 1) := dk_27 (dk_at dksX13_findRead_0 18 rfl rfl)
theorem dX13_findRead_19 : decode cX13_findRead 19 = .ok (.laload, 1) := dk_47 (dk_at dksX13_findRead_0 19 rfl rfl)
theorem dX13_findRead_20 : decode cX13_findRead 20 = .ok (.aload_n 0, 1) := dk_42 (dk_at dksX13_findRead_0 20 rfl rfl)
theorem dX13_findRead_21 : decode cX13_findRead 21 = .ok (.getfield 94, 3) := dk_180 0 94 (dk_at dksX13_findRead_0 21 rfl rfl)
theorem dX13_findRead_24 : decode cX13_findRead 24 = .ok (.lcmp, 1) := dk_148 (dk_at dksX13_findRead_1 0 rfl rfl)
theorem dX13_findRead_25 : decode cX13_findRead 25 = .ok (.ifCond .ne 5, 3) := dk_154 0 5 (dk_at dksX13_findRead_1 1 rfl rfl)
theorem dX13_findRead_28 : decode cX13_findRead 28 = .ok (.iload_n 1, 1) := dk_27 (dk_at dksX13_findRead_1 4 rfl rfl)
theorem dX13_findRead_29 : decode cX13_findRead 29 = .ok (.ireturn, 1) := dk_172 (dk_at dksX13_findRead_1 5 rfl rfl)
theorem dX13_findRead_30 : decode cX13_findRead 30 = .ok (.iinc 1 1, 3) := dk_132 1 1 (dk_at dksX13_findRead_1 6 rfl rfl)
theorem dX13_findRead_33 : decode cX13_findRead 33 = .ok (.goto (-31), 3) := dk_167 255 225 (dk_at dksX13_findRead_1 9 rfl rfl)
theorem dX13_findRead_36 : decode cX13_findRead 36 = .ok (.iconst 0, 1) := dk_3 (dk_at dksX13_findRead_1 12 rfl rfl)
theorem dX13_findRead_37 : decode cX13_findRead 37 = .ok (.istore_n 1, 1) := dk_60 (dk_at dksX13_findRead_1 13 rfl rfl)
theorem dX13_findRead_38 : decode cX13_findRead 38 = .ok (.iload_n 1, 1) := dk_27 (dk_at dksX13_findRead_1 14 rfl rfl)
theorem dX13_findRead_39 : decode cX13_findRead 39 = .ok (.aload_n 0, 1) := dk_42 (dk_at dksX13_findRead_1 15 rfl rfl)
theorem dX13_findRead_40 : decode cX13_findRead 40 = .ok (.getfield 16, 3) := dk_180 0 16 (dk_at dksX13_findRead_1 16 rfl rfl)
theorem dX13_findRead_43 : decode cX13_findRead 43 = .ok (.sipush 129, 3) := dk_17 0 129 (dk_at dksX13_findRead_1 19 rfl rfl)
theorem dX13_findRead_46 : decode cX13_findRead 46 = .ok (.iaload, 1) := dk_46 (dk_at dksX13_findRead_1 22 rfl rfl)
theorem dX13_findRead_47 : decode cX13_findRead 47 = .ok (.if_icmp .ge 31, 3) := dk_162 0 31 (dk_at dksX13_findRead_2 0 rfl rfl)
theorem dX13_findRead_50 : decode cX13_findRead 50 = .ok (.aload_n 0, 1) := dk_42 (dk_at dksX13_findRead_2 3 rfl rfl)
theorem dX13_findRead_51 : decode cX13_findRead 51 = .ok (.getfield 26, 3) := dk_180 0 26 (dk_at dksX13_findRead_2 4 rfl rfl)
theorem dX13_findRead_54 : decode cX13_findRead 54 = .ok (.bipush 16, 2) := dk_16 16 (dk_at dksX13_findRead_2 7 rfl rfl)
theorem dX13_findRead_56 : decode cX13_findRead 56 = .ok (.iload_n 1, 1) := dk_27 (dk_at dksX13_findRead_2 9 rfl rfl)
theorem dX13_findRead_57 : decode cX13_findRead 57 = .ok (.iadd, 1) := dk_96 (dk_at dksX13_findRead_2 10 rfl rfl)
theorem dX13_findRead_58 : decode cX13_findRead 58 = .ok (.laload, 1) := dk_47 (dk_at dksX13_findRead_2 11 rfl rfl)
theorem dX13_findRead_59 : decode cX13_findRead 59 = .ok (.aload_n 0, 1) := dk_42 (dk_at dksX13_findRead_2 12 rfl rfl)
theorem dX13_findRead_60 : decode cX13_findRead 60 = .ok (.getfield 94, 3) := dk_180 0 94 (dk_at dksX13_findRead_2 13 rfl rfl)
theorem dX13_findRead_63 : decode cX13_findRead 63 = .ok (.lcmp, 1) := dk_148 (dk_at dksX13_findRead_2 16 rfl rfl)
theorem dX13_findRead_64 : decode cX13_findRead 64 = .ok (.ifCond .ne 8, 3) := dk_154 0 8 (dk_at dksX13_findRead_2 17 rfl rfl)
theorem dX13_findRead_67 : decode cX13_findRead 67 = .ok (.bipush 16, 2) := dk_16 16 (dk_at dksX13_findRead_2 20 rfl rfl)
theorem dX13_findRead_69 : decode cX13_findRead 69 = .ok (.iload_n 1, 1) := dk_27 (dk_at dksX13_findRead_2 22 rfl rfl)
theorem dX13_findRead_70 : decode cX13_findRead 70 = .ok (.iadd, 1) := dk_96 (dk_at dksX13_findRead_2 23 rfl rfl)
theorem dX13_findRead_71 : decode cX13_findRead 71 = .ok (.ireturn, 1) := dk_172 (dk_at dksX13_findRead_3 0 rfl rfl)
theorem dX13_findRead_72 : decode cX13_findRead 72 = .ok (.iinc 1 1, 3) := dk_132 1 1 (dk_at dksX13_findRead_3 1 rfl rfl)
theorem dX13_findRead_75 : decode cX13_findRead 75 = .ok (.goto (-37), 3) := dk_167 255 219 (dk_at dksX13_findRead_3 4 rfl rfl)
theorem dX13_findRead_78 : decode cX13_findRead 78 = .ok (.iconst (-1), 1) := dk_2 (dk_at dksX13_findRead_3 7 rfl rfl)
theorem dX13_findRead_79 : decode cX13_findRead 79 = .ok (.ireturn, 1) := dk_172 (dk_at dksX13_findRead_3 8 rfl rfl)
abbrev cX13_readSuits : ByteArray := prog_24_method_37_code
def yX13_readSuits : MethodName := ⟨RX13, "readSuits", "()Z"⟩
def dkwX13_readSuits_3 : List UInt8 := [92, 46, 4, 96, 79, 4, 172]
abbrev dktX13_readSuits_3 : List UInt8 := dkwX13_readSuits_3 ++ []
def dkwX13_readSuits_2 : List UInt8 := [180, 0, 16, 16, 16, 27, 96, 92, 46, 4, 42, 180, 0, 119, 120, 128, 79, 42, 180, 0, 16, 17, 0, 130]
abbrev dktX13_readSuits_2 : List UInt8 := dkwX13_readSuits_2 ++ dktX13_readSuits_3
def dkwX13_readSuits_1 : List UInt8 := [182, 0, 181, 154, 0, 5, 3, 172, 42, 180, 0, 119, 60, 42, 182, 0, 181, 154, 0, 5, 3, 172, 42]
abbrev dktX13_readSuits_1 : List UInt8 := dkwX13_readSuits_1 ++ dktX13_readSuits_2
def dkwX13_readSuits_0 : List UInt8 := [42, 180, 0, 16, 17, 0, 130, 46, 16, 24, 160, 0, 9, 42, 7, 182, 0, 112, 172, 42, 182, 0, 122, 42]
abbrev dktX13_readSuits_0 : List UInt8 := dkwX13_readSuits_0 ++ dktX13_readSuits_1
theorem dksX13_readSuits_0 : cX13_readSuits.data.toList.drop 0 = dktX13_readSuits_0 := by decide +kernel
theorem dksX13_readSuits_1 : cX13_readSuits.data.toList.drop 24 = dktX13_readSuits_1 := dk_seg dksX13_readSuits_0 24 rfl rfl
theorem dksX13_readSuits_2 : cX13_readSuits.data.toList.drop 47 = dktX13_readSuits_2 := dk_seg dksX13_readSuits_1 23 rfl rfl
theorem dksX13_readSuits_3 : cX13_readSuits.data.toList.drop 71 = dktX13_readSuits_3 := dk_seg dksX13_readSuits_2 24 rfl rfl
theorem dX13_readSuits_0 : decode cX13_readSuits 0 = .ok (.aload_n 0, 1) := dk_42 (dk_at dksX13_readSuits_0 0 rfl rfl)
theorem dX13_readSuits_1 : decode cX13_readSuits 1 = .ok (.getfield 16, 3) := dk_180 0 16 (dk_at dksX13_readSuits_0 1 rfl rfl)
theorem dX13_readSuits_4 : decode cX13_readSuits 4 = .ok (.sipush 130, 3) := dk_17 0 130 (dk_at dksX13_readSuits_0 4 rfl rfl)
theorem dX13_readSuits_7 : decode cX13_readSuits 7 = .ok (.iaload, 1) := dk_46 (dk_at dksX13_readSuits_0 7 rfl rfl)
theorem dX13_readSuits_8 : decode cX13_readSuits 8 = .ok (.bipush 24, 2) := dk_16 24 (dk_at dksX13_readSuits_0 8 rfl rfl)
theorem dX13_readSuits_10 : decode cX13_readSuits 10 = .ok (.if_icmp .ne 9, 3) := dk_160 0 9 (dk_at dksX13_readSuits_0 10 rfl rfl)
theorem dX13_readSuits_13 : decode cX13_readSuits 13 = .ok (.aload_n 0, 1) := dk_42 (dk_at dksX13_readSuits_0 13 rfl rfl)
theorem dX13_readSuits_14 : decode cX13_readSuits 14 = .ok (.iconst 4, 1) := dk_7 (dk_at dksX13_readSuits_0 14 rfl rfl)
theorem dX13_readSuits_15 : decode cX13_readSuits 15 = .ok (.invokevirtual 112, 3) := dk_182 0 112 (dk_at dksX13_readSuits_0 15 rfl rfl)
theorem dX13_readSuits_18 : decode cX13_readSuits 18 = .ok (.ireturn, 1) := dk_172 (dk_at dksX13_readSuits_0 18 rfl rfl)
theorem dX13_readSuits_19 : decode cX13_readSuits 19 = .ok (.aload_n 0, 1) := dk_42 (dk_at dksX13_readSuits_0 19 rfl rfl)
theorem dX13_readSuits_20 : decode cX13_readSuits 20 = .ok (.invokevirtual 122, 3) := dk_182 0 122 (dk_at dksX13_readSuits_0 20 rfl rfl)
theorem dX13_readSuits_23 : decode cX13_readSuits 23 = .ok (.aload_n 0, 1) := dk_42 (dk_at dksX13_readSuits_0 23 rfl rfl)
theorem dX13_readSuits_24 : decode cX13_readSuits 24 = .ok (.invokevirtual 181, 3) := dk_182 0 181 (dk_at dksX13_readSuits_1 0 rfl rfl)
theorem dX13_readSuits_27 : decode cX13_readSuits 27 = .ok (.ifCond .ne 5, 3) := dk_154 0 5 (dk_at dksX13_readSuits_1 3 rfl rfl)
theorem dX13_readSuits_30 : decode cX13_readSuits 30 = .ok (.iconst 0, 1) := dk_3 (dk_at dksX13_readSuits_1 6 rfl rfl)
theorem dX13_readSuits_31 : decode cX13_readSuits 31 = .ok (.ireturn, 1) := dk_172 (dk_at dksX13_readSuits_1 7 rfl rfl)
theorem dX13_readSuits_32 : decode cX13_readSuits 32 = .ok (.aload_n 0, 1) := dk_42 (dk_at dksX13_readSuits_1 8 rfl rfl)
theorem dX13_readSuits_33 : decode cX13_readSuits 33 = .ok (.getfield 119, 3) := dk_180 0 119 (dk_at dksX13_readSuits_1 9 rfl rfl)
theorem dX13_readSuits_36 : decode cX13_readSuits 36 = .ok (.istore_n 1, 1) := dk_60 (dk_at dksX13_readSuits_1 12 rfl rfl)
theorem dX13_readSuits_37 : decode cX13_readSuits 37 = .ok (.aload_n 0, 1) := dk_42 (dk_at dksX13_readSuits_1 13 rfl rfl)
theorem dX13_readSuits_38 : decode cX13_readSuits 38 = .ok (.invokevirtual 181, 3) := dk_182 0 181 (dk_at dksX13_readSuits_1 14 rfl rfl)
theorem dX13_readSuits_41 : decode cX13_readSuits 41 = .ok (.ifCond .ne 5, 3) := dk_154 0 5 (dk_at dksX13_readSuits_1 17 rfl rfl)
theorem dX13_readSuits_44 : decode cX13_readSuits 44 = .ok (.iconst 0, 1) := dk_3 (dk_at dksX13_readSuits_1 20 rfl rfl)
theorem dX13_readSuits_45 : decode cX13_readSuits 45 = .ok (.ireturn, 1) := dk_172 (dk_at dksX13_readSuits_1 21 rfl rfl)
theorem dX13_readSuits_46 : decode cX13_readSuits 46 = .ok (.aload_n 0, 1) := dk_42 (dk_at dksX13_readSuits_1 22 rfl rfl)
theorem dX13_readSuits_47 : decode cX13_readSuits 47 = .ok (.getfield 16, 3) := dk_180 0 16 (dk_at dksX13_readSuits_2 0 rfl rfl)
theorem dX13_readSuits_50 : decode cX13_readSuits 50 = .ok (.bipush 16, 2) := dk_16 16 (dk_at dksX13_readSuits_2 3 rfl rfl)
theorem dX13_readSuits_52 : decode cX13_readSuits 52 = .ok (.iload_n 1, 1) := dk_27 (dk_at dksX13_readSuits_2 5 rfl rfl)
theorem dX13_readSuits_53 : decode cX13_readSuits 53 = .ok (.iadd, 1) := dk_96 (dk_at dksX13_readSuits_2 6 rfl rfl)
theorem dX13_readSuits_54 : decode cX13_readSuits 54 = .ok (.dup2, 1) := dk_92 (dk_at dksX13_readSuits_2 7 rfl rfl)
theorem dX13_readSuits_55 : decode cX13_readSuits 55 = .ok (.iaload, 1) := dk_46 (dk_at dksX13_readSuits_2 8 rfl rfl)
theorem dX13_readSuits_56 : decode cX13_readSuits 56 = .ok (.iconst 1, 1) := dk_4 (dk_at dksX13_readSuits_2 9 rfl rfl)
theorem dX13_readSuits_57 : decode cX13_readSuits 57 = .ok (.aload_n 0, 1) := dk_42 (dk_at dksX13_readSuits_2 10 rfl rfl)
theorem dX13_readSuits_58 : decode cX13_readSuits 58 = .ok (.getfield 119, 3) := dk_180 0 119 (dk_at dksX13_readSuits_2 11 rfl rfl)
theorem dX13_readSuits_61 : decode cX13_readSuits 61 = .ok (.ishl, 1) := dk_120 (dk_at dksX13_readSuits_2 14 rfl rfl)
theorem dX13_readSuits_62 : decode cX13_readSuits 62 = .ok (.ior, 1) := dk_128 (dk_at dksX13_readSuits_2 15 rfl rfl)
theorem dX13_readSuits_63 : decode cX13_readSuits 63 = .ok (.iastore, 1) := dk_79 (dk_at dksX13_readSuits_2 16 rfl rfl)
theorem dX13_readSuits_64 : decode cX13_readSuits 64 = .ok (.aload_n 0, 1) := dk_42 (dk_at dksX13_readSuits_2 17 rfl rfl)
theorem dX13_readSuits_65 : decode cX13_readSuits 65 = .ok (.getfield 16, 3) := dk_180 0 16 (dk_at dksX13_readSuits_2 18 rfl rfl)
theorem dX13_readSuits_68 : decode cX13_readSuits 68 = .ok (.sipush 130, 3) := dk_17 0 130 (dk_at dksX13_readSuits_2 21 rfl rfl)
theorem dX13_readSuits_71 : decode cX13_readSuits 71 = .ok (.dup2, 1) := dk_92 (dk_at dksX13_readSuits_3 0 rfl rfl)
theorem dX13_readSuits_72 : decode cX13_readSuits 72 = .ok (.iaload, 1) := dk_46 (dk_at dksX13_readSuits_3 1 rfl rfl)
theorem dX13_readSuits_73 : decode cX13_readSuits 73 = .ok (.iconst 1, 1) := dk_4 (dk_at dksX13_readSuits_3 2 rfl rfl)
theorem dX13_readSuits_74 : decode cX13_readSuits 74 = .ok (.iadd, 1) := dk_96 (dk_at dksX13_readSuits_3 3 rfl rfl)
theorem dX13_readSuits_75 : decode cX13_readSuits 75 = .ok (.iastore, 1) := dk_79 (dk_at dksX13_readSuits_3 4 rfl rfl)
theorem dX13_readSuits_76 : decode cX13_readSuits 76 = .ok (.iconst 1, 1) := dk_4 (dk_at dksX13_readSuits_3 5 rfl rfl)
theorem dX13_readSuits_77 : decode cX13_readSuits 77 = .ok (.ireturn, 1) := dk_172 (dk_at dksX13_readSuits_3 6 rfl rfl)
abbrev cX13_readThing : ByteArray := prog_24_method_35_code
def yX13_readThing : MethodName := ⟨RX13, "readThing", "()Z"⟩
def dkwX13_readThing_2 : List UInt8 := [182, 0, 122, 4, 172]
abbrev dktX13_readThing_2 : List UInt8 := dkwX13_readThing_2 ++ []
def dkwX13_readThing_1 : List UInt8 := [180, 0, 119, 2, 159, 0, 12, 42, 180, 0, 119, 16, 16, 161, 0, 9, 42, 6, 182, 0, 112, 172, 42]
abbrev dktX13_readThing_1 : List UInt8 := dkwX13_readThing_1 ++ dktX13_readThing_2
def dkwX13_readThing_0 : List UInt8 := [42, 182, 0, 172, 154, 0, 9, 42, 4, 182, 0, 112, 172, 42, 42, 182, 0, 175, 181, 0, 119, 42]
abbrev dktX13_readThing_0 : List UInt8 := dkwX13_readThing_0 ++ dktX13_readThing_1
theorem dksX13_readThing_0 : cX13_readThing.data.toList.drop 0 = dktX13_readThing_0 := by decide +kernel
theorem dksX13_readThing_1 : cX13_readThing.data.toList.drop 22 = dktX13_readThing_1 := dk_seg dksX13_readThing_0 22 rfl rfl
theorem dksX13_readThing_2 : cX13_readThing.data.toList.drop 45 = dktX13_readThing_2 := dk_seg dksX13_readThing_1 23 rfl rfl
theorem dX13_readThing_0 : decode cX13_readThing 0 = .ok (.aload_n 0, 1) := dk_42 (dk_at dksX13_readThing_0 0 rfl rfl)
theorem dX13_readThing_1 : decode cX13_readThing 1 = .ok (.invokevirtual 172, 3) := dk_182 0 172 (dk_at dksX13_readThing_0 1 rfl rfl)
theorem dX13_readThing_4 : decode cX13_readThing 4 = .ok (.ifCond .ne 9, 3) := dk_154 0 9 (dk_at dksX13_readThing_0 4 rfl rfl)
theorem dX13_readThing_7 : decode cX13_readThing 7 = .ok (.aload_n 0, 1) := dk_42 (dk_at dksX13_readThing_0 7 rfl rfl)
theorem dX13_readThing_8 : decode cX13_readThing 8 = .ok (.iconst 1, 1) := dk_4 (dk_at dksX13_readThing_0 8 rfl rfl)
theorem dX13_readThing_9 : decode cX13_readThing 9 = .ok (.invokevirtual 112, 3) := dk_182 0 112 (dk_at dksX13_readThing_0 9 rfl rfl)
theorem dX13_readThing_12 : decode cX13_readThing 12 = .ok (.ireturn, 1) := dk_172 (dk_at dksX13_readThing_0 12 rfl rfl)
theorem dX13_readThing_13 : decode cX13_readThing 13 = .ok (.aload_n 0, 1) := dk_42 (dk_at dksX13_readThing_0 13 rfl rfl)
theorem dX13_readThing_14 : decode cX13_readThing 14 = .ok (.aload_n 0, 1) := dk_42 (dk_at dksX13_readThing_0 14 rfl rfl)
theorem dX13_readThing_15 : decode cX13_readThing 15 = .ok (.invokevirtual 175, 3) := dk_182 0 175 (dk_at dksX13_readThing_0 15 rfl rfl)
theorem dX13_readThing_18 : decode cX13_readThing 18 = .ok (.putfield 119, 3) := dk_181 0 119 (dk_at dksX13_readThing_0 18 rfl rfl)
theorem dX13_readThing_21 : decode cX13_readThing 21 = .ok (.aload_n 0, 1) := dk_42 (dk_at dksX13_readThing_0 21 rfl rfl)
theorem dX13_readThing_22 : decode cX13_readThing 22 = .ok (.getfield 119, 3) := dk_180 0 119 (dk_at dksX13_readThing_1 0 rfl rfl)
theorem dX13_readThing_25 : decode cX13_readThing 25 = .ok (.iconst (-1), 1) := dk_2 (dk_at dksX13_readThing_1 3 rfl rfl)
theorem dX13_readThing_26 : decode cX13_readThing 26 = .ok (.if_icmp .eq 12, 3) := dk_159 0 12 (dk_at dksX13_readThing_1 4 rfl rfl)
theorem dX13_readThing_29 : decode cX13_readThing 29 = .ok (.aload_n 0, 1) := dk_42 (dk_at dksX13_readThing_1 7 rfl rfl)
theorem dX13_readThing_30 : decode cX13_readThing 30 = .ok (.getfield 119, 3) := dk_180 0 119 (dk_at dksX13_readThing_1 8 rfl rfl)
theorem dX13_readThing_33 : decode cX13_readThing 33 = .ok (.bipush 16, 2) := dk_16 16 (dk_at dksX13_readThing_1 11 rfl rfl)
theorem dX13_readThing_35 : decode cX13_readThing 35 = .ok (.if_icmp .lt 9, 3) := dk_161 0 9 (dk_at dksX13_readThing_1 13 rfl rfl)
theorem dX13_readThing_38 : decode cX13_readThing 38 = .ok (.aload_n 0, 1) := dk_42 (dk_at dksX13_readThing_1 16 rfl rfl)
theorem dX13_readThing_39 : decode cX13_readThing 39 = .ok (.iconst 3, 1) := dk_6 (dk_at dksX13_readThing_1 17 rfl rfl)
theorem dX13_readThing_40 : decode cX13_readThing 40 = .ok (.invokevirtual 112, 3) := dk_182 0 112 (dk_at dksX13_readThing_1 18 rfl rfl)
theorem dX13_readThing_43 : decode cX13_readThing 43 = .ok (.ireturn, 1) := dk_172 (dk_at dksX13_readThing_1 21 rfl rfl)
theorem dX13_readThing_44 : decode cX13_readThing 44 = .ok (.aload_n 0, 1) := dk_42 (dk_at dksX13_readThing_1 22 rfl rfl)
theorem dX13_readThing_45 : decode cX13_readThing 45 = .ok (.invokevirtual 122, 3) := dk_182 0 122 (dk_at dksX13_readThing_2 0 rfl rfl)
theorem dX13_readThing_48 : decode cX13_readThing 48 = .ok (.iconst 1, 1) := dk_4 (dk_at dksX13_readThing_2 3 rfl rfl)
theorem dX13_readThing_49 : decode cX13_readThing 49 = .ok (.ireturn, 1) := dk_172 (dk_at dksX13_readThing_2 4 rfl rfl)
abbrev cX13_readSays : ByteArray := prog_24_method_38_code
def yX13_readSays : MethodName := ⟨RX13, "readSays", "()Z"⟩
def dkwX13_readSays_3 : List UInt8 := [42, 180, 0, 36, 27, 92, 46, 4, 28, 120, 128, 79, 42, 182, 0, 122, 167, 255, 207, 4, 172]
abbrev dktX13_readSays_3 : List UInt8 := dkwX13_readSays_3 ++ []
def dkwX13_readSays_2 : List UInt8 := [182, 0, 139, 61, 42, 180, 0, 36, 27, 46, 28, 122, 4, 126, 4, 160, 0, 9, 42, 6, 182, 0, 112, 172]
abbrev dktX13_readSays_2 : List UInt8 := dkwX13_readSays_2 ++ dktX13_readSays_3
def dkwX13_readSays_1 : List UInt8 := [42, 182, 0, 139, 2, 160, 0, 9, 42, 4, 182, 0, 112, 172, 42, 182, 0, 139, 2, 159, 0, 47, 42]
abbrev dktX13_readSays_1 : List UInt8 := dkwX13_readSays_1 ++ dktX13_readSays_2
def dkwX13_readSays_0 : List UInt8 := [42, 182, 0, 122, 42, 182, 0, 143, 60, 27, 2, 160, 0, 9, 42, 4, 182, 0, 112, 172, 42, 182, 0, 122]
abbrev dktX13_readSays_0 : List UInt8 := dkwX13_readSays_0 ++ dktX13_readSays_1
theorem dksX13_readSays_0 : cX13_readSays.data.toList.drop 0 = dktX13_readSays_0 := by decide +kernel
theorem dksX13_readSays_1 : cX13_readSays.data.toList.drop 24 = dktX13_readSays_1 := dk_seg dksX13_readSays_0 24 rfl rfl
theorem dksX13_readSays_2 : cX13_readSays.data.toList.drop 47 = dktX13_readSays_2 := dk_seg dksX13_readSays_1 23 rfl rfl
theorem dksX13_readSays_3 : cX13_readSays.data.toList.drop 71 = dktX13_readSays_3 := dk_seg dksX13_readSays_2 24 rfl rfl
theorem dX13_readSays_0 : decode cX13_readSays 0 = .ok (.aload_n 0, 1) := dk_42 (dk_at dksX13_readSays_0 0 rfl rfl)
theorem dX13_readSays_1 : decode cX13_readSays 1 = .ok (.invokevirtual 122, 3) := dk_182 0 122 (dk_at dksX13_readSays_0 1 rfl rfl)
theorem dX13_readSays_4 : decode cX13_readSays 4 = .ok (.aload_n 0, 1) := dk_42 (dk_at dksX13_readSays_0 4 rfl rfl)
theorem dX13_readSays_5 : decode cX13_readSays 5 = .ok (.invokevirtual 143, 3) := dk_182 0 143 (dk_at dksX13_readSays_0 5 rfl rfl)
theorem dX13_readSays_8 : decode cX13_readSays 8 = .ok (.istore_n 1, 1) := dk_60 (dk_at dksX13_readSays_0 8 rfl rfl)
theorem dX13_readSays_9 : decode cX13_readSays 9 = .ok (.iload_n 1, 1) := dk_27 (dk_at dksX13_readSays_0 9 rfl rfl)
theorem dX13_readSays_10 : decode cX13_readSays 10 = .ok (.iconst (-1), 1) := dk_2 (dk_at dksX13_readSays_0 10 rfl rfl)
theorem dX13_readSays_11 : decode cX13_readSays 11 = .ok (.if_icmp .ne 9, 3) := dk_160 0 9 (dk_at dksX13_readSays_0 11 rfl rfl)
theorem dX13_readSays_14 : decode cX13_readSays 14 = .ok (.aload_n 0, 1) := dk_42 (dk_at dksX13_readSays_0 14 rfl rfl)
theorem dX13_readSays_15 : decode cX13_readSays 15 = .ok (.iconst 1, 1) := dk_4 (dk_at dksX13_readSays_0 15 rfl rfl)
theorem dX13_readSays_16 : decode cX13_readSays 16 = .ok (.invokevirtual 112, 3) := dk_182 0 112 (dk_at dksX13_readSays_0 16 rfl rfl)
theorem dX13_readSays_19 : decode cX13_readSays 19 = .ok (.ireturn, 1) := dk_172 (dk_at dksX13_readSays_0 19 rfl rfl)
theorem dX13_readSays_20 : decode cX13_readSays 20 = .ok (.aload_n 0, 1) := dk_42 (dk_at dksX13_readSays_0 20 rfl rfl)
theorem dX13_readSays_21 : decode cX13_readSays 21 = .ok (.invokevirtual 122, 3) := dk_182 0 122 (dk_at dksX13_readSays_0 21 rfl rfl)
theorem dX13_readSays_24 : decode cX13_readSays 24 = .ok (.aload_n 0, 1) := dk_42 (dk_at dksX13_readSays_1 0 rfl rfl)
theorem dX13_readSays_25 : decode cX13_readSays 25 = .ok (.invokevirtual 139, 3) := dk_182 0 139 (dk_at dksX13_readSays_1 1 rfl rfl)
theorem dX13_readSays_28 : decode cX13_readSays 28 = .ok (.iconst (-1), 1) := dk_2 (dk_at dksX13_readSays_1 4 rfl rfl)
theorem dX13_readSays_29 : decode cX13_readSays 29 = .ok (.if_icmp .ne 9, 3) := dk_160 0 9 (dk_at dksX13_readSays_1 5 rfl rfl)
theorem dX13_readSays_32 : decode cX13_readSays 32 = .ok (.aload_n 0, 1) := dk_42 (dk_at dksX13_readSays_1 8 rfl rfl)
theorem dX13_readSays_33 : decode cX13_readSays 33 = .ok (.iconst 1, 1) := dk_4 (dk_at dksX13_readSays_1 9 rfl rfl)
theorem dX13_readSays_34 : decode cX13_readSays 34 = .ok (.invokevirtual 112, 3) := dk_182 0 112 (dk_at dksX13_readSays_1 10 rfl rfl)
theorem dX13_readSays_37 : decode cX13_readSays 37 = .ok (.ireturn, 1) := dk_172 (dk_at dksX13_readSays_1 13 rfl rfl)
theorem dX13_readSays_38 : decode cX13_readSays 38 = .ok (.aload_n 0, 1) := dk_42 (dk_at dksX13_readSays_1 14 rfl rfl)
theorem dX13_readSays_39 : decode cX13_readSays 39 = .ok (.invokevirtual 139, 3) := dk_182 0 139 (dk_at dksX13_readSays_1 15 rfl rfl)
theorem dX13_readSays_42 : decode cX13_readSays 42 = .ok (.iconst (-1), 1) := dk_2 (dk_at dksX13_readSays_1 18 rfl rfl)
theorem dX13_readSays_43 : decode cX13_readSays 43 = .ok (.if_icmp .eq 47, 3) := dk_159 0 47 (dk_at dksX13_readSays_1 19 rfl rfl)
theorem dX13_readSays_46 : decode cX13_readSays 46 = .ok (.aload_n 0, 1) := dk_42 (dk_at dksX13_readSays_1 22 rfl rfl)
theorem dX13_readSays_47 : decode cX13_readSays 47 = .ok (.invokevirtual 139, 3) := dk_182 0 139 (dk_at dksX13_readSays_2 0 rfl rfl)
theorem dX13_readSays_50 : decode cX13_readSays 50 = .ok (.istore_n 2, 1) := dk_61 (dk_at dksX13_readSays_2 3 rfl rfl)
theorem dX13_readSays_51 : decode cX13_readSays 51 = .ok (.aload_n 0, 1) := dk_42 (dk_at dksX13_readSays_2 4 rfl rfl)
theorem dX13_readSays_52 : decode cX13_readSays 52 = .ok (.getfield 36, 3) := dk_180 0 36 (dk_at dksX13_readSays_2 5 rfl rfl)
theorem dX13_readSays_55 : decode cX13_readSays 55 = .ok (.iload_n 1, 1) := dk_27 (dk_at dksX13_readSays_2 8 rfl rfl)
theorem dX13_readSays_56 : decode cX13_readSays 56 = .ok (.iaload, 1) := dk_46 (dk_at dksX13_readSays_2 9 rfl rfl)
theorem dX13_readSays_57 : decode cX13_readSays 57 = .ok (.iload_n 2, 1) := dk_28 (dk_at dksX13_readSays_2 10 rfl rfl)
theorem dX13_readSays_58 : decode cX13_readSays 58 = .ok (.ishr, 1) := dk_122 (dk_at dksX13_readSays_2 11 rfl rfl)
theorem dX13_readSays_59 : decode cX13_readSays 59 = .ok (.iconst 1, 1) := dk_4 (dk_at dksX13_readSays_2 12 rfl rfl)
theorem dX13_readSays_60 : decode cX13_readSays 60 = .ok (.iand, 1) := dk_126 (dk_at dksX13_readSays_2 13 rfl rfl)
theorem dX13_readSays_61 : decode cX13_readSays 61 = .ok (.iconst 1, 1) := dk_4 (dk_at dksX13_readSays_2 14 rfl rfl)
theorem dX13_readSays_62 : decode cX13_readSays 62 = .ok (.if_icmp .ne 9, 3) := dk_160 0 9 (dk_at dksX13_readSays_2 15 rfl rfl)
theorem dX13_readSays_65 : decode cX13_readSays 65 = .ok (.aload_n 0, 1) := dk_42 (dk_at dksX13_readSays_2 18 rfl rfl)
theorem dX13_readSays_66 : decode cX13_readSays 66 = .ok (.iconst 3, 1) := dk_6 (dk_at dksX13_readSays_2 19 rfl rfl)
theorem dX13_readSays_67 : decode cX13_readSays 67 = .ok (.invokevirtual 112, 3) := dk_182 0 112 (dk_at dksX13_readSays_2 20 rfl rfl)
theorem dX13_readSays_70 : decode cX13_readSays 70 = .ok (.ireturn, 1) := dk_172 (dk_at dksX13_readSays_2 23 rfl rfl)
theorem dX13_readSays_71 : decode cX13_readSays 71 = .ok (.aload_n 0, 1) := dk_42 (dk_at dksX13_readSays_3 0 rfl rfl)
theorem dX13_readSays_72 : decode cX13_readSays 72 = .ok (.getfield 36, 3) := dk_180 0 36 (dk_at dksX13_readSays_3 1 rfl rfl)
theorem dX13_readSays_75 : decode cX13_readSays 75 = .ok (.iload_n 1, 1) := dk_27 (dk_at dksX13_readSays_3 4 rfl rfl)
theorem dX13_readSays_76 : decode cX13_readSays 76 = .ok (.dup2, 1) := dk_92 (dk_at dksX13_readSays_3 5 rfl rfl)
theorem dX13_readSays_77 : decode cX13_readSays 77 = .ok (.iaload, 1) := dk_46 (dk_at dksX13_readSays_3 6 rfl rfl)
theorem dX13_readSays_78 : decode cX13_readSays 78 = .ok (.iconst 1, 1) := dk_4 (dk_at dksX13_readSays_3 7 rfl rfl)
theorem dX13_readSays_79 : decode cX13_readSays 79 = .ok (.iload_n 2, 1) := dk_28 (dk_at dksX13_readSays_3 8 rfl rfl)
theorem dX13_readSays_80 : decode cX13_readSays 80 = .ok (.ishl, 1) := dk_120 (dk_at dksX13_readSays_3 9 rfl rfl)
theorem dX13_readSays_81 : decode cX13_readSays 81 = .ok (.ior, 1) := dk_128 (dk_at dksX13_readSays_3 10 rfl rfl)
theorem dX13_readSays_82 : decode cX13_readSays 82 = .ok (.iastore, 1) := dk_79 (dk_at dksX13_readSays_3 11 rfl rfl)
theorem dX13_readSays_83 : decode cX13_readSays 83 = .ok (.aload_n 0, 1) := dk_42 (dk_at dksX13_readSays_3 12 rfl rfl)
theorem dX13_readSays_84 : decode cX13_readSays 84 = .ok (.invokevirtual 122, 3) := dk_182 0 122 (dk_at dksX13_readSays_3 13 rfl rfl)
theorem dX13_readSays_87 : decode cX13_readSays 87 = .ok (.goto (-49), 3) := dk_167 255 207 (dk_at dksX13_readSays_3 16 rfl rfl)
theorem dX13_readSays_90 : decode cX13_readSays 90 = .ok (.iconst 1, 1) := dk_4 (dk_at dksX13_readSays_3 19 rfl rfl)
theorem dX13_readSays_91 : decode cX13_readSays 91 = .ok (.ireturn, 1) := dk_172 (dk_at dksX13_readSays_3 20 rfl rfl)
abbrev cX13_readWay : ByteArray := prog_24_method_39_code
def yX13_readWay : MethodName := ⟨RX13, "readWay", "()Z"⟩
def dkwX13_readWay_14 : List UInt8 := [128, 79, 42, 182, 0, 122, 167, 255, 185, 42, 28, 182, 0, 188, 172]
abbrev dktX13_readWay_14 : List UInt8 := dkwX13_readWay_14 ++ []
def dkwX13_readWay_13 : List UInt8 := [126, 4, 160, 0, 9, 42, 6, 182, 0, 112, 172, 42, 180, 0, 16, 28, 8, 96, 92, 46, 4, 21, 4, 120]
abbrev dktX13_readWay_13 : List UInt8 := dkwX13_readWay_13 ++ dktX13_readWay_14
def dkwX13_readWay_12 : List UInt8 := [21, 4, 2, 160, 0, 9, 42, 4, 182, 0, 112, 172, 42, 180, 0, 16, 28, 8, 96, 46, 21, 4, 122, 4]
abbrev dktX13_readWay_12 : List UInt8 := dkwX13_readWay_12 ++ dktX13_readWay_13
def dkwX13_readWay_11 : List UInt8 := [7, 96, 42, 180, 0, 119, 79, 42, 182, 0, 165, 153, 0, 70, 42, 182, 0, 122, 42, 182, 0, 146, 54, 4]
abbrev dktX13_readWay_11 : List UInt8 := dkwX13_readWay_11 ++ dktX13_readWay_12
def dkwX13_readWay_10 : List UInt8 := [153, 0, 31, 42, 182, 0, 122, 42, 3, 16, 40, 182, 0, 184, 154, 0, 5, 3, 172, 42, 180, 0, 16, 28]
abbrev dktX13_readWay_10 : List UInt8 := dkwX13_readWay_10 ++ dktX13_readWay_11
def dkwX13_readWay_9 : List UInt8 := [42, 182, 0, 159, 153, 0, 16, 42, 180, 0, 16, 28, 6, 96, 4, 79, 42, 182, 0, 122, 42, 182, 0, 162]
abbrev dktX13_readWay_9 : List UInt8 := dkwX13_readWay_9 ++ dktX13_readWay_10
def dkwX13_readWay_8 : List UInt8 := [42, 3, 16, 20, 182, 0, 184, 154, 0, 5, 3, 172, 42, 180, 0, 16, 28, 5, 96, 42, 180, 0, 119, 79]
abbrev dktX13_readWay_8 : List UInt8 := dkwX13_readWay_8 ++ dktX13_readWay_9
def dkwX13_readWay_7 : List UInt8 := [42, 182, 0, 122, 167, 255, 200, 42, 182, 0, 155, 154, 0, 9, 42, 4, 182, 0, 112, 172, 42, 182, 0, 122]
abbrev dktX13_readWay_7 : List UInt8 := dkwX13_readWay_7 ++ dktX13_readWay_8
def dkwX13_readWay_6 : List UInt8 := [160, 0, 9, 42, 6, 182, 0, 112, 172, 42, 180, 0, 16, 28, 4, 96, 92, 46, 4, 21, 4, 120, 128, 79]
abbrev dktX13_readWay_6 : List UInt8 := dkwX13_readWay_6 ++ dktX13_readWay_7
def dkwX13_readWay_5 : List UInt8 := [159, 0, 54, 42, 182, 0, 139, 54, 4, 42, 180, 0, 16, 28, 4, 96, 46, 21, 4, 122, 4, 126, 4]
abbrev dktX13_readWay_5 : List UInt8 := dkwX13_readWay_5 ++ dktX13_readWay_6
def dkwX13_readWay_4 : List UInt8 := [42, 182, 0, 122, 42, 182, 0, 139, 2, 160, 0, 9, 42, 4, 182, 0, 112, 172, 42, 182, 0, 139, 2]
abbrev dktX13_readWay_4 : List UInt8 := dkwX13_readWay_4 ++ dktX13_readWay_5
def dkwX13_readWay_3 : List UInt8 := [182, 0, 143, 62, 29, 2, 160, 0, 9, 42, 4, 182, 0, 112, 172, 42, 180, 0, 16, 28, 3, 96, 29, 79]
abbrev dktX13_readWay_3 : List UInt8 := dkwX13_readWay_3 ++ dktX13_readWay_4
def dkwX13_readWay_2 : List UInt8 := [3, 62, 29, 16, 8, 162, 0, 18, 42, 180, 0, 16, 28, 29, 96, 3, 79, 132, 3, 1, 167, 255, 238, 42]
abbrev dktX13_readWay_2 : List UInt8 := dkwX13_readWay_2 ++ dktX13_readWay_3
def dkwX13_readWay_1 : List UInt8 := [182, 0, 122, 42, 16, 16, 27, 96, 182, 0, 178, 154, 0, 5, 3, 172, 16, 32, 16, 8, 27, 104, 96, 61]
abbrev dktX13_readWay_1 : List UInt8 := dkwX13_readWay_1 ++ dktX13_readWay_2
def dkwX13_readWay_0 : List UInt8 := [42, 180, 0, 16, 17, 0, 129, 46, 60, 27, 16, 12, 160, 0, 9, 42, 7, 182, 0, 112, 172, 42]
abbrev dktX13_readWay_0 : List UInt8 := dkwX13_readWay_0 ++ dktX13_readWay_1
theorem dksX13_readWay_0 : cX13_readWay.data.toList.drop 0 = dktX13_readWay_0 := by decide +kernel
theorem dksX13_readWay_1 : cX13_readWay.data.toList.drop 22 = dktX13_readWay_1 := dk_seg dksX13_readWay_0 22 rfl rfl
theorem dksX13_readWay_2 : cX13_readWay.data.toList.drop 46 = dktX13_readWay_2 := dk_seg dksX13_readWay_1 24 rfl rfl
theorem dksX13_readWay_3 : cX13_readWay.data.toList.drop 70 = dktX13_readWay_3 := dk_seg dksX13_readWay_2 24 rfl rfl
theorem dksX13_readWay_4 : cX13_readWay.data.toList.drop 94 = dktX13_readWay_4 := dk_seg dksX13_readWay_3 24 rfl rfl
theorem dksX13_readWay_5 : cX13_readWay.data.toList.drop 117 = dktX13_readWay_5 := dk_seg dksX13_readWay_4 23 rfl rfl
theorem dksX13_readWay_6 : cX13_readWay.data.toList.drop 140 = dktX13_readWay_6 := dk_seg dksX13_readWay_5 23 rfl rfl
theorem dksX13_readWay_7 : cX13_readWay.data.toList.drop 164 = dktX13_readWay_7 := dk_seg dksX13_readWay_6 24 rfl rfl
theorem dksX13_readWay_8 : cX13_readWay.data.toList.drop 188 = dktX13_readWay_8 := dk_seg dksX13_readWay_7 24 rfl rfl
theorem dksX13_readWay_9 : cX13_readWay.data.toList.drop 212 = dktX13_readWay_9 := dk_seg dksX13_readWay_8 24 rfl rfl
theorem dksX13_readWay_10 : cX13_readWay.data.toList.drop 236 = dktX13_readWay_10 := dk_seg dksX13_readWay_9 24 rfl rfl
theorem dksX13_readWay_11 : cX13_readWay.data.toList.drop 260 = dktX13_readWay_11 := dk_seg dksX13_readWay_10 24 rfl rfl
theorem dksX13_readWay_12 : cX13_readWay.data.toList.drop 284 = dktX13_readWay_12 := dk_seg dksX13_readWay_11 24 rfl rfl
theorem dksX13_readWay_13 : cX13_readWay.data.toList.drop 308 = dktX13_readWay_13 := dk_seg dksX13_readWay_12 24 rfl rfl
theorem dksX13_readWay_14 : cX13_readWay.data.toList.drop 332 = dktX13_readWay_14 := dk_seg dksX13_readWay_13 24 rfl rfl
theorem dX13_readWay_0 : decode cX13_readWay 0 = .ok (.aload_n 0, 1) := dk_42 (dk_at dksX13_readWay_0 0 rfl rfl)
theorem dX13_readWay_1 : decode cX13_readWay 1 = .ok (.getfield 16, 3) := dk_180 0 16 (dk_at dksX13_readWay_0 1 rfl rfl)
theorem dX13_readWay_4 : decode cX13_readWay 4 = .ok (.sipush 129, 3) := dk_17 0 129 (dk_at dksX13_readWay_0 4 rfl rfl)
theorem dX13_readWay_7 : decode cX13_readWay 7 = .ok (.iaload, 1) := dk_46 (dk_at dksX13_readWay_0 7 rfl rfl)
theorem dX13_readWay_8 : decode cX13_readWay 8 = .ok (.istore_n 1, 1) := dk_60 (dk_at dksX13_readWay_0 8 rfl rfl)
theorem dX13_readWay_9 : decode cX13_readWay 9 = .ok (.iload_n 1, 1) := dk_27 (dk_at dksX13_readWay_0 9 rfl rfl)
theorem dX13_readWay_10 : decode cX13_readWay 10 = .ok (.bipush 12, 2) := dk_16 12 (dk_at dksX13_readWay_0 10 rfl rfl)
theorem dX13_readWay_12 : decode cX13_readWay 12 = .ok (.if_icmp .ne 9, 3) := dk_160 0 9 (dk_at dksX13_readWay_0 12 rfl rfl)
theorem dX13_readWay_15 : decode cX13_readWay 15 = .ok (.aload_n 0, 1) := dk_42 (dk_at dksX13_readWay_0 15 rfl rfl)
theorem dX13_readWay_16 : decode cX13_readWay 16 = .ok (.iconst 4, 1) := dk_7 (dk_at dksX13_readWay_0 16 rfl rfl)
theorem dX13_readWay_17 : decode cX13_readWay 17 = .ok (.invokevirtual 112, 3) := dk_182 0 112 (dk_at dksX13_readWay_0 17 rfl rfl)
theorem dX13_readWay_20 : decode cX13_readWay 20 = .ok (.ireturn, 1) := dk_172 (dk_at dksX13_readWay_0 20 rfl rfl)
theorem dX13_readWay_21 : decode cX13_readWay 21 = .ok (.aload_n 0, 1) := dk_42 (dk_at dksX13_readWay_0 21 rfl rfl)
theorem dX13_readWay_22 : decode cX13_readWay 22 = .ok (.invokevirtual 122, 3) := dk_182 0 122 (dk_at dksX13_readWay_1 0 rfl rfl)
theorem dX13_readWay_25 : decode cX13_readWay 25 = .ok (.aload_n 0, 1) := dk_42 (dk_at dksX13_readWay_1 3 rfl rfl)
theorem dX13_readWay_26 : decode cX13_readWay 26 = .ok (.bipush 16, 2) := dk_16 16 (dk_at dksX13_readWay_1 4 rfl rfl)
theorem dX13_readWay_28 : decode cX13_readWay 28 = .ok (.iload_n 1, 1) := dk_27 (dk_at dksX13_readWay_1 6 rfl rfl)
theorem dX13_readWay_29 : decode cX13_readWay 29 = .ok (.iadd, 1) := dk_96 (dk_at dksX13_readWay_1 7 rfl rfl)
theorem dX13_readWay_30 : decode cX13_readWay 30 = .ok (.invokevirtual 178, 3) := dk_182 0 178 (dk_at dksX13_readWay_1 8 rfl rfl)
theorem dX13_readWay_33 : decode cX13_readWay 33 = .ok (.ifCond .ne 5, 3) := dk_154 0 5 (dk_at dksX13_readWay_1 11 rfl rfl)
theorem dX13_readWay_36 : decode cX13_readWay 36 = .ok (.iconst 0, 1) := dk_3 (dk_at dksX13_readWay_1 14 rfl rfl)
theorem dX13_readWay_37 : decode cX13_readWay 37 = .ok (.ireturn, 1) := dk_172 (dk_at dksX13_readWay_1 15 rfl rfl)
theorem dX13_readWay_38 : decode cX13_readWay 38 = .ok (.bipush 32, 2) := dk_16 32 (dk_at dksX13_readWay_1 16 rfl rfl)
theorem dX13_readWay_40 : decode cX13_readWay 40 = .ok (.bipush 8, 2) := dk_16 8 (dk_at dksX13_readWay_1 18 rfl rfl)
theorem dX13_readWay_42 : decode cX13_readWay 42 = .ok (.iload_n 1, 1) := dk_27 (dk_at dksX13_readWay_1 20 rfl rfl)
theorem dX13_readWay_43 : decode cX13_readWay 43 = .ok (.imul, 1) := dk_104 (dk_at dksX13_readWay_1 21 rfl rfl)
theorem dX13_readWay_44 : decode cX13_readWay 44 = .ok (.iadd, 1) := dk_96 (dk_at dksX13_readWay_1 22 rfl rfl)
theorem dX13_readWay_45 : decode cX13_readWay 45 = .ok (.istore_n 2, 1) := dk_61 (dk_at dksX13_readWay_1 23 rfl rfl)
theorem dX13_readWay_46 : decode cX13_readWay 46 = .ok (.iconst 0, 1) := dk_3 (dk_at dksX13_readWay_2 0 rfl rfl)
theorem dX13_readWay_47 : decode cX13_readWay 47 = .ok (.istore_n 3, 1) := dk_62 (dk_at dksX13_readWay_2 1 rfl rfl)
theorem dX13_readWay_48 : decode cX13_readWay 48 = .ok (.iload_n 3, 1) := dk_29 (dk_at dksX13_readWay_2 2 rfl rfl)
theorem dX13_readWay_49 : decode cX13_readWay 49 = .ok (.bipush 8, 2) := dk_16 8 (dk_at dksX13_readWay_2 3 rfl rfl)
theorem dX13_readWay_51 : decode cX13_readWay 51 = .ok (.if_icmp .ge 18, 3) := dk_162 0 18 (dk_at dksX13_readWay_2 5 rfl rfl)
theorem dX13_readWay_54 : decode cX13_readWay 54 = .ok (.aload_n 0, 1) := dk_42 (dk_at dksX13_readWay_2 8 rfl rfl)
theorem dX13_readWay_55 : decode cX13_readWay 55 = .ok (.getfield 16, 3) := dk_180 0 16 (dk_at dksX13_readWay_2 9 rfl rfl)
theorem dX13_readWay_58 : decode cX13_readWay 58 = .ok (.iload_n 2, 1) := dk_28 (dk_at dksX13_readWay_2 12 rfl rfl)
theorem dX13_readWay_59 : decode cX13_readWay 59 = .ok (.iload_n 3, 1) := dk_29 (dk_at dksX13_readWay_2 13 rfl rfl)
theorem dX13_readWay_60 : decode cX13_readWay 60 = .ok (.iadd, 1) := dk_96 (dk_at dksX13_readWay_2 14 rfl rfl)
theorem dX13_readWay_61 : decode cX13_readWay 61 = .ok (.iconst 0, 1) := dk_3 (dk_at dksX13_readWay_2 15 rfl rfl)
theorem dX13_readWay_62 : decode cX13_readWay 62 = .ok (.iastore, 1) := dk_79 (dk_at dksX13_readWay_2 16 rfl rfl)
theorem dX13_readWay_63 : decode cX13_readWay 63 = .ok (.iinc 3 1, 3) := dk_132 3 1 (dk_at dksX13_readWay_2 17 rfl rfl)
theorem dX13_readWay_66 : decode cX13_readWay 66 = .ok (.goto (-18), 3) := dk_167 255 238 (dk_at dksX13_readWay_2 20 rfl rfl)
theorem dX13_readWay_69 : decode cX13_readWay 69 = .ok (.aload_n 0, 1) := dk_42 (dk_at dksX13_readWay_2 23 rfl rfl)
theorem dX13_readWay_70 : decode cX13_readWay 70 = .ok (.invokevirtual 143, 3) := dk_182 0 143 (dk_at dksX13_readWay_3 0 rfl rfl)
theorem dX13_readWay_73 : decode cX13_readWay 73 = .ok (.istore_n 3, 1) := dk_62 (dk_at dksX13_readWay_3 3 rfl rfl)
theorem dX13_readWay_74 : decode cX13_readWay 74 = .ok (.iload_n 3, 1) := dk_29 (dk_at dksX13_readWay_3 4 rfl rfl)
theorem dX13_readWay_75 : decode cX13_readWay 75 = .ok (.iconst (-1), 1) := dk_2 (dk_at dksX13_readWay_3 5 rfl rfl)
theorem dX13_readWay_76 : decode cX13_readWay 76 = .ok (.if_icmp .ne 9, 3) := dk_160 0 9 (dk_at dksX13_readWay_3 6 rfl rfl)
theorem dX13_readWay_79 : decode cX13_readWay 79 = .ok (.aload_n 0, 1) := dk_42 (dk_at dksX13_readWay_3 9 rfl rfl)
theorem dX13_readWay_80 : decode cX13_readWay 80 = .ok (.iconst 1, 1) := dk_4 (dk_at dksX13_readWay_3 10 rfl rfl)
theorem dX13_readWay_81 : decode cX13_readWay 81 = .ok (.invokevirtual 112, 3) := dk_182 0 112 (dk_at dksX13_readWay_3 11 rfl rfl)
theorem dX13_readWay_84 : decode cX13_readWay 84 = .ok (.ireturn, 1) := dk_172 (dk_at dksX13_readWay_3 14 rfl rfl)
theorem dX13_readWay_85 : decode cX13_readWay 85 = .ok (.aload_n 0, 1) := dk_42 (dk_at dksX13_readWay_3 15 rfl rfl)
theorem dX13_readWay_86 : decode cX13_readWay 86 = .ok (.getfield 16, 3) := dk_180 0 16 (dk_at dksX13_readWay_3 16 rfl rfl)
theorem dX13_readWay_89 : decode cX13_readWay 89 = .ok (.iload_n 2, 1) := dk_28 (dk_at dksX13_readWay_3 19 rfl rfl)
theorem dX13_readWay_90 : decode cX13_readWay 90 = .ok (.iconst 0, 1) := dk_3 (dk_at dksX13_readWay_3 20 rfl rfl)
theorem dX13_readWay_91 : decode cX13_readWay 91 = .ok (.iadd, 1) := dk_96 (dk_at dksX13_readWay_3 21 rfl rfl)
theorem dX13_readWay_92 : decode cX13_readWay 92 = .ok (.iload_n 3, 1) := dk_29 (dk_at dksX13_readWay_3 22 rfl rfl)
theorem dX13_readWay_93 : decode cX13_readWay 93 = .ok (.iastore, 1) := dk_79 (dk_at dksX13_readWay_3 23 rfl rfl)
theorem dX13_readWay_94 : decode cX13_readWay 94 = .ok (.aload_n 0, 1) := dk_42 (dk_at dksX13_readWay_4 0 rfl rfl)
theorem dX13_readWay_95 : decode cX13_readWay 95 = .ok (.invokevirtual 122, 3) := dk_182 0 122 (dk_at dksX13_readWay_4 1 rfl rfl)
theorem dX13_readWay_98 : decode cX13_readWay 98 = .ok (.aload_n 0, 1) := dk_42 (dk_at dksX13_readWay_4 4 rfl rfl)
theorem dX13_readWay_99 : decode cX13_readWay 99 = .ok (.invokevirtual 139, 3) := dk_182 0 139 (dk_at dksX13_readWay_4 5 rfl rfl)
theorem dX13_readWay_102 : decode cX13_readWay 102 = .ok (.iconst (-1), 1) := dk_2 (dk_at dksX13_readWay_4 8 rfl rfl)
theorem dX13_readWay_103 : decode cX13_readWay 103 = .ok (.if_icmp .ne 9, 3) := dk_160 0 9 (dk_at dksX13_readWay_4 9 rfl rfl)
theorem dX13_readWay_106 : decode cX13_readWay 106 = .ok (.aload_n 0, 1) := dk_42 (dk_at dksX13_readWay_4 12 rfl rfl)
theorem dX13_readWay_107 : decode cX13_readWay 107 = .ok (.iconst 1, 1) := dk_4 (dk_at dksX13_readWay_4 13 rfl rfl)
theorem dX13_readWay_108 : decode cX13_readWay 108 = .ok (.invokevirtual 112, 3) := dk_182 0 112 (dk_at dksX13_readWay_4 14 rfl rfl)
theorem dX13_readWay_111 : decode cX13_readWay 111 = .ok (.ireturn, 1) := dk_172 (dk_at dksX13_readWay_4 17 rfl rfl)
theorem dX13_readWay_112 : decode cX13_readWay 112 = .ok (.aload_n 0, 1) := dk_42 (dk_at dksX13_readWay_4 18 rfl rfl)
theorem dX13_readWay_113 : decode cX13_readWay 113 = .ok (.invokevirtual 139, 3) := dk_182 0 139 (dk_at dksX13_readWay_4 19 rfl rfl)
theorem dX13_readWay_116 : decode cX13_readWay 116 = .ok (.iconst (-1), 1) := dk_2 (dk_at dksX13_readWay_4 22 rfl rfl)
theorem dX13_readWay_117 : decode cX13_readWay 117 = .ok (.if_icmp .eq 54, 3) := dk_159 0 54 (dk_at dksX13_readWay_5 0 rfl rfl)
theorem dX13_readWay_120 : decode cX13_readWay 120 = .ok (.aload_n 0, 1) := dk_42 (dk_at dksX13_readWay_5 3 rfl rfl)
theorem dX13_readWay_121 : decode cX13_readWay 121 = .ok (.invokevirtual 139, 3) := dk_182 0 139 (dk_at dksX13_readWay_5 4 rfl rfl)
theorem dX13_readWay_124 : decode cX13_readWay 124 = .ok (.istore 4, 2) := dk_54 4 (dk_at dksX13_readWay_5 7 rfl rfl)
theorem dX13_readWay_126 : decode cX13_readWay 126 = .ok (.aload_n 0, 1) := dk_42 (dk_at dksX13_readWay_5 9 rfl rfl)
theorem dX13_readWay_127 : decode cX13_readWay 127 = .ok (.getfield 16, 3) := dk_180 0 16 (dk_at dksX13_readWay_5 10 rfl rfl)
theorem dX13_readWay_130 : decode cX13_readWay 130 = .ok (.iload_n 2, 1) := dk_28 (dk_at dksX13_readWay_5 13 rfl rfl)
theorem dX13_readWay_131 : decode cX13_readWay 131 = .ok (.iconst 1, 1) := dk_4 (dk_at dksX13_readWay_5 14 rfl rfl)
theorem dX13_readWay_132 : decode cX13_readWay 132 = .ok (.iadd, 1) := dk_96 (dk_at dksX13_readWay_5 15 rfl rfl)
theorem dX13_readWay_133 : decode cX13_readWay 133 = .ok (.iaload, 1) := dk_46 (dk_at dksX13_readWay_5 16 rfl rfl)
theorem dX13_readWay_134 : decode cX13_readWay 134 = .ok (.iload 4, 2) := dk_21 4 (dk_at dksX13_readWay_5 17 rfl rfl)
theorem dX13_readWay_136 : decode cX13_readWay 136 = .ok (.ishr, 1) := dk_122 (dk_at dksX13_readWay_5 19 rfl rfl)
theorem dX13_readWay_137 : decode cX13_readWay 137 = .ok (.iconst 1, 1) := dk_4 (dk_at dksX13_readWay_5 20 rfl rfl)
theorem dX13_readWay_138 : decode cX13_readWay 138 = .ok (.iand, 1) := dk_126 (dk_at dksX13_readWay_5 21 rfl rfl)
theorem dX13_readWay_139 : decode cX13_readWay 139 = .ok (.iconst 1, 1) := dk_4 (dk_at dksX13_readWay_5 22 rfl rfl)
theorem dX13_readWay_140 : decode cX13_readWay 140 = .ok (.if_icmp .ne 9, 3) := dk_160 0 9 (dk_at dksX13_readWay_6 0 rfl rfl)
theorem dX13_readWay_143 : decode cX13_readWay 143 = .ok (.aload_n 0, 1) := dk_42 (dk_at dksX13_readWay_6 3 rfl rfl)
theorem dX13_readWay_144 : decode cX13_readWay 144 = .ok (.iconst 3, 1) := dk_6 (dk_at dksX13_readWay_6 4 rfl rfl)
theorem dX13_readWay_145 : decode cX13_readWay 145 = .ok (.invokevirtual 112, 3) := dk_182 0 112 (dk_at dksX13_readWay_6 5 rfl rfl)
theorem dX13_readWay_148 : decode cX13_readWay 148 = .ok (.ireturn, 1) := dk_172 (dk_at dksX13_readWay_6 8 rfl rfl)
theorem dX13_readWay_149 : decode cX13_readWay 149 = .ok (.aload_n 0, 1) := dk_42 (dk_at dksX13_readWay_6 9 rfl rfl)
theorem dX13_readWay_150 : decode cX13_readWay 150 = .ok (.getfield 16, 3) := dk_180 0 16 (dk_at dksX13_readWay_6 10 rfl rfl)
theorem dX13_readWay_153 : decode cX13_readWay 153 = .ok (.iload_n 2, 1) := dk_28 (dk_at dksX13_readWay_6 13 rfl rfl)
theorem dX13_readWay_154 : decode cX13_readWay 154 = .ok (.iconst 1, 1) := dk_4 (dk_at dksX13_readWay_6 14 rfl rfl)
theorem dX13_readWay_155 : decode cX13_readWay 155 = .ok (.iadd, 1) := dk_96 (dk_at dksX13_readWay_6 15 rfl rfl)
theorem dX13_readWay_156 : decode cX13_readWay 156 = .ok (.dup2, 1) := dk_92 (dk_at dksX13_readWay_6 16 rfl rfl)
theorem dX13_readWay_157 : decode cX13_readWay 157 = .ok (.iaload, 1) := dk_46 (dk_at dksX13_readWay_6 17 rfl rfl)
theorem dX13_readWay_158 : decode cX13_readWay 158 = .ok (.iconst 1, 1) := dk_4 (dk_at dksX13_readWay_6 18 rfl rfl)
theorem dX13_readWay_159 : decode cX13_readWay 159 = .ok (.iload 4, 2) := dk_21 4 (dk_at dksX13_readWay_6 19 rfl rfl)
theorem dX13_readWay_161 : decode cX13_readWay 161 = .ok (.ishl, 1) := dk_120 (dk_at dksX13_readWay_6 21 rfl rfl)
theorem dX13_readWay_162 : decode cX13_readWay 162 = .ok (.ior, 1) := dk_128 (dk_at dksX13_readWay_6 22 rfl rfl)
theorem dX13_readWay_163 : decode cX13_readWay 163 = .ok (.iastore, 1) := dk_79 (dk_at dksX13_readWay_6 23 rfl rfl)
theorem dX13_readWay_164 : decode cX13_readWay 164 = .ok (.aload_n 0, 1) := dk_42 (dk_at dksX13_readWay_7 0 rfl rfl)
theorem dX13_readWay_165 : decode cX13_readWay 165 = .ok (.invokevirtual 122, 3) := dk_182 0 122 (dk_at dksX13_readWay_7 1 rfl rfl)
theorem dX13_readWay_168 : decode cX13_readWay 168 = .ok (.goto (-56), 3) := dk_167 255 200 (dk_at dksX13_readWay_7 4 rfl rfl)
theorem dX13_readWay_171 : decode cX13_readWay 171 = .ok (.aload_n 0, 1) := dk_42 (dk_at dksX13_readWay_7 7 rfl rfl)
theorem dX13_readWay_172 : decode cX13_readWay 172 = .ok (.invokevirtual 155, 3) := dk_182 0 155 (dk_at dksX13_readWay_7 8 rfl rfl)
theorem dX13_readWay_175 : decode cX13_readWay 175 = .ok (.ifCond .ne 9, 3) := dk_154 0 9 (dk_at dksX13_readWay_7 11 rfl rfl)
theorem dX13_readWay_178 : decode cX13_readWay 178 = .ok (.aload_n 0, 1) := dk_42 (dk_at dksX13_readWay_7 14 rfl rfl)
theorem dX13_readWay_179 : decode cX13_readWay 179 = .ok (.iconst 1, 1) := dk_4 (dk_at dksX13_readWay_7 15 rfl rfl)
theorem dX13_readWay_180 : decode cX13_readWay 180 = .ok (.invokevirtual 112, 3) := dk_182 0 112 (dk_at dksX13_readWay_7 16 rfl rfl)
theorem dX13_readWay_183 : decode cX13_readWay 183 = .ok (.ireturn, 1) := dk_172 (dk_at dksX13_readWay_7 19 rfl rfl)
theorem dX13_readWay_184 : decode cX13_readWay 184 = .ok (.aload_n 0, 1) := dk_42 (dk_at dksX13_readWay_7 20 rfl rfl)
theorem dX13_readWay_185 : decode cX13_readWay 185 = .ok (.invokevirtual 122, 3) := dk_182 0 122 (dk_at dksX13_readWay_7 21 rfl rfl)
theorem dX13_readWay_188 : decode cX13_readWay 188 = .ok (.aload_n 0, 1) := dk_42 (dk_at dksX13_readWay_8 0 rfl rfl)
theorem dX13_readWay_189 : decode cX13_readWay 189 = .ok (.iconst 0, 1) := dk_3 (dk_at dksX13_readWay_8 1 rfl rfl)
theorem dX13_readWay_190 : decode cX13_readWay 190 = .ok (.bipush 20, 2) := dk_16 20 (dk_at dksX13_readWay_8 2 rfl rfl)
theorem dX13_readWay_192 : decode cX13_readWay 192 = .ok (.invokevirtual 184, 3) := dk_182 0 184 (dk_at dksX13_readWay_8 4 rfl rfl)
theorem dX13_readWay_195 : decode cX13_readWay 195 = .ok (.ifCond .ne 5, 3) := dk_154 0 5 (dk_at dksX13_readWay_8 7 rfl rfl)
theorem dX13_readWay_198 : decode cX13_readWay 198 = .ok (.iconst 0, 1) := dk_3 (dk_at dksX13_readWay_8 10 rfl rfl)
theorem dX13_readWay_199 : decode cX13_readWay 199 = .ok (.ireturn, 1) := dk_172 (dk_at dksX13_readWay_8 11 rfl rfl)
theorem dX13_readWay_200 : decode cX13_readWay 200 = .ok (.aload_n 0, 1) := dk_42 (dk_at dksX13_readWay_8 12 rfl rfl)
theorem dX13_readWay_201 : decode cX13_readWay 201 = .ok (.getfield 16, 3) := dk_180 0 16 (dk_at dksX13_readWay_8 13 rfl rfl)
theorem dX13_readWay_204 : decode cX13_readWay 204 = .ok (.iload_n 2, 1) := dk_28 (dk_at dksX13_readWay_8 16 rfl rfl)
theorem dX13_readWay_205 : decode cX13_readWay 205 = .ok (.iconst 2, 1) := dk_5 (dk_at dksX13_readWay_8 17 rfl rfl)
theorem dX13_readWay_206 : decode cX13_readWay 206 = .ok (.iadd, 1) := dk_96 (dk_at dksX13_readWay_8 18 rfl rfl)
theorem dX13_readWay_207 : decode cX13_readWay 207 = .ok (.aload_n 0, 1) := dk_42 (dk_at dksX13_readWay_8 19 rfl rfl)
theorem dX13_readWay_208 : decode cX13_readWay 208 = .ok (.getfield 119, 3) := dk_180 0 119 (dk_at dksX13_readWay_8 20 rfl rfl)
theorem dX13_readWay_211 : decode cX13_readWay 211 = .ok (.iastore, 1) := dk_79 (dk_at dksX13_readWay_8 23 rfl rfl)
theorem dX13_readWay_212 : decode cX13_readWay 212 = .ok (.aload_n 0, 1) := dk_42 (dk_at dksX13_readWay_9 0 rfl rfl)
theorem dX13_readWay_213 : decode cX13_readWay 213 = .ok (.invokevirtual 159, 3) := dk_182 0 159 (dk_at dksX13_readWay_9 1 rfl rfl)
theorem dX13_readWay_216 : decode cX13_readWay 216 = .ok (.ifCond .eq 16, 3) := dk_153 0 16 (dk_at dksX13_readWay_9 4 rfl rfl)
theorem dX13_readWay_219 : decode cX13_readWay 219 = .ok (.aload_n 0, 1) := dk_42 (dk_at dksX13_readWay_9 7 rfl rfl)
theorem dX13_readWay_220 : decode cX13_readWay 220 = .ok (.getfield 16, 3) := dk_180 0 16 (dk_at dksX13_readWay_9 8 rfl rfl)
theorem dX13_readWay_223 : decode cX13_readWay 223 = .ok (.iload_n 2, 1) := dk_28 (dk_at dksX13_readWay_9 11 rfl rfl)
theorem dX13_readWay_224 : decode cX13_readWay 224 = .ok (.iconst 3, 1) := dk_6 (dk_at dksX13_readWay_9 12 rfl rfl)
theorem dX13_readWay_225 : decode cX13_readWay 225 = .ok (.iadd, 1) := dk_96 (dk_at dksX13_readWay_9 13 rfl rfl)
theorem dX13_readWay_226 : decode cX13_readWay 226 = .ok (.iconst 1, 1) := dk_4 (dk_at dksX13_readWay_9 14 rfl rfl)
theorem dX13_readWay_227 : decode cX13_readWay 227 = .ok (.iastore, 1) := dk_79 (dk_at dksX13_readWay_9 15 rfl rfl)
theorem dX13_readWay_228 : decode cX13_readWay 228 = .ok (.aload_n 0, 1) := dk_42 (dk_at dksX13_readWay_9 16 rfl rfl)
theorem dX13_readWay_229 : decode cX13_readWay 229 = .ok (.invokevirtual 122, 3) := dk_182 0 122 (dk_at dksX13_readWay_9 17 rfl rfl)
theorem dX13_readWay_232 : decode cX13_readWay 232 = .ok (.aload_n 0, 1) := dk_42 (dk_at dksX13_readWay_9 20 rfl rfl)
theorem dX13_readWay_233 : decode cX13_readWay 233 = .ok (.invokevirtual 162, 3) := dk_182 0 162 (dk_at dksX13_readWay_9 21 rfl rfl)
theorem dX13_readWay_236 : decode cX13_readWay 236 = .ok (.ifCond .eq 31, 3) := dk_153 0 31 (dk_at dksX13_readWay_10 0 rfl rfl)
theorem dX13_readWay_239 : decode cX13_readWay 239 = .ok (.aload_n 0, 1) := dk_42 (dk_at dksX13_readWay_10 3 rfl rfl)
theorem dX13_readWay_240 : decode cX13_readWay 240 = .ok (.invokevirtual 122, 3) := dk_182 0 122 (dk_at dksX13_readWay_10 4 rfl rfl)
theorem dX13_readWay_243 : decode cX13_readWay 243 = .ok (.aload_n 0, 1) := dk_42 (dk_at dksX13_readWay_10 7 rfl rfl)
theorem dX13_readWay_244 : decode cX13_readWay 244 = .ok (.iconst 0, 1) := dk_3 (dk_at dksX13_readWay_10 8 rfl rfl)
theorem dX13_readWay_245 : decode cX13_readWay 245 = .ok (.bipush 40, 2) := dk_16 40 (dk_at dksX13_readWay_10 9 rfl rfl)
theorem dX13_readWay_247 : decode cX13_readWay 247 = .ok (.invokevirtual 184, 3) := dk_182 0 184 (dk_at dksX13_readWay_10 11 rfl rfl)
theorem dX13_readWay_250 : decode cX13_readWay 250 = .ok (.ifCond .ne 5, 3) := dk_154 0 5 (dk_at dksX13_readWay_10 14 rfl rfl)
theorem dX13_readWay_253 : decode cX13_readWay 253 = .ok (.iconst 0, 1) := dk_3 (dk_at dksX13_readWay_10 17 rfl rfl)
theorem dX13_readWay_254 : decode cX13_readWay 254 = .ok (.ireturn, 1) := dk_172 (dk_at dksX13_readWay_10 18 rfl rfl)
theorem dX13_readWay_255 : decode cX13_readWay 255 = .ok (.aload_n 0, 1) := dk_42 (dk_at dksX13_readWay_10 19 rfl rfl)
theorem dX13_readWay_256 : decode cX13_readWay 256 = .ok (.getfield 16, 3) := dk_180 0 16 (dk_at dksX13_readWay_10 20 rfl rfl)
theorem dX13_readWay_259 : decode cX13_readWay 259 = .ok (.iload_n 2, 1) := dk_28 (dk_at dksX13_readWay_10 23 rfl rfl)
theorem dX13_readWay_260 : decode cX13_readWay 260 = .ok (.iconst 4, 1) := dk_7 (dk_at dksX13_readWay_11 0 rfl rfl)
theorem dX13_readWay_261 : decode cX13_readWay 261 = .ok (.iadd, 1) := dk_96 (dk_at dksX13_readWay_11 1 rfl rfl)
theorem dX13_readWay_262 : decode cX13_readWay 262 = .ok (.aload_n 0, 1) := dk_42 (dk_at dksX13_readWay_11 2 rfl rfl)
theorem dX13_readWay_263 : decode cX13_readWay 263 = .ok (.getfield 119, 3) := dk_180 0 119 (dk_at dksX13_readWay_11 3 rfl rfl)
theorem dX13_readWay_266 : decode cX13_readWay 266 = .ok (.iastore, 1) := dk_79 (dk_at dksX13_readWay_11 6 rfl rfl)
theorem dX13_readWay_267 : decode cX13_readWay 267 = .ok (.aload_n 0, 1) := dk_42 (dk_at dksX13_readWay_11 7 rfl rfl)
theorem dX13_readWay_268 : decode cX13_readWay 268 = .ok (.invokevirtual 165, 3) := dk_182 0 165 (dk_at dksX13_readWay_11 8 rfl rfl)
theorem dX13_readWay_271 : decode cX13_readWay 271 = .ok (.ifCond .eq 70, 3) := dk_153 0 70 (dk_at dksX13_readWay_11 11 rfl rfl)
theorem dX13_readWay_274 : decode cX13_readWay 274 = .ok (.aload_n 0, 1) := dk_42 (dk_at dksX13_readWay_11 14 rfl rfl)
theorem dX13_readWay_275 : decode cX13_readWay 275 = .ok (.invokevirtual 122, 3) := dk_182 0 122 (dk_at dksX13_readWay_11 15 rfl rfl)
theorem dX13_readWay_278 : decode cX13_readWay 278 = .ok (.aload_n 0, 1) := dk_42 (dk_at dksX13_readWay_11 18 rfl rfl)
theorem dX13_readWay_279 : decode cX13_readWay 279 = .ok (.invokevirtual 146, 3) := dk_182 0 146 (dk_at dksX13_readWay_11 19 rfl rfl)
theorem dX13_readWay_282 : decode cX13_readWay 282 = .ok (.istore 4, 2) := dk_54 4 (dk_at dksX13_readWay_11 22 rfl rfl)
theorem dX13_readWay_284 : decode cX13_readWay 284 = .ok (.iload 4, 2) := dk_21 4 (dk_at dksX13_readWay_12 0 rfl rfl)
theorem dX13_readWay_286 : decode cX13_readWay 286 = .ok (.iconst (-1), 1) := dk_2 (dk_at dksX13_readWay_12 2 rfl rfl)
theorem dX13_readWay_287 : decode cX13_readWay 287 = .ok (.if_icmp .ne 9, 3) := dk_160 0 9 (dk_at dksX13_readWay_12 3 rfl rfl)
theorem dX13_readWay_290 : decode cX13_readWay 290 = .ok (.aload_n 0, 1) := dk_42 (dk_at dksX13_readWay_12 6 rfl rfl)
theorem dX13_readWay_291 : decode cX13_readWay 291 = .ok (.iconst 1, 1) := dk_4 (dk_at dksX13_readWay_12 7 rfl rfl)
theorem dX13_readWay_292 : decode cX13_readWay 292 = .ok (.invokevirtual 112, 3) := dk_182 0 112 (dk_at dksX13_readWay_12 8 rfl rfl)
theorem dX13_readWay_295 : decode cX13_readWay 295 = .ok (.ireturn, 1) := dk_172 (dk_at dksX13_readWay_12 11 rfl rfl)
theorem dX13_readWay_296 : decode cX13_readWay 296 = .ok (.aload_n 0, 1) := dk_42 (dk_at dksX13_readWay_12 12 rfl rfl)
theorem dX13_readWay_297 : decode cX13_readWay 297 = .ok (.getfield 16, 3) := dk_180 0 16 (dk_at dksX13_readWay_12 13 rfl rfl)
theorem dX13_readWay_300 : decode cX13_readWay 300 = .ok (.iload_n 2, 1) := dk_28 (dk_at dksX13_readWay_12 16 rfl rfl)
theorem dX13_readWay_301 : decode cX13_readWay 301 = .ok (.iconst 5, 1) := dk_8 (dk_at dksX13_readWay_12 17 rfl rfl)
theorem dX13_readWay_302 : decode cX13_readWay 302 = .ok (.iadd, 1) := dk_96 (dk_at dksX13_readWay_12 18 rfl rfl)
theorem dX13_readWay_303 : decode cX13_readWay 303 = .ok (.iaload, 1) := dk_46 (dk_at dksX13_readWay_12 19 rfl rfl)
theorem dX13_readWay_304 : decode cX13_readWay 304 = .ok (.iload 4, 2) := dk_21 4 (dk_at dksX13_readWay_12 20 rfl rfl)
theorem dX13_readWay_306 : decode cX13_readWay 306 = .ok (.ishr, 1) := dk_122 (dk_at dksX13_readWay_12 22 rfl rfl)
theorem dX13_readWay_307 : decode cX13_readWay 307 = .ok (.iconst 1, 1) := dk_4 (dk_at dksX13_readWay_12 23 rfl rfl)
theorem dX13_readWay_308 : decode cX13_readWay 308 = .ok (.iand, 1) := dk_126 (dk_at dksX13_readWay_13 0 rfl rfl)
theorem dX13_readWay_309 : decode cX13_readWay 309 = .ok (.iconst 1, 1) := dk_4 (dk_at dksX13_readWay_13 1 rfl rfl)
theorem dX13_readWay_310 : decode cX13_readWay 310 = .ok (.if_icmp .ne 9, 3) := dk_160 0 9 (dk_at dksX13_readWay_13 2 rfl rfl)
theorem dX13_readWay_313 : decode cX13_readWay 313 = .ok (.aload_n 0, 1) := dk_42 (dk_at dksX13_readWay_13 5 rfl rfl)
theorem dX13_readWay_314 : decode cX13_readWay 314 = .ok (.iconst 3, 1) := dk_6 (dk_at dksX13_readWay_13 6 rfl rfl)
theorem dX13_readWay_315 : decode cX13_readWay 315 = .ok (.invokevirtual 112, 3) := dk_182 0 112 (dk_at dksX13_readWay_13 7 rfl rfl)
theorem dX13_readWay_318 : decode cX13_readWay 318 = .ok (.ireturn, 1) := dk_172 (dk_at dksX13_readWay_13 10 rfl rfl)
theorem dX13_readWay_319 : decode cX13_readWay 319 = .ok (.aload_n 0, 1) := dk_42 (dk_at dksX13_readWay_13 11 rfl rfl)
theorem dX13_readWay_320 : decode cX13_readWay 320 = .ok (.getfield 16, 3) := dk_180 0 16 (dk_at dksX13_readWay_13 12 rfl rfl)
theorem dX13_readWay_323 : decode cX13_readWay 323 = .ok (.iload_n 2, 1) := dk_28 (dk_at dksX13_readWay_13 15 rfl rfl)
theorem dX13_readWay_324 : decode cX13_readWay 324 = .ok (.iconst 5, 1) := dk_8 (dk_at dksX13_readWay_13 16 rfl rfl)
theorem dX13_readWay_325 : decode cX13_readWay 325 = .ok (.iadd, 1) := dk_96 (dk_at dksX13_readWay_13 17 rfl rfl)
theorem dX13_readWay_326 : decode cX13_readWay 326 = .ok (.dup2, 1) := dk_92 (dk_at dksX13_readWay_13 18 rfl rfl)
theorem dX13_readWay_327 : decode cX13_readWay 327 = .ok (.iaload, 1) := dk_46 (dk_at dksX13_readWay_13 19 rfl rfl)
theorem dX13_readWay_328 : decode cX13_readWay 328 = .ok (.iconst 1, 1) := dk_4 (dk_at dksX13_readWay_13 20 rfl rfl)
theorem dX13_readWay_329 : decode cX13_readWay 329 = .ok (.iload 4, 2) := dk_21 4 (dk_at dksX13_readWay_13 21 rfl rfl)
theorem dX13_readWay_331 : decode cX13_readWay 331 = .ok (.ishl, 1) := dk_120 (dk_at dksX13_readWay_13 23 rfl rfl)
theorem dX13_readWay_332 : decode cX13_readWay 332 = .ok (.ior, 1) := dk_128 (dk_at dksX13_readWay_14 0 rfl rfl)
theorem dX13_readWay_333 : decode cX13_readWay 333 = .ok (.iastore, 1) := dk_79 (dk_at dksX13_readWay_14 1 rfl rfl)
theorem dX13_readWay_334 : decode cX13_readWay 334 = .ok (.aload_n 0, 1) := dk_42 (dk_at dksX13_readWay_14 2 rfl rfl)
theorem dX13_readWay_335 : decode cX13_readWay 335 = .ok (.invokevirtual 122, 3) := dk_182 0 122 (dk_at dksX13_readWay_14 3 rfl rfl)
theorem dX13_readWay_338 : decode cX13_readWay 338 = .ok (.goto (-71), 3) := dk_167 255 185 (dk_at dksX13_readWay_14 6 rfl rfl)
theorem dX13_readWay_341 : decode cX13_readWay 341 = .ok (.aload_n 0, 1) := dk_42 (dk_at dksX13_readWay_14 9 rfl rfl)
theorem dX13_readWay_342 : decode cX13_readWay 342 = .ok (.iload_n 2, 1) := dk_28 (dk_at dksX13_readWay_14 10 rfl rfl)
theorem dX13_readWay_343 : decode cX13_readWay 343 = .ok (.invokevirtual 188, 3) := dk_182 0 188 (dk_at dksX13_readWay_14 11 rfl rfl)
theorem dX13_readWay_346 : decode cX13_readWay 346 = .ok (.ireturn, 1) := dk_172 (dk_at dksX13_readWay_14 14 rfl rfl)
abbrev cX13_readNumber : ByteArray := prog_24_method_17_code
def yX13_readNumber : MethodName := ⟨RX13, "readNumber", "(II)Z"⟩
def dkwX13_readNumber_1 : List UInt8 := [154, 0, 9, 42, 5, 182, 0, 112, 172, 42, 42, 180, 0, 98, 181, 0, 119, 42, 182, 0, 122, 4, 172]
abbrev dktX13_readNumber_1 : List UInt8 := dkwX13_readNumber_1 ++ []
def dkwX13_readNumber_0 : List UInt8 := [42, 180, 0, 81, 6, 159, 0, 9, 42, 4, 182, 0, 112, 172, 42, 180, 0, 98, 27, 28, 184, 0, 115]
abbrev dktX13_readNumber_0 : List UInt8 := dkwX13_readNumber_0 ++ dktX13_readNumber_1
theorem dksX13_readNumber_0 : cX13_readNumber.data.toList.drop 0 = dktX13_readNumber_0 := by decide +kernel
theorem dksX13_readNumber_1 : cX13_readNumber.data.toList.drop 23 = dktX13_readNumber_1 := dk_seg dksX13_readNumber_0 23 rfl rfl
theorem dX13_readNumber_0 : decode cX13_readNumber 0 = .ok (.aload_n 0, 1) := dk_42 (dk_at dksX13_readNumber_0 0 rfl rfl)
theorem dX13_readNumber_1 : decode cX13_readNumber 1 = .ok (.getfield 81, 3) := dk_180 0 81 (dk_at dksX13_readNumber_0 1 rfl rfl)
theorem dX13_readNumber_4 : decode cX13_readNumber 4 = .ok (.iconst 3, 1) := dk_6 (dk_at dksX13_readNumber_0 4 rfl rfl)
theorem dX13_readNumber_5 : decode cX13_readNumber 5 = .ok (.if_icmp .eq 9, 3) := dk_159 0 9 (dk_at dksX13_readNumber_0 5 rfl rfl)
theorem dX13_readNumber_8 : decode cX13_readNumber 8 = .ok (.aload_n 0, 1) := dk_42 (dk_at dksX13_readNumber_0 8 rfl rfl)
theorem dX13_readNumber_9 : decode cX13_readNumber 9 = .ok (.iconst 1, 1) := dk_4 (dk_at dksX13_readNumber_0 9 rfl rfl)
theorem dX13_readNumber_10 : decode cX13_readNumber 10 = .ok (.invokevirtual 112, 3) := dk_182 0 112 (dk_at dksX13_readNumber_0 10 rfl rfl)
theorem dX13_readNumber_13 : decode cX13_readNumber 13 = .ok (.ireturn, 1) := dk_172 (dk_at dksX13_readNumber_0 13 rfl rfl)
theorem dX13_readNumber_14 : decode cX13_readNumber 14 = .ok (.aload_n 0, 1) := dk_42 (dk_at dksX13_readNumber_0 14 rfl rfl)
theorem dX13_readNumber_15 : decode cX13_readNumber 15 = .ok (.getfield 98, 3) := dk_180 0 98 (dk_at dksX13_readNumber_0 15 rfl rfl)
theorem dX13_readNumber_18 : decode cX13_readNumber 18 = .ok (.iload_n 1, 1) := dk_27 (dk_at dksX13_readNumber_0 18 rfl rfl)
theorem dX13_readNumber_19 : decode cX13_readNumber 19 = .ok (.iload_n 2, 1) := dk_28 (dk_at dksX13_readNumber_0 19 rfl rfl)
theorem dX13_readNumber_20 : decode cX13_readNumber 20 = .ok (.invokestatic 115, 3) := dk_184 0 115 (dk_at dksX13_readNumber_0 20 rfl rfl)
theorem dX13_readNumber_23 : decode cX13_readNumber 23 = .ok (.ifCond .ne 9, 3) := dk_154 0 9 (dk_at dksX13_readNumber_1 0 rfl rfl)
theorem dX13_readNumber_26 : decode cX13_readNumber 26 = .ok (.aload_n 0, 1) := dk_42 (dk_at dksX13_readNumber_1 3 rfl rfl)
theorem dX13_readNumber_27 : decode cX13_readNumber 27 = .ok (.iconst 2, 1) := dk_5 (dk_at dksX13_readNumber_1 4 rfl rfl)
theorem dX13_readNumber_28 : decode cX13_readNumber 28 = .ok (.invokevirtual 112, 3) := dk_182 0 112 (dk_at dksX13_readNumber_1 5 rfl rfl)
theorem dX13_readNumber_31 : decode cX13_readNumber 31 = .ok (.ireturn, 1) := dk_172 (dk_at dksX13_readNumber_1 8 rfl rfl)
theorem dX13_readNumber_32 : decode cX13_readNumber 32 = .ok (.aload_n 0, 1) := dk_42 (dk_at dksX13_readNumber_1 9 rfl rfl)
theorem dX13_readNumber_33 : decode cX13_readNumber 33 = .ok (.aload_n 0, 1) := dk_42 (dk_at dksX13_readNumber_1 10 rfl rfl)
theorem dX13_readNumber_34 : decode cX13_readNumber 34 = .ok (.getfield 98, 3) := dk_180 0 98 (dk_at dksX13_readNumber_1 11 rfl rfl)
theorem dX13_readNumber_37 : decode cX13_readNumber 37 = .ok (.putfield 119, 3) := dk_181 0 119 (dk_at dksX13_readNumber_1 14 rfl rfl)
theorem dX13_readNumber_40 : decode cX13_readNumber 40 = .ok (.aload_n 0, 1) := dk_42 (dk_at dksX13_readNumber_1 17 rfl rfl)
theorem dX13_readNumber_41 : decode cX13_readNumber 41 = .ok (.invokevirtual 122, 3) := dk_182 0 122 (dk_at dksX13_readNumber_1 18 rfl rfl)
theorem dX13_readNumber_44 : decode cX13_readNumber 44 = .ok (.iconst 1, 1) := dk_4 (dk_at dksX13_readNumber_1 21 rfl rfl)
theorem dX13_readNumber_45 : decode cX13_readNumber 45 = .ok (.ireturn, 1) := dk_172 (dk_at dksX13_readNumber_1 22 rfl rfl)
abbrev cX13_isIn : ByteArray := prog_24_method_8_code
def yX13_isIn : MethodName := ⟨RX13, "isIn", "(III)Z"⟩
def dkwX13_isIn_0 : List UInt8 := [26, 27, 161, 0, 12, 26, 28, 163, 0, 7, 4, 167, 0, 4, 3, 172]
abbrev dktX13_isIn_0 : List UInt8 := dkwX13_isIn_0 ++ []
theorem dksX13_isIn_0 : cX13_isIn.data.toList.drop 0 = dktX13_isIn_0 := by decide +kernel
theorem dX13_isIn_0 : decode cX13_isIn 0 = .ok (.iload_n 0, 1) := dk_26 (dk_at dksX13_isIn_0 0 rfl rfl)
theorem dX13_isIn_1 : decode cX13_isIn 1 = .ok (.iload_n 1, 1) := dk_27 (dk_at dksX13_isIn_0 1 rfl rfl)
theorem dX13_isIn_2 : decode cX13_isIn 2 = .ok (.if_icmp .lt 12, 3) := dk_161 0 12 (dk_at dksX13_isIn_0 2 rfl rfl)
theorem dX13_isIn_5 : decode cX13_isIn 5 = .ok (.iload_n 0, 1) := dk_26 (dk_at dksX13_isIn_0 5 rfl rfl)
theorem dX13_isIn_6 : decode cX13_isIn 6 = .ok (.iload_n 2, 1) := dk_28 (dk_at dksX13_isIn_0 6 rfl rfl)
theorem dX13_isIn_7 : decode cX13_isIn 7 = .ok (.if_icmp .gt 7, 3) := dk_163 0 7 (dk_at dksX13_isIn_0 7 rfl rfl)
theorem dX13_isIn_10 : decode cX13_isIn 10 = .ok (.iconst 1, 1) := dk_4 (dk_at dksX13_isIn_0 10 rfl rfl)
theorem dX13_isIn_11 : decode cX13_isIn 11 = .ok (.goto 4, 3) := dk_167 0 4 (dk_at dksX13_isIn_0 11 rfl rfl)
theorem dX13_isIn_14 : decode cX13_isIn 14 = .ok (.iconst 0, 1) := dk_3 (dk_at dksX13_isIn_0 14 rfl rfl)
theorem dX13_isIn_15 : decode cX13_isIn 15 = .ok (.ireturn, 1) := dk_172 (dk_at dksX13_isIn_0 15 rfl rfl)
abbrev cX13_readState : ByteArray := prog_24_method_40_code
def yX13_readState : MethodName := ⟨RX13, "readState", "(I)Z"⟩
def dkwX13_readState_5 : List UInt8 := [79, 42, 180, 0, 16, 17, 0, 129, 92, 46, 4, 96, 79, 4, 172]
abbrev dktX13_readState_5 : List UInt8 := dkwX13_readState_5 ++ []
def dkwX13_readState_4 : List UInt8 := [42, 4, 16, 19, 182, 0, 184, 154, 0, 5, 3, 172, 42, 180, 0, 16, 27, 16, 7, 96, 42, 180, 0, 119]
abbrev dktX13_readState_4 : List UInt8 := dkwX13_readState_4 ++ dktX13_readState_5
def dkwX13_readState_3 : List UInt8 := [89, 180, 0, 191, 4, 96, 181, 0, 191, 28, 6, 160, 0, 38, 42, 89, 180, 0, 194, 4, 96, 181, 0, 194]
abbrev dktX13_readState_3 : List UInt8 := dkwX13_readState_3 ++ dktX13_readState_4
def dkwX13_readState_2 : List UInt8 := [182, 0, 112, 172, 42, 180, 0, 16, 27, 16, 6, 96, 28, 79, 42, 182, 0, 122, 28, 5, 160, 0, 13, 42]
abbrev dktX13_readState_2 : List UInt8 := dkwX13_readState_2 ++ dktX13_readState_3
def dkwX13_readState_1 : List UInt8 := [180, 0, 191, 16, 8, 159, 0, 16, 28, 6, 160, 0, 17, 42, 180, 0, 194, 8, 160, 0, 9, 42, 7]
abbrev dktX13_readState_1 : List UInt8 := dkwX13_readState_1 ++ dktX13_readState_2
def dkwX13_readState_0 : List UInt8 := [42, 182, 0, 149, 61, 28, 2, 160, 0, 9, 42, 4, 182, 0, 112, 172, 28, 5, 160, 0, 12, 42]
abbrev dktX13_readState_0 : List UInt8 := dkwX13_readState_0 ++ dktX13_readState_1
theorem dksX13_readState_0 : cX13_readState.data.toList.drop 0 = dktX13_readState_0 := by decide +kernel
theorem dksX13_readState_1 : cX13_readState.data.toList.drop 22 = dktX13_readState_1 := dk_seg dksX13_readState_0 22 rfl rfl
theorem dksX13_readState_2 : cX13_readState.data.toList.drop 45 = dktX13_readState_2 := dk_seg dksX13_readState_1 23 rfl rfl
theorem dksX13_readState_3 : cX13_readState.data.toList.drop 69 = dktX13_readState_3 := dk_seg dksX13_readState_2 24 rfl rfl
theorem dksX13_readState_4 : cX13_readState.data.toList.drop 93 = dktX13_readState_4 := dk_seg dksX13_readState_3 24 rfl rfl
theorem dksX13_readState_5 : cX13_readState.data.toList.drop 117 = dktX13_readState_5 := dk_seg dksX13_readState_4 24 rfl rfl
theorem dX13_readState_0 : decode cX13_readState 0 = .ok (.aload_n 0, 1) := dk_42 (dk_at dksX13_readState_0 0 rfl rfl)
theorem dX13_readState_1 : decode cX13_readState 1 = .ok (.invokevirtual 149, 3) := dk_182 0 149 (dk_at dksX13_readState_0 1 rfl rfl)
theorem dX13_readState_4 : decode cX13_readState 4 = .ok (.istore_n 2, 1) := dk_61 (dk_at dksX13_readState_0 4 rfl rfl)
theorem dX13_readState_5 : decode cX13_readState 5 = .ok (.iload_n 2, 1) := dk_28 (dk_at dksX13_readState_0 5 rfl rfl)
theorem dX13_readState_6 : decode cX13_readState 6 = .ok (.iconst (-1), 1) := dk_2 (dk_at dksX13_readState_0 6 rfl rfl)
theorem dX13_readState_7 : decode cX13_readState 7 = .ok (.if_icmp .ne 9, 3) := dk_160 0 9 (dk_at dksX13_readState_0 7 rfl rfl)
theorem dX13_readState_10 : decode cX13_readState 10 = .ok (.aload_n 0, 1) := dk_42 (dk_at dksX13_readState_0 10 rfl rfl)
theorem dX13_readState_11 : decode cX13_readState 11 = .ok (.iconst 1, 1) := dk_4 (dk_at dksX13_readState_0 11 rfl rfl)
theorem dX13_readState_12 : decode cX13_readState 12 = .ok (.invokevirtual 112, 3) := dk_182 0 112 (dk_at dksX13_readState_0 12 rfl rfl)
theorem dX13_readState_15 : decode cX13_readState 15 = .ok (.ireturn, 1) := dk_172 (dk_at dksX13_readState_0 15 rfl rfl)
theorem dX13_readState_16 : decode cX13_readState 16 = .ok (.iload_n 2, 1) := dk_28 (dk_at dksX13_readState_0 16 rfl rfl)
theorem dX13_readState_17 : decode cX13_readState 17 = .ok (.iconst 2, 1) := dk_5 (dk_at dksX13_readState_0 17 rfl rfl)
theorem dX13_readState_18 : decode cX13_readState 18 = .ok (.if_icmp .ne 12, 3) := dk_160 0 12 (dk_at dksX13_readState_0 18 rfl rfl)
theorem dX13_readState_21 : decode cX13_readState 21 = .ok (.aload_n 0, 1) := dk_42 (dk_at dksX13_readState_0 21 rfl rfl)
theorem dX13_readState_22 : decode cX13_readState 22 = .ok (.getfield 191, 3) := dk_180 0 191 (dk_at dksX13_readState_1 0 rfl rfl)
theorem dX13_readState_25 : decode cX13_readState 25 = .ok (.bipush 8, 2) := dk_16 8 (dk_at dksX13_readState_1 3 rfl rfl)
theorem dX13_readState_27 : decode cX13_readState 27 = .ok (.if_icmp .eq 16, 3) := dk_159 0 16 (dk_at dksX13_readState_1 5 rfl rfl)
theorem dX13_readState_30 : decode cX13_readState 30 = .ok (.iload_n 2, 1) := dk_28 (dk_at dksX13_readState_1 8 rfl rfl)
theorem dX13_readState_31 : decode cX13_readState 31 = .ok (.iconst 3, 1) := dk_6 (dk_at dksX13_readState_1 9 rfl rfl)
theorem dX13_readState_32 : decode cX13_readState 32 = .ok (.if_icmp .ne 17, 3) := dk_160 0 17 (dk_at dksX13_readState_1 10 rfl rfl)
theorem dX13_readState_35 : decode cX13_readState 35 = .ok (.aload_n 0, 1) := dk_42 (dk_at dksX13_readState_1 13 rfl rfl)
theorem dX13_readState_36 : decode cX13_readState 36 = .ok (.getfield 194, 3) := dk_180 0 194 (dk_at dksX13_readState_1 14 rfl rfl)
theorem dX13_readState_39 : decode cX13_readState 39 = .ok (.iconst 5, 1) := dk_8 (dk_at dksX13_readState_1 17 rfl rfl)
theorem dX13_readState_40 : decode cX13_readState 40 = .ok (.if_icmp .ne 9, 3) := dk_160 0 9 (dk_at dksX13_readState_1 18 rfl rfl)
theorem dX13_readState_43 : decode cX13_readState 43 = .ok (.aload_n 0, 1) := dk_42 (dk_at dksX13_readState_1 21 rfl rfl)
theorem dX13_readState_44 : decode cX13_readState 44 = .ok (.iconst 4, 1) := dk_7 (dk_at dksX13_readState_1 22 rfl rfl)
theorem dX13_readState_45 : decode cX13_readState 45 = .ok (.invokevirtual 112, 3) := dk_182 0 112 (dk_at dksX13_readState_2 0 rfl rfl)
theorem dX13_readState_48 : decode cX13_readState 48 = .ok (.ireturn, 1) := dk_172 (dk_at dksX13_readState_2 3 rfl rfl)
theorem dX13_readState_49 : decode cX13_readState 49 = .ok (.aload_n 0, 1) := dk_42 (dk_at dksX13_readState_2 4 rfl rfl)
theorem dX13_readState_50 : decode cX13_readState 50 = .ok (.getfield 16, 3) := dk_180 0 16 (dk_at dksX13_readState_2 5 rfl rfl)
theorem dX13_readState_53 : decode cX13_readState 53 = .ok (.iload_n 1, 1) := dk_27 (dk_at dksX13_readState_2 8 rfl rfl)
theorem dX13_readState_54 : decode cX13_readState 54 = .ok (.bipush 6, 2) := dk_16 6 (dk_at dksX13_readState_2 9 rfl rfl)
theorem dX13_readState_56 : decode cX13_readState 56 = .ok (.iadd, 1) := dk_96 (dk_at dksX13_readState_2 11 rfl rfl)
theorem dX13_readState_57 : decode cX13_readState 57 = .ok (.iload_n 2, 1) := dk_28 (dk_at dksX13_readState_2 12 rfl rfl)
theorem dX13_readState_58 : decode cX13_readState 58 = .ok (.iastore, 1) := dk_79 (dk_at dksX13_readState_2 13 rfl rfl)
theorem dX13_readState_59 : decode cX13_readState 59 = .ok (.aload_n 0, 1) := dk_42 (dk_at dksX13_readState_2 14 rfl rfl)
theorem dX13_readState_60 : decode cX13_readState 60 = .ok (.invokevirtual 122, 3) := dk_182 0 122 (dk_at dksX13_readState_2 15 rfl rfl)
theorem dX13_readState_63 : decode cX13_readState 63 = .ok (.iload_n 2, 1) := dk_28 (dk_at dksX13_readState_2 18 rfl rfl)
theorem dX13_readState_64 : decode cX13_readState 64 = .ok (.iconst 2, 1) := dk_5 (dk_at dksX13_readState_2 19 rfl rfl)
theorem dX13_readState_65 : decode cX13_readState 65 = .ok (.if_icmp .ne 13, 3) := dk_160 0 13 (dk_at dksX13_readState_2 20 rfl rfl)
theorem dX13_readState_68 : decode cX13_readState 68 = .ok (.aload_n 0, 1) := dk_42 (dk_at dksX13_readState_2 23 rfl rfl)
theorem dX13_readState_69 : decode cX13_readState 69 = .ok (.dup, 1) := dk_89 (dk_at dksX13_readState_3 0 rfl rfl)
theorem dX13_readState_70 : decode cX13_readState 70 = .ok (.getfield 191, 3) := dk_180 0 191 (dk_at dksX13_readState_3 1 rfl rfl)
theorem dX13_readState_73 : decode cX13_readState 73 = .ok (.iconst 1, 1) := dk_4 (dk_at dksX13_readState_3 4 rfl rfl)
theorem dX13_readState_74 : decode cX13_readState 74 = .ok (.iadd, 1) := dk_96 (dk_at dksX13_readState_3 5 rfl rfl)
theorem dX13_readState_75 : decode cX13_readState 75 = .ok (.putfield 191, 3) := dk_181 0 191 (dk_at dksX13_readState_3 6 rfl rfl)
theorem dX13_readState_78 : decode cX13_readState 78 = .ok (.iload_n 2, 1) := dk_28 (dk_at dksX13_readState_3 9 rfl rfl)
theorem dX13_readState_79 : decode cX13_readState 79 = .ok (.iconst 3, 1) := dk_6 (dk_at dksX13_readState_3 10 rfl rfl)
theorem dX13_readState_80 : decode cX13_readState 80 = .ok (.if_icmp .ne 38, 3) := dk_160 0 38 (dk_at dksX13_readState_3 11 rfl rfl)
theorem dX13_readState_83 : decode cX13_readState 83 = .ok (.aload_n 0, 1) := dk_42 (dk_at dksX13_readState_3 14 rfl rfl)
theorem dX13_readState_84 : decode cX13_readState 84 = .ok (.dup, 1) := dk_89 (dk_at dksX13_readState_3 15 rfl rfl)
theorem dX13_readState_85 : decode cX13_readState 85 = .ok (.getfield 194, 3) := dk_180 0 194 (dk_at dksX13_readState_3 16 rfl rfl)
theorem dX13_readState_88 : decode cX13_readState 88 = .ok (.iconst 1, 1) := dk_4 (dk_at dksX13_readState_3 19 rfl rfl)
theorem dX13_readState_89 : decode cX13_readState 89 = .ok (.iadd, 1) := dk_96 (dk_at dksX13_readState_3 20 rfl rfl)
theorem dX13_readState_90 : decode cX13_readState 90 = .ok (.putfield 194, 3) := dk_181 0 194 (dk_at dksX13_readState_3 21 rfl rfl)
theorem dX13_readState_93 : decode cX13_readState 93 = .ok (.aload_n 0, 1) := dk_42 (dk_at dksX13_readState_4 0 rfl rfl)
theorem dX13_readState_94 : decode cX13_readState 94 = .ok (.iconst 1, 1) := dk_4 (dk_at dksX13_readState_4 1 rfl rfl)
theorem dX13_readState_95 : decode cX13_readState 95 = .ok (.bipush 19, 2) := dk_16 19 (dk_at dksX13_readState_4 2 rfl rfl)
theorem dX13_readState_97 : decode cX13_readState 97 = .ok (.invokevirtual 184, 3) := dk_182 0 184 (dk_at dksX13_readState_4 4 rfl rfl)
theorem dX13_readState_100 : decode cX13_readState 100 = .ok (.ifCond .ne 5, 3) := dk_154 0 5 (dk_at dksX13_readState_4 7 rfl rfl)
theorem dX13_readState_103 : decode cX13_readState 103 = .ok (.iconst 0, 1) := dk_3 (dk_at dksX13_readState_4 10 rfl rfl)
theorem dX13_readState_104 : decode cX13_readState 104 = .ok (.ireturn, 1) := dk_172 (dk_at dksX13_readState_4 11 rfl rfl)
theorem dX13_readState_105 : decode cX13_readState 105 = .ok (.aload_n 0, 1) := dk_42 (dk_at dksX13_readState_4 12 rfl rfl)
theorem dX13_readState_106 : decode cX13_readState 106 = .ok (.getfield 16, 3) := dk_180 0 16 (dk_at dksX13_readState_4 13 rfl rfl)
theorem dX13_readState_109 : decode cX13_readState 109 = .ok (.iload_n 1, 1) := dk_27 (dk_at dksX13_readState_4 16 rfl rfl)
theorem dX13_readState_110 : decode cX13_readState 110 = .ok (.bipush 7, 2) := dk_16 7 (dk_at dksX13_readState_4 17 rfl rfl)
theorem dX13_readState_112 : decode cX13_readState 112 = .ok (.iadd, 1) := dk_96 (dk_at dksX13_readState_4 19 rfl rfl)
theorem dX13_readState_113 : decode cX13_readState 113 = .ok (.aload_n 0, 1) := dk_42 (dk_at dksX13_readState_4 20 rfl rfl)
theorem dX13_readState_114 : decode cX13_readState 114 = .ok (.getfield 119, 3) := dk_180 0 119 (dk_at dksX13_readState_4 21 rfl rfl)
theorem dX13_readState_117 : decode cX13_readState 117 = .ok (.iastore, 1) := dk_79 (dk_at dksX13_readState_5 0 rfl rfl)
theorem dX13_readState_118 : decode cX13_readState 118 = .ok (.aload_n 0, 1) := dk_42 (dk_at dksX13_readState_5 1 rfl rfl)
theorem dX13_readState_119 : decode cX13_readState 119 = .ok (.getfield 16, 3) := dk_180 0 16 (dk_at dksX13_readState_5 2 rfl rfl)
theorem dX13_readState_122 : decode cX13_readState 122 = .ok (.sipush 129, 3) := dk_17 0 129 (dk_at dksX13_readState_5 5 rfl rfl)
theorem dX13_readState_125 : decode cX13_readState 125 = .ok (.dup2, 1) := dk_92 (dk_at dksX13_readState_5 8 rfl rfl)
theorem dX13_readState_126 : decode cX13_readState 126 = .ok (.iaload, 1) := dk_46 (dk_at dksX13_readState_5 9 rfl rfl)
theorem dX13_readState_127 : decode cX13_readState 127 = .ok (.iconst 1, 1) := dk_4 (dk_at dksX13_readState_5 10 rfl rfl)
theorem dX13_readState_128 : decode cX13_readState 128 = .ok (.iadd, 1) := dk_96 (dk_at dksX13_readState_5 11 rfl rfl)
theorem dX13_readState_129 : decode cX13_readState 129 = .ok (.iastore, 1) := dk_79 (dk_at dksX13_readState_5 12 rfl rfl)
theorem dX13_readState_130 : decode cX13_readState 130 = .ok (.iconst 1, 1) := dk_4 (dk_at dksX13_readState_5 13 rfl rfl)
theorem dX13_readState_131 : decode cX13_readState 131 = .ok (.ireturn, 1) := dk_172 (dk_at dksX13_readState_5 14 rfl rfl)
abbrev cX13_isSign : ByteArray := prog_24_method_15_code
def yX13_isSign : MethodName := ⟨RX13, "isSign", "(I)Z"⟩
def dkwX13_isSign_0 : List UInt8 := [42, 180, 0, 81, 7, 160, 0, 15, 42, 180, 0, 91, 27, 160, 0, 7, 4, 167, 0, 4, 3, 172]
abbrev dktX13_isSign_0 : List UInt8 := dkwX13_isSign_0 ++ []
theorem dksX13_isSign_0 : cX13_isSign.data.toList.drop 0 = dktX13_isSign_0 := by decide +kernel
theorem dX13_isSign_0 : decode cX13_isSign 0 = .ok (.aload_n 0, 1) := dk_42 (dk_at dksX13_isSign_0 0 rfl rfl)
theorem dX13_isSign_1 : decode cX13_isSign 1 = .ok (.getfield 81, 3) := dk_180 0 81 (dk_at dksX13_isSign_0 1 rfl rfl)
theorem dX13_isSign_4 : decode cX13_isSign 4 = .ok (.iconst 4, 1) := dk_7 (dk_at dksX13_isSign_0 4 rfl rfl)
theorem dX13_isSign_5 : decode cX13_isSign 5 = .ok (.if_icmp .ne 15, 3) := dk_160 0 15 (dk_at dksX13_isSign_0 5 rfl rfl)
theorem dX13_isSign_8 : decode cX13_isSign 8 = .ok (.aload_n 0, 1) := dk_42 (dk_at dksX13_isSign_0 8 rfl rfl)
theorem dX13_isSign_9 : decode cX13_isSign 9 = .ok (.getfield 91, 3) := dk_180 0 91 (dk_at dksX13_isSign_0 9 rfl rfl)
theorem dX13_isSign_12 : decode cX13_isSign 12 = .ok (.iload_n 1, 1) := dk_27 (dk_at dksX13_isSign_0 12 rfl rfl)
theorem dX13_isSign_13 : decode cX13_isSign 13 = .ok (.if_icmp .ne 7, 3) := dk_160 0 7 (dk_at dksX13_isSign_0 13 rfl rfl)
theorem dX13_isSign_16 : decode cX13_isSign 16 = .ok (.iconst 1, 1) := dk_4 (dk_at dksX13_isSign_0 16 rfl rfl)
theorem dX13_isSign_17 : decode cX13_isSign 17 = .ok (.goto 4, 3) := dk_167 0 4 (dk_at dksX13_isSign_0 17 rfl rfl)
theorem dX13_isSign_20 : decode cX13_isSign 20 = .ok (.iconst 0, 1) := dk_3 (dk_at dksX13_isSign_0 20 rfl rfl)
theorem dX13_isSign_21 : decode cX13_isSign 21 = .ok (.ireturn, 1) := dk_172 (dk_at dksX13_isSign_0 21 rfl rfl)
abbrev cX13_fault : ByteArray := prog_24_method_44_code
def yX13_fault : MethodName := ⟨RX13, "fault", "()I"⟩
def dkwX13_fault_0 : List UInt8 := [42, 3, 181, 0, 58, 42, 180, 0, 13, 17, 0, 149, 46, 172]
abbrev dktX13_fault_0 : List UInt8 := dkwX13_fault_0 ++ []
theorem dksX13_fault_0 : cX13_fault.data.toList.drop 0 = dktX13_fault_0 := by decide +kernel
theorem dX13_fault_0 : decode cX13_fault 0 = .ok (.aload_n 0, 1) := dk_42 (dk_at dksX13_fault_0 0 rfl rfl)
theorem dX13_fault_1 : decode cX13_fault 1 = .ok (.iconst 0, 1) := dk_3 (dk_at dksX13_fault_0 1 rfl rfl)
theorem dX13_fault_2 : decode cX13_fault 2 = .ok (.putfield 58, 3) := dk_181 0 58 (dk_at dksX13_fault_0 2 rfl rfl)
theorem dX13_fault_5 : decode cX13_fault 5 = .ok (.aload_n 0, 1) := dk_42 (dk_at dksX13_fault_0 5 rfl rfl)
theorem dX13_fault_6 : decode cX13_fault 6 = .ok (.getfield 13, 3) := dk_180 0 13 (dk_at dksX13_fault_0 6 rfl rfl)
theorem dX13_fault_9 : decode cX13_fault 9 = .ok (.sipush 149, 3) := dk_17 0 149 (dk_at dksX13_fault_0 9 rfl rfl)
theorem dX13_fault_12 : decode cX13_fault 12 = .ok (.iaload, 1) := dk_46 (dk_at dksX13_fault_0 12 rfl rfl)
theorem dX13_fault_13 : decode cX13_fault 13 = .ok (.ireturn, 1) := dk_172 (dk_at dksX13_fault_0 13 rfl rfl)
abbrev cX13_world : ByteArray := prog_24_method_46_code
def yX13_world : MethodName := ⟨RX13, "world", "(I)Z"⟩
def dkwX13_world_1 : List UInt8 := [17, 0, 140, 27, 79, 4, 172]
abbrev dktX13_world_1 : List UInt8 := dkwX13_world_1 ++ []
def dkwX13_world_0 : List UInt8 := [42, 3, 181, 0, 58, 27, 42, 5, 182, 0, 231, 2, 130, 126, 153, 0, 5, 3, 172, 42, 180, 0, 13]
abbrev dktX13_world_0 : List UInt8 := dkwX13_world_0 ++ dktX13_world_1
theorem dksX13_world_0 : cX13_world.data.toList.drop 0 = dktX13_world_0 := by decide +kernel
theorem dksX13_world_1 : cX13_world.data.toList.drop 23 = dktX13_world_1 := dk_seg dksX13_world_0 23 rfl rfl
theorem dX13_world_0 : decode cX13_world 0 = .ok (.aload_n 0, 1) := dk_42 (dk_at dksX13_world_0 0 rfl rfl)
theorem dX13_world_1 : decode cX13_world 1 = .ok (.iconst 0, 1) := dk_3 (dk_at dksX13_world_0 1 rfl rfl)
theorem dX13_world_2 : decode cX13_world 2 = .ok (.putfield 58, 3) := dk_181 0 58 (dk_at dksX13_world_0 2 rfl rfl)
theorem dX13_world_5 : decode cX13_world 5 = .ok (.iload_n 1, 1) := dk_27 (dk_at dksX13_world_0 5 rfl rfl)
theorem dX13_world_6 : decode cX13_world 6 = .ok (.aload_n 0, 1) := dk_42 (dk_at dksX13_world_0 6 rfl rfl)
theorem dX13_world_7 : decode cX13_world 7 = .ok (.iconst 2, 1) := dk_5 (dk_at dksX13_world_0 7 rfl rfl)
theorem dX13_world_8 : decode cX13_world 8 = .ok (.invokevirtual 231, 3) := dk_182 0 231 (dk_at dksX13_world_0 8 rfl rfl)
theorem dX13_world_11 : decode cX13_world 11 = .ok (.iconst (-1), 1) := dk_2 (dk_at dksX13_world_0 11 rfl rfl)
theorem dX13_world_12 : decode cX13_world 12 = .ok (.ixor, 1) := dk_130 (dk_at dksX13_world_0 12 rfl rfl)
theorem dX13_world_13 : decode cX13_world 13 = .ok (.iand, 1) := dk_126 (dk_at dksX13_world_0 13 rfl rfl)
theorem dX13_world_14 : decode cX13_world 14 = .ok (.ifCond .eq 5, 3) := dk_153 0 5 (dk_at dksX13_world_0 14 rfl rfl)
theorem dX13_world_17 : decode cX13_world 17 = .ok (.iconst 0, 1) := dk_3 (dk_at dksX13_world_0 17 rfl rfl)
theorem dX13_world_18 : decode cX13_world 18 = .ok (.ireturn, 1) := dk_172 (dk_at dksX13_world_0 18 rfl rfl)
theorem dX13_world_19 : decode cX13_world 19 = .ok (.aload_n 0, 1) := dk_42 (dk_at dksX13_world_0 19 rfl rfl)
theorem dX13_world_20 : decode cX13_world 20 = .ok (.getfield 13, 3) := dk_180 0 13 (dk_at dksX13_world_0 20 rfl rfl)
theorem dX13_world_23 : decode cX13_world 23 = .ok (.sipush 140, 3) := dk_17 0 140 (dk_at dksX13_world_1 0 rfl rfl)
theorem dX13_world_26 : decode cX13_world 26 = .ok (.iload_n 1, 1) := dk_27 (dk_at dksX13_world_1 3 rfl rfl)
theorem dX13_world_27 : decode cX13_world 27 = .ok (.iastore, 1) := dk_79 (dk_at dksX13_world_1 4 rfl rfl)
theorem dX13_world_28 : decode cX13_world 28 = .ok (.iconst 1, 1) := dk_4 (dk_at dksX13_world_1 5 rfl rfl)
theorem dX13_world_29 : decode cX13_world 29 = .ok (.ireturn, 1) := dk_172 (dk_at dksX13_world_1 6 rfl rfl)
abbrev cX13_ofState : ByteArray := prog_24_method_45_code
def yX13_ofState : MethodName := ⟨RX13, "ofState", "(I)I"⟩
def dkwX13_ofState_1 : List UInt8 := [4, 29, 120, 128, 61, 132, 3, 1, 167, 255, 228, 28, 172]
abbrev dktX13_ofState_1 : List UInt8 := dkwX13_ofState_1 ++ []
def dkwX13_ofState_0 : List UInt8 := [3, 61, 3, 62, 29, 42, 182, 0, 224, 162, 0, 26, 42, 29, 16, 6, 182, 0, 227, 27, 160, 0, 9, 28]
abbrev dktX13_ofState_0 : List UInt8 := dkwX13_ofState_0 ++ dktX13_ofState_1
theorem dksX13_ofState_0 : cX13_ofState.data.toList.drop 0 = dktX13_ofState_0 := by decide +kernel
theorem dksX13_ofState_1 : cX13_ofState.data.toList.drop 24 = dktX13_ofState_1 := dk_seg dksX13_ofState_0 24 rfl rfl
theorem dX13_ofState_0 : decode cX13_ofState 0 = .ok (.iconst 0, 1) := dk_3 (dk_at dksX13_ofState_0 0 rfl rfl)
theorem dX13_ofState_1 : decode cX13_ofState 1 = .ok (.istore_n 2, 1) := dk_61 (dk_at dksX13_ofState_0 1 rfl rfl)
theorem dX13_ofState_2 : decode cX13_ofState 2 = .ok (.iconst 0, 1) := dk_3 (dk_at dksX13_ofState_0 2 rfl rfl)
theorem dX13_ofState_3 : decode cX13_ofState 3 = .ok (.istore_n 3, 1) := dk_62 (dk_at dksX13_ofState_0 3 rfl rfl)
theorem dX13_ofState_4 : decode cX13_ofState 4 = .ok (.iload_n 3, 1) := dk_29 (dk_at dksX13_ofState_0 4 rfl rfl)
theorem dX13_ofState_5 : decode cX13_ofState 5 = .ok (.aload_n 0, 1) := dk_42 (dk_at dksX13_ofState_0 5 rfl rfl)
theorem dX13_ofState_6 : decode cX13_ofState 6 = .ok (.invokevirtual 224, 3) := dk_182 0 224 (dk_at dksX13_ofState_0 6 rfl rfl)
theorem dX13_ofState_9 : decode cX13_ofState 9 = .ok (.if_icmp .ge 26, 3) := dk_162 0 26 (dk_at dksX13_ofState_0 9 rfl rfl)
theorem dX13_ofState_12 : decode cX13_ofState 12 = .ok (.aload_n 0, 1) := dk_42 (dk_at dksX13_ofState_0 12 rfl rfl)
theorem dX13_ofState_13 : decode cX13_ofState 13 = .ok (.iload_n 3, 1) := dk_29 (dk_at dksX13_ofState_0 13 rfl rfl)
theorem dX13_ofState_14 : decode cX13_ofState 14 = .ok (.bipush 6, 2) := dk_16 6 (dk_at dksX13_ofState_0 14 rfl rfl)
theorem dX13_ofState_16 : decode cX13_ofState 16 = .ok (.invokevirtual 227, 3) := dk_182 0 227 (dk_at dksX13_ofState_0 16 rfl rfl)
theorem dX13_ofState_19 : decode cX13_ofState 19 = .ok (.iload_n 1, 1) := dk_27 (dk_at dksX13_ofState_0 19 rfl rfl)
theorem dX13_ofState_20 : decode cX13_ofState 20 = .ok (.if_icmp .ne 9, 3) := dk_160 0 9 (dk_at dksX13_ofState_0 20 rfl rfl)
theorem dX13_ofState_23 : decode cX13_ofState 23 = .ok (.iload_n 2, 1) := dk_28 (dk_at dksX13_ofState_0 23 rfl rfl)
theorem dX13_ofState_24 : decode cX13_ofState 24 = .ok (.iconst 1, 1) := dk_4 (dk_at dksX13_ofState_1 0 rfl rfl)
theorem dX13_ofState_25 : decode cX13_ofState 25 = .ok (.iload_n 3, 1) := dk_29 (dk_at dksX13_ofState_1 1 rfl rfl)
theorem dX13_ofState_26 : decode cX13_ofState 26 = .ok (.ishl, 1) := dk_120 (dk_at dksX13_ofState_1 2 rfl rfl)
theorem dX13_ofState_27 : decode cX13_ofState 27 = .ok (.ior, 1) := dk_128 (dk_at dksX13_ofState_1 3 rfl rfl)
theorem dX13_ofState_28 : decode cX13_ofState 28 = .ok (.istore_n 2, 1) := dk_61 (dk_at dksX13_ofState_1 4 rfl rfl)
theorem dX13_ofState_29 : decode cX13_ofState 29 = .ok (.iinc 3 1, 3) := dk_132 3 1 (dk_at dksX13_ofState_1 5 rfl rfl)
theorem dX13_ofState_32 : decode cX13_ofState 32 = .ok (.goto (-28), 3) := dk_167 255 228 (dk_at dksX13_ofState_1 8 rfl rfl)
theorem dX13_ofState_35 : decode cX13_ofState 35 = .ok (.iload_n 2, 1) := dk_28 (dk_at dksX13_ofState_1 11 rfl rfl)
theorem dX13_ofState_36 : decode cX13_ofState 36 = .ok (.ireturn, 1) := dk_172 (dk_at dksX13_ofState_1 12 rfl rfl)
abbrev cX13_ways : ByteArray := prog_24_method_31_code
def yX13_ways : MethodName := ⟨RX13, "ways", "()I"⟩
def dkwX13_ways_0 : List UInt8 := [42, 180, 0, 13, 17, 0, 129, 46, 172]
abbrev dktX13_ways_0 : List UInt8 := dkwX13_ways_0 ++ []
theorem dksX13_ways_0 : cX13_ways.data.toList.drop 0 = dktX13_ways_0 := by decide +kernel
theorem dX13_ways_0 : decode cX13_ways 0 = .ok (.aload_n 0, 1) := dk_42 (dk_at dksX13_ways_0 0 rfl rfl)
theorem dX13_ways_1 : decode cX13_ways 1 = .ok (.getfield 13, 3) := dk_180 0 13 (dk_at dksX13_ways_0 1 rfl rfl)
theorem dX13_ways_4 : decode cX13_ways 4 = .ok (.sipush 129, 3) := dk_17 0 129 (dk_at dksX13_ways_0 4 rfl rfl)
theorem dX13_ways_7 : decode cX13_ways 7 = .ok (.iaload, 1) := dk_46 (dk_at dksX13_ways_0 7 rfl rfl)
theorem dX13_ways_8 : decode cX13_ways 8 = .ok (.ireturn, 1) := dk_172 (dk_at dksX13_ways_0 8 rfl rfl)
abbrev cX13_wayOf : ByteArray := prog_24_method_32_code
def yX13_wayOf : MethodName := ⟨RX13, "wayOf", "(II)I"⟩
def dkwX13_wayOf_0 : List UInt8 := [42, 180, 0, 13, 16, 32, 16, 8, 27, 104, 96, 28, 96, 46, 172]
abbrev dktX13_wayOf_0 : List UInt8 := dkwX13_wayOf_0 ++ []
theorem dksX13_wayOf_0 : cX13_wayOf.data.toList.drop 0 = dktX13_wayOf_0 := by decide +kernel
theorem dX13_wayOf_0 : decode cX13_wayOf 0 = .ok (.aload_n 0, 1) := dk_42 (dk_at dksX13_wayOf_0 0 rfl rfl)
theorem dX13_wayOf_1 : decode cX13_wayOf 1 = .ok (.getfield 13, 3) := dk_180 0 13 (dk_at dksX13_wayOf_0 1 rfl rfl)
theorem dX13_wayOf_4 : decode cX13_wayOf 4 = .ok (.bipush 32, 2) := dk_16 32 (dk_at dksX13_wayOf_0 4 rfl rfl)
theorem dX13_wayOf_6 : decode cX13_wayOf 6 = .ok (.bipush 8, 2) := dk_16 8 (dk_at dksX13_wayOf_0 6 rfl rfl)
theorem dX13_wayOf_8 : decode cX13_wayOf 8 = .ok (.iload_n 1, 1) := dk_27 (dk_at dksX13_wayOf_0 8 rfl rfl)
theorem dX13_wayOf_9 : decode cX13_wayOf 9 = .ok (.imul, 1) := dk_104 (dk_at dksX13_wayOf_0 9 rfl rfl)
theorem dX13_wayOf_10 : decode cX13_wayOf 10 = .ok (.iadd, 1) := dk_96 (dk_at dksX13_wayOf_0 10 rfl rfl)
theorem dX13_wayOf_11 : decode cX13_wayOf 11 = .ok (.iload_n 2, 1) := dk_28 (dk_at dksX13_wayOf_0 11 rfl rfl)
theorem dX13_wayOf_12 : decode cX13_wayOf 12 = .ok (.iadd, 1) := dk_96 (dk_at dksX13_wayOf_0 12 rfl rfl)
theorem dX13_wayOf_13 : decode cX13_wayOf 13 = .ok (.iaload, 1) := dk_46 (dk_at dksX13_wayOf_0 13 rfl rfl)
theorem dX13_wayOf_14 : decode cX13_wayOf 14 = .ok (.ireturn, 1) := dk_172 (dk_at dksX13_wayOf_0 14 rfl rfl)
abbrev cX13_years : ByteArray := prog_24_method_47_code
def yX13_years : MethodName := ⟨RX13, "years", "(I)Z"⟩
def dkwX13_years_1 : List UInt8 := [27, 79, 4, 172]
abbrev dktX13_years_1 : List UInt8 := dkwX13_years_1 ++ []
def dkwX13_years_0 : List UInt8 := [42, 3, 181, 0, 58, 27, 3, 16, 40, 184, 0, 115, 154, 0, 5, 3, 172, 42, 180, 0, 13, 17, 0, 141]
abbrev dktX13_years_0 : List UInt8 := dkwX13_years_0 ++ dktX13_years_1
theorem dksX13_years_0 : cX13_years.data.toList.drop 0 = dktX13_years_0 := by decide +kernel
theorem dksX13_years_1 : cX13_years.data.toList.drop 24 = dktX13_years_1 := dk_seg dksX13_years_0 24 rfl rfl
theorem dX13_years_0 : decode cX13_years 0 = .ok (.aload_n 0, 1) := dk_42 (dk_at dksX13_years_0 0 rfl rfl)
theorem dX13_years_1 : decode cX13_years 1 = .ok (.iconst 0, 1) := dk_3 (dk_at dksX13_years_0 1 rfl rfl)
theorem dX13_years_2 : decode cX13_years 2 = .ok (.putfield 58, 3) := dk_181 0 58 (dk_at dksX13_years_0 2 rfl rfl)
theorem dX13_years_5 : decode cX13_years 5 = .ok (.iload_n 1, 1) := dk_27 (dk_at dksX13_years_0 5 rfl rfl)
theorem dX13_years_6 : decode cX13_years 6 = .ok (.iconst 0, 1) := dk_3 (dk_at dksX13_years_0 6 rfl rfl)
theorem dX13_years_7 : decode cX13_years 7 = .ok (.bipush 40, 2) := dk_16 40 (dk_at dksX13_years_0 7 rfl rfl)
theorem dX13_years_9 : decode cX13_years 9 = .ok (.invokestatic 115, 3) := dk_184 0 115 (dk_at dksX13_years_0 9 rfl rfl)
theorem dX13_years_12 : decode cX13_years 12 = .ok (.ifCond .ne 5, 3) := dk_154 0 5 (dk_at dksX13_years_0 12 rfl rfl)
theorem dX13_years_15 : decode cX13_years 15 = .ok (.iconst 0, 1) := dk_3 (dk_at dksX13_years_0 15 rfl rfl)
theorem dX13_years_16 : decode cX13_years 16 = .ok (.ireturn, 1) := dk_172 (dk_at dksX13_years_0 16 rfl rfl)
theorem dX13_years_17 : decode cX13_years 17 = .ok (.aload_n 0, 1) := dk_42 (dk_at dksX13_years_0 17 rfl rfl)
theorem dX13_years_18 : decode cX13_years 18 = .ok (.getfield 13, 3) := dk_180 0 13 (dk_at dksX13_years_0 18 rfl rfl)
theorem dX13_years_21 : decode cX13_years 21 = .ok (.sipush 141, 3) := dk_17 0 141 (dk_at dksX13_years_0 21 rfl rfl)
theorem dX13_years_24 : decode cX13_years 24 = .ok (.iload_n 1, 1) := dk_27 (dk_at dksX13_years_1 0 rfl rfl)
theorem dX13_years_25 : decode cX13_years 25 = .ok (.iastore, 1) := dk_79 (dk_at dksX13_years_1 1 rfl rfl)
theorem dX13_years_26 : decode cX13_years 26 = .ok (.iconst 1, 1) := dk_4 (dk_at dksX13_years_1 2 rfl rfl)
theorem dX13_years_27 : decode cX13_years 27 = .ok (.ireturn, 1) := dk_172 (dk_at dksX13_years_1 3 rfl rfl)
abbrev cX13_way : ByteArray := prog_24_method_48_code
def yX13_way : MethodName := ⟨RX13, "way", "(II)I"⟩
def dkwX13_way_1 : List UInt8 := [182, 0, 234, 172, 42, 3, 181, 0, 58, 42, 27, 28, 182, 0, 227, 172]
abbrev dktX13_way_1 : List UInt8 := dkwX13_way_1 ++ []
def dkwX13_way_0 : List UInt8 := [27, 155, 0, 21, 27, 42, 182, 0, 224, 162, 0, 13, 28, 3, 16, 7, 184, 0, 115, 154, 0, 8, 42]
abbrev dktX13_way_0 : List UInt8 := dkwX13_way_0 ++ dktX13_way_1
theorem dksX13_way_0 : cX13_way.data.toList.drop 0 = dktX13_way_0 := by decide +kernel
theorem dksX13_way_1 : cX13_way.data.toList.drop 23 = dktX13_way_1 := dk_seg dksX13_way_0 23 rfl rfl
theorem dX13_way_0 : decode cX13_way 0 = .ok (.iload_n 1, 1) := dk_27 (dk_at dksX13_way_0 0 rfl rfl)
theorem dX13_way_1 : decode cX13_way 1 = .ok (.ifCond .lt 21, 3) := dk_155 0 21 (dk_at dksX13_way_0 1 rfl rfl)
theorem dX13_way_4 : decode cX13_way 4 = .ok (.iload_n 1, 1) := dk_27 (dk_at dksX13_way_0 4 rfl rfl)
theorem dX13_way_5 : decode cX13_way 5 = .ok (.aload_n 0, 1) := dk_42 (dk_at dksX13_way_0 5 rfl rfl)
theorem dX13_way_6 : decode cX13_way 6 = .ok (.invokevirtual 224, 3) := dk_182 0 224 (dk_at dksX13_way_0 6 rfl rfl)
theorem dX13_way_9 : decode cX13_way 9 = .ok (.if_icmp .ge 13, 3) := dk_162 0 13 (dk_at dksX13_way_0 9 rfl rfl)
theorem dX13_way_12 : decode cX13_way 12 = .ok (.iload_n 2, 1) := dk_28 (dk_at dksX13_way_0 12 rfl rfl)
theorem dX13_way_13 : decode cX13_way 13 = .ok (.iconst 0, 1) := dk_3 (dk_at dksX13_way_0 13 rfl rfl)
theorem dX13_way_14 : decode cX13_way 14 = .ok (.bipush 7, 2) := dk_16 7 (dk_at dksX13_way_0 14 rfl rfl)
theorem dX13_way_16 : decode cX13_way 16 = .ok (.invokestatic 115, 3) := dk_184 0 115 (dk_at dksX13_way_0 16 rfl rfl)
theorem dX13_way_19 : decode cX13_way 19 = .ok (.ifCond .ne 8, 3) := dk_154 0 8 (dk_at dksX13_way_0 19 rfl rfl)
theorem dX13_way_22 : decode cX13_way 22 = .ok (.aload_n 0, 1) := dk_42 (dk_at dksX13_way_0 22 rfl rfl)
theorem dX13_way_23 : decode cX13_way 23 = .ok (.invokevirtual 234, 3) := dk_182 0 234 (dk_at dksX13_way_1 0 rfl rfl)
theorem dX13_way_26 : decode cX13_way 26 = .ok (.ireturn, 1) := dk_172 (dk_at dksX13_way_1 3 rfl rfl)
theorem dX13_way_27 : decode cX13_way 27 = .ok (.aload_n 0, 1) := dk_42 (dk_at dksX13_way_1 4 rfl rfl)
theorem dX13_way_28 : decode cX13_way 28 = .ok (.iconst 0, 1) := dk_3 (dk_at dksX13_way_1 5 rfl rfl)
theorem dX13_way_29 : decode cX13_way 29 = .ok (.putfield 58, 3) := dk_181 0 58 (dk_at dksX13_way_1 6 rfl rfl)
theorem dX13_way_32 : decode cX13_way 32 = .ok (.aload_n 0, 1) := dk_42 (dk_at dksX13_way_1 9 rfl rfl)
theorem dX13_way_33 : decode cX13_way 33 = .ok (.iload_n 1, 1) := dk_27 (dk_at dksX13_way_1 10 rfl rfl)
theorem dX13_way_34 : decode cX13_way 34 = .ok (.iload_n 2, 1) := dk_28 (dk_at dksX13_way_1 11 rfl rfl)
theorem dX13_way_35 : decode cX13_way 35 = .ok (.invokevirtual 227, 3) := dk_182 0 227 (dk_at dksX13_way_1 12 rfl rfl)
theorem dX13_way_38 : decode cX13_way 38 = .ok (.ireturn, 1) := dk_172 (dk_at dksX13_way_1 15 rfl rfl)
abbrev cX13_refuse : ByteArray := prog_24_method_3_code
def yX13_refuse : MethodName := ⟨RX13, "refuse", "()I"⟩
def dkwX13_refuse_0 : List UInt8 := [42, 4, 181, 0, 58, 3, 172]
abbrev dktX13_refuse_0 : List UInt8 := dkwX13_refuse_0 ++ []
theorem dksX13_refuse_0 : cX13_refuse.data.toList.drop 0 = dktX13_refuse_0 := by decide +kernel
theorem dX13_refuse_0 : decode cX13_refuse 0 = .ok (.aload_n 0, 1) := dk_42 (dk_at dksX13_refuse_0 0 rfl rfl)
theorem dX13_refuse_1 : decode cX13_refuse 1 = .ok (.iconst 1, 1) := dk_4 (dk_at dksX13_refuse_0 1 rfl rfl)
theorem dX13_refuse_2 : decode cX13_refuse 2 = .ok (.putfield 58, 3) := dk_181 0 58 (dk_at dksX13_refuse_0 2 rfl rfl)
theorem dX13_refuse_5 : decode cX13_refuse 5 = .ok (.iconst 0, 1) := dk_3 (dk_at dksX13_refuse_0 5 rfl rfl)
theorem dX13_refuse_6 : decode cX13_refuse 6 = .ok (.ireturn, 1) := dk_172 (dk_at dksX13_refuse_0 6 rfl rfl)
abbrev cX13_thing : ByteArray := prog_24_method_50_code
def yX13_thing : MethodName := ⟨RX13, "thing", "(II)I"⟩
def dkwX13_thing_1 : List UInt8 := [181, 0, 58, 42, 180, 0, 13, 28, 154, 0, 7, 3, 167, 0, 5, 16, 16, 27, 96, 46, 172]
abbrev dktX13_thing_1 : List UInt8 := dkwX13_thing_1 ++ []
def dkwX13_thing_0 : List UInt8 := [42, 27, 182, 0, 240, 153, 0, 12, 28, 3, 4, 184, 0, 115, 154, 0, 8, 42, 182, 0, 234, 172, 42, 3]
abbrev dktX13_thing_0 : List UInt8 := dkwX13_thing_0 ++ dktX13_thing_1
theorem dksX13_thing_0 : cX13_thing.data.toList.drop 0 = dktX13_thing_0 := by decide +kernel
theorem dksX13_thing_1 : cX13_thing.data.toList.drop 24 = dktX13_thing_1 := dk_seg dksX13_thing_0 24 rfl rfl
theorem dX13_thing_0 : decode cX13_thing 0 = .ok (.aload_n 0, 1) := dk_42 (dk_at dksX13_thing_0 0 rfl rfl)
theorem dX13_thing_1 : decode cX13_thing 1 = .ok (.iload_n 1, 1) := dk_27 (dk_at dksX13_thing_0 1 rfl rfl)
theorem dX13_thing_2 : decode cX13_thing 2 = .ok (.invokevirtual 240, 3) := dk_182 0 240 (dk_at dksX13_thing_0 2 rfl rfl)
theorem dX13_thing_5 : decode cX13_thing 5 = .ok (.ifCond .eq 12, 3) := dk_153 0 12 (dk_at dksX13_thing_0 5 rfl rfl)
theorem dX13_thing_8 : decode cX13_thing 8 = .ok (.iload_n 2, 1) := dk_28 (dk_at dksX13_thing_0 8 rfl rfl)
theorem dX13_thing_9 : decode cX13_thing 9 = .ok (.iconst 0, 1) := dk_3 (dk_at dksX13_thing_0 9 rfl rfl)
theorem dX13_thing_10 : decode cX13_thing 10 = .ok (.iconst 1, 1) := dk_4 (dk_at dksX13_thing_0 10 rfl rfl)
theorem dX13_thing_11 : decode cX13_thing 11 = .ok (.invokestatic 115, 3) := dk_184 0 115 (dk_at dksX13_thing_0 11 rfl rfl)
theorem dX13_thing_14 : decode cX13_thing 14 = .ok (.ifCond .ne 8, 3) := dk_154 0 8 (dk_at dksX13_thing_0 14 rfl rfl)
theorem dX13_thing_17 : decode cX13_thing 17 = .ok (.aload_n 0, 1) := dk_42 (dk_at dksX13_thing_0 17 rfl rfl)
theorem dX13_thing_18 : decode cX13_thing 18 = .ok (.invokevirtual 234, 3) := dk_182 0 234 (dk_at dksX13_thing_0 18 rfl rfl)
theorem dX13_thing_21 : decode cX13_thing 21 = .ok (.ireturn, 1) := dk_172 (dk_at dksX13_thing_0 21 rfl rfl)
theorem dX13_thing_22 : decode cX13_thing 22 = .ok (.aload_n 0, 1) := dk_42 (dk_at dksX13_thing_0 22 rfl rfl)
theorem dX13_thing_23 : decode cX13_thing 23 = .ok (.iconst 0, 1) := dk_3 (dk_at dksX13_thing_0 23 rfl rfl)
theorem dX13_thing_24 : decode cX13_thing 24 = .ok (.putfield 58, 3) := dk_181 0 58 (dk_at dksX13_thing_1 0 rfl rfl)
theorem dX13_thing_27 : decode cX13_thing 27 = .ok (.aload_n 0, 1) := dk_42 (dk_at dksX13_thing_1 3 rfl rfl)
theorem dX13_thing_28 : decode cX13_thing 28 = .ok (.getfield 13, 3) := dk_180 0 13 (dk_at dksX13_thing_1 4 rfl rfl)
theorem dX13_thing_31 : decode cX13_thing 31 = .ok (.iload_n 2, 1) := dk_28 (dk_at dksX13_thing_1 7 rfl rfl)
theorem dX13_thing_32 : decode cX13_thing 32 = .ok (.ifCond .ne 7, 3) := dk_154 0 7 (dk_at dksX13_thing_1 8 rfl rfl)
theorem dX13_thing_35 : decode cX13_thing 35 = .ok (.iconst 0, 1) := dk_3 (dk_at dksX13_thing_1 11 rfl rfl)
theorem dX13_thing_36 : decode cX13_thing 36 = .ok (.goto 5, 3) := dk_167 0 5 (dk_at dksX13_thing_1 12 rfl rfl)
theorem dX13_thing_39 : decode cX13_thing 39 = .ok (.bipush 16, 2) := dk_16 16 (dk_at dksX13_thing_1 15 rfl rfl)
theorem dX13_thing_41 : decode cX13_thing 41 = .ok (.iload_n 1, 1) := dk_27 (dk_at dksX13_thing_1 17 rfl rfl)
theorem dX13_thing_42 : decode cX13_thing 42 = .ok (.iadd, 1) := dk_96 (dk_at dksX13_thing_1 18 rfl rfl)
theorem dX13_thing_43 : decode cX13_thing 43 = .ok (.iaload, 1) := dk_46 (dk_at dksX13_thing_1 19 rfl rfl)
theorem dX13_thing_44 : decode cX13_thing 44 = .ok (.ireturn, 1) := dk_172 (dk_at dksX13_thing_1 20 rfl rfl)
abbrev cX13_isThing : ByteArray := prog_24_method_49_code
def yX13_isThing : MethodName := ⟨RX13, "isThing", "(I)Z"⟩
def dkwX13_isThing_0 : List UInt8 := [27, 155, 0, 15, 27, 42, 182, 0, 237, 162, 0, 7, 4, 167, 0, 4, 3, 172]
abbrev dktX13_isThing_0 : List UInt8 := dkwX13_isThing_0 ++ []
theorem dksX13_isThing_0 : cX13_isThing.data.toList.drop 0 = dktX13_isThing_0 := by decide +kernel
theorem dX13_isThing_0 : decode cX13_isThing 0 = .ok (.iload_n 1, 1) := dk_27 (dk_at dksX13_isThing_0 0 rfl rfl)
theorem dX13_isThing_1 : decode cX13_isThing 1 = .ok (.ifCond .lt 15, 3) := dk_155 0 15 (dk_at dksX13_isThing_0 1 rfl rfl)
theorem dX13_isThing_4 : decode cX13_isThing 4 = .ok (.iload_n 1, 1) := dk_27 (dk_at dksX13_isThing_0 4 rfl rfl)
theorem dX13_isThing_5 : decode cX13_isThing 5 = .ok (.aload_n 0, 1) := dk_42 (dk_at dksX13_isThing_0 5 rfl rfl)
theorem dX13_isThing_6 : decode cX13_isThing 6 = .ok (.invokevirtual 237, 3) := dk_182 0 237 (dk_at dksX13_isThing_0 6 rfl rfl)
theorem dX13_isThing_9 : decode cX13_isThing 9 = .ok (.if_icmp .ge 7, 3) := dk_162 0 7 (dk_at dksX13_isThing_0 9 rfl rfl)
theorem dX13_isThing_12 : decode cX13_isThing 12 = .ok (.iconst 1, 1) := dk_4 (dk_at dksX13_isThing_0 12 rfl rfl)
theorem dX13_isThing_13 : decode cX13_isThing 13 = .ok (.goto 4, 3) := dk_167 0 4 (dk_at dksX13_isThing_0 13 rfl rfl)
theorem dX13_isThing_16 : decode cX13_isThing 16 = .ok (.iconst 0, 1) := dk_3 (dk_at dksX13_isThing_0 16 rfl rfl)
theorem dX13_isThing_17 : decode cX13_isThing 17 = .ok (.ireturn, 1) := dk_172 (dk_at dksX13_isThing_0 17 rfl rfl)
abbrev cX13_things : ByteArray := prog_24_method_30_code
def yX13_things : MethodName := ⟨RX13, "things", "()I"⟩
def dkwX13_things_0 : List UInt8 := [42, 180, 0, 13, 17, 0, 128, 46, 172]
abbrev dktX13_things_0 : List UInt8 := dkwX13_things_0 ++ []
theorem dksX13_things_0 : cX13_things.data.toList.drop 0 = dktX13_things_0 := by decide +kernel
theorem dX13_things_0 : decode cX13_things 0 = .ok (.aload_n 0, 1) := dk_42 (dk_at dksX13_things_0 0 rfl rfl)
theorem dX13_things_1 : decode cX13_things 1 = .ok (.getfield 13, 3) := dk_180 0 13 (dk_at dksX13_things_0 1 rfl rfl)
theorem dX13_things_4 : decode cX13_things 4 = .ok (.sipush 128, 3) := dk_17 0 128 (dk_at dksX13_things_0 4 rfl rfl)
theorem dX13_things_7 : decode cX13_things 7 = .ok (.iaload, 1) := dk_46 (dk_at dksX13_things_0 7 rfl rfl)
theorem dX13_things_8 : decode cX13_things 8 = .ok (.ireturn, 1) := dk_172 (dk_at dksX13_things_0 8 rfl rfl)
abbrev cX13_knows : ByteArray := prog_24_method_69_code
def yX13_knows : MethodName := ⟨RX13, "knows", "(IIIIII)I"⟩
def dkwX13_knows_4 : List UInt8 := [182, 1, 11, 172]
abbrev dktX13_knows_4 : List UInt8 := dkwX13_knows_4 ++ []
def dkwX13_knows_3 : List UInt8 := [182, 1, 29, 42, 27, 28, 182, 1, 11, 17, 3, 232, 160, 0, 7, 2, 167, 0, 9, 42, 27, 28]
abbrev dktX13_knows_3 : List UInt8 := dkwX13_knows_3 ++ dktX13_knows_4
def dkwX13_knows_2 : List UInt8 := [21, 5, 21, 6, 3, 182, 1, 45, 42, 42, 42, 180, 0, 13, 17, 0, 140, 46, 3, 182, 1, 49]
abbrev dktX13_knows_2 : List UInt8 := dkwX13_knows_2 ++ dktX13_knows_3
def dkwX13_knows_1 : List UInt8 := [153, 0, 17, 42, 29, 21, 4, 21, 5, 21, 6, 182, 1, 35, 154, 0, 6, 16, 254, 172, 42, 29, 21, 4]
abbrev dktX13_knows_1 : List UInt8 := dkwX13_knows_1 ++ dktX13_knows_2
def dkwX13_knows_0 : List UInt8 := [42, 3, 181, 0, 58, 42, 182, 0, 212, 27, 3, 4, 184, 0, 115, 153, 0, 25, 42, 28, 182, 0, 240]
abbrev dktX13_knows_0 : List UInt8 := dkwX13_knows_0 ++ dktX13_knows_1
theorem dksX13_knows_0 : cX13_knows.data.toList.drop 0 = dktX13_knows_0 := by decide +kernel
theorem dksX13_knows_1 : cX13_knows.data.toList.drop 23 = dktX13_knows_1 := dk_seg dksX13_knows_0 23 rfl rfl
theorem dksX13_knows_2 : cX13_knows.data.toList.drop 47 = dktX13_knows_2 := dk_seg dksX13_knows_1 24 rfl rfl
theorem dksX13_knows_3 : cX13_knows.data.toList.drop 69 = dktX13_knows_3 := dk_seg dksX13_knows_2 22 rfl rfl
theorem dksX13_knows_4 : cX13_knows.data.toList.drop 91 = dktX13_knows_4 := dk_seg dksX13_knows_3 22 rfl rfl
theorem dX13_knows_0 : decode cX13_knows 0 = .ok (.aload_n 0, 1) := dk_42 (dk_at dksX13_knows_0 0 rfl rfl)
theorem dX13_knows_1 : decode cX13_knows 1 = .ok (.iconst 0, 1) := dk_3 (dk_at dksX13_knows_0 1 rfl rfl)
theorem dX13_knows_2 : decode cX13_knows 2 = .ok (.putfield 58, 3) := dk_181 0 58 (dk_at dksX13_knows_0 2 rfl rfl)
theorem dX13_knows_5 : decode cX13_knows 5 = .ok (.aload_n 0, 1) := dk_42 (dk_at dksX13_knows_0 5 rfl rfl)
theorem dX13_knows_6 : decode cX13_knows 6 = .ok (.invokevirtual 212, 3) := dk_182 0 212 (dk_at dksX13_knows_0 6 rfl rfl)
theorem dX13_knows_9 : decode cX13_knows 9 = .ok (.iload_n 1, 1) := dk_27 (dk_at dksX13_knows_0 9 rfl rfl)
theorem dX13_knows_10 : decode cX13_knows 10 = .ok (.iconst 0, 1) := dk_3 (dk_at dksX13_knows_0 10 rfl rfl)
theorem dX13_knows_11 : decode cX13_knows 11 = .ok (.iconst 1, 1) := dk_4 (dk_at dksX13_knows_0 11 rfl rfl)
theorem dX13_knows_12 : decode cX13_knows 12 = .ok (.invokestatic 115, 3) := dk_184 0 115 (dk_at dksX13_knows_0 12 rfl rfl)
theorem dX13_knows_15 : decode cX13_knows 15 = .ok (.ifCond .eq 25, 3) := dk_153 0 25 (dk_at dksX13_knows_0 15 rfl rfl)
theorem dX13_knows_18 : decode cX13_knows 18 = .ok (.aload_n 0, 1) := dk_42 (dk_at dksX13_knows_0 18 rfl rfl)
theorem dX13_knows_19 : decode cX13_knows 19 = .ok (.iload_n 2, 1) := dk_28 (dk_at dksX13_knows_0 19 rfl rfl)
theorem dX13_knows_20 : decode cX13_knows 20 = .ok (.invokevirtual 240, 3) := dk_182 0 240 (dk_at dksX13_knows_0 20 rfl rfl)
theorem dX13_knows_23 : decode cX13_knows 23 = .ok (.ifCond .eq 17, 3) := dk_153 0 17 (dk_at dksX13_knows_1 0 rfl rfl)
theorem dX13_knows_26 : decode cX13_knows 26 = .ok (.aload_n 0, 1) := dk_42 (dk_at dksX13_knows_1 3 rfl rfl)
theorem dX13_knows_27 : decode cX13_knows 27 = .ok (.iload_n 3, 1) := dk_29 (dk_at dksX13_knows_1 4 rfl rfl)
theorem dX13_knows_28 : decode cX13_knows 28 = .ok (.iload 4, 2) := dk_21 4 (dk_at dksX13_knows_1 5 rfl rfl)
theorem dX13_knows_30 : decode cX13_knows 30 = .ok (.iload 5, 2) := dk_21 5 (dk_at dksX13_knows_1 7 rfl rfl)
theorem dX13_knows_32 : decode cX13_knows 32 = .ok (.iload 6, 2) := dk_21 6 (dk_at dksX13_knows_1 9 rfl rfl)
theorem dX13_knows_34 : decode cX13_knows 34 = .ok (.invokevirtual 291, 3) := dk_182 1 35 (dk_at dksX13_knows_1 11 rfl rfl)
theorem dX13_knows_37 : decode cX13_knows 37 = .ok (.ifCond .ne 6, 3) := dk_154 0 6 (dk_at dksX13_knows_1 14 rfl rfl)
theorem dX13_knows_40 : decode cX13_knows 40 = .ok (.bipush (-2), 2) := dk_16 254 (dk_at dksX13_knows_1 17 rfl rfl)
theorem dX13_knows_42 : decode cX13_knows 42 = .ok (.ireturn, 1) := dk_172 (dk_at dksX13_knows_1 19 rfl rfl)
theorem dX13_knows_43 : decode cX13_knows 43 = .ok (.aload_n 0, 1) := dk_42 (dk_at dksX13_knows_1 20 rfl rfl)
theorem dX13_knows_44 : decode cX13_knows 44 = .ok (.iload_n 3, 1) := dk_29 (dk_at dksX13_knows_1 21 rfl rfl)
theorem dX13_knows_45 : decode cX13_knows 45 = .ok (.iload 4, 2) := dk_21 4 (dk_at dksX13_knows_1 22 rfl rfl)
theorem dX13_knows_47 : decode cX13_knows 47 = .ok (.iload 5, 2) := dk_21 5 (dk_at dksX13_knows_2 0 rfl rfl)
theorem dX13_knows_49 : decode cX13_knows 49 = .ok (.iload 6, 2) := dk_21 6 (dk_at dksX13_knows_2 2 rfl rfl)
theorem dX13_knows_51 : decode cX13_knows 51 = .ok (.iconst 0, 1) := dk_3 (dk_at dksX13_knows_2 4 rfl rfl)
theorem dX13_knows_52 : decode cX13_knows 52 = .ok (.invokevirtual 301, 3) := dk_182 1 45 (dk_at dksX13_knows_2 5 rfl rfl)
theorem dX13_knows_55 : decode cX13_knows 55 = .ok (.aload_n 0, 1) := dk_42 (dk_at dksX13_knows_2 8 rfl rfl)
theorem dX13_knows_56 : decode cX13_knows 56 = .ok (.aload_n 0, 1) := dk_42 (dk_at dksX13_knows_2 9 rfl rfl)
theorem dX13_knows_57 : decode cX13_knows 57 = .ok (.aload_n 0, 1) := dk_42 (dk_at dksX13_knows_2 10 rfl rfl)
theorem dX13_knows_58 : decode cX13_knows 58 = .ok (.getfield 13, 3) := dk_180 0 13 (dk_at dksX13_knows_2 11 rfl rfl)
theorem dX13_knows_61 : decode cX13_knows 61 = .ok (.sipush 140, 3) := dk_17 0 140 (dk_at dksX13_knows_2 14 rfl rfl)
theorem dX13_knows_64 : decode cX13_knows 64 = .ok (.iaload, 1) := dk_46 (dk_at dksX13_knows_2 17 rfl rfl)
theorem dX13_knows_65 : decode cX13_knows 65 = .ok (.iconst 0, 1) := dk_3 (dk_at dksX13_knows_2 18 rfl rfl)
theorem dX13_knows_66 : decode cX13_knows 66 = .ok (.invokevirtual 305, 3) := dk_182 1 49 (dk_at dksX13_knows_2 19 rfl rfl)
theorem dX13_knows_69 : decode cX13_knows 69 = .ok (.invokevirtual 285, 3) := dk_182 1 29 (dk_at dksX13_knows_3 0 rfl rfl)
theorem dX13_knows_72 : decode cX13_knows 72 = .ok (.aload_n 0, 1) := dk_42 (dk_at dksX13_knows_3 3 rfl rfl)
theorem dX13_knows_73 : decode cX13_knows 73 = .ok (.iload_n 1, 1) := dk_27 (dk_at dksX13_knows_3 4 rfl rfl)
theorem dX13_knows_74 : decode cX13_knows 74 = .ok (.iload_n 2, 1) := dk_28 (dk_at dksX13_knows_3 5 rfl rfl)
theorem dX13_knows_75 : decode cX13_knows 75 = .ok (.invokevirtual 267, 3) := dk_182 1 11 (dk_at dksX13_knows_3 6 rfl rfl)
theorem dX13_knows_78 : decode cX13_knows 78 = .ok (.sipush 1000, 3) := dk_17 3 232 (dk_at dksX13_knows_3 9 rfl rfl)
theorem dX13_knows_81 : decode cX13_knows 81 = .ok (.if_icmp .ne 7, 3) := dk_160 0 7 (dk_at dksX13_knows_3 12 rfl rfl)
theorem dX13_knows_84 : decode cX13_knows 84 = .ok (.iconst (-1), 1) := dk_2 (dk_at dksX13_knows_3 15 rfl rfl)
theorem dX13_knows_85 : decode cX13_knows 85 = .ok (.goto 9, 3) := dk_167 0 9 (dk_at dksX13_knows_3 16 rfl rfl)
theorem dX13_knows_88 : decode cX13_knows 88 = .ok (.aload_n 0, 1) := dk_42 (dk_at dksX13_knows_3 19 rfl rfl)
theorem dX13_knows_89 : decode cX13_knows 89 = .ok (.iload_n 1, 1) := dk_27 (dk_at dksX13_knows_3 20 rfl rfl)
theorem dX13_knows_90 : decode cX13_knows 90 = .ok (.iload_n 2, 1) := dk_28 (dk_at dksX13_knows_3 21 rfl rfl)
theorem dX13_knows_91 : decode cX13_knows 91 = .ok (.invokevirtual 267, 3) := dk_182 1 11 (dk_at dksX13_knows_4 0 rfl rfl)
theorem dX13_knows_94 : decode cX13_knows 94 = .ok (.ireturn, 1) := dk_172 (dk_at dksX13_knows_4 3 rfl rfl)
abbrev cX13_isShown : ByteArray := prog_24_method_51_code
def yX13_isShown : MethodName := ⟨RX13, "isShown", "(IIII)Z"⟩
def dkwX13_isShown_2 : List UInt8 := [153, 0, 7, 4, 167, 0, 4, 3, 172]
abbrev dktX13_isShown_2 : List UInt8 := dkwX13_isShown_2 ++ []
def dkwX13_isShown_1 : List UInt8 := [153, 0, 29, 29, 4, 16, 60, 184, 0, 115, 153, 0, 19, 21, 4, 3, 17, 0, 255, 184, 0, 115]
abbrev dktX13_isShown_1 : List UInt8 := dkwX13_isShown_1 ++ dktX13_isShown_2
def dkwX13_isShown_0 : List UInt8 := [27, 2, 159, 0, 11, 42, 27, 182, 0, 240, 153, 0, 42, 28, 2, 159, 0, 11, 42, 28, 182, 0, 240]
abbrev dktX13_isShown_0 : List UInt8 := dkwX13_isShown_0 ++ dktX13_isShown_1
theorem dksX13_isShown_0 : cX13_isShown.data.toList.drop 0 = dktX13_isShown_0 := by decide +kernel
theorem dksX13_isShown_1 : cX13_isShown.data.toList.drop 23 = dktX13_isShown_1 := dk_seg dksX13_isShown_0 23 rfl rfl
theorem dksX13_isShown_2 : cX13_isShown.data.toList.drop 45 = dktX13_isShown_2 := dk_seg dksX13_isShown_1 22 rfl rfl
theorem dX13_isShown_0 : decode cX13_isShown 0 = .ok (.iload_n 1, 1) := dk_27 (dk_at dksX13_isShown_0 0 rfl rfl)
theorem dX13_isShown_1 : decode cX13_isShown 1 = .ok (.iconst (-1), 1) := dk_2 (dk_at dksX13_isShown_0 1 rfl rfl)
theorem dX13_isShown_2 : decode cX13_isShown 2 = .ok (.if_icmp .eq 11, 3) := dk_159 0 11 (dk_at dksX13_isShown_0 2 rfl rfl)
theorem dX13_isShown_5 : decode cX13_isShown 5 = .ok (.aload_n 0, 1) := dk_42 (dk_at dksX13_isShown_0 5 rfl rfl)
theorem dX13_isShown_6 : decode cX13_isShown 6 = .ok (.iload_n 1, 1) := dk_27 (dk_at dksX13_isShown_0 6 rfl rfl)
theorem dX13_isShown_7 : decode cX13_isShown 7 = .ok (.invokevirtual 240, 3) := dk_182 0 240 (dk_at dksX13_isShown_0 7 rfl rfl)
theorem dX13_isShown_10 : decode cX13_isShown 10 = .ok (.ifCond .eq 42, 3) := dk_153 0 42 (dk_at dksX13_isShown_0 10 rfl rfl)
theorem dX13_isShown_13 : decode cX13_isShown 13 = .ok (.iload_n 2, 1) := dk_28 (dk_at dksX13_isShown_0 13 rfl rfl)
theorem dX13_isShown_14 : decode cX13_isShown 14 = .ok (.iconst (-1), 1) := dk_2 (dk_at dksX13_isShown_0 14 rfl rfl)
theorem dX13_isShown_15 : decode cX13_isShown 15 = .ok (.if_icmp .eq 11, 3) := dk_159 0 11 (dk_at dksX13_isShown_0 15 rfl rfl)
theorem dX13_isShown_18 : decode cX13_isShown 18 = .ok (.aload_n 0, 1) := dk_42 (dk_at dksX13_isShown_0 18 rfl rfl)
theorem dX13_isShown_19 : decode cX13_isShown 19 = .ok (.iload_n 2, 1) := dk_28 (dk_at dksX13_isShown_0 19 rfl rfl)
theorem dX13_isShown_20 : decode cX13_isShown 20 = .ok (.invokevirtual 240, 3) := dk_182 0 240 (dk_at dksX13_isShown_0 20 rfl rfl)
theorem dX13_isShown_23 : decode cX13_isShown 23 = .ok (.ifCond .eq 29, 3) := dk_153 0 29 (dk_at dksX13_isShown_1 0 rfl rfl)
theorem dX13_isShown_26 : decode cX13_isShown 26 = .ok (.iload_n 3, 1) := dk_29 (dk_at dksX13_isShown_1 3 rfl rfl)
theorem dX13_isShown_27 : decode cX13_isShown 27 = .ok (.iconst 1, 1) := dk_4 (dk_at dksX13_isShown_1 4 rfl rfl)
theorem dX13_isShown_28 : decode cX13_isShown 28 = .ok (.bipush 60, 2) := dk_16 60 (dk_at dksX13_isShown_1 5 rfl rfl)
theorem dX13_isShown_30 : decode cX13_isShown 30 = .ok (.invokestatic 115, 3) := dk_184 0 115 (dk_at dksX13_isShown_1 7 rfl rfl)
theorem dX13_isShown_33 : decode cX13_isShown 33 = .ok (.ifCond .eq 19, 3) := dk_153 0 19 (dk_at dksX13_isShown_1 10 rfl rfl)
theorem dX13_isShown_36 : decode cX13_isShown 36 = .ok (.iload 4, 2) := dk_21 4 (dk_at dksX13_isShown_1 13 rfl rfl)
theorem dX13_isShown_38 : decode cX13_isShown 38 = .ok (.iconst 0, 1) := dk_3 (dk_at dksX13_isShown_1 15 rfl rfl)
theorem dX13_isShown_39 : decode cX13_isShown 39 = .ok (.sipush 255, 3) := dk_17 0 255 (dk_at dksX13_isShown_1 16 rfl rfl)
theorem dX13_isShown_42 : decode cX13_isShown 42 = .ok (.invokestatic 115, 3) := dk_184 0 115 (dk_at dksX13_isShown_1 19 rfl rfl)
theorem dX13_isShown_45 : decode cX13_isShown 45 = .ok (.ifCond .eq 7, 3) := dk_153 0 7 (dk_at dksX13_isShown_2 0 rfl rfl)
theorem dX13_isShown_48 : decode cX13_isShown 48 = .ok (.iconst 1, 1) := dk_4 (dk_at dksX13_isShown_2 3 rfl rfl)
theorem dX13_isShown_49 : decode cX13_isShown 49 = .ok (.goto 4, 3) := dk_167 0 4 (dk_at dksX13_isShown_2 4 rfl rfl)
theorem dX13_isShown_52 : decode cX13_isShown 52 = .ok (.iconst 0, 1) := dk_3 (dk_at dksX13_isShown_2 7 rfl rfl)
theorem dX13_isShown_53 : decode cX13_isShown 53 = .ok (.ireturn, 1) := dk_172 (dk_at dksX13_isShown_2 8 rfl rfl)
abbrev cX13_show : ByteArray := prog_24_method_52_code
def yX13_show : MethodName := ⟨RX13, "show", "(IIIII)V"⟩
def dkwX13_show_1 : List UInt8 := [181, 0, 255, 42, 42, 180, 0, 13, 17, 0, 141, 46, 181, 1, 2, 177]
abbrev dktX13_show_1 : List UInt8 := dkwX13_show_1 ++ []
def dkwX13_show_0 : List UInt8 := [42, 27, 181, 0, 243, 42, 28, 181, 0, 246, 42, 29, 181, 0, 249, 42, 21, 4, 181, 0, 252, 42, 21, 5]
abbrev dktX13_show_0 : List UInt8 := dkwX13_show_0 ++ dktX13_show_1
theorem dksX13_show_0 : cX13_show.data.toList.drop 0 = dktX13_show_0 := by decide +kernel
theorem dksX13_show_1 : cX13_show.data.toList.drop 24 = dktX13_show_1 := dk_seg dksX13_show_0 24 rfl rfl
theorem dX13_show_0 : decode cX13_show 0 = .ok (.aload_n 0, 1) := dk_42 (dk_at dksX13_show_0 0 rfl rfl)
theorem dX13_show_1 : decode cX13_show 1 = .ok (.iload_n 1, 1) := dk_27 (dk_at dksX13_show_0 1 rfl rfl)
theorem dX13_show_2 : decode cX13_show 2 = .ok (.putfield 243, 3) := dk_181 0 243 (dk_at dksX13_show_0 2 rfl rfl)
theorem dX13_show_5 : decode cX13_show 5 = .ok (.aload_n 0, 1) := dk_42 (dk_at dksX13_show_0 5 rfl rfl)
theorem dX13_show_6 : decode cX13_show 6 = .ok (.iload_n 2, 1) := dk_28 (dk_at dksX13_show_0 6 rfl rfl)
theorem dX13_show_7 : decode cX13_show 7 = .ok (.putfield 246, 3) := dk_181 0 246 (dk_at dksX13_show_0 7 rfl rfl)
theorem dX13_show_10 : decode cX13_show 10 = .ok (.aload_n 0, 1) := dk_42 (dk_at dksX13_show_0 10 rfl rfl)
theorem dX13_show_11 : decode cX13_show 11 = .ok (.iload_n 3, 1) := dk_29 (dk_at dksX13_show_0 11 rfl rfl)
theorem dX13_show_12 : decode cX13_show 12 = .ok (.putfield 249, 3) := dk_181 0 249 (dk_at dksX13_show_0 12 rfl rfl)
theorem dX13_show_15 : decode cX13_show 15 = .ok (.aload_n 0, 1) := dk_42 (dk_at dksX13_show_0 15 rfl rfl)
theorem dX13_show_16 : decode cX13_show 16 = .ok (.iload 4, 2) := dk_21 4 (dk_at dksX13_show_0 16 rfl rfl)
theorem dX13_show_18 : decode cX13_show 18 = .ok (.putfield 252, 3) := dk_181 0 252 (dk_at dksX13_show_0 18 rfl rfl)
theorem dX13_show_21 : decode cX13_show 21 = .ok (.aload_n 0, 1) := dk_42 (dk_at dksX13_show_0 21 rfl rfl)
theorem dX13_show_22 : decode cX13_show 22 = .ok (.iload 5, 2) := dk_21 5 (dk_at dksX13_show_0 22 rfl rfl)
theorem dX13_show_24 : decode cX13_show 24 = .ok (.putfield 255, 3) := dk_181 0 255 (dk_at dksX13_show_1 0 rfl rfl)
theorem dX13_show_27 : decode cX13_show 27 = .ok (.aload_n 0, 1) := dk_42 (dk_at dksX13_show_1 3 rfl rfl)
theorem dX13_show_28 : decode cX13_show 28 = .ok (.aload_n 0, 1) := dk_42 (dk_at dksX13_show_1 4 rfl rfl)
theorem dX13_show_29 : decode cX13_show 29 = .ok (.getfield 13, 3) := dk_180 0 13 (dk_at dksX13_show_1 5 rfl rfl)
theorem dX13_show_32 : decode cX13_show 32 = .ok (.sipush 141, 3) := dk_17 0 141 (dk_at dksX13_show_1 8 rfl rfl)
theorem dX13_show_35 : decode cX13_show 35 = .ok (.iaload, 1) := dk_46 (dk_at dksX13_show_1 11 rfl rfl)
theorem dX13_show_36 : decode cX13_show 36 = .ok (.putfield 258, 3) := dk_181 1 2 (dk_at dksX13_show_1 12 rfl rfl)
theorem dX13_show_39 : decode cX13_show 39 = .ok (.return_, 1) := dk_177 (dk_at dksX13_show_1 15 rfl rfl)
abbrev cX13_going : ByteArray := prog_24_method_56_code
def yX13_going : MethodName := ⟨RX13, "going", "(II)I"⟩
def dkwX13_going_4 : List UInt8 := [42, 180, 0, 252, 126, 154, 0, 10, 29, 4, 21, 4, 120, 128, 62, 132, 4, 1, 167, 255, 149, 29, 172]
abbrev dktX13_going_4 : List UInt8 := dkwX13_going_4 ++ []
def dkwX13_going_3 : List UInt8 := [153, 0, 39, 42, 180, 1, 2, 42, 21, 4, 7, 182, 0, 227, 161, 0, 25, 42, 21, 4, 8, 182, 0, 227]
abbrev dktX13_going_3 : List UInt8 := dkwX13_going_3 ++ dktX13_going_4
def dkwX13_going_2 : List UInt8 := [160, 0, 17, 28, 21, 4, 122, 4, 126, 4, 160, 0, 7, 4, 167, 0, 4, 3, 54, 6, 21, 6]
abbrev dktX13_going_2 : List UInt8 := dkwX13_going_2 ++ dktX13_going_3
def dkwX13_going_1 : List UInt8 := [21, 5, 153, 0, 35, 21, 5, 5, 160, 0, 13, 27, 21, 4, 122, 4, 126, 4, 159, 0, 19, 21, 5, 6]
abbrev dktX13_going_1 : List UInt8 := dkwX13_going_1 ++ dktX13_going_2
def dkwX13_going_0 : List UInt8 := [3, 62, 3, 54, 4, 21, 4, 42, 182, 0, 224, 162, 0, 104, 42, 21, 4, 16, 6, 182, 0, 227, 54, 5]
abbrev dktX13_going_0 : List UInt8 := dkwX13_going_0 ++ dktX13_going_1
theorem dksX13_going_0 : cX13_going.data.toList.drop 0 = dktX13_going_0 := by decide +kernel
theorem dksX13_going_1 : cX13_going.data.toList.drop 24 = dktX13_going_1 := dk_seg dksX13_going_0 24 rfl rfl
theorem dksX13_going_2 : cX13_going.data.toList.drop 48 = dktX13_going_2 := dk_seg dksX13_going_1 24 rfl rfl
theorem dksX13_going_3 : cX13_going.data.toList.drop 70 = dktX13_going_3 := dk_seg dksX13_going_2 22 rfl rfl
theorem dksX13_going_4 : cX13_going.data.toList.drop 94 = dktX13_going_4 := dk_seg dksX13_going_3 24 rfl rfl
theorem dX13_going_0 : decode cX13_going 0 = .ok (.iconst 0, 1) := dk_3 (dk_at dksX13_going_0 0 rfl rfl)
theorem dX13_going_1 : decode cX13_going 1 = .ok (.istore_n 3, 1) := dk_62 (dk_at dksX13_going_0 1 rfl rfl)
theorem dX13_going_2 : decode cX13_going 2 = .ok (.iconst 0, 1) := dk_3 (dk_at dksX13_going_0 2 rfl rfl)
theorem dX13_going_3 : decode cX13_going 3 = .ok (.istore 4, 2) := dk_54 4 (dk_at dksX13_going_0 3 rfl rfl)
theorem dX13_going_5 : decode cX13_going 5 = .ok (.iload 4, 2) := dk_21 4 (dk_at dksX13_going_0 5 rfl rfl)
theorem dX13_going_7 : decode cX13_going 7 = .ok (.aload_n 0, 1) := dk_42 (dk_at dksX13_going_0 7 rfl rfl)
theorem dX13_going_8 : decode cX13_going 8 = .ok (.invokevirtual 224, 3) := dk_182 0 224 (dk_at dksX13_going_0 8 rfl rfl)
theorem dX13_going_11 : decode cX13_going 11 = .ok (.if_icmp .ge 104, 3) := dk_162 0 104 (dk_at dksX13_going_0 11 rfl rfl)
theorem dX13_going_14 : decode cX13_going 14 = .ok (.aload_n 0, 1) := dk_42 (dk_at dksX13_going_0 14 rfl rfl)
theorem dX13_going_15 : decode cX13_going 15 = .ok (.iload 4, 2) := dk_21 4 (dk_at dksX13_going_0 15 rfl rfl)
theorem dX13_going_17 : decode cX13_going 17 = .ok (.bipush 6, 2) := dk_16 6 (dk_at dksX13_going_0 17 rfl rfl)
theorem dX13_going_19 : decode cX13_going 19 = .ok (.invokevirtual 227, 3) := dk_182 0 227 (dk_at dksX13_going_0 19 rfl rfl)
theorem dX13_going_22 : decode cX13_going 22 = .ok (.istore 5, 2) := dk_54 5 (dk_at dksX13_going_0 22 rfl rfl)
theorem dX13_going_24 : decode cX13_going 24 = .ok (.iload 5, 2) := dk_21 5 (dk_at dksX13_going_1 0 rfl rfl)
theorem dX13_going_26 : decode cX13_going 26 = .ok (.ifCond .eq 35, 3) := dk_153 0 35 (dk_at dksX13_going_1 2 rfl rfl)
theorem dX13_going_29 : decode cX13_going 29 = .ok (.iload 5, 2) := dk_21 5 (dk_at dksX13_going_1 5 rfl rfl)
theorem dX13_going_31 : decode cX13_going 31 = .ok (.iconst 2, 1) := dk_5 (dk_at dksX13_going_1 7 rfl rfl)
theorem dX13_going_32 : decode cX13_going 32 = .ok (.if_icmp .ne 13, 3) := dk_160 0 13 (dk_at dksX13_going_1 8 rfl rfl)
theorem dX13_going_35 : decode cX13_going 35 = .ok (.iload_n 1, 1) := dk_27 (dk_at dksX13_going_1 11 rfl rfl)
theorem dX13_going_36 : decode cX13_going 36 = .ok (.iload 4, 2) := dk_21 4 (dk_at dksX13_going_1 12 rfl rfl)
theorem dX13_going_38 : decode cX13_going 38 = .ok (.ishr, 1) := dk_122 (dk_at dksX13_going_1 14 rfl rfl)
theorem dX13_going_39 : decode cX13_going 39 = .ok (.iconst 1, 1) := dk_4 (dk_at dksX13_going_1 15 rfl rfl)
theorem dX13_going_40 : decode cX13_going 40 = .ok (.iand, 1) := dk_126 (dk_at dksX13_going_1 16 rfl rfl)
theorem dX13_going_41 : decode cX13_going 41 = .ok (.iconst 1, 1) := dk_4 (dk_at dksX13_going_1 17 rfl rfl)
theorem dX13_going_42 : decode cX13_going 42 = .ok (.if_icmp .eq 19, 3) := dk_159 0 19 (dk_at dksX13_going_1 18 rfl rfl)
theorem dX13_going_45 : decode cX13_going 45 = .ok (.iload 5, 2) := dk_21 5 (dk_at dksX13_going_1 21 rfl rfl)
theorem dX13_going_47 : decode cX13_going 47 = .ok (.iconst 3, 1) := dk_6 (dk_at dksX13_going_1 23 rfl rfl)
theorem dX13_going_48 : decode cX13_going 48 = .ok (.if_icmp .ne 17, 3) := dk_160 0 17 (dk_at dksX13_going_2 0 rfl rfl)
theorem dX13_going_51 : decode cX13_going 51 = .ok (.iload_n 2, 1) := dk_28 (dk_at dksX13_going_2 3 rfl rfl)
theorem dX13_going_52 : decode cX13_going 52 = .ok (.iload 4, 2) := dk_21 4 (dk_at dksX13_going_2 4 rfl rfl)
theorem dX13_going_54 : decode cX13_going 54 = .ok (.ishr, 1) := dk_122 (dk_at dksX13_going_2 6 rfl rfl)
theorem dX13_going_55 : decode cX13_going 55 = .ok (.iconst 1, 1) := dk_4 (dk_at dksX13_going_2 7 rfl rfl)
theorem dX13_going_56 : decode cX13_going 56 = .ok (.iand, 1) := dk_126 (dk_at dksX13_going_2 8 rfl rfl)
theorem dX13_going_57 : decode cX13_going 57 = .ok (.iconst 1, 1) := dk_4 (dk_at dksX13_going_2 9 rfl rfl)
theorem dX13_going_58 : decode cX13_going 58 = .ok (.if_icmp .ne 7, 3) := dk_160 0 7 (dk_at dksX13_going_2 10 rfl rfl)
theorem dX13_going_61 : decode cX13_going 61 = .ok (.iconst 1, 1) := dk_4 (dk_at dksX13_going_2 13 rfl rfl)
theorem dX13_going_62 : decode cX13_going 62 = .ok (.goto 4, 3) := dk_167 0 4 (dk_at dksX13_going_2 14 rfl rfl)
theorem dX13_going_65 : decode cX13_going 65 = .ok (.iconst 0, 1) := dk_3 (dk_at dksX13_going_2 17 rfl rfl)
theorem dX13_going_66 : decode cX13_going 66 = .ok (.istore 6, 2) := dk_54 6 (dk_at dksX13_going_2 18 rfl rfl)
theorem dX13_going_68 : decode cX13_going 68 = .ok (.iload 6, 2) := dk_21 6 (dk_at dksX13_going_2 20 rfl rfl)
theorem dX13_going_70 : decode cX13_going 70 = .ok (.ifCond .eq 39, 3) := dk_153 0 39 (dk_at dksX13_going_3 0 rfl rfl)
theorem dX13_going_73 : decode cX13_going 73 = .ok (.aload_n 0, 1) := dk_42 (dk_at dksX13_going_3 3 rfl rfl)
theorem dX13_going_74 : decode cX13_going 74 = .ok (.getfield 258, 3) := dk_180 1 2 (dk_at dksX13_going_3 4 rfl rfl)
theorem dX13_going_77 : decode cX13_going 77 = .ok (.aload_n 0, 1) := dk_42 (dk_at dksX13_going_3 7 rfl rfl)
theorem dX13_going_78 : decode cX13_going 78 = .ok (.iload 4, 2) := dk_21 4 (dk_at dksX13_going_3 8 rfl rfl)
theorem dX13_going_80 : decode cX13_going 80 = .ok (.iconst 4, 1) := dk_7 (dk_at dksX13_going_3 10 rfl rfl)
theorem dX13_going_81 : decode cX13_going 81 = .ok (.invokevirtual 227, 3) := dk_182 0 227 (dk_at dksX13_going_3 11 rfl rfl)
theorem dX13_going_84 : decode cX13_going 84 = .ok (.if_icmp .lt 25, 3) := dk_161 0 25 (dk_at dksX13_going_3 14 rfl rfl)
theorem dX13_going_87 : decode cX13_going 87 = .ok (.aload_n 0, 1) := dk_42 (dk_at dksX13_going_3 17 rfl rfl)
theorem dX13_going_88 : decode cX13_going 88 = .ok (.iload 4, 2) := dk_21 4 (dk_at dksX13_going_3 18 rfl rfl)
theorem dX13_going_90 : decode cX13_going 90 = .ok (.iconst 5, 1) := dk_8 (dk_at dksX13_going_3 20 rfl rfl)
theorem dX13_going_91 : decode cX13_going 91 = .ok (.invokevirtual 227, 3) := dk_182 0 227 (dk_at dksX13_going_3 21 rfl rfl)
theorem dX13_going_94 : decode cX13_going 94 = .ok (.aload_n 0, 1) := dk_42 (dk_at dksX13_going_4 0 rfl rfl)
theorem dX13_going_95 : decode cX13_going 95 = .ok (.getfield 252, 3) := dk_180 0 252 (dk_at dksX13_going_4 1 rfl rfl)
theorem dX13_going_98 : decode cX13_going 98 = .ok (.iand, 1) := dk_126 (dk_at dksX13_going_4 4 rfl rfl)
theorem dX13_going_99 : decode cX13_going 99 = .ok (.ifCond .ne 10, 3) := dk_154 0 10 (dk_at dksX13_going_4 5 rfl rfl)
theorem dX13_going_102 : decode cX13_going 102 = .ok (.iload_n 3, 1) := dk_29 (dk_at dksX13_going_4 8 rfl rfl)
theorem dX13_going_103 : decode cX13_going 103 = .ok (.iconst 1, 1) := dk_4 (dk_at dksX13_going_4 9 rfl rfl)
theorem dX13_going_104 : decode cX13_going 104 = .ok (.iload 4, 2) := dk_21 4 (dk_at dksX13_going_4 10 rfl rfl)
theorem dX13_going_106 : decode cX13_going 106 = .ok (.ishl, 1) := dk_120 (dk_at dksX13_going_4 12 rfl rfl)
theorem dX13_going_107 : decode cX13_going 107 = .ok (.ior, 1) := dk_128 (dk_at dksX13_going_4 13 rfl rfl)
theorem dX13_going_108 : decode cX13_going 108 = .ok (.istore_n 3, 1) := dk_62 (dk_at dksX13_going_4 14 rfl rfl)
theorem dX13_going_109 : decode cX13_going 109 = .ok (.iinc 4 1, 3) := dk_132 4 1 (dk_at dksX13_going_4 15 rfl rfl)
theorem dX13_going_112 : decode cX13_going 112 = .ok (.goto (-107), 3) := dk_167 255 149 (dk_at dksX13_going_4 18 rfl rfl)
theorem dX13_going_115 : decode cX13_going 115 = .ok (.iload_n 3, 1) := dk_29 (dk_at dksX13_going_4 21 rfl rfl)
theorem dX13_going_116 : decode cX13_going 116 = .ok (.ireturn, 1) := dk_172 (dk_at dksX13_going_4 22 rfl rfl)
abbrev cX13_learn : ByteArray := prog_24_method_58_code
def yX13_learn : MethodName := ⟨RX13, "learn", "(I)V"⟩
def dkwX13_learn_10 : List UInt8 := [167, 255, 148, 132, 2, 1, 167, 255, 109, 177]
abbrev dktX13_learn_10 : List UInt8 := dkwX13_learn_10 ++ []
def dkwX13_learn_9 : List UInt8 := [180, 0, 42, 28, 46, 162, 0, 16, 42, 180, 0, 42, 28, 42, 21, 4, 5, 182, 0, 227, 79, 132, 4, 1]
abbrev dktX13_learn_9 : List UInt8 := dkwX13_learn_9 ++ dktX13_learn_10
def dkwX13_learn_8 : List UInt8 := [21, 4, 5, 182, 0, 227, 42, 180, 0, 249, 164, 0, 6, 167, 0, 32, 42, 21, 4, 5, 182, 0, 227, 42]
abbrev dktX13_learn_8 : List UInt8 := dkwX13_learn_8 ++ dktX13_learn_9
def dkwX13_learn_7 : List UInt8 := [4, 182, 0, 227, 42, 180, 0, 13, 3, 42, 28, 182, 1, 8, 96, 46, 122, 4, 126, 153, 0, 49, 42]
abbrev dktX13_learn_7 : List UInt8 := dkwX13_learn_7 ++ dktX13_learn_8
def dkwX13_learn_6 : List UInt8 := [4, 126, 153, 0, 90, 42, 21, 4, 3, 182, 0, 227, 29, 4, 126, 159, 0, 6, 167, 0, 74, 42, 21, 4]
abbrev dktX13_learn_6 : List UInt8 := dkwX13_learn_6 ++ dktX13_learn_7
def dkwX13_learn_5 : List UInt8 := [29, 46, 153, 0, 6, 167, 0, 117, 3, 54, 4, 21, 4, 42, 182, 0, 224, 162, 0, 105, 27, 21, 4, 122]
abbrev dktX13_learn_5 : List UInt8 := dkwX13_learn_5 ++ dktX13_learn_6
def dkwX13_learn_4 : List UInt8 := [3, 61, 28, 7, 162, 0, 148, 28, 4, 130, 62, 42, 180, 0, 42, 28, 46, 153, 0, 129, 42, 180, 0, 42]
abbrev dktX13_learn_4 : List UInt8 := dkwX13_learn_4 ++ dktX13_learn_5
def dkwX13_learn_3 : List UInt8 := [180, 0, 243, 42, 180, 0, 246, 160, 0, 17, 42, 180, 0, 42, 3, 3, 79, 42, 180, 0, 42, 6, 3, 79]
abbrev dktX13_learn_3 : List UInt8 := dkwX13_learn_3 ++ dktX13_learn_4
def dkwX13_learn_2 : List UInt8 := [167, 0, 4, 3, 79, 42, 180, 0, 42, 6, 17, 3, 232, 79, 42, 180, 0, 243, 2, 159, 0, 28, 42]
abbrev dktX13_learn_2 : List UInt8 := dkwX13_learn_2 ++ dktX13_learn_3
def dkwX13_learn_1 : List UInt8 := [17, 3, 232, 167, 0, 4, 3, 79, 42, 180, 0, 42, 5, 42, 180, 0, 246, 2, 160, 0, 9, 17, 3, 232]
abbrev dktX13_learn_1 : List UInt8 := dkwX13_learn_1 ++ dktX13_learn_2
def dkwX13_learn_0 : List UInt8 := [42, 180, 0, 42, 3, 17, 3, 232, 79, 42, 180, 0, 42, 4, 42, 180, 0, 243, 2, 160, 0, 9]
abbrev dktX13_learn_0 : List UInt8 := dkwX13_learn_0 ++ dktX13_learn_1
theorem dksX13_learn_0 : cX13_learn.data.toList.drop 0 = dktX13_learn_0 := by decide +kernel
theorem dksX13_learn_1 : cX13_learn.data.toList.drop 22 = dktX13_learn_1 := dk_seg dksX13_learn_0 22 rfl rfl
theorem dksX13_learn_2 : cX13_learn.data.toList.drop 46 = dktX13_learn_2 := dk_seg dksX13_learn_1 24 rfl rfl
theorem dksX13_learn_3 : cX13_learn.data.toList.drop 69 = dktX13_learn_3 := dk_seg dksX13_learn_2 23 rfl rfl
theorem dksX13_learn_4 : cX13_learn.data.toList.drop 93 = dktX13_learn_4 := dk_seg dksX13_learn_3 24 rfl rfl
theorem dksX13_learn_5 : cX13_learn.data.toList.drop 117 = dktX13_learn_5 := dk_seg dksX13_learn_4 24 rfl rfl
theorem dksX13_learn_6 : cX13_learn.data.toList.drop 141 = dktX13_learn_6 := dk_seg dksX13_learn_5 24 rfl rfl
theorem dksX13_learn_7 : cX13_learn.data.toList.drop 165 = dktX13_learn_7 := dk_seg dksX13_learn_6 24 rfl rfl
theorem dksX13_learn_8 : cX13_learn.data.toList.drop 188 = dktX13_learn_8 := dk_seg dksX13_learn_7 23 rfl rfl
theorem dksX13_learn_9 : cX13_learn.data.toList.drop 212 = dktX13_learn_9 := dk_seg dksX13_learn_8 24 rfl rfl
theorem dksX13_learn_10 : cX13_learn.data.toList.drop 236 = dktX13_learn_10 := dk_seg dksX13_learn_9 24 rfl rfl
theorem dX13_learn_0 : decode cX13_learn 0 = .ok (.aload_n 0, 1) := dk_42 (dk_at dksX13_learn_0 0 rfl rfl)
theorem dX13_learn_1 : decode cX13_learn 1 = .ok (.getfield 42, 3) := dk_180 0 42 (dk_at dksX13_learn_0 1 rfl rfl)
theorem dX13_learn_4 : decode cX13_learn 4 = .ok (.iconst 0, 1) := dk_3 (dk_at dksX13_learn_0 4 rfl rfl)
theorem dX13_learn_5 : decode cX13_learn 5 = .ok (.sipush 1000, 3) := dk_17 3 232 (dk_at dksX13_learn_0 5 rfl rfl)
theorem dX13_learn_8 : decode cX13_learn 8 = .ok (.iastore, 1) := dk_79 (dk_at dksX13_learn_0 8 rfl rfl)
theorem dX13_learn_9 : decode cX13_learn 9 = .ok (.aload_n 0, 1) := dk_42 (dk_at dksX13_learn_0 9 rfl rfl)
theorem dX13_learn_10 : decode cX13_learn 10 = .ok (.getfield 42, 3) := dk_180 0 42 (dk_at dksX13_learn_0 10 rfl rfl)
theorem dX13_learn_13 : decode cX13_learn 13 = .ok (.iconst 1, 1) := dk_4 (dk_at dksX13_learn_0 13 rfl rfl)
theorem dX13_learn_14 : decode cX13_learn 14 = .ok (.aload_n 0, 1) := dk_42 (dk_at dksX13_learn_0 14 rfl rfl)
theorem dX13_learn_15 : decode cX13_learn 15 = .ok (.getfield 243, 3) := dk_180 0 243 (dk_at dksX13_learn_0 15 rfl rfl)
theorem dX13_learn_18 : decode cX13_learn 18 = .ok (.iconst (-1), 1) := dk_2 (dk_at dksX13_learn_0 18 rfl rfl)
theorem dX13_learn_19 : decode cX13_learn 19 = .ok (.if_icmp .ne 9, 3) := dk_160 0 9 (dk_at dksX13_learn_0 19 rfl rfl)
theorem dX13_learn_22 : decode cX13_learn 22 = .ok (.sipush 1000, 3) := dk_17 3 232 (dk_at dksX13_learn_1 0 rfl rfl)
theorem dX13_learn_25 : decode cX13_learn 25 = .ok (.goto 4, 3) := dk_167 0 4 (dk_at dksX13_learn_1 3 rfl rfl)
theorem dX13_learn_28 : decode cX13_learn 28 = .ok (.iconst 0, 1) := dk_3 (dk_at dksX13_learn_1 6 rfl rfl)
theorem dX13_learn_29 : decode cX13_learn 29 = .ok (.iastore, 1) := dk_79 (dk_at dksX13_learn_1 7 rfl rfl)
theorem dX13_learn_30 : decode cX13_learn 30 = .ok (.aload_n 0, 1) := dk_42 (dk_at dksX13_learn_1 8 rfl rfl)
theorem dX13_learn_31 : decode cX13_learn 31 = .ok (.getfield 42, 3) := dk_180 0 42 (dk_at dksX13_learn_1 9 rfl rfl)
theorem dX13_learn_34 : decode cX13_learn 34 = .ok (.iconst 2, 1) := dk_5 (dk_at dksX13_learn_1 12 rfl rfl)
theorem dX13_learn_35 : decode cX13_learn 35 = .ok (.aload_n 0, 1) := dk_42 (dk_at dksX13_learn_1 13 rfl rfl)
theorem dX13_learn_36 : decode cX13_learn 36 = .ok (.getfield 246, 3) := dk_180 0 246 (dk_at dksX13_learn_1 14 rfl rfl)
theorem dX13_learn_39 : decode cX13_learn 39 = .ok (.iconst (-1), 1) := dk_2 (dk_at dksX13_learn_1 17 rfl rfl)
theorem dX13_learn_40 : decode cX13_learn 40 = .ok (.if_icmp .ne 9, 3) := dk_160 0 9 (dk_at dksX13_learn_1 18 rfl rfl)
theorem dX13_learn_43 : decode cX13_learn 43 = .ok (.sipush 1000, 3) := dk_17 3 232 (dk_at dksX13_learn_1 21 rfl rfl)
theorem dX13_learn_46 : decode cX13_learn 46 = .ok (.goto 4, 3) := dk_167 0 4 (dk_at dksX13_learn_2 0 rfl rfl)
theorem dX13_learn_49 : decode cX13_learn 49 = .ok (.iconst 0, 1) := dk_3 (dk_at dksX13_learn_2 3 rfl rfl)
theorem dX13_learn_50 : decode cX13_learn 50 = .ok (.iastore, 1) := dk_79 (dk_at dksX13_learn_2 4 rfl rfl)
theorem dX13_learn_51 : decode cX13_learn 51 = .ok (.aload_n 0, 1) := dk_42 (dk_at dksX13_learn_2 5 rfl rfl)
theorem dX13_learn_52 : decode cX13_learn 52 = .ok (.getfield 42, 3) := dk_180 0 42 (dk_at dksX13_learn_2 6 rfl rfl)
theorem dX13_learn_55 : decode cX13_learn 55 = .ok (.iconst 3, 1) := dk_6 (dk_at dksX13_learn_2 9 rfl rfl)
theorem dX13_learn_56 : decode cX13_learn 56 = .ok (.sipush 1000, 3) := dk_17 3 232 (dk_at dksX13_learn_2 10 rfl rfl)
theorem dX13_learn_59 : decode cX13_learn 59 = .ok (.iastore, 1) := dk_79 (dk_at dksX13_learn_2 13 rfl rfl)
theorem dX13_learn_60 : decode cX13_learn 60 = .ok (.aload_n 0, 1) := dk_42 (dk_at dksX13_learn_2 14 rfl rfl)
theorem dX13_learn_61 : decode cX13_learn 61 = .ok (.getfield 243, 3) := dk_180 0 243 (dk_at dksX13_learn_2 15 rfl rfl)
theorem dX13_learn_64 : decode cX13_learn 64 = .ok (.iconst (-1), 1) := dk_2 (dk_at dksX13_learn_2 18 rfl rfl)
theorem dX13_learn_65 : decode cX13_learn 65 = .ok (.if_icmp .eq 28, 3) := dk_159 0 28 (dk_at dksX13_learn_2 19 rfl rfl)
theorem dX13_learn_68 : decode cX13_learn 68 = .ok (.aload_n 0, 1) := dk_42 (dk_at dksX13_learn_2 22 rfl rfl)
theorem dX13_learn_69 : decode cX13_learn 69 = .ok (.getfield 243, 3) := dk_180 0 243 (dk_at dksX13_learn_3 0 rfl rfl)
theorem dX13_learn_72 : decode cX13_learn 72 = .ok (.aload_n 0, 1) := dk_42 (dk_at dksX13_learn_3 3 rfl rfl)
theorem dX13_learn_73 : decode cX13_learn 73 = .ok (.getfield 246, 3) := dk_180 0 246 (dk_at dksX13_learn_3 4 rfl rfl)
theorem dX13_learn_76 : decode cX13_learn 76 = .ok (.if_icmp .ne 17, 3) := dk_160 0 17 (dk_at dksX13_learn_3 7 rfl rfl)
theorem dX13_learn_79 : decode cX13_learn 79 = .ok (.aload_n 0, 1) := dk_42 (dk_at dksX13_learn_3 10 rfl rfl)
theorem dX13_learn_80 : decode cX13_learn 80 = .ok (.getfield 42, 3) := dk_180 0 42 (dk_at dksX13_learn_3 11 rfl rfl)
theorem dX13_learn_83 : decode cX13_learn 83 = .ok (.iconst 0, 1) := dk_3 (dk_at dksX13_learn_3 14 rfl rfl)
theorem dX13_learn_84 : decode cX13_learn 84 = .ok (.iconst 0, 1) := dk_3 (dk_at dksX13_learn_3 15 rfl rfl)
theorem dX13_learn_85 : decode cX13_learn 85 = .ok (.iastore, 1) := dk_79 (dk_at dksX13_learn_3 16 rfl rfl)
theorem dX13_learn_86 : decode cX13_learn 86 = .ok (.aload_n 0, 1) := dk_42 (dk_at dksX13_learn_3 17 rfl rfl)
theorem dX13_learn_87 : decode cX13_learn 87 = .ok (.getfield 42, 3) := dk_180 0 42 (dk_at dksX13_learn_3 18 rfl rfl)
theorem dX13_learn_90 : decode cX13_learn 90 = .ok (.iconst 3, 1) := dk_6 (dk_at dksX13_learn_3 21 rfl rfl)
theorem dX13_learn_91 : decode cX13_learn 91 = .ok (.iconst 0, 1) := dk_3 (dk_at dksX13_learn_3 22 rfl rfl)
theorem dX13_learn_92 : decode cX13_learn 92 = .ok (.iastore, 1) := dk_79 (dk_at dksX13_learn_3 23 rfl rfl)
theorem dX13_learn_93 : decode cX13_learn 93 = .ok (.iconst 0, 1) := dk_3 (dk_at dksX13_learn_4 0 rfl rfl)
theorem dX13_learn_94 : decode cX13_learn 94 = .ok (.istore_n 2, 1) := dk_61 (dk_at dksX13_learn_4 1 rfl rfl)
theorem dX13_learn_95 : decode cX13_learn 95 = .ok (.iload_n 2, 1) := dk_28 (dk_at dksX13_learn_4 2 rfl rfl)
theorem dX13_learn_96 : decode cX13_learn 96 = .ok (.iconst 4, 1) := dk_7 (dk_at dksX13_learn_4 3 rfl rfl)
theorem dX13_learn_97 : decode cX13_learn 97 = .ok (.if_icmp .ge 148, 3) := dk_162 0 148 (dk_at dksX13_learn_4 4 rfl rfl)
theorem dX13_learn_100 : decode cX13_learn 100 = .ok (.iload_n 2, 1) := dk_28 (dk_at dksX13_learn_4 7 rfl rfl)
theorem dX13_learn_101 : decode cX13_learn 101 = .ok (.iconst 1, 1) := dk_4 (dk_at dksX13_learn_4 8 rfl rfl)
theorem dX13_learn_102 : decode cX13_learn 102 = .ok (.ixor, 1) := dk_130 (dk_at dksX13_learn_4 9 rfl rfl)
theorem dX13_learn_103 : decode cX13_learn 103 = .ok (.istore_n 3, 1) := dk_62 (dk_at dksX13_learn_4 10 rfl rfl)
theorem dX13_learn_104 : decode cX13_learn 104 = .ok (.aload_n 0, 1) := dk_42 (dk_at dksX13_learn_4 11 rfl rfl)
theorem dX13_learn_105 : decode cX13_learn 105 = .ok (.getfield 42, 3) := dk_180 0 42 (dk_at dksX13_learn_4 12 rfl rfl)
theorem dX13_learn_108 : decode cX13_learn 108 = .ok (.iload_n 2, 1) := dk_28 (dk_at dksX13_learn_4 15 rfl rfl)
theorem dX13_learn_109 : decode cX13_learn 109 = .ok (.iaload, 1) := dk_46 (dk_at dksX13_learn_4 16 rfl rfl)
theorem dX13_learn_110 : decode cX13_learn 110 = .ok (.ifCond .eq 129, 3) := dk_153 0 129 (dk_at dksX13_learn_4 17 rfl rfl)
theorem dX13_learn_113 : decode cX13_learn 113 = .ok (.aload_n 0, 1) := dk_42 (dk_at dksX13_learn_4 20 rfl rfl)
theorem dX13_learn_114 : decode cX13_learn 114 = .ok (.getfield 42, 3) := dk_180 0 42 (dk_at dksX13_learn_4 21 rfl rfl)
theorem dX13_learn_117 : decode cX13_learn 117 = .ok (.iload_n 3, 1) := dk_29 (dk_at dksX13_learn_5 0 rfl rfl)
theorem dX13_learn_118 : decode cX13_learn 118 = .ok (.iaload, 1) := dk_46 (dk_at dksX13_learn_5 1 rfl rfl)
theorem dX13_learn_119 : decode cX13_learn 119 = .ok (.ifCond .eq 6, 3) := dk_153 0 6 (dk_at dksX13_learn_5 2 rfl rfl)
theorem dX13_learn_122 : decode cX13_learn 122 = .ok (.goto 117, 3) := dk_167 0 117 (dk_at dksX13_learn_5 5 rfl rfl)
theorem dX13_learn_125 : decode cX13_learn 125 = .ok (.iconst 0, 1) := dk_3 (dk_at dksX13_learn_5 8 rfl rfl)
theorem dX13_learn_126 : decode cX13_learn 126 = .ok (.istore 4, 2) := dk_54 4 (dk_at dksX13_learn_5 9 rfl rfl)
theorem dX13_learn_128 : decode cX13_learn 128 = .ok (.iload 4, 2) := dk_21 4 (dk_at dksX13_learn_5 11 rfl rfl)
theorem dX13_learn_130 : decode cX13_learn 130 = .ok (.aload_n 0, 1) := dk_42 (dk_at dksX13_learn_5 13 rfl rfl)
theorem dX13_learn_131 : decode cX13_learn 131 = .ok (.invokevirtual 224, 3) := dk_182 0 224 (dk_at dksX13_learn_5 14 rfl rfl)
theorem dX13_learn_134 : decode cX13_learn 134 = .ok (.if_icmp .ge 105, 3) := dk_162 0 105 (dk_at dksX13_learn_5 17 rfl rfl)
theorem dX13_learn_137 : decode cX13_learn 137 = .ok (.iload_n 1, 1) := dk_27 (dk_at dksX13_learn_5 20 rfl rfl)
theorem dX13_learn_138 : decode cX13_learn 138 = .ok (.iload 4, 2) := dk_21 4 (dk_at dksX13_learn_5 21 rfl rfl)
theorem dX13_learn_140 : decode cX13_learn 140 = .ok (.ishr, 1) := dk_122 (dk_at dksX13_learn_5 23 rfl rfl)
theorem dX13_learn_141 : decode cX13_learn 141 = .ok (.iconst 1, 1) := dk_4 (dk_at dksX13_learn_6 0 rfl rfl)
theorem dX13_learn_142 : decode cX13_learn 142 = .ok (.iand, 1) := dk_126 (dk_at dksX13_learn_6 1 rfl rfl)
theorem dX13_learn_143 : decode cX13_learn 143 = .ok (.ifCond .eq 90, 3) := dk_153 0 90 (dk_at dksX13_learn_6 2 rfl rfl)
theorem dX13_learn_146 : decode cX13_learn 146 = .ok (.aload_n 0, 1) := dk_42 (dk_at dksX13_learn_6 5 rfl rfl)
theorem dX13_learn_147 : decode cX13_learn 147 = .ok (.iload 4, 2) := dk_21 4 (dk_at dksX13_learn_6 6 rfl rfl)
theorem dX13_learn_149 : decode cX13_learn 149 = .ok (.iconst 0, 1) := dk_3 (dk_at dksX13_learn_6 8 rfl rfl)
theorem dX13_learn_150 : decode cX13_learn 150 = .ok (.invokevirtual 227, 3) := dk_182 0 227 (dk_at dksX13_learn_6 9 rfl rfl)
theorem dX13_learn_153 : decode cX13_learn 153 = .ok (.iload_n 3, 1) := dk_29 (dk_at dksX13_learn_6 12 rfl rfl)
theorem dX13_learn_154 : decode cX13_learn 154 = .ok (.iconst 1, 1) := dk_4 (dk_at dksX13_learn_6 13 rfl rfl)
theorem dX13_learn_155 : decode cX13_learn 155 = .ok (.iand, 1) := dk_126 (dk_at dksX13_learn_6 14 rfl rfl)
theorem dX13_learn_156 : decode cX13_learn 156 = .ok (.if_icmp .eq 6, 3) := dk_159 0 6 (dk_at dksX13_learn_6 15 rfl rfl)
theorem dX13_learn_159 : decode cX13_learn 159 = .ok (.goto 74, 3) := dk_167 0 74 (dk_at dksX13_learn_6 18 rfl rfl)
theorem dX13_learn_162 : decode cX13_learn 162 = .ok (.aload_n 0, 1) := dk_42 (dk_at dksX13_learn_6 21 rfl rfl)
theorem dX13_learn_163 : decode cX13_learn 163 = .ok (.iload 4, 2) := dk_21 4 (dk_at dksX13_learn_6 22 rfl rfl)
theorem dX13_learn_165 : decode cX13_learn 165 = .ok (.iconst 1, 1) := dk_4 (dk_at dksX13_learn_7 0 rfl rfl)
theorem dX13_learn_166 : decode cX13_learn 166 = .ok (.invokevirtual 227, 3) := dk_182 0 227 (dk_at dksX13_learn_7 1 rfl rfl)
theorem dX13_learn_169 : decode cX13_learn 169 = .ok (.aload_n 0, 1) := dk_42 (dk_at dksX13_learn_7 4 rfl rfl)
theorem dX13_learn_170 : decode cX13_learn 170 = .ok (.getfield 13, 3) := dk_180 0 13 (dk_at dksX13_learn_7 5 rfl rfl)
theorem dX13_learn_173 : decode cX13_learn 173 = .ok (.iconst 0, 1) := dk_3 (dk_at dksX13_learn_7 8 rfl rfl)
theorem dX13_learn_174 : decode cX13_learn 174 = .ok (.aload_n 0, 1) := dk_42 (dk_at dksX13_learn_7 9 rfl rfl)
theorem dX13_learn_175 : decode cX13_learn 175 = .ok (.iload_n 2, 1) := dk_28 (dk_at dksX13_learn_7 10 rfl rfl)
theorem dX13_learn_176 : decode cX13_learn 176 = .ok (.invokevirtual 264, 3) := dk_182 1 8 (dk_at dksX13_learn_7 11 rfl rfl)
theorem dX13_learn_179 : decode cX13_learn 179 = .ok (.iadd, 1) := dk_96 (dk_at dksX13_learn_7 14 rfl rfl)
theorem dX13_learn_180 : decode cX13_learn 180 = .ok (.iaload, 1) := dk_46 (dk_at dksX13_learn_7 15 rfl rfl)
theorem dX13_learn_181 : decode cX13_learn 181 = .ok (.ishr, 1) := dk_122 (dk_at dksX13_learn_7 16 rfl rfl)
theorem dX13_learn_182 : decode cX13_learn 182 = .ok (.iconst 1, 1) := dk_4 (dk_at dksX13_learn_7 17 rfl rfl)
theorem dX13_learn_183 : decode cX13_learn 183 = .ok (.iand, 1) := dk_126 (dk_at dksX13_learn_7 18 rfl rfl)
theorem dX13_learn_184 : decode cX13_learn 184 = .ok (.ifCond .eq 49, 3) := dk_153 0 49 (dk_at dksX13_learn_7 19 rfl rfl)
theorem dX13_learn_187 : decode cX13_learn 187 = .ok (.aload_n 0, 1) := dk_42 (dk_at dksX13_learn_7 22 rfl rfl)
theorem dX13_learn_188 : decode cX13_learn 188 = .ok (.iload 4, 2) := dk_21 4 (dk_at dksX13_learn_8 0 rfl rfl)
theorem dX13_learn_190 : decode cX13_learn 190 = .ok (.iconst 2, 1) := dk_5 (dk_at dksX13_learn_8 2 rfl rfl)
theorem dX13_learn_191 : decode cX13_learn 191 = .ok (.invokevirtual 227, 3) := dk_182 0 227 (dk_at dksX13_learn_8 3 rfl rfl)
theorem dX13_learn_194 : decode cX13_learn 194 = .ok (.aload_n 0, 1) := dk_42 (dk_at dksX13_learn_8 6 rfl rfl)
theorem dX13_learn_195 : decode cX13_learn 195 = .ok (.getfield 249, 3) := dk_180 0 249 (dk_at dksX13_learn_8 7 rfl rfl)
theorem dX13_learn_198 : decode cX13_learn 198 = .ok (.if_icmp .le 6, 3) := dk_164 0 6 (dk_at dksX13_learn_8 10 rfl rfl)
theorem dX13_learn_201 : decode cX13_learn 201 = .ok (.goto 32, 3) := dk_167 0 32 (dk_at dksX13_learn_8 13 rfl rfl)
theorem dX13_learn_204 : decode cX13_learn 204 = .ok (.aload_n 0, 1) := dk_42 (dk_at dksX13_learn_8 16 rfl rfl)
theorem dX13_learn_205 : decode cX13_learn 205 = .ok (.iload 4, 2) := dk_21 4 (dk_at dksX13_learn_8 17 rfl rfl)
theorem dX13_learn_207 : decode cX13_learn 207 = .ok (.iconst 2, 1) := dk_5 (dk_at dksX13_learn_8 19 rfl rfl)
theorem dX13_learn_208 : decode cX13_learn 208 = .ok (.invokevirtual 227, 3) := dk_182 0 227 (dk_at dksX13_learn_8 20 rfl rfl)
theorem dX13_learn_211 : decode cX13_learn 211 = .ok (.aload_n 0, 1) := dk_42 (dk_at dksX13_learn_8 23 rfl rfl)
theorem dX13_learn_212 : decode cX13_learn 212 = .ok (.getfield 42, 3) := dk_180 0 42 (dk_at dksX13_learn_9 0 rfl rfl)
theorem dX13_learn_215 : decode cX13_learn 215 = .ok (.iload_n 2, 1) := dk_28 (dk_at dksX13_learn_9 3 rfl rfl)
theorem dX13_learn_216 : decode cX13_learn 216 = .ok (.iaload, 1) := dk_46 (dk_at dksX13_learn_9 4 rfl rfl)
theorem dX13_learn_217 : decode cX13_learn 217 = .ok (.if_icmp .ge 16, 3) := dk_162 0 16 (dk_at dksX13_learn_9 5 rfl rfl)
theorem dX13_learn_220 : decode cX13_learn 220 = .ok (.aload_n 0, 1) := dk_42 (dk_at dksX13_learn_9 8 rfl rfl)
theorem dX13_learn_221 : decode cX13_learn 221 = .ok (.getfield 42, 3) := dk_180 0 42 (dk_at dksX13_learn_9 9 rfl rfl)
theorem dX13_learn_224 : decode cX13_learn 224 = .ok (.iload_n 2, 1) := dk_28 (dk_at dksX13_learn_9 12 rfl rfl)
theorem dX13_learn_225 : decode cX13_learn 225 = .ok (.aload_n 0, 1) := dk_42 (dk_at dksX13_learn_9 13 rfl rfl)
theorem dX13_learn_226 : decode cX13_learn 226 = .ok (.iload 4, 2) := dk_21 4 (dk_at dksX13_learn_9 14 rfl rfl)
theorem dX13_learn_228 : decode cX13_learn 228 = .ok (.iconst 2, 1) := dk_5 (dk_at dksX13_learn_9 16 rfl rfl)
theorem dX13_learn_229 : decode cX13_learn 229 = .ok (.invokevirtual 227, 3) := dk_182 0 227 (dk_at dksX13_learn_9 17 rfl rfl)
theorem dX13_learn_232 : decode cX13_learn 232 = .ok (.iastore, 1) := dk_79 (dk_at dksX13_learn_9 20 rfl rfl)
theorem dX13_learn_233 : decode cX13_learn 233 = .ok (.iinc 4 1, 3) := dk_132 4 1 (dk_at dksX13_learn_9 21 rfl rfl)
theorem dX13_learn_236 : decode cX13_learn 236 = .ok (.goto (-108), 3) := dk_167 255 148 (dk_at dksX13_learn_10 0 rfl rfl)
theorem dX13_learn_239 : decode cX13_learn 239 = .ok (.iinc 2 1, 3) := dk_132 2 1 (dk_at dksX13_learn_10 3 rfl rfl)
theorem dX13_learn_242 : decode cX13_learn 242 = .ok (.goto (-147), 3) := dk_167 255 109 (dk_at dksX13_learn_10 6 rfl rfl)
theorem dX13_learn_245 : decode cX13_learn 245 = .ok (.return_, 1) := dk_177 (dk_at dksX13_learn_10 9 rfl rfl)
abbrev cX13_shown : ByteArray := prog_24_method_55_code
def yX13_shown : MethodName := ⟨RX13, "shown", "(I)I"⟩
def dkwX13_shown_0 : List UInt8 := [27, 5, 162, 0, 10, 42, 180, 0, 243, 167, 0, 7, 42, 180, 0, 246, 172]
abbrev dktX13_shown_0 : List UInt8 := dkwX13_shown_0 ++ []
theorem dksX13_shown_0 : cX13_shown.data.toList.drop 0 = dktX13_shown_0 := by decide +kernel
theorem dX13_shown_0 : decode cX13_shown 0 = .ok (.iload_n 1, 1) := dk_27 (dk_at dksX13_shown_0 0 rfl rfl)
theorem dX13_shown_1 : decode cX13_shown 1 = .ok (.iconst 2, 1) := dk_5 (dk_at dksX13_shown_0 1 rfl rfl)
theorem dX13_shown_2 : decode cX13_shown 2 = .ok (.if_icmp .ge 10, 3) := dk_162 0 10 (dk_at dksX13_shown_0 2 rfl rfl)
theorem dX13_shown_5 : decode cX13_shown 5 = .ok (.aload_n 0, 1) := dk_42 (dk_at dksX13_shown_0 5 rfl rfl)
theorem dX13_shown_6 : decode cX13_shown 6 = .ok (.getfield 243, 3) := dk_180 0 243 (dk_at dksX13_shown_0 6 rfl rfl)
theorem dX13_shown_9 : decode cX13_shown 9 = .ok (.goto 7, 3) := dk_167 0 7 (dk_at dksX13_shown_0 9 rfl rfl)
theorem dX13_shown_12 : decode cX13_shown 12 = .ok (.aload_n 0, 1) := dk_42 (dk_at dksX13_shown_0 12 rfl rfl)
theorem dX13_shown_13 : decode cX13_shown 13 = .ok (.getfield 246, 3) := dk_180 0 246 (dk_at dksX13_shown_0 13 rfl rfl)
theorem dX13_shown_16 : decode cX13_shown 16 = .ok (.ireturn, 1) := dk_172 (dk_at dksX13_shown_0 16 rfl rfl)
abbrev cX13_sinceOf : ByteArray := prog_24_method_60_code
def yX13_sinceOf : MethodName := ⟨RX13, "sinceOf", "(II)I"⟩
def dkwX13_sinceOf_2 : List UInt8 := [162, 0, 12, 42, 180, 0, 42, 5, 27, 96, 46, 62, 29, 172]
abbrev dktX13_sinceOf_2 : List UInt8 := dkwX13_sinceOf_2 ++ []
def dkwX13_sinceOf_1 : List UInt8 := [180, 0, 42, 27, 46, 62, 28, 42, 180, 0, 246, 160, 0, 24, 42, 180, 0, 42, 5, 27, 96, 46, 29]
abbrev dktX13_sinceOf_1 : List UInt8 := dkwX13_sinceOf_1 ++ dktX13_sinceOf_2
def dkwX13_sinceOf_0 : List UInt8 := [17, 3, 232, 62, 28, 42, 180, 0, 243, 160, 0, 20, 42, 180, 0, 42, 27, 46, 29, 162, 0, 10, 42]
abbrev dktX13_sinceOf_0 : List UInt8 := dkwX13_sinceOf_0 ++ dktX13_sinceOf_1
theorem dksX13_sinceOf_0 : cX13_sinceOf.data.toList.drop 0 = dktX13_sinceOf_0 := by decide +kernel
theorem dksX13_sinceOf_1 : cX13_sinceOf.data.toList.drop 23 = dktX13_sinceOf_1 := dk_seg dksX13_sinceOf_0 23 rfl rfl
theorem dksX13_sinceOf_2 : cX13_sinceOf.data.toList.drop 46 = dktX13_sinceOf_2 := dk_seg dksX13_sinceOf_1 23 rfl rfl
theorem dX13_sinceOf_0 : decode cX13_sinceOf 0 = .ok (.sipush 1000, 3) := dk_17 3 232 (dk_at dksX13_sinceOf_0 0 rfl rfl)
theorem dX13_sinceOf_3 : decode cX13_sinceOf 3 = .ok (.istore_n 3, 1) := dk_62 (dk_at dksX13_sinceOf_0 3 rfl rfl)
theorem dX13_sinceOf_4 : decode cX13_sinceOf 4 = .ok (.iload_n 2, 1) := dk_28 (dk_at dksX13_sinceOf_0 4 rfl rfl)
theorem dX13_sinceOf_5 : decode cX13_sinceOf 5 = .ok (.aload_n 0, 1) := dk_42 (dk_at dksX13_sinceOf_0 5 rfl rfl)
theorem dX13_sinceOf_6 : decode cX13_sinceOf 6 = .ok (.getfield 243, 3) := dk_180 0 243 (dk_at dksX13_sinceOf_0 6 rfl rfl)
theorem dX13_sinceOf_9 : decode cX13_sinceOf 9 = .ok (.if_icmp .ne 20, 3) := dk_160 0 20 (dk_at dksX13_sinceOf_0 9 rfl rfl)
theorem dX13_sinceOf_12 : decode cX13_sinceOf 12 = .ok (.aload_n 0, 1) := dk_42 (dk_at dksX13_sinceOf_0 12 rfl rfl)
theorem dX13_sinceOf_13 : decode cX13_sinceOf 13 = .ok (.getfield 42, 3) := dk_180 0 42 (dk_at dksX13_sinceOf_0 13 rfl rfl)
theorem dX13_sinceOf_16 : decode cX13_sinceOf 16 = .ok (.iload_n 1, 1) := dk_27 (dk_at dksX13_sinceOf_0 16 rfl rfl)
theorem dX13_sinceOf_17 : decode cX13_sinceOf 17 = .ok (.iaload, 1) := dk_46 (dk_at dksX13_sinceOf_0 17 rfl rfl)
theorem dX13_sinceOf_18 : decode cX13_sinceOf 18 = .ok (.iload_n 3, 1) := dk_29 (dk_at dksX13_sinceOf_0 18 rfl rfl)
theorem dX13_sinceOf_19 : decode cX13_sinceOf 19 = .ok (.if_icmp .ge 10, 3) := dk_162 0 10 (dk_at dksX13_sinceOf_0 19 rfl rfl)
theorem dX13_sinceOf_22 : decode cX13_sinceOf 22 = .ok (.aload_n 0, 1) := dk_42 (dk_at dksX13_sinceOf_0 22 rfl rfl)
theorem dX13_sinceOf_23 : decode cX13_sinceOf 23 = .ok (.getfield 42, 3) := dk_180 0 42 (dk_at dksX13_sinceOf_1 0 rfl rfl)
theorem dX13_sinceOf_26 : decode cX13_sinceOf 26 = .ok (.iload_n 1, 1) := dk_27 (dk_at dksX13_sinceOf_1 3 rfl rfl)
theorem dX13_sinceOf_27 : decode cX13_sinceOf 27 = .ok (.iaload, 1) := dk_46 (dk_at dksX13_sinceOf_1 4 rfl rfl)
theorem dX13_sinceOf_28 : decode cX13_sinceOf 28 = .ok (.istore_n 3, 1) := dk_62 (dk_at dksX13_sinceOf_1 5 rfl rfl)
theorem dX13_sinceOf_29 : decode cX13_sinceOf 29 = .ok (.iload_n 2, 1) := dk_28 (dk_at dksX13_sinceOf_1 6 rfl rfl)
theorem dX13_sinceOf_30 : decode cX13_sinceOf 30 = .ok (.aload_n 0, 1) := dk_42 (dk_at dksX13_sinceOf_1 7 rfl rfl)
theorem dX13_sinceOf_31 : decode cX13_sinceOf 31 = .ok (.getfield 246, 3) := dk_180 0 246 (dk_at dksX13_sinceOf_1 8 rfl rfl)
theorem dX13_sinceOf_34 : decode cX13_sinceOf 34 = .ok (.if_icmp .ne 24, 3) := dk_160 0 24 (dk_at dksX13_sinceOf_1 11 rfl rfl)
theorem dX13_sinceOf_37 : decode cX13_sinceOf 37 = .ok (.aload_n 0, 1) := dk_42 (dk_at dksX13_sinceOf_1 14 rfl rfl)
theorem dX13_sinceOf_38 : decode cX13_sinceOf 38 = .ok (.getfield 42, 3) := dk_180 0 42 (dk_at dksX13_sinceOf_1 15 rfl rfl)
theorem dX13_sinceOf_41 : decode cX13_sinceOf 41 = .ok (.iconst 2, 1) := dk_5 (dk_at dksX13_sinceOf_1 18 rfl rfl)
theorem dX13_sinceOf_42 : decode cX13_sinceOf 42 = .ok (.iload_n 1, 1) := dk_27 (dk_at dksX13_sinceOf_1 19 rfl rfl)
theorem dX13_sinceOf_43 : decode cX13_sinceOf 43 = .ok (.iadd, 1) := dk_96 (dk_at dksX13_sinceOf_1 20 rfl rfl)
theorem dX13_sinceOf_44 : decode cX13_sinceOf 44 = .ok (.iaload, 1) := dk_46 (dk_at dksX13_sinceOf_1 21 rfl rfl)
theorem dX13_sinceOf_45 : decode cX13_sinceOf 45 = .ok (.iload_n 3, 1) := dk_29 (dk_at dksX13_sinceOf_1 22 rfl rfl)
theorem dX13_sinceOf_46 : decode cX13_sinceOf 46 = .ok (.if_icmp .ge 12, 3) := dk_162 0 12 (dk_at dksX13_sinceOf_2 0 rfl rfl)
theorem dX13_sinceOf_49 : decode cX13_sinceOf 49 = .ok (.aload_n 0, 1) := dk_42 (dk_at dksX13_sinceOf_2 3 rfl rfl)
theorem dX13_sinceOf_50 : decode cX13_sinceOf 50 = .ok (.getfield 42, 3) := dk_180 0 42 (dk_at dksX13_sinceOf_2 4 rfl rfl)
theorem dX13_sinceOf_53 : decode cX13_sinceOf 53 = .ok (.iconst 2, 1) := dk_5 (dk_at dksX13_sinceOf_2 7 rfl rfl)
theorem dX13_sinceOf_54 : decode cX13_sinceOf 54 = .ok (.iload_n 1, 1) := dk_27 (dk_at dksX13_sinceOf_2 8 rfl rfl)
theorem dX13_sinceOf_55 : decode cX13_sinceOf 55 = .ok (.iadd, 1) := dk_96 (dk_at dksX13_sinceOf_2 9 rfl rfl)
theorem dX13_sinceOf_56 : decode cX13_sinceOf 56 = .ok (.iaload, 1) := dk_46 (dk_at dksX13_sinceOf_2 10 rfl rfl)
theorem dX13_sinceOf_57 : decode cX13_sinceOf 57 = .ok (.istore_n 3, 1) := dk_62 (dk_at dksX13_sinceOf_2 11 rfl rfl)
theorem dX13_sinceOf_58 : decode cX13_sinceOf 58 = .ok (.iload_n 3, 1) := dk_29 (dk_at dksX13_sinceOf_2 12 rfl rfl)
theorem dX13_sinceOf_59 : decode cX13_sinceOf 59 = .ok (.ireturn, 1) := dk_172 (dk_at dksX13_sinceOf_2 13 rfl rfl)
abbrev cX13_answer : ByteArray := prog_24_method_70_code
def yX13_answer : MethodName := ⟨RX13, "answer", "(IIIII)I"⟩
def dkwX13_answer_1 : List UInt8 := [42, 180, 0, 13, 17, 0, 140, 46, 3, 182, 1, 49, 182, 1, 56, 172]
abbrev dktX13_answer_1 : List UInt8 := dkwX13_answer_1 ++ []
def dkwX13_answer_0 : List UInt8 := [42, 3, 181, 0, 58, 42, 27, 28, 29, 21, 4, 21, 5, 182, 1, 52, 154, 0, 6, 16, 254, 172, 42, 42]
abbrev dktX13_answer_0 : List UInt8 := dkwX13_answer_0 ++ dktX13_answer_1
theorem dksX13_answer_0 : cX13_answer.data.toList.drop 0 = dktX13_answer_0 := by decide +kernel
theorem dksX13_answer_1 : cX13_answer.data.toList.drop 24 = dktX13_answer_1 := dk_seg dksX13_answer_0 24 rfl rfl
theorem dX13_answer_0 : decode cX13_answer 0 = .ok (.aload_n 0, 1) := dk_42 (dk_at dksX13_answer_0 0 rfl rfl)
theorem dX13_answer_1 : decode cX13_answer 1 = .ok (.iconst 0, 1) := dk_3 (dk_at dksX13_answer_0 1 rfl rfl)
theorem dX13_answer_2 : decode cX13_answer 2 = .ok (.putfield 58, 3) := dk_181 0 58 (dk_at dksX13_answer_0 2 rfl rfl)
theorem dX13_answer_5 : decode cX13_answer 5 = .ok (.aload_n 0, 1) := dk_42 (dk_at dksX13_answer_0 5 rfl rfl)
theorem dX13_answer_6 : decode cX13_answer 6 = .ok (.iload_n 1, 1) := dk_27 (dk_at dksX13_answer_0 6 rfl rfl)
theorem dX13_answer_7 : decode cX13_answer 7 = .ok (.iload_n 2, 1) := dk_28 (dk_at dksX13_answer_0 7 rfl rfl)
theorem dX13_answer_8 : decode cX13_answer 8 = .ok (.iload_n 3, 1) := dk_29 (dk_at dksX13_answer_0 8 rfl rfl)
theorem dX13_answer_9 : decode cX13_answer 9 = .ok (.iload 4, 2) := dk_21 4 (dk_at dksX13_answer_0 9 rfl rfl)
theorem dX13_answer_11 : decode cX13_answer 11 = .ok (.iload 5, 2) := dk_21 5 (dk_at dksX13_answer_0 11 rfl rfl)
theorem dX13_answer_13 : decode cX13_answer 13 = .ok (.invokevirtual 308, 3) := dk_182 1 52 (dk_at dksX13_answer_0 13 rfl rfl)
theorem dX13_answer_16 : decode cX13_answer 16 = .ok (.ifCond .ne 6, 3) := dk_154 0 6 (dk_at dksX13_answer_0 16 rfl rfl)
theorem dX13_answer_19 : decode cX13_answer 19 = .ok (.bipush (-2), 2) := dk_16 254 (dk_at dksX13_answer_0 19 rfl rfl)
theorem dX13_answer_21 : decode cX13_answer 21 = .ok (.ireturn, 1) := dk_172 (dk_at dksX13_answer_0 21 rfl rfl)
theorem dX13_answer_22 : decode cX13_answer 22 = .ok (.aload_n 0, 1) := dk_42 (dk_at dksX13_answer_0 22 rfl rfl)
theorem dX13_answer_23 : decode cX13_answer 23 = .ok (.aload_n 0, 1) := dk_42 (dk_at dksX13_answer_0 23 rfl rfl)
theorem dX13_answer_24 : decode cX13_answer 24 = .ok (.aload_n 0, 1) := dk_42 (dk_at dksX13_answer_1 0 rfl rfl)
theorem dX13_answer_25 : decode cX13_answer 25 = .ok (.getfield 13, 3) := dk_180 0 13 (dk_at dksX13_answer_1 1 rfl rfl)
theorem dX13_answer_28 : decode cX13_answer 28 = .ok (.sipush 140, 3) := dk_17 0 140 (dk_at dksX13_answer_1 4 rfl rfl)
theorem dX13_answer_31 : decode cX13_answer 31 = .ok (.iaload, 1) := dk_46 (dk_at dksX13_answer_1 7 rfl rfl)
theorem dX13_answer_32 : decode cX13_answer 32 = .ok (.iconst 0, 1) := dk_3 (dk_at dksX13_answer_1 8 rfl rfl)
theorem dX13_answer_33 : decode cX13_answer 33 = .ok (.invokevirtual 305, 3) := dk_182 1 49 (dk_at dksX13_answer_1 9 rfl rfl)
theorem dX13_answer_36 : decode cX13_answer 36 = .ok (.invokevirtual 312, 3) := dk_182 1 56 (dk_at dksX13_answer_1 12 rfl rfl)
theorem dX13_answer_39 : decode cX13_answer 39 = .ok (.ireturn, 1) := dk_172 (dk_at dksX13_answer_1 15 rfl rfl)
abbrev cX13_takes : ByteArray := prog_24_method_68_code
def yX13_takes : MethodName := ⟨RX13, "takes", "(IIIII)Z"⟩
def dkwX13_takes_2 : List UInt8 := [21, 5, 158, 0, 9, 42, 21, 6, 182, 1, 42, 42, 27, 28, 29, 21, 4, 21, 5, 182, 1, 45, 4, 172]
abbrev dktX13_takes_2 : List UInt8 := dkwX13_takes_2 ++ []
def dkwX13_takes_1 : List UInt8 := [3, 5, 184, 0, 115, 153, 0, 17, 21, 5, 158, 0, 14, 42, 21, 6, 182, 1, 39, 154, 0, 5, 3, 172]
abbrev dktX13_takes_1 : List UInt8 := dkwX13_takes_1 ++ dktX13_takes_2
def dkwX13_takes_0 : List UInt8 := [42, 182, 0, 212, 42, 182, 0, 215, 54, 6, 42, 27, 28, 29, 21, 4, 182, 1, 35, 153, 0, 27, 21, 5]
abbrev dktX13_takes_0 : List UInt8 := dkwX13_takes_0 ++ dktX13_takes_1
theorem dksX13_takes_0 : cX13_takes.data.toList.drop 0 = dktX13_takes_0 := by decide +kernel
theorem dksX13_takes_1 : cX13_takes.data.toList.drop 24 = dktX13_takes_1 := dk_seg dksX13_takes_0 24 rfl rfl
theorem dksX13_takes_2 : cX13_takes.data.toList.drop 48 = dktX13_takes_2 := dk_seg dksX13_takes_1 24 rfl rfl
theorem dX13_takes_0 : decode cX13_takes 0 = .ok (.aload_n 0, 1) := dk_42 (dk_at dksX13_takes_0 0 rfl rfl)
theorem dX13_takes_1 : decode cX13_takes 1 = .ok (.invokevirtual 212, 3) := dk_182 0 212 (dk_at dksX13_takes_0 1 rfl rfl)
theorem dX13_takes_4 : decode cX13_takes 4 = .ok (.aload_n 0, 1) := dk_42 (dk_at dksX13_takes_0 4 rfl rfl)
theorem dX13_takes_5 : decode cX13_takes 5 = .ok (.invokevirtual 215, 3) := dk_182 0 215 (dk_at dksX13_takes_0 5 rfl rfl)
theorem dX13_takes_8 : decode cX13_takes 8 = .ok (.istore 6, 2) := dk_54 6 (dk_at dksX13_takes_0 8 rfl rfl)
theorem dX13_takes_10 : decode cX13_takes 10 = .ok (.aload_n 0, 1) := dk_42 (dk_at dksX13_takes_0 10 rfl rfl)
theorem dX13_takes_11 : decode cX13_takes 11 = .ok (.iload_n 1, 1) := dk_27 (dk_at dksX13_takes_0 11 rfl rfl)
theorem dX13_takes_12 : decode cX13_takes 12 = .ok (.iload_n 2, 1) := dk_28 (dk_at dksX13_takes_0 12 rfl rfl)
theorem dX13_takes_13 : decode cX13_takes 13 = .ok (.iload_n 3, 1) := dk_29 (dk_at dksX13_takes_0 13 rfl rfl)
theorem dX13_takes_14 : decode cX13_takes 14 = .ok (.iload 4, 2) := dk_21 4 (dk_at dksX13_takes_0 14 rfl rfl)
theorem dX13_takes_16 : decode cX13_takes 16 = .ok (.invokevirtual 291, 3) := dk_182 1 35 (dk_at dksX13_takes_0 16 rfl rfl)
theorem dX13_takes_19 : decode cX13_takes 19 = .ok (.ifCond .eq 27, 3) := dk_153 0 27 (dk_at dksX13_takes_0 19 rfl rfl)
theorem dX13_takes_22 : decode cX13_takes 22 = .ok (.iload 5, 2) := dk_21 5 (dk_at dksX13_takes_0 22 rfl rfl)
theorem dX13_takes_24 : decode cX13_takes 24 = .ok (.iconst 0, 1) := dk_3 (dk_at dksX13_takes_1 0 rfl rfl)
theorem dX13_takes_25 : decode cX13_takes 25 = .ok (.iconst 2, 1) := dk_5 (dk_at dksX13_takes_1 1 rfl rfl)
theorem dX13_takes_26 : decode cX13_takes 26 = .ok (.invokestatic 115, 3) := dk_184 0 115 (dk_at dksX13_takes_1 2 rfl rfl)
theorem dX13_takes_29 : decode cX13_takes 29 = .ok (.ifCond .eq 17, 3) := dk_153 0 17 (dk_at dksX13_takes_1 5 rfl rfl)
theorem dX13_takes_32 : decode cX13_takes 32 = .ok (.iload 5, 2) := dk_21 5 (dk_at dksX13_takes_1 8 rfl rfl)
theorem dX13_takes_34 : decode cX13_takes 34 = .ok (.ifCond .le 14, 3) := dk_158 0 14 (dk_at dksX13_takes_1 10 rfl rfl)
theorem dX13_takes_37 : decode cX13_takes 37 = .ok (.aload_n 0, 1) := dk_42 (dk_at dksX13_takes_1 13 rfl rfl)
theorem dX13_takes_38 : decode cX13_takes 38 = .ok (.iload 6, 2) := dk_21 6 (dk_at dksX13_takes_1 14 rfl rfl)
theorem dX13_takes_40 : decode cX13_takes 40 = .ok (.invokevirtual 295, 3) := dk_182 1 39 (dk_at dksX13_takes_1 16 rfl rfl)
theorem dX13_takes_43 : decode cX13_takes 43 = .ok (.ifCond .ne 5, 3) := dk_154 0 5 (dk_at dksX13_takes_1 19 rfl rfl)
theorem dX13_takes_46 : decode cX13_takes 46 = .ok (.iconst 0, 1) := dk_3 (dk_at dksX13_takes_1 22 rfl rfl)
theorem dX13_takes_47 : decode cX13_takes 47 = .ok (.ireturn, 1) := dk_172 (dk_at dksX13_takes_1 23 rfl rfl)
theorem dX13_takes_48 : decode cX13_takes 48 = .ok (.iload 5, 2) := dk_21 5 (dk_at dksX13_takes_2 0 rfl rfl)
theorem dX13_takes_50 : decode cX13_takes 50 = .ok (.ifCond .le 9, 3) := dk_158 0 9 (dk_at dksX13_takes_2 2 rfl rfl)
theorem dX13_takes_53 : decode cX13_takes 53 = .ok (.aload_n 0, 1) := dk_42 (dk_at dksX13_takes_2 5 rfl rfl)
theorem dX13_takes_54 : decode cX13_takes 54 = .ok (.iload 6, 2) := dk_21 6 (dk_at dksX13_takes_2 6 rfl rfl)
theorem dX13_takes_56 : decode cX13_takes 56 = .ok (.invokevirtual 298, 3) := dk_182 1 42 (dk_at dksX13_takes_2 8 rfl rfl)
theorem dX13_takes_59 : decode cX13_takes 59 = .ok (.aload_n 0, 1) := dk_42 (dk_at dksX13_takes_2 11 rfl rfl)
theorem dX13_takes_60 : decode cX13_takes 60 = .ok (.iload_n 1, 1) := dk_27 (dk_at dksX13_takes_2 12 rfl rfl)
theorem dX13_takes_61 : decode cX13_takes 61 = .ok (.iload_n 2, 1) := dk_28 (dk_at dksX13_takes_2 13 rfl rfl)
theorem dX13_takes_62 : decode cX13_takes 62 = .ok (.iload_n 3, 1) := dk_29 (dk_at dksX13_takes_2 14 rfl rfl)
theorem dX13_takes_63 : decode cX13_takes 63 = .ok (.iload 4, 2) := dk_21 4 (dk_at dksX13_takes_2 15 rfl rfl)
theorem dX13_takes_65 : decode cX13_takes 65 = .ok (.iload 5, 2) := dk_21 5 (dk_at dksX13_takes_2 17 rfl rfl)
theorem dX13_takes_67 : decode cX13_takes 67 = .ok (.invokevirtual 301, 3) := dk_182 1 45 (dk_at dksX13_takes_2 19 rfl rfl)
theorem dX13_takes_70 : decode cX13_takes 70 = .ok (.iconst 1, 1) := dk_4 (dk_at dksX13_takes_2 22 rfl rfl)
theorem dX13_takes_71 : decode cX13_takes 71 = .ok (.ireturn, 1) := dk_172 (dk_at dksX13_takes_2 23 rfl rfl)
abbrev cX13_isOffer : ByteArray := prog_24_method_53_code
def yX13_isOffer : MethodName := ⟨RX13, "isOffer", "(I)Z"⟩
def dkwX13_isOffer_2 : List UInt8 := [160, 0, 5, 3, 172, 28, 4, 42, 180, 0, 7, 29, 46, 120, 128, 61, 132, 3, 1, 167, 255, 208, 4, 172]
abbrev dktX13_isOffer_2 : List UInt8 := dkwX13_isOffer_2 ++ []
def dkwX13_isOffer_1 : List UInt8 := [180, 0, 7, 29, 46, 182, 0, 240, 153, 0, 17, 28, 42, 180, 0, 7, 29, 46, 122, 4, 126, 4]
abbrev dktX13_isOffer_1 : List UInt8 := dkwX13_isOffer_1 ++ dktX13_isOffer_2
def dkwX13_isOffer_0 : List UInt8 := [27, 4, 16, 8, 184, 0, 115, 154, 0, 5, 3, 172, 3, 61, 3, 62, 29, 27, 162, 0, 49, 42, 42]
abbrev dktX13_isOffer_0 : List UInt8 := dkwX13_isOffer_0 ++ dktX13_isOffer_1
theorem dksX13_isOffer_0 : cX13_isOffer.data.toList.drop 0 = dktX13_isOffer_0 := by decide +kernel
theorem dksX13_isOffer_1 : cX13_isOffer.data.toList.drop 23 = dktX13_isOffer_1 := dk_seg dksX13_isOffer_0 23 rfl rfl
theorem dksX13_isOffer_2 : cX13_isOffer.data.toList.drop 45 = dktX13_isOffer_2 := dk_seg dksX13_isOffer_1 22 rfl rfl
theorem dX13_isOffer_0 : decode cX13_isOffer 0 = .ok (.iload_n 1, 1) := dk_27 (dk_at dksX13_isOffer_0 0 rfl rfl)
theorem dX13_isOffer_1 : decode cX13_isOffer 1 = .ok (.iconst 1, 1) := dk_4 (dk_at dksX13_isOffer_0 1 rfl rfl)
theorem dX13_isOffer_2 : decode cX13_isOffer 2 = .ok (.bipush 8, 2) := dk_16 8 (dk_at dksX13_isOffer_0 2 rfl rfl)
theorem dX13_isOffer_4 : decode cX13_isOffer 4 = .ok (.invokestatic 115, 3) := dk_184 0 115 (dk_at dksX13_isOffer_0 4 rfl rfl)
theorem dX13_isOffer_7 : decode cX13_isOffer 7 = .ok (.ifCond .ne 5, 3) := dk_154 0 5 (dk_at dksX13_isOffer_0 7 rfl rfl)
theorem dX13_isOffer_10 : decode cX13_isOffer 10 = .ok (.iconst 0, 1) := dk_3 (dk_at dksX13_isOffer_0 10 rfl rfl)
theorem dX13_isOffer_11 : decode cX13_isOffer 11 = .ok (.ireturn, 1) := dk_172 (dk_at dksX13_isOffer_0 11 rfl rfl)
theorem dX13_isOffer_12 : decode cX13_isOffer 12 = .ok (.iconst 0, 1) := dk_3 (dk_at dksX13_isOffer_0 12 rfl rfl)
theorem dX13_isOffer_13 : decode cX13_isOffer 13 = .ok (.istore_n 2, 1) := dk_61 (dk_at dksX13_isOffer_0 13 rfl rfl)
theorem dX13_isOffer_14 : decode cX13_isOffer 14 = .ok (.iconst 0, 1) := dk_3 (dk_at dksX13_isOffer_0 14 rfl rfl)
theorem dX13_isOffer_15 : decode cX13_isOffer 15 = .ok (.istore_n 3, 1) := dk_62 (dk_at dksX13_isOffer_0 15 rfl rfl)
theorem dX13_isOffer_16 : decode cX13_isOffer 16 = .ok (.iload_n 3, 1) := dk_29 (dk_at dksX13_isOffer_0 16 rfl rfl)
theorem dX13_isOffer_17 : decode cX13_isOffer 17 = .ok (.iload_n 1, 1) := dk_27 (dk_at dksX13_isOffer_0 17 rfl rfl)
theorem dX13_isOffer_18 : decode cX13_isOffer 18 = .ok (.if_icmp .ge 49, 3) := dk_162 0 49 (dk_at dksX13_isOffer_0 18 rfl rfl)
theorem dX13_isOffer_21 : decode cX13_isOffer 21 = .ok (.aload_n 0, 1) := dk_42 (dk_at dksX13_isOffer_0 21 rfl rfl)
theorem dX13_isOffer_22 : decode cX13_isOffer 22 = .ok (.aload_n 0, 1) := dk_42 (dk_at dksX13_isOffer_0 22 rfl rfl)
theorem dX13_isOffer_23 : decode cX13_isOffer 23 = .ok (.getfield 7, 3) := dk_180 0 7 (dk_at dksX13_isOffer_1 0 rfl rfl)
theorem dX13_isOffer_26 : decode cX13_isOffer 26 = .ok (.iload_n 3, 1) := dk_29 (dk_at dksX13_isOffer_1 3 rfl rfl)
theorem dX13_isOffer_27 : decode cX13_isOffer 27 = .ok (.iaload, 1) := dk_46 (dk_at dksX13_isOffer_1 4 rfl rfl)
theorem dX13_isOffer_28 : decode cX13_isOffer 28 = .ok (.invokevirtual 240, 3) := dk_182 0 240 (dk_at dksX13_isOffer_1 5 rfl rfl)
theorem dX13_isOffer_31 : decode cX13_isOffer 31 = .ok (.ifCond .eq 17, 3) := dk_153 0 17 (dk_at dksX13_isOffer_1 8 rfl rfl)
theorem dX13_isOffer_34 : decode cX13_isOffer 34 = .ok (.iload_n 2, 1) := dk_28 (dk_at dksX13_isOffer_1 11 rfl rfl)
theorem dX13_isOffer_35 : decode cX13_isOffer 35 = .ok (.aload_n 0, 1) := dk_42 (dk_at dksX13_isOffer_1 12 rfl rfl)
theorem dX13_isOffer_36 : decode cX13_isOffer 36 = .ok (.getfield 7, 3) := dk_180 0 7 (dk_at dksX13_isOffer_1 13 rfl rfl)
theorem dX13_isOffer_39 : decode cX13_isOffer 39 = .ok (.iload_n 3, 1) := dk_29 (dk_at dksX13_isOffer_1 16 rfl rfl)
theorem dX13_isOffer_40 : decode cX13_isOffer 40 = .ok (.iaload, 1) := dk_46 (dk_at dksX13_isOffer_1 17 rfl rfl)
theorem dX13_isOffer_41 : decode cX13_isOffer 41 = .ok (.ishr, 1) := dk_122 (dk_at dksX13_isOffer_1 18 rfl rfl)
theorem dX13_isOffer_42 : decode cX13_isOffer 42 = .ok (.iconst 1, 1) := dk_4 (dk_at dksX13_isOffer_1 19 rfl rfl)
theorem dX13_isOffer_43 : decode cX13_isOffer 43 = .ok (.iand, 1) := dk_126 (dk_at dksX13_isOffer_1 20 rfl rfl)
theorem dX13_isOffer_44 : decode cX13_isOffer 44 = .ok (.iconst 1, 1) := dk_4 (dk_at dksX13_isOffer_1 21 rfl rfl)
theorem dX13_isOffer_45 : decode cX13_isOffer 45 = .ok (.if_icmp .ne 5, 3) := dk_160 0 5 (dk_at dksX13_isOffer_2 0 rfl rfl)
theorem dX13_isOffer_48 : decode cX13_isOffer 48 = .ok (.iconst 0, 1) := dk_3 (dk_at dksX13_isOffer_2 3 rfl rfl)
theorem dX13_isOffer_49 : decode cX13_isOffer 49 = .ok (.ireturn, 1) := dk_172 (dk_at dksX13_isOffer_2 4 rfl rfl)
theorem dX13_isOffer_50 : decode cX13_isOffer 50 = .ok (.iload_n 2, 1) := dk_28 (dk_at dksX13_isOffer_2 5 rfl rfl)
theorem dX13_isOffer_51 : decode cX13_isOffer 51 = .ok (.iconst 1, 1) := dk_4 (dk_at dksX13_isOffer_2 6 rfl rfl)
theorem dX13_isOffer_52 : decode cX13_isOffer 52 = .ok (.aload_n 0, 1) := dk_42 (dk_at dksX13_isOffer_2 7 rfl rfl)
theorem dX13_isOffer_53 : decode cX13_isOffer 53 = .ok (.getfield 7, 3) := dk_180 0 7 (dk_at dksX13_isOffer_2 8 rfl rfl)
theorem dX13_isOffer_56 : decode cX13_isOffer 56 = .ok (.iload_n 3, 1) := dk_29 (dk_at dksX13_isOffer_2 11 rfl rfl)
theorem dX13_isOffer_57 : decode cX13_isOffer 57 = .ok (.iaload, 1) := dk_46 (dk_at dksX13_isOffer_2 12 rfl rfl)
theorem dX13_isOffer_58 : decode cX13_isOffer 58 = .ok (.ishl, 1) := dk_120 (dk_at dksX13_isOffer_2 13 rfl rfl)
theorem dX13_isOffer_59 : decode cX13_isOffer 59 = .ok (.ior, 1) := dk_128 (dk_at dksX13_isOffer_2 14 rfl rfl)
theorem dX13_isOffer_60 : decode cX13_isOffer 60 = .ok (.istore_n 2, 1) := dk_61 (dk_at dksX13_isOffer_2 15 rfl rfl)
theorem dX13_isOffer_61 : decode cX13_isOffer 61 = .ok (.iinc 3 1, 3) := dk_132 3 1 (dk_at dksX13_isOffer_2 16 rfl rfl)
theorem dX13_isOffer_64 : decode cX13_isOffer 64 = .ok (.goto (-48), 3) := dk_167 255 208 (dk_at dksX13_isOffer_2 19 rfl rfl)
theorem dX13_isOffer_67 : decode cX13_isOffer 67 = .ok (.iconst 1, 1) := dk_4 (dk_at dksX13_isOffer_2 22 rfl rfl)
theorem dX13_isOffer_68 : decode cX13_isOffer 68 = .ok (.ireturn, 1) := dk_172 (dk_at dksX13_isOffer_2 23 rfl rfl)
abbrev cX13_takeOffer : ByteArray := prog_24_method_54_code
def yX13_takeOffer : MethodName := ⟨RX13, "takeOffer", "(I)V"⟩
def dkwX13_takeOffer_1 : List UInt8 := [132, 2, 1, 167, 255, 236, 177]
abbrev dktX13_takeOffer_1 : List UInt8 := dkwX13_takeOffer_1 ++ []
def dkwX13_takeOffer_0 : List UInt8 := [42, 27, 181, 1, 5, 3, 61, 28, 27, 162, 0, 21, 42, 180, 0, 39, 28, 42, 180, 0, 7, 28, 46, 79]
abbrev dktX13_takeOffer_0 : List UInt8 := dkwX13_takeOffer_0 ++ dktX13_takeOffer_1
theorem dksX13_takeOffer_0 : cX13_takeOffer.data.toList.drop 0 = dktX13_takeOffer_0 := by decide +kernel
theorem dksX13_takeOffer_1 : cX13_takeOffer.data.toList.drop 24 = dktX13_takeOffer_1 := dk_seg dksX13_takeOffer_0 24 rfl rfl
theorem dX13_takeOffer_0 : decode cX13_takeOffer 0 = .ok (.aload_n 0, 1) := dk_42 (dk_at dksX13_takeOffer_0 0 rfl rfl)
theorem dX13_takeOffer_1 : decode cX13_takeOffer 1 = .ok (.iload_n 1, 1) := dk_27 (dk_at dksX13_takeOffer_0 1 rfl rfl)
theorem dX13_takeOffer_2 : decode cX13_takeOffer 2 = .ok (.putfield 261, 3) := dk_181 1 5 (dk_at dksX13_takeOffer_0 2 rfl rfl)
theorem dX13_takeOffer_5 : decode cX13_takeOffer 5 = .ok (.iconst 0, 1) := dk_3 (dk_at dksX13_takeOffer_0 5 rfl rfl)
theorem dX13_takeOffer_6 : decode cX13_takeOffer 6 = .ok (.istore_n 2, 1) := dk_61 (dk_at dksX13_takeOffer_0 6 rfl rfl)
theorem dX13_takeOffer_7 : decode cX13_takeOffer 7 = .ok (.iload_n 2, 1) := dk_28 (dk_at dksX13_takeOffer_0 7 rfl rfl)
theorem dX13_takeOffer_8 : decode cX13_takeOffer 8 = .ok (.iload_n 1, 1) := dk_27 (dk_at dksX13_takeOffer_0 8 rfl rfl)
theorem dX13_takeOffer_9 : decode cX13_takeOffer 9 = .ok (.if_icmp .ge 21, 3) := dk_162 0 21 (dk_at dksX13_takeOffer_0 9 rfl rfl)
theorem dX13_takeOffer_12 : decode cX13_takeOffer 12 = .ok (.aload_n 0, 1) := dk_42 (dk_at dksX13_takeOffer_0 12 rfl rfl)
theorem dX13_takeOffer_13 : decode cX13_takeOffer 13 = .ok (.getfield 39, 3) := dk_180 0 39 (dk_at dksX13_takeOffer_0 13 rfl rfl)
theorem dX13_takeOffer_16 : decode cX13_takeOffer 16 = .ok (.iload_n 2, 1) := dk_28 (dk_at dksX13_takeOffer_0 16 rfl rfl)
theorem dX13_takeOffer_17 : decode cX13_takeOffer 17 = .ok (.aload_n 0, 1) := dk_42 (dk_at dksX13_takeOffer_0 17 rfl rfl)
theorem dX13_takeOffer_18 : decode cX13_takeOffer 18 = .ok (.getfield 7, 3) := dk_180 0 7 (dk_at dksX13_takeOffer_0 18 rfl rfl)
theorem dX13_takeOffer_21 : decode cX13_takeOffer 21 = .ok (.iload_n 2, 1) := dk_28 (dk_at dksX13_takeOffer_0 21 rfl rfl)
theorem dX13_takeOffer_22 : decode cX13_takeOffer 22 = .ok (.iaload, 1) := dk_46 (dk_at dksX13_takeOffer_0 22 rfl rfl)
theorem dX13_takeOffer_23 : decode cX13_takeOffer 23 = .ok (.iastore, 1) := dk_79 (dk_at dksX13_takeOffer_0 23 rfl rfl)
theorem dX13_takeOffer_24 : decode cX13_takeOffer 24 = .ok (.iinc 2 1, 3) := dk_132 2 1 (dk_at dksX13_takeOffer_1 0 rfl rfl)
theorem dX13_takeOffer_27 : decode cX13_takeOffer 27 = .ok (.goto (-20), 3) := dk_167 255 236 (dk_at dksX13_takeOffer_1 3 rfl rfl)
theorem dX13_takeOffer_30 : decode cX13_takeOffer 30 = .ok (.return_, 1) := dk_177 (dk_at dksX13_takeOffer_1 6 rfl rfl)
abbrev cX13_answerBy : ByteArray := prog_24_method_67_code
def yX13_answerBy : MethodName := ⟨RX13, "answerBy", "(I)I"⟩
def dkwX13_answerBy_0 : List UInt8 := [42, 27, 182, 1, 29, 42, 42, 180, 0, 255, 182, 1, 32, 172]
abbrev dktX13_answerBy_0 : List UInt8 := dkwX13_answerBy_0 ++ []
theorem dksX13_answerBy_0 : cX13_answerBy.data.toList.drop 0 = dktX13_answerBy_0 := by decide +kernel
theorem dX13_answerBy_0 : decode cX13_answerBy 0 = .ok (.aload_n 0, 1) := dk_42 (dk_at dksX13_answerBy_0 0 rfl rfl)
theorem dX13_answerBy_1 : decode cX13_answerBy 1 = .ok (.iload_n 1, 1) := dk_27 (dk_at dksX13_answerBy_0 1 rfl rfl)
theorem dX13_answerBy_2 : decode cX13_answerBy 2 = .ok (.invokevirtual 285, 3) := dk_182 1 29 (dk_at dksX13_answerBy_0 2 rfl rfl)
theorem dX13_answerBy_5 : decode cX13_answerBy 5 = .ok (.aload_n 0, 1) := dk_42 (dk_at dksX13_answerBy_0 5 rfl rfl)
theorem dX13_answerBy_6 : decode cX13_answerBy 6 = .ok (.aload_n 0, 1) := dk_42 (dk_at dksX13_answerBy_0 6 rfl rfl)
theorem dX13_answerBy_7 : decode cX13_answerBy 7 = .ok (.getfield 255, 3) := dk_180 0 255 (dk_at dksX13_answerBy_0 7 rfl rfl)
theorem dX13_answerBy_10 : decode cX13_answerBy 10 = .ok (.invokevirtual 288, 3) := dk_182 1 32 (dk_at dksX13_answerBy_0 10 rfl rfl)
theorem dX13_answerBy_13 : decode cX13_answerBy 13 = .ok (.ireturn, 1) := dk_172 (dk_at dksX13_answerBy_0 13 rfl rfl)
abbrev cX13_answered : ByteArray := prog_24_method_66_code
def yX13_answered : MethodName := ⟨RX13, "answered", "(I)I"⟩
def dkwX13_answered_1 : List UInt8 := [182, 1, 26, 172]
abbrev dktX13_answered_1 : List UInt8 := dkwX13_answered_1 ++ []
def dkwX13_answered_0 : List UInt8 := [27, 154, 0, 10, 42, 182, 1, 23, 167, 0, 17, 42, 27, 4, 160, 0, 7, 4, 167, 0, 4, 3]
abbrev dktX13_answered_0 : List UInt8 := dkwX13_answered_0 ++ dktX13_answered_1
theorem dksX13_answered_0 : cX13_answered.data.toList.drop 0 = dktX13_answered_0 := by decide +kernel
theorem dksX13_answered_1 : cX13_answered.data.toList.drop 22 = dktX13_answered_1 := dk_seg dksX13_answered_0 22 rfl rfl
theorem dX13_answered_0 : decode cX13_answered 0 = .ok (.iload_n 1, 1) := dk_27 (dk_at dksX13_answered_0 0 rfl rfl)
theorem dX13_answered_1 : decode cX13_answered 1 = .ok (.ifCond .ne 10, 3) := dk_154 0 10 (dk_at dksX13_answered_0 1 rfl rfl)
theorem dX13_answered_4 : decode cX13_answered 4 = .ok (.aload_n 0, 1) := dk_42 (dk_at dksX13_answered_0 4 rfl rfl)
theorem dX13_answered_5 : decode cX13_answered 5 = .ok (.invokevirtual 279, 3) := dk_182 1 23 (dk_at dksX13_answered_0 5 rfl rfl)
theorem dX13_answered_8 : decode cX13_answered 8 = .ok (.goto 17, 3) := dk_167 0 17 (dk_at dksX13_answered_0 8 rfl rfl)
theorem dX13_answered_11 : decode cX13_answered 11 = .ok (.aload_n 0, 1) := dk_42 (dk_at dksX13_answered_0 11 rfl rfl)
theorem dX13_answered_12 : decode cX13_answered 12 = .ok (.iload_n 1, 1) := dk_27 (dk_at dksX13_answered_0 12 rfl rfl)
theorem dX13_answered_13 : decode cX13_answered 13 = .ok (.iconst 1, 1) := dk_4 (dk_at dksX13_answered_0 13 rfl rfl)
theorem dX13_answered_14 : decode cX13_answered 14 = .ok (.if_icmp .ne 7, 3) := dk_160 0 7 (dk_at dksX13_answered_0 14 rfl rfl)
theorem dX13_answered_17 : decode cX13_answered 17 = .ok (.iconst 1, 1) := dk_4 (dk_at dksX13_answered_0 17 rfl rfl)
theorem dX13_answered_18 : decode cX13_answered 18 = .ok (.goto 4, 3) := dk_167 0 4 (dk_at dksX13_answered_0 18 rfl rfl)
theorem dX13_answered_21 : decode cX13_answered 21 = .ok (.iconst 0, 1) := dk_3 (dk_at dksX13_answered_0 21 rfl rfl)
theorem dX13_answered_22 : decode cX13_answered 22 = .ok (.invokevirtual 282, 3) := dk_182 1 26 (dk_at dksX13_answered_1 0 rfl rfl)
theorem dX13_answered_25 : decode cX13_answered 25 = .ok (.ireturn, 1) := dk_172 (dk_at dksX13_answered_1 3 rfl rfl)
abbrev cX13_said : ByteArray := prog_24_method_62_code
def yX13_said : MethodName := ⟨RX13, "said", "()I"⟩
def dkwX13_said_2 : List UInt8 := [167, 255, 214, 27, 172]
abbrev dktX13_said_2 : List UInt8 := dkwX13_said_2 ++ []
def dkwX13_said_1 : List UInt8 := [2, 159, 0, 16, 42, 28, 182, 1, 14, 42, 27, 182, 1, 14, 162, 0, 5, 28, 60, 132, 2, 1]
abbrev dktX13_said_1 : List UInt8 := dkwX13_said_1 ++ dktX13_said_2
def dkwX13_said_0 : List UInt8 := [2, 60, 3, 61, 28, 42, 182, 0, 237, 162, 0, 40, 42, 28, 182, 1, 14, 17, 3, 232, 162, 0, 23, 27]
abbrev dktX13_said_0 : List UInt8 := dkwX13_said_0 ++ dktX13_said_1
theorem dksX13_said_0 : cX13_said.data.toList.drop 0 = dktX13_said_0 := by decide +kernel
theorem dksX13_said_1 : cX13_said.data.toList.drop 24 = dktX13_said_1 := dk_seg dksX13_said_0 24 rfl rfl
theorem dksX13_said_2 : cX13_said.data.toList.drop 46 = dktX13_said_2 := dk_seg dksX13_said_1 22 rfl rfl
theorem dX13_said_0 : decode cX13_said 0 = .ok (.iconst (-1), 1) := dk_2 (dk_at dksX13_said_0 0 rfl rfl)
theorem dX13_said_1 : decode cX13_said 1 = .ok (.istore_n 1, 1) := dk_60 (dk_at dksX13_said_0 1 rfl rfl)
theorem dX13_said_2 : decode cX13_said 2 = .ok (.iconst 0, 1) := dk_3 (dk_at dksX13_said_0 2 rfl rfl)
theorem dX13_said_3 : decode cX13_said 3 = .ok (.istore_n 2, 1) := dk_61 (dk_at dksX13_said_0 3 rfl rfl)
theorem dX13_said_4 : decode cX13_said 4 = .ok (.iload_n 2, 1) := dk_28 (dk_at dksX13_said_0 4 rfl rfl)
theorem dX13_said_5 : decode cX13_said 5 = .ok (.aload_n 0, 1) := dk_42 (dk_at dksX13_said_0 5 rfl rfl)
theorem dX13_said_6 : decode cX13_said 6 = .ok (.invokevirtual 237, 3) := dk_182 0 237 (dk_at dksX13_said_0 6 rfl rfl)
theorem dX13_said_9 : decode cX13_said 9 = .ok (.if_icmp .ge 40, 3) := dk_162 0 40 (dk_at dksX13_said_0 9 rfl rfl)
theorem dX13_said_12 : decode cX13_said 12 = .ok (.aload_n 0, 1) := dk_42 (dk_at dksX13_said_0 12 rfl rfl)
theorem dX13_said_13 : decode cX13_said 13 = .ok (.iload_n 2, 1) := dk_28 (dk_at dksX13_said_0 13 rfl rfl)
theorem dX13_said_14 : decode cX13_said 14 = .ok (.invokevirtual 270, 3) := dk_182 1 14 (dk_at dksX13_said_0 14 rfl rfl)
theorem dX13_said_17 : decode cX13_said 17 = .ok (.sipush 1000, 3) := dk_17 3 232 (dk_at dksX13_said_0 17 rfl rfl)
theorem dX13_said_20 : decode cX13_said 20 = .ok (.if_icmp .ge 23, 3) := dk_162 0 23 (dk_at dksX13_said_0 20 rfl rfl)
theorem dX13_said_23 : decode cX13_said 23 = .ok (.iload_n 1, 1) := dk_27 (dk_at dksX13_said_0 23 rfl rfl)
theorem dX13_said_24 : decode cX13_said 24 = .ok (.iconst (-1), 1) := dk_2 (dk_at dksX13_said_1 0 rfl rfl)
theorem dX13_said_25 : decode cX13_said 25 = .ok (.if_icmp .eq 16, 3) := dk_159 0 16 (dk_at dksX13_said_1 1 rfl rfl)
theorem dX13_said_28 : decode cX13_said 28 = .ok (.aload_n 0, 1) := dk_42 (dk_at dksX13_said_1 4 rfl rfl)
theorem dX13_said_29 : decode cX13_said 29 = .ok (.iload_n 2, 1) := dk_28 (dk_at dksX13_said_1 5 rfl rfl)
theorem dX13_said_30 : decode cX13_said 30 = .ok (.invokevirtual 270, 3) := dk_182 1 14 (dk_at dksX13_said_1 6 rfl rfl)
theorem dX13_said_33 : decode cX13_said 33 = .ok (.aload_n 0, 1) := dk_42 (dk_at dksX13_said_1 9 rfl rfl)
theorem dX13_said_34 : decode cX13_said 34 = .ok (.iload_n 1, 1) := dk_27 (dk_at dksX13_said_1 10 rfl rfl)
theorem dX13_said_35 : decode cX13_said 35 = .ok (.invokevirtual 270, 3) := dk_182 1 14 (dk_at dksX13_said_1 11 rfl rfl)
theorem dX13_said_38 : decode cX13_said 38 = .ok (.if_icmp .ge 5, 3) := dk_162 0 5 (dk_at dksX13_said_1 14 rfl rfl)
theorem dX13_said_41 : decode cX13_said 41 = .ok (.iload_n 2, 1) := dk_28 (dk_at dksX13_said_1 17 rfl rfl)
theorem dX13_said_42 : decode cX13_said 42 = .ok (.istore_n 1, 1) := dk_60 (dk_at dksX13_said_1 18 rfl rfl)
theorem dX13_said_43 : decode cX13_said 43 = .ok (.iinc 2 1, 3) := dk_132 2 1 (dk_at dksX13_said_1 19 rfl rfl)
theorem dX13_said_46 : decode cX13_said 46 = .ok (.goto (-42), 3) := dk_167 255 214 (dk_at dksX13_said_2 0 rfl rfl)
theorem dX13_said_49 : decode cX13_said 49 = .ok (.iload_n 1, 1) := dk_27 (dk_at dksX13_said_2 3 rfl rfl)
theorem dX13_said_50 : decode cX13_said 50 = .ok (.ireturn, 1) := dk_172 (dk_at dksX13_said_2 4 rfl rfl)
abbrev cX13_sayable : ByteArray := prog_24_method_61_code
def yX13_sayable : MethodName := ⟨RX13, "sayable", "(I)I"⟩
def dkwX13_sayable_2 : List UInt8 := [42, 29, 27, 182, 1, 11, 61, 132, 3, 1, 167, 255, 206, 28, 172]
abbrev dktX13_sayable_2 : List UInt8 := dkwX13_sayable_2 ++ []
def dkwX13_sayable_1 : List UInt8 := [180, 0, 13, 3, 27, 96, 46, 122, 4, 126, 4, 160, 0, 20, 42, 29, 27, 182, 1, 11, 28, 162, 0, 10]
abbrev dktX13_sayable_1 : List UInt8 := dkwX13_sayable_1 ++ dktX13_sayable_2
def dkwX13_sayable_0 : List UInt8 := [17, 3, 232, 61, 3, 62, 29, 5, 162, 0, 51, 42, 180, 0, 13, 17, 0, 131, 29, 96, 46, 42]
abbrev dktX13_sayable_0 : List UInt8 := dkwX13_sayable_0 ++ dktX13_sayable_1
theorem dksX13_sayable_0 : cX13_sayable.data.toList.drop 0 = dktX13_sayable_0 := by decide +kernel
theorem dksX13_sayable_1 : cX13_sayable.data.toList.drop 22 = dktX13_sayable_1 := dk_seg dksX13_sayable_0 22 rfl rfl
theorem dksX13_sayable_2 : cX13_sayable.data.toList.drop 46 = dktX13_sayable_2 := dk_seg dksX13_sayable_1 24 rfl rfl
theorem dX13_sayable_0 : decode cX13_sayable 0 = .ok (.sipush 1000, 3) := dk_17 3 232 (dk_at dksX13_sayable_0 0 rfl rfl)
theorem dX13_sayable_3 : decode cX13_sayable 3 = .ok (.istore_n 2, 1) := dk_61 (dk_at dksX13_sayable_0 3 rfl rfl)
theorem dX13_sayable_4 : decode cX13_sayable 4 = .ok (.iconst 0, 1) := dk_3 (dk_at dksX13_sayable_0 4 rfl rfl)
theorem dX13_sayable_5 : decode cX13_sayable 5 = .ok (.istore_n 3, 1) := dk_62 (dk_at dksX13_sayable_0 5 rfl rfl)
theorem dX13_sayable_6 : decode cX13_sayable 6 = .ok (.iload_n 3, 1) := dk_29 (dk_at dksX13_sayable_0 6 rfl rfl)
theorem dX13_sayable_7 : decode cX13_sayable 7 = .ok (.iconst 2, 1) := dk_5 (dk_at dksX13_sayable_0 7 rfl rfl)
theorem dX13_sayable_8 : decode cX13_sayable 8 = .ok (.if_icmp .ge 51, 3) := dk_162 0 51 (dk_at dksX13_sayable_0 8 rfl rfl)
theorem dX13_sayable_11 : decode cX13_sayable 11 = .ok (.aload_n 0, 1) := dk_42 (dk_at dksX13_sayable_0 11 rfl rfl)
theorem dX13_sayable_12 : decode cX13_sayable 12 = .ok (.getfield 13, 3) := dk_180 0 13 (dk_at dksX13_sayable_0 12 rfl rfl)
theorem dX13_sayable_15 : decode cX13_sayable 15 = .ok (.sipush 131, 3) := dk_17 0 131 (dk_at dksX13_sayable_0 15 rfl rfl)
theorem dX13_sayable_18 : decode cX13_sayable 18 = .ok (.iload_n 3, 1) := dk_29 (dk_at dksX13_sayable_0 18 rfl rfl)
theorem dX13_sayable_19 : decode cX13_sayable 19 = .ok (.iadd, 1) := dk_96 (dk_at dksX13_sayable_0 19 rfl rfl)
theorem dX13_sayable_20 : decode cX13_sayable 20 = .ok (.iaload, 1) := dk_46 (dk_at dksX13_sayable_0 20 rfl rfl)
theorem dX13_sayable_21 : decode cX13_sayable 21 = .ok (.aload_n 0, 1) := dk_42 (dk_at dksX13_sayable_0 21 rfl rfl)
theorem dX13_sayable_22 : decode cX13_sayable 22 = .ok (.getfield 13, 3) := dk_180 0 13 (dk_at dksX13_sayable_1 0 rfl rfl)
theorem dX13_sayable_25 : decode cX13_sayable 25 = .ok (.iconst 0, 1) := dk_3 (dk_at dksX13_sayable_1 3 rfl rfl)
theorem dX13_sayable_26 : decode cX13_sayable 26 = .ok (.iload_n 1, 1) := dk_27 (dk_at dksX13_sayable_1 4 rfl rfl)
theorem dX13_sayable_27 : decode cX13_sayable 27 = .ok (.iadd, 1) := dk_96 (dk_at dksX13_sayable_1 5 rfl rfl)
theorem dX13_sayable_28 : decode cX13_sayable 28 = .ok (.iaload, 1) := dk_46 (dk_at dksX13_sayable_1 6 rfl rfl)
theorem dX13_sayable_29 : decode cX13_sayable 29 = .ok (.ishr, 1) := dk_122 (dk_at dksX13_sayable_1 7 rfl rfl)
theorem dX13_sayable_30 : decode cX13_sayable 30 = .ok (.iconst 1, 1) := dk_4 (dk_at dksX13_sayable_1 8 rfl rfl)
theorem dX13_sayable_31 : decode cX13_sayable 31 = .ok (.iand, 1) := dk_126 (dk_at dksX13_sayable_1 9 rfl rfl)
theorem dX13_sayable_32 : decode cX13_sayable 32 = .ok (.iconst 1, 1) := dk_4 (dk_at dksX13_sayable_1 10 rfl rfl)
theorem dX13_sayable_33 : decode cX13_sayable 33 = .ok (.if_icmp .ne 20, 3) := dk_160 0 20 (dk_at dksX13_sayable_1 11 rfl rfl)
theorem dX13_sayable_36 : decode cX13_sayable 36 = .ok (.aload_n 0, 1) := dk_42 (dk_at dksX13_sayable_1 14 rfl rfl)
theorem dX13_sayable_37 : decode cX13_sayable 37 = .ok (.iload_n 3, 1) := dk_29 (dk_at dksX13_sayable_1 15 rfl rfl)
theorem dX13_sayable_38 : decode cX13_sayable 38 = .ok (.iload_n 1, 1) := dk_27 (dk_at dksX13_sayable_1 16 rfl rfl)
theorem dX13_sayable_39 : decode cX13_sayable 39 = .ok (.invokevirtual 267, 3) := dk_182 1 11 (dk_at dksX13_sayable_1 17 rfl rfl)
theorem dX13_sayable_42 : decode cX13_sayable 42 = .ok (.iload_n 2, 1) := dk_28 (dk_at dksX13_sayable_1 20 rfl rfl)
theorem dX13_sayable_43 : decode cX13_sayable 43 = .ok (.if_icmp .ge 10, 3) := dk_162 0 10 (dk_at dksX13_sayable_1 21 rfl rfl)
theorem dX13_sayable_46 : decode cX13_sayable 46 = .ok (.aload_n 0, 1) := dk_42 (dk_at dksX13_sayable_2 0 rfl rfl)
theorem dX13_sayable_47 : decode cX13_sayable 47 = .ok (.iload_n 3, 1) := dk_29 (dk_at dksX13_sayable_2 1 rfl rfl)
theorem dX13_sayable_48 : decode cX13_sayable 48 = .ok (.iload_n 1, 1) := dk_27 (dk_at dksX13_sayable_2 2 rfl rfl)
theorem dX13_sayable_49 : decode cX13_sayable 49 = .ok (.invokevirtual 267, 3) := dk_182 1 11 (dk_at dksX13_sayable_2 3 rfl rfl)
theorem dX13_sayable_52 : decode cX13_sayable 52 = .ok (.istore_n 2, 1) := dk_61 (dk_at dksX13_sayable_2 6 rfl rfl)
theorem dX13_sayable_53 : decode cX13_sayable 53 = .ok (.iinc 3 1, 3) := dk_132 3 1 (dk_at dksX13_sayable_2 7 rfl rfl)
theorem dX13_sayable_56 : decode cX13_sayable 56 = .ok (.goto (-50), 3) := dk_167 255 206 (dk_at dksX13_sayable_2 10 rfl rfl)
theorem dX13_sayable_59 : decode cX13_sayable 59 = .ok (.iload_n 2, 1) := dk_28 (dk_at dksX13_sayable_2 13 rfl rfl)
theorem dX13_sayable_60 : decode cX13_sayable 60 = .ok (.ireturn, 1) := dk_172 (dk_at dksX13_sayable_2 14 rfl rfl)
abbrev cX13_taken : ByteArray := prog_24_method_64_code
def yX13_taken : MethodName := ⟨RX13, "taken", "(I)I"⟩
def dkwX13_taken_4 : List UInt8 := [42, 180, 0, 39, 29, 46, 172, 132, 3, 1, 167, 255, 223, 2, 172]
abbrev dktX13_taken_4 : List UInt8 := dkwX13_taken_4 ++ []
def dkwX13_taken_3 : List UInt8 := [62, 29, 42, 180, 1, 5, 162, 0, 31, 42, 27, 42, 180, 0, 39, 29, 46, 182, 1, 17, 2, 159, 0, 10]
abbrev dktX13_taken_3 : List UInt8 := dkwX13_taken_3 ++ dktX13_taken_4
def dkwX13_taken_2 : List UInt8 := [162, 0, 10, 42, 180, 0, 39, 29, 46, 61, 132, 3, 1, 167, 255, 201, 28, 2, 159, 0, 5, 28, 172, 3]
abbrev dktX13_taken_2 : List UInt8 := dkwX13_taken_2 ++ dktX13_taken_3
def dkwX13_taken_1 : List UInt8 := [54, 4, 21, 4, 17, 3, 232, 162, 0, 26, 28, 2, 159, 0, 14, 21, 4, 42, 27, 28, 182, 1, 11]
abbrev dktX13_taken_1 : List UInt8 := dkwX13_taken_1 ++ dktX13_taken_2
def dkwX13_taken_0 : List UInt8 := [2, 61, 3, 62, 29, 42, 180, 1, 5, 162, 0, 53, 42, 27, 42, 180, 0, 39, 29, 46, 182, 1, 11]
abbrev dktX13_taken_0 : List UInt8 := dkwX13_taken_0 ++ dktX13_taken_1
theorem dksX13_taken_0 : cX13_taken.data.toList.drop 0 = dktX13_taken_0 := by decide +kernel
theorem dksX13_taken_1 : cX13_taken.data.toList.drop 23 = dktX13_taken_1 := dk_seg dksX13_taken_0 23 rfl rfl
theorem dksX13_taken_2 : cX13_taken.data.toList.drop 46 = dktX13_taken_2 := dk_seg dksX13_taken_1 23 rfl rfl
theorem dksX13_taken_3 : cX13_taken.data.toList.drop 70 = dktX13_taken_3 := dk_seg dksX13_taken_2 24 rfl rfl
theorem dksX13_taken_4 : cX13_taken.data.toList.drop 94 = dktX13_taken_4 := dk_seg dksX13_taken_3 24 rfl rfl
theorem dX13_taken_0 : decode cX13_taken 0 = .ok (.iconst (-1), 1) := dk_2 (dk_at dksX13_taken_0 0 rfl rfl)
theorem dX13_taken_1 : decode cX13_taken 1 = .ok (.istore_n 2, 1) := dk_61 (dk_at dksX13_taken_0 1 rfl rfl)
theorem dX13_taken_2 : decode cX13_taken 2 = .ok (.iconst 0, 1) := dk_3 (dk_at dksX13_taken_0 2 rfl rfl)
theorem dX13_taken_3 : decode cX13_taken 3 = .ok (.istore_n 3, 1) := dk_62 (dk_at dksX13_taken_0 3 rfl rfl)
theorem dX13_taken_4 : decode cX13_taken 4 = .ok (.iload_n 3, 1) := dk_29 (dk_at dksX13_taken_0 4 rfl rfl)
theorem dX13_taken_5 : decode cX13_taken 5 = .ok (.aload_n 0, 1) := dk_42 (dk_at dksX13_taken_0 5 rfl rfl)
theorem dX13_taken_6 : decode cX13_taken 6 = .ok (.getfield 261, 3) := dk_180 1 5 (dk_at dksX13_taken_0 6 rfl rfl)
theorem dX13_taken_9 : decode cX13_taken 9 = .ok (.if_icmp .ge 53, 3) := dk_162 0 53 (dk_at dksX13_taken_0 9 rfl rfl)
theorem dX13_taken_12 : decode cX13_taken 12 = .ok (.aload_n 0, 1) := dk_42 (dk_at dksX13_taken_0 12 rfl rfl)
theorem dX13_taken_13 : decode cX13_taken 13 = .ok (.iload_n 1, 1) := dk_27 (dk_at dksX13_taken_0 13 rfl rfl)
theorem dX13_taken_14 : decode cX13_taken 14 = .ok (.aload_n 0, 1) := dk_42 (dk_at dksX13_taken_0 14 rfl rfl)
theorem dX13_taken_15 : decode cX13_taken 15 = .ok (.getfield 39, 3) := dk_180 0 39 (dk_at dksX13_taken_0 15 rfl rfl)
theorem dX13_taken_18 : decode cX13_taken 18 = .ok (.iload_n 3, 1) := dk_29 (dk_at dksX13_taken_0 18 rfl rfl)
theorem dX13_taken_19 : decode cX13_taken 19 = .ok (.iaload, 1) := dk_46 (dk_at dksX13_taken_0 19 rfl rfl)
theorem dX13_taken_20 : decode cX13_taken 20 = .ok (.invokevirtual 267, 3) := dk_182 1 11 (dk_at dksX13_taken_0 20 rfl rfl)
theorem dX13_taken_23 : decode cX13_taken 23 = .ok (.istore 4, 2) := dk_54 4 (dk_at dksX13_taken_1 0 rfl rfl)
theorem dX13_taken_25 : decode cX13_taken 25 = .ok (.iload 4, 2) := dk_21 4 (dk_at dksX13_taken_1 2 rfl rfl)
theorem dX13_taken_27 : decode cX13_taken 27 = .ok (.sipush 1000, 3) := dk_17 3 232 (dk_at dksX13_taken_1 4 rfl rfl)
theorem dX13_taken_30 : decode cX13_taken 30 = .ok (.if_icmp .ge 26, 3) := dk_162 0 26 (dk_at dksX13_taken_1 7 rfl rfl)
theorem dX13_taken_33 : decode cX13_taken 33 = .ok (.iload_n 2, 1) := dk_28 (dk_at dksX13_taken_1 10 rfl rfl)
theorem dX13_taken_34 : decode cX13_taken 34 = .ok (.iconst (-1), 1) := dk_2 (dk_at dksX13_taken_1 11 rfl rfl)
theorem dX13_taken_35 : decode cX13_taken 35 = .ok (.if_icmp .eq 14, 3) := dk_159 0 14 (dk_at dksX13_taken_1 12 rfl rfl)
theorem dX13_taken_38 : decode cX13_taken 38 = .ok (.iload 4, 2) := dk_21 4 (dk_at dksX13_taken_1 15 rfl rfl)
theorem dX13_taken_40 : decode cX13_taken 40 = .ok (.aload_n 0, 1) := dk_42 (dk_at dksX13_taken_1 17 rfl rfl)
theorem dX13_taken_41 : decode cX13_taken 41 = .ok (.iload_n 1, 1) := dk_27 (dk_at dksX13_taken_1 18 rfl rfl)
theorem dX13_taken_42 : decode cX13_taken 42 = .ok (.iload_n 2, 1) := dk_28 (dk_at dksX13_taken_1 19 rfl rfl)
theorem dX13_taken_43 : decode cX13_taken 43 = .ok (.invokevirtual 267, 3) := dk_182 1 11 (dk_at dksX13_taken_1 20 rfl rfl)
theorem dX13_taken_46 : decode cX13_taken 46 = .ok (.if_icmp .ge 10, 3) := dk_162 0 10 (dk_at dksX13_taken_2 0 rfl rfl)
theorem dX13_taken_49 : decode cX13_taken 49 = .ok (.aload_n 0, 1) := dk_42 (dk_at dksX13_taken_2 3 rfl rfl)
theorem dX13_taken_50 : decode cX13_taken 50 = .ok (.getfield 39, 3) := dk_180 0 39 (dk_at dksX13_taken_2 4 rfl rfl)
theorem dX13_taken_53 : decode cX13_taken 53 = .ok (.iload_n 3, 1) := dk_29 (dk_at dksX13_taken_2 7 rfl rfl)
theorem dX13_taken_54 : decode cX13_taken 54 = .ok (.iaload, 1) := dk_46 (dk_at dksX13_taken_2 8 rfl rfl)
theorem dX13_taken_55 : decode cX13_taken 55 = .ok (.istore_n 2, 1) := dk_61 (dk_at dksX13_taken_2 9 rfl rfl)
theorem dX13_taken_56 : decode cX13_taken 56 = .ok (.iinc 3 1, 3) := dk_132 3 1 (dk_at dksX13_taken_2 10 rfl rfl)
theorem dX13_taken_59 : decode cX13_taken 59 = .ok (.goto (-55), 3) := dk_167 255 201 (dk_at dksX13_taken_2 13 rfl rfl)
theorem dX13_taken_62 : decode cX13_taken 62 = .ok (.iload_n 2, 1) := dk_28 (dk_at dksX13_taken_2 16 rfl rfl)
theorem dX13_taken_63 : decode cX13_taken 63 = .ok (.iconst (-1), 1) := dk_2 (dk_at dksX13_taken_2 17 rfl rfl)
theorem dX13_taken_64 : decode cX13_taken 64 = .ok (.if_icmp .eq 5, 3) := dk_159 0 5 (dk_at dksX13_taken_2 18 rfl rfl)
theorem dX13_taken_67 : decode cX13_taken 67 = .ok (.iload_n 2, 1) := dk_28 (dk_at dksX13_taken_2 21 rfl rfl)
theorem dX13_taken_68 : decode cX13_taken 68 = .ok (.ireturn, 1) := dk_172 (dk_at dksX13_taken_2 22 rfl rfl)
theorem dX13_taken_69 : decode cX13_taken 69 = .ok (.iconst 0, 1) := dk_3 (dk_at dksX13_taken_2 23 rfl rfl)
theorem dX13_taken_70 : decode cX13_taken 70 = .ok (.istore_n 3, 1) := dk_62 (dk_at dksX13_taken_3 0 rfl rfl)
theorem dX13_taken_71 : decode cX13_taken 71 = .ok (.iload_n 3, 1) := dk_29 (dk_at dksX13_taken_3 1 rfl rfl)
theorem dX13_taken_72 : decode cX13_taken 72 = .ok (.aload_n 0, 1) := dk_42 (dk_at dksX13_taken_3 2 rfl rfl)
theorem dX13_taken_73 : decode cX13_taken 73 = .ok (.getfield 261, 3) := dk_180 1 5 (dk_at dksX13_taken_3 3 rfl rfl)
theorem dX13_taken_76 : decode cX13_taken 76 = .ok (.if_icmp .ge 31, 3) := dk_162 0 31 (dk_at dksX13_taken_3 6 rfl rfl)
theorem dX13_taken_79 : decode cX13_taken 79 = .ok (.aload_n 0, 1) := dk_42 (dk_at dksX13_taken_3 9 rfl rfl)
theorem dX13_taken_80 : decode cX13_taken 80 = .ok (.iload_n 1, 1) := dk_27 (dk_at dksX13_taken_3 10 rfl rfl)
theorem dX13_taken_81 : decode cX13_taken 81 = .ok (.aload_n 0, 1) := dk_42 (dk_at dksX13_taken_3 11 rfl rfl)
theorem dX13_taken_82 : decode cX13_taken 82 = .ok (.getfield 39, 3) := dk_180 0 39 (dk_at dksX13_taken_3 12 rfl rfl)
theorem dX13_taken_85 : decode cX13_taken 85 = .ok (.iload_n 3, 1) := dk_29 (dk_at dksX13_taken_3 15 rfl rfl)
theorem dX13_taken_86 : decode cX13_taken 86 = .ok (.iaload, 1) := dk_46 (dk_at dksX13_taken_3 16 rfl rfl)
theorem dX13_taken_87 : decode cX13_taken 87 = .ok (.invokevirtual 273, 3) := dk_182 1 17 (dk_at dksX13_taken_3 17 rfl rfl)
theorem dX13_taken_90 : decode cX13_taken 90 = .ok (.iconst (-1), 1) := dk_2 (dk_at dksX13_taken_3 20 rfl rfl)
theorem dX13_taken_91 : decode cX13_taken 91 = .ok (.if_icmp .eq 10, 3) := dk_159 0 10 (dk_at dksX13_taken_3 21 rfl rfl)
theorem dX13_taken_94 : decode cX13_taken 94 = .ok (.aload_n 0, 1) := dk_42 (dk_at dksX13_taken_4 0 rfl rfl)
theorem dX13_taken_95 : decode cX13_taken 95 = .ok (.getfield 39, 3) := dk_180 0 39 (dk_at dksX13_taken_4 1 rfl rfl)
theorem dX13_taken_98 : decode cX13_taken 98 = .ok (.iload_n 3, 1) := dk_29 (dk_at dksX13_taken_4 4 rfl rfl)
theorem dX13_taken_99 : decode cX13_taken 99 = .ok (.iaload, 1) := dk_46 (dk_at dksX13_taken_4 5 rfl rfl)
theorem dX13_taken_100 : decode cX13_taken 100 = .ok (.ireturn, 1) := dk_172 (dk_at dksX13_taken_4 6 rfl rfl)
theorem dX13_taken_101 : decode cX13_taken 101 = .ok (.iinc 3 1, 3) := dk_132 3 1 (dk_at dksX13_taken_4 7 rfl rfl)
theorem dX13_taken_104 : decode cX13_taken 104 = .ok (.goto (-33), 3) := dk_167 255 223 (dk_at dksX13_taken_4 10 rfl rfl)
theorem dX13_taken_107 : decode cX13_taken 107 = .ok (.iconst (-1), 1) := dk_2 (dk_at dksX13_taken_4 13 rfl rfl)
theorem dX13_taken_108 : decode cX13_taken 108 = .ok (.ireturn, 1) := dk_172 (dk_at dksX13_taken_4 14 rfl rfl)
abbrev cX13_cause : ByteArray := prog_24_method_65_code
def yX13_cause : MethodName := ⟨RX13, "cause", "(II)I"⟩
def dkwX13_cause_2 : List UInt8 := [182, 1, 11, 42, 27, 29, 182, 1, 11, 162, 0, 6, 21, 4, 62, 132, 4, 1, 167, 255, 197, 29, 172]
abbrev dktX13_cause_2 : List UInt8 := dkwX13_cause_2 ++ []
def dkwX13_cause_1 : List UInt8 := [42, 27, 21, 4, 182, 1, 11, 17, 3, 232, 162, 0, 27, 29, 2, 159, 0, 19, 42, 27, 21, 4]
abbrev dktX13_cause_1 : List UInt8 := dkwX13_cause_1 ++ dktX13_cause_2
def dkwX13_cause_0 : List UInt8 := [2, 62, 3, 54, 4, 21, 4, 42, 182, 0, 237, 162, 0, 56, 42, 28, 21, 4, 182, 1, 20, 153, 0, 40]
abbrev dktX13_cause_0 : List UInt8 := dkwX13_cause_0 ++ dktX13_cause_1
theorem dksX13_cause_0 : cX13_cause.data.toList.drop 0 = dktX13_cause_0 := by decide +kernel
theorem dksX13_cause_1 : cX13_cause.data.toList.drop 24 = dktX13_cause_1 := dk_seg dksX13_cause_0 24 rfl rfl
theorem dksX13_cause_2 : cX13_cause.data.toList.drop 46 = dktX13_cause_2 := dk_seg dksX13_cause_1 22 rfl rfl
theorem dX13_cause_0 : decode cX13_cause 0 = .ok (.iconst (-1), 1) := dk_2 (dk_at dksX13_cause_0 0 rfl rfl)
theorem dX13_cause_1 : decode cX13_cause 1 = .ok (.istore_n 3, 1) := dk_62 (dk_at dksX13_cause_0 1 rfl rfl)
theorem dX13_cause_2 : decode cX13_cause 2 = .ok (.iconst 0, 1) := dk_3 (dk_at dksX13_cause_0 2 rfl rfl)
theorem dX13_cause_3 : decode cX13_cause 3 = .ok (.istore 4, 2) := dk_54 4 (dk_at dksX13_cause_0 3 rfl rfl)
theorem dX13_cause_5 : decode cX13_cause 5 = .ok (.iload 4, 2) := dk_21 4 (dk_at dksX13_cause_0 5 rfl rfl)
theorem dX13_cause_7 : decode cX13_cause 7 = .ok (.aload_n 0, 1) := dk_42 (dk_at dksX13_cause_0 7 rfl rfl)
theorem dX13_cause_8 : decode cX13_cause 8 = .ok (.invokevirtual 237, 3) := dk_182 0 237 (dk_at dksX13_cause_0 8 rfl rfl)
theorem dX13_cause_11 : decode cX13_cause 11 = .ok (.if_icmp .ge 56, 3) := dk_162 0 56 (dk_at dksX13_cause_0 11 rfl rfl)
theorem dX13_cause_14 : decode cX13_cause 14 = .ok (.aload_n 0, 1) := dk_42 (dk_at dksX13_cause_0 14 rfl rfl)
theorem dX13_cause_15 : decode cX13_cause 15 = .ok (.iload_n 2, 1) := dk_28 (dk_at dksX13_cause_0 15 rfl rfl)
theorem dX13_cause_16 : decode cX13_cause 16 = .ok (.iload 4, 2) := dk_21 4 (dk_at dksX13_cause_0 16 rfl rfl)
theorem dX13_cause_18 : decode cX13_cause 18 = .ok (.invokevirtual 276, 3) := dk_182 1 20 (dk_at dksX13_cause_0 18 rfl rfl)
theorem dX13_cause_21 : decode cX13_cause 21 = .ok (.ifCond .eq 40, 3) := dk_153 0 40 (dk_at dksX13_cause_0 21 rfl rfl)
theorem dX13_cause_24 : decode cX13_cause 24 = .ok (.aload_n 0, 1) := dk_42 (dk_at dksX13_cause_1 0 rfl rfl)
theorem dX13_cause_25 : decode cX13_cause 25 = .ok (.iload_n 1, 1) := dk_27 (dk_at dksX13_cause_1 1 rfl rfl)
theorem dX13_cause_26 : decode cX13_cause 26 = .ok (.iload 4, 2) := dk_21 4 (dk_at dksX13_cause_1 2 rfl rfl)
theorem dX13_cause_28 : decode cX13_cause 28 = .ok (.invokevirtual 267, 3) := dk_182 1 11 (dk_at dksX13_cause_1 4 rfl rfl)
theorem dX13_cause_31 : decode cX13_cause 31 = .ok (.sipush 1000, 3) := dk_17 3 232 (dk_at dksX13_cause_1 7 rfl rfl)
theorem dX13_cause_34 : decode cX13_cause 34 = .ok (.if_icmp .ge 27, 3) := dk_162 0 27 (dk_at dksX13_cause_1 10 rfl rfl)
theorem dX13_cause_37 : decode cX13_cause 37 = .ok (.iload_n 3, 1) := dk_29 (dk_at dksX13_cause_1 13 rfl rfl)
theorem dX13_cause_38 : decode cX13_cause 38 = .ok (.iconst (-1), 1) := dk_2 (dk_at dksX13_cause_1 14 rfl rfl)
theorem dX13_cause_39 : decode cX13_cause 39 = .ok (.if_icmp .eq 19, 3) := dk_159 0 19 (dk_at dksX13_cause_1 15 rfl rfl)
theorem dX13_cause_42 : decode cX13_cause 42 = .ok (.aload_n 0, 1) := dk_42 (dk_at dksX13_cause_1 18 rfl rfl)
theorem dX13_cause_43 : decode cX13_cause 43 = .ok (.iload_n 1, 1) := dk_27 (dk_at dksX13_cause_1 19 rfl rfl)
theorem dX13_cause_44 : decode cX13_cause 44 = .ok (.iload 4, 2) := dk_21 4 (dk_at dksX13_cause_1 20 rfl rfl)
theorem dX13_cause_46 : decode cX13_cause 46 = .ok (.invokevirtual 267, 3) := dk_182 1 11 (dk_at dksX13_cause_2 0 rfl rfl)
theorem dX13_cause_49 : decode cX13_cause 49 = .ok (.aload_n 0, 1) := dk_42 (dk_at dksX13_cause_2 3 rfl rfl)
theorem dX13_cause_50 : decode cX13_cause 50 = .ok (.iload_n 1, 1) := dk_27 (dk_at dksX13_cause_2 4 rfl rfl)
theorem dX13_cause_51 : decode cX13_cause 51 = .ok (.iload_n 3, 1) := dk_29 (dk_at dksX13_cause_2 5 rfl rfl)
theorem dX13_cause_52 : decode cX13_cause 52 = .ok (.invokevirtual 267, 3) := dk_182 1 11 (dk_at dksX13_cause_2 6 rfl rfl)
theorem dX13_cause_55 : decode cX13_cause 55 = .ok (.if_icmp .ge 6, 3) := dk_162 0 6 (dk_at dksX13_cause_2 9 rfl rfl)
theorem dX13_cause_58 : decode cX13_cause 58 = .ok (.iload 4, 2) := dk_21 4 (dk_at dksX13_cause_2 12 rfl rfl)
theorem dX13_cause_60 : decode cX13_cause 60 = .ok (.istore_n 3, 1) := dk_62 (dk_at dksX13_cause_2 14 rfl rfl)
theorem dX13_cause_61 : decode cX13_cause 61 = .ok (.iinc 4 1, 3) := dk_132 4 1 (dk_at dksX13_cause_2 15 rfl rfl)
theorem dX13_cause_64 : decode cX13_cause 64 = .ok (.goto (-59), 3) := dk_167 255 197 (dk_at dksX13_cause_2 18 rfl rfl)
theorem dX13_cause_67 : decode cX13_cause 67 = .ok (.iload_n 3, 1) := dk_29 (dk_at dksX13_cause_2 21 rfl rfl)
theorem dX13_cause_68 : decode cX13_cause 68 = .ok (.ireturn, 1) := dk_172 (dk_at dksX13_cause_2 22 rfl rfl)
abbrev cX13_suits : ByteArray := prog_24_method_63_code
def yX13_suits : MethodName := ⟨RX13, "suits", "(II)Z"⟩
def dkwX13_suits_0 : List UInt8 := [42, 180, 0, 13, 16, 16, 27, 96, 46, 28, 122, 4, 126, 4, 160, 0, 7, 4, 167, 0, 4, 3, 172]
abbrev dktX13_suits_0 : List UInt8 := dkwX13_suits_0 ++ []
theorem dksX13_suits_0 : cX13_suits.data.toList.drop 0 = dktX13_suits_0 := by decide +kernel
theorem dX13_suits_0 : decode cX13_suits 0 = .ok (.aload_n 0, 1) := dk_42 (dk_at dksX13_suits_0 0 rfl rfl)
theorem dX13_suits_1 : decode cX13_suits 1 = .ok (.getfield 13, 3) := dk_180 0 13 (dk_at dksX13_suits_0 1 rfl rfl)
theorem dX13_suits_4 : decode cX13_suits 4 = .ok (.bipush 16, 2) := dk_16 16 (dk_at dksX13_suits_0 4 rfl rfl)
theorem dX13_suits_6 : decode cX13_suits 6 = .ok (.iload_n 1, 1) := dk_27 (dk_at dksX13_suits_0 6 rfl rfl)
theorem dX13_suits_7 : decode cX13_suits 7 = .ok (.iadd, 1) := dk_96 (dk_at dksX13_suits_0 7 rfl rfl)
theorem dX13_suits_8 : decode cX13_suits 8 = .ok (.iaload, 1) := dk_46 (dk_at dksX13_suits_0 8 rfl rfl)
theorem dX13_suits_9 : decode cX13_suits 9 = .ok (.iload_n 2, 1) := dk_28 (dk_at dksX13_suits_0 9 rfl rfl)
theorem dX13_suits_10 : decode cX13_suits 10 = .ok (.ishr, 1) := dk_122 (dk_at dksX13_suits_0 10 rfl rfl)
theorem dX13_suits_11 : decode cX13_suits 11 = .ok (.iconst 1, 1) := dk_4 (dk_at dksX13_suits_0 11 rfl rfl)
theorem dX13_suits_12 : decode cX13_suits 12 = .ok (.iand, 1) := dk_126 (dk_at dksX13_suits_0 12 rfl rfl)
theorem dX13_suits_13 : decode cX13_suits 13 = .ok (.iconst 1, 1) := dk_4 (dk_at dksX13_suits_0 13 rfl rfl)
theorem dX13_suits_14 : decode cX13_suits 14 = .ok (.if_icmp .ne 7, 3) := dk_160 0 7 (dk_at dksX13_suits_0 14 rfl rfl)
theorem dX13_suits_17 : decode cX13_suits 17 = .ok (.iconst 1, 1) := dk_4 (dk_at dksX13_suits_0 17 rfl rfl)
theorem dX13_suits_18 : decode cX13_suits 18 = .ok (.goto 4, 3) := dk_167 0 4 (dk_at dksX13_suits_0 18 rfl rfl)
theorem dX13_suits_21 : decode cX13_suits 21 = .ok (.iconst 0, 1) := dk_3 (dk_at dksX13_suits_0 21 rfl rfl)
theorem dX13_suits_22 : decode cX13_suits 22 = .ok (.ireturn, 1) := dk_172 (dk_at dksX13_suits_0 22 rfl rfl)
abbrev cX13_why : ByteArray := prog_24_method_71_code
def yX13_why : MethodName := ⟨RX13, "why", "(IIIII)I"⟩
def dkwX13_why_10 : List UInt8 := [17, 0, 153, 21, 8, 79, 42, 180, 0, 13, 17, 0, 154, 21, 9, 79, 21, 10, 172]
abbrev dktX13_why_10 : List UInt8 := dkwX13_why_10 ++ []
def dkwX13_why_9 : List UInt8 := [160, 0, 7, 5, 167, 0, 4, 4, 54, 11, 42, 180, 0, 13, 17, 0, 152, 21, 11, 79, 42, 180, 0, 13]
abbrev dktX13_why_9 : List UInt8 := dkwX13_why_9 ++ dktX13_why_10
def dkwX13_why_8 : List UInt8 := [42, 21, 10, 182, 1, 14, 162, 0, 7, 21, 12, 54, 10, 132, 12, 1, 167, 255, 189, 21, 10, 2]
abbrev dktX13_why_8 : List UInt8 := dkwX13_why_8 ++ dktX13_why_9
def dkwX13_why_7 : List UInt8 := [42, 21, 12, 182, 1, 14, 17, 3, 232, 162, 0, 28, 21, 10, 2, 159, 0, 18, 42, 21, 12, 182, 1, 14]
abbrev dktX13_why_7 : List UInt8 := dkwX13_why_7 ++ dktX13_why_8
def dkwX13_why_6 : List UInt8 := [182, 0, 237, 162, 0, 64, 21, 12, 21, 8, 159, 0, 14, 42, 21, 8, 21, 12, 182, 1, 20, 153, 0, 40]
abbrev dktX13_why_6 : List UInt8 := dkwX13_why_6 ++ dktX13_why_7
def dkwX13_why_5 : List UInt8 := [182, 1, 14, 17, 3, 232, 162, 0, 10, 21, 9, 54, 10, 167, 0, 89, 3, 54, 12, 21, 12, 42]
abbrev dktX13_why_5 : List UInt8 := dkwX13_why_5 ++ dktX13_why_6
def dkwX13_why_4 : List UInt8 := [21, 8, 167, 0, 11, 42, 21, 7, 21, 8, 182, 1, 17, 54, 9, 2, 54, 10, 3, 54, 11, 42, 21, 9]
abbrev dktX13_why_4 : List UInt8 := dkwX13_why_4 ++ dktX13_why_5
def dkwX13_why_3 : List UInt8 := [21, 8, 2, 160, 0, 6, 16, 254, 172, 42, 21, 7, 21, 8, 182, 1, 11, 17, 3, 232, 162, 0, 8]
abbrev dktX13_why_3 : List UInt8 := dkwX13_why_3 ++ dktX13_why_4
def dkwX13_why_2 : List UInt8 := [182, 1, 29, 21, 5, 4, 160, 0, 7, 4, 167, 0, 4, 3, 54, 7, 42, 21, 7, 182, 1, 26, 54, 8]
abbrev dktX13_why_2 : List UInt8 := dkwX13_why_2 ++ dktX13_why_3
def dkwX13_why_1 : List UInt8 := [21, 5, 154, 0, 6, 16, 254, 172, 42, 42, 42, 180, 0, 13, 17, 0, 140, 46, 3, 182, 1, 49]
abbrev dktX13_why_1 : List UInt8 := dkwX13_why_1 ++ dktX13_why_2
def dkwX13_why_0 : List UInt8 := [42, 3, 181, 0, 58, 42, 27, 28, 29, 21, 4, 21, 5, 182, 1, 52, 54, 6, 21, 6, 153, 0, 8]
abbrev dktX13_why_0 : List UInt8 := dkwX13_why_0 ++ dktX13_why_1
theorem dksX13_why_0 : cX13_why.data.toList.drop 0 = dktX13_why_0 := by decide +kernel
theorem dksX13_why_1 : cX13_why.data.toList.drop 23 = dktX13_why_1 := dk_seg dksX13_why_0 23 rfl rfl
theorem dksX13_why_2 : cX13_why.data.toList.drop 45 = dktX13_why_2 := dk_seg dksX13_why_1 22 rfl rfl
theorem dksX13_why_3 : cX13_why.data.toList.drop 69 = dktX13_why_3 := dk_seg dksX13_why_2 24 rfl rfl
theorem dksX13_why_4 : cX13_why.data.toList.drop 92 = dktX13_why_4 := dk_seg dksX13_why_3 23 rfl rfl
theorem dksX13_why_5 : cX13_why.data.toList.drop 116 = dktX13_why_5 := dk_seg dksX13_why_4 24 rfl rfl
theorem dksX13_why_6 : cX13_why.data.toList.drop 138 = dktX13_why_6 := dk_seg dksX13_why_5 22 rfl rfl
theorem dksX13_why_7 : cX13_why.data.toList.drop 162 = dktX13_why_7 := dk_seg dksX13_why_6 24 rfl rfl
theorem dksX13_why_8 : cX13_why.data.toList.drop 186 = dktX13_why_8 := dk_seg dksX13_why_7 24 rfl rfl
theorem dksX13_why_9 : cX13_why.data.toList.drop 208 = dktX13_why_9 := dk_seg dksX13_why_8 22 rfl rfl
theorem dksX13_why_10 : cX13_why.data.toList.drop 232 = dktX13_why_10 := dk_seg dksX13_why_9 24 rfl rfl
theorem dX13_why_0 : decode cX13_why 0 = .ok (.aload_n 0, 1) := dk_42 (dk_at dksX13_why_0 0 rfl rfl)
theorem dX13_why_1 : decode cX13_why 1 = .ok (.iconst 0, 1) := dk_3 (dk_at dksX13_why_0 1 rfl rfl)
theorem dX13_why_2 : decode cX13_why 2 = .ok (.putfield 58, 3) := dk_181 0 58 (dk_at dksX13_why_0 2 rfl rfl)
theorem dX13_why_5 : decode cX13_why 5 = .ok (.aload_n 0, 1) := dk_42 (dk_at dksX13_why_0 5 rfl rfl)
theorem dX13_why_6 : decode cX13_why 6 = .ok (.iload_n 1, 1) := dk_27 (dk_at dksX13_why_0 6 rfl rfl)
theorem dX13_why_7 : decode cX13_why 7 = .ok (.iload_n 2, 1) := dk_28 (dk_at dksX13_why_0 7 rfl rfl)
theorem dX13_why_8 : decode cX13_why 8 = .ok (.iload_n 3, 1) := dk_29 (dk_at dksX13_why_0 8 rfl rfl)
theorem dX13_why_9 : decode cX13_why 9 = .ok (.iload 4, 2) := dk_21 4 (dk_at dksX13_why_0 9 rfl rfl)
theorem dX13_why_11 : decode cX13_why 11 = .ok (.iload 5, 2) := dk_21 5 (dk_at dksX13_why_0 11 rfl rfl)
theorem dX13_why_13 : decode cX13_why 13 = .ok (.invokevirtual 308, 3) := dk_182 1 52 (dk_at dksX13_why_0 13 rfl rfl)
theorem dX13_why_16 : decode cX13_why 16 = .ok (.istore 6, 2) := dk_54 6 (dk_at dksX13_why_0 16 rfl rfl)
theorem dX13_why_18 : decode cX13_why 18 = .ok (.iload 6, 2) := dk_21 6 (dk_at dksX13_why_0 18 rfl rfl)
theorem dX13_why_20 : decode cX13_why 20 = .ok (.ifCond .eq 8, 3) := dk_153 0 8 (dk_at dksX13_why_0 20 rfl rfl)
theorem dX13_why_23 : decode cX13_why 23 = .ok (.iload 5, 2) := dk_21 5 (dk_at dksX13_why_1 0 rfl rfl)
theorem dX13_why_25 : decode cX13_why 25 = .ok (.ifCond .ne 6, 3) := dk_154 0 6 (dk_at dksX13_why_1 2 rfl rfl)
theorem dX13_why_28 : decode cX13_why 28 = .ok (.bipush (-2), 2) := dk_16 254 (dk_at dksX13_why_1 5 rfl rfl)
theorem dX13_why_30 : decode cX13_why 30 = .ok (.ireturn, 1) := dk_172 (dk_at dksX13_why_1 7 rfl rfl)
theorem dX13_why_31 : decode cX13_why 31 = .ok (.aload_n 0, 1) := dk_42 (dk_at dksX13_why_1 8 rfl rfl)
theorem dX13_why_32 : decode cX13_why 32 = .ok (.aload_n 0, 1) := dk_42 (dk_at dksX13_why_1 9 rfl rfl)
theorem dX13_why_33 : decode cX13_why 33 = .ok (.aload_n 0, 1) := dk_42 (dk_at dksX13_why_1 10 rfl rfl)
theorem dX13_why_34 : decode cX13_why 34 = .ok (.getfield 13, 3) := dk_180 0 13 (dk_at dksX13_why_1 11 rfl rfl)
theorem dX13_why_37 : decode cX13_why 37 = .ok (.sipush 140, 3) := dk_17 0 140 (dk_at dksX13_why_1 14 rfl rfl)
theorem dX13_why_40 : decode cX13_why 40 = .ok (.iaload, 1) := dk_46 (dk_at dksX13_why_1 17 rfl rfl)
theorem dX13_why_41 : decode cX13_why 41 = .ok (.iconst 0, 1) := dk_3 (dk_at dksX13_why_1 18 rfl rfl)
theorem dX13_why_42 : decode cX13_why 42 = .ok (.invokevirtual 305, 3) := dk_182 1 49 (dk_at dksX13_why_1 19 rfl rfl)
theorem dX13_why_45 : decode cX13_why 45 = .ok (.invokevirtual 285, 3) := dk_182 1 29 (dk_at dksX13_why_2 0 rfl rfl)
theorem dX13_why_48 : decode cX13_why 48 = .ok (.iload 5, 2) := dk_21 5 (dk_at dksX13_why_2 3 rfl rfl)
theorem dX13_why_50 : decode cX13_why 50 = .ok (.iconst 1, 1) := dk_4 (dk_at dksX13_why_2 5 rfl rfl)
theorem dX13_why_51 : decode cX13_why 51 = .ok (.if_icmp .ne 7, 3) := dk_160 0 7 (dk_at dksX13_why_2 6 rfl rfl)
theorem dX13_why_54 : decode cX13_why 54 = .ok (.iconst 1, 1) := dk_4 (dk_at dksX13_why_2 9 rfl rfl)
theorem dX13_why_55 : decode cX13_why 55 = .ok (.goto 4, 3) := dk_167 0 4 (dk_at dksX13_why_2 10 rfl rfl)
theorem dX13_why_58 : decode cX13_why 58 = .ok (.iconst 0, 1) := dk_3 (dk_at dksX13_why_2 13 rfl rfl)
theorem dX13_why_59 : decode cX13_why 59 = .ok (.istore 7, 2) := dk_54 7 (dk_at dksX13_why_2 14 rfl rfl)
theorem dX13_why_61 : decode cX13_why 61 = .ok (.aload_n 0, 1) := dk_42 (dk_at dksX13_why_2 16 rfl rfl)
theorem dX13_why_62 : decode cX13_why 62 = .ok (.iload 7, 2) := dk_21 7 (dk_at dksX13_why_2 17 rfl rfl)
theorem dX13_why_64 : decode cX13_why 64 = .ok (.invokevirtual 282, 3) := dk_182 1 26 (dk_at dksX13_why_2 19 rfl rfl)
theorem dX13_why_67 : decode cX13_why 67 = .ok (.istore 8, 2) := dk_54 8 (dk_at dksX13_why_2 22 rfl rfl)
theorem dX13_why_69 : decode cX13_why 69 = .ok (.iload 8, 2) := dk_21 8 (dk_at dksX13_why_3 0 rfl rfl)
theorem dX13_why_71 : decode cX13_why 71 = .ok (.iconst (-1), 1) := dk_2 (dk_at dksX13_why_3 2 rfl rfl)
theorem dX13_why_72 : decode cX13_why 72 = .ok (.if_icmp .ne 6, 3) := dk_160 0 6 (dk_at dksX13_why_3 3 rfl rfl)
theorem dX13_why_75 : decode cX13_why 75 = .ok (.bipush (-2), 2) := dk_16 254 (dk_at dksX13_why_3 6 rfl rfl)
theorem dX13_why_77 : decode cX13_why 77 = .ok (.ireturn, 1) := dk_172 (dk_at dksX13_why_3 8 rfl rfl)
theorem dX13_why_78 : decode cX13_why 78 = .ok (.aload_n 0, 1) := dk_42 (dk_at dksX13_why_3 9 rfl rfl)
theorem dX13_why_79 : decode cX13_why 79 = .ok (.iload 7, 2) := dk_21 7 (dk_at dksX13_why_3 10 rfl rfl)
theorem dX13_why_81 : decode cX13_why 81 = .ok (.iload 8, 2) := dk_21 8 (dk_at dksX13_why_3 12 rfl rfl)
theorem dX13_why_83 : decode cX13_why 83 = .ok (.invokevirtual 267, 3) := dk_182 1 11 (dk_at dksX13_why_3 14 rfl rfl)
theorem dX13_why_86 : decode cX13_why 86 = .ok (.sipush 1000, 3) := dk_17 3 232 (dk_at dksX13_why_3 17 rfl rfl)
theorem dX13_why_89 : decode cX13_why 89 = .ok (.if_icmp .ge 8, 3) := dk_162 0 8 (dk_at dksX13_why_3 20 rfl rfl)
theorem dX13_why_92 : decode cX13_why 92 = .ok (.iload 8, 2) := dk_21 8 (dk_at dksX13_why_4 0 rfl rfl)
theorem dX13_why_94 : decode cX13_why 94 = .ok (.goto 11, 3) := dk_167 0 11 (dk_at dksX13_why_4 2 rfl rfl)
theorem dX13_why_97 : decode cX13_why 97 = .ok (.aload_n 0, 1) := dk_42 (dk_at dksX13_why_4 5 rfl rfl)
theorem dX13_why_98 : decode cX13_why 98 = .ok (.iload 7, 2) := dk_21 7 (dk_at dksX13_why_4 6 rfl rfl)
theorem dX13_why_100 : decode cX13_why 100 = .ok (.iload 8, 2) := dk_21 8 (dk_at dksX13_why_4 8 rfl rfl)
theorem dX13_why_102 : decode cX13_why 102 = .ok (.invokevirtual 273, 3) := dk_182 1 17 (dk_at dksX13_why_4 10 rfl rfl)
theorem dX13_why_105 : decode cX13_why 105 = .ok (.istore 9, 2) := dk_54 9 (dk_at dksX13_why_4 13 rfl rfl)
theorem dX13_why_107 : decode cX13_why 107 = .ok (.iconst (-1), 1) := dk_2 (dk_at dksX13_why_4 15 rfl rfl)
theorem dX13_why_108 : decode cX13_why 108 = .ok (.istore 10, 2) := dk_54 10 (dk_at dksX13_why_4 16 rfl rfl)
theorem dX13_why_110 : decode cX13_why 110 = .ok (.iconst 0, 1) := dk_3 (dk_at dksX13_why_4 18 rfl rfl)
theorem dX13_why_111 : decode cX13_why 111 = .ok (.istore 11, 2) := dk_54 11 (dk_at dksX13_why_4 19 rfl rfl)
theorem dX13_why_113 : decode cX13_why 113 = .ok (.aload_n 0, 1) := dk_42 (dk_at dksX13_why_4 21 rfl rfl)
theorem dX13_why_114 : decode cX13_why 114 = .ok (.iload 9, 2) := dk_21 9 (dk_at dksX13_why_4 22 rfl rfl)
theorem dX13_why_116 : decode cX13_why 116 = .ok (.invokevirtual 270, 3) := dk_182 1 14 (dk_at dksX13_why_5 0 rfl rfl)
theorem dX13_why_119 : decode cX13_why 119 = .ok (.sipush 1000, 3) := dk_17 3 232 (dk_at dksX13_why_5 3 rfl rfl)
theorem dX13_why_122 : decode cX13_why 122 = .ok (.if_icmp .ge 10, 3) := dk_162 0 10 (dk_at dksX13_why_5 6 rfl rfl)
theorem dX13_why_125 : decode cX13_why 125 = .ok (.iload 9, 2) := dk_21 9 (dk_at dksX13_why_5 9 rfl rfl)
theorem dX13_why_127 : decode cX13_why 127 = .ok (.istore 10, 2) := dk_54 10 (dk_at dksX13_why_5 11 rfl rfl)
theorem dX13_why_129 : decode cX13_why 129 = .ok (.goto 89, 3) := dk_167 0 89 (dk_at dksX13_why_5 13 rfl rfl)
theorem dX13_why_132 : decode cX13_why 132 = .ok (.iconst 0, 1) := dk_3 (dk_at dksX13_why_5 16 rfl rfl)
theorem dX13_why_133 : decode cX13_why 133 = .ok (.istore 12, 2) := dk_54 12 (dk_at dksX13_why_5 17 rfl rfl)
theorem dX13_why_135 : decode cX13_why 135 = .ok (.iload 12, 2) := dk_21 12 (dk_at dksX13_why_5 19 rfl rfl)
theorem dX13_why_137 : decode cX13_why 137 = .ok (.aload_n 0, 1) := dk_42 (dk_at dksX13_why_5 21 rfl rfl)
theorem dX13_why_138 : decode cX13_why 138 = .ok (.invokevirtual 237, 3) := dk_182 0 237 (dk_at dksX13_why_6 0 rfl rfl)
theorem dX13_why_141 : decode cX13_why 141 = .ok (.if_icmp .ge 64, 3) := dk_162 0 64 (dk_at dksX13_why_6 3 rfl rfl)
theorem dX13_why_144 : decode cX13_why 144 = .ok (.iload 12, 2) := dk_21 12 (dk_at dksX13_why_6 6 rfl rfl)
theorem dX13_why_146 : decode cX13_why 146 = .ok (.iload 8, 2) := dk_21 8 (dk_at dksX13_why_6 8 rfl rfl)
theorem dX13_why_148 : decode cX13_why 148 = .ok (.if_icmp .eq 14, 3) := dk_159 0 14 (dk_at dksX13_why_6 10 rfl rfl)
theorem dX13_why_151 : decode cX13_why 151 = .ok (.aload_n 0, 1) := dk_42 (dk_at dksX13_why_6 13 rfl rfl)
theorem dX13_why_152 : decode cX13_why 152 = .ok (.iload 8, 2) := dk_21 8 (dk_at dksX13_why_6 14 rfl rfl)
theorem dX13_why_154 : decode cX13_why 154 = .ok (.iload 12, 2) := dk_21 12 (dk_at dksX13_why_6 16 rfl rfl)
theorem dX13_why_156 : decode cX13_why 156 = .ok (.invokevirtual 276, 3) := dk_182 1 20 (dk_at dksX13_why_6 18 rfl rfl)
theorem dX13_why_159 : decode cX13_why 159 = .ok (.ifCond .eq 40, 3) := dk_153 0 40 (dk_at dksX13_why_6 21 rfl rfl)
theorem dX13_why_162 : decode cX13_why 162 = .ok (.aload_n 0, 1) := dk_42 (dk_at dksX13_why_7 0 rfl rfl)
theorem dX13_why_163 : decode cX13_why 163 = .ok (.iload 12, 2) := dk_21 12 (dk_at dksX13_why_7 1 rfl rfl)
theorem dX13_why_165 : decode cX13_why 165 = .ok (.invokevirtual 270, 3) := dk_182 1 14 (dk_at dksX13_why_7 3 rfl rfl)
theorem dX13_why_168 : decode cX13_why 168 = .ok (.sipush 1000, 3) := dk_17 3 232 (dk_at dksX13_why_7 6 rfl rfl)
theorem dX13_why_171 : decode cX13_why 171 = .ok (.if_icmp .ge 28, 3) := dk_162 0 28 (dk_at dksX13_why_7 9 rfl rfl)
theorem dX13_why_174 : decode cX13_why 174 = .ok (.iload 10, 2) := dk_21 10 (dk_at dksX13_why_7 12 rfl rfl)
theorem dX13_why_176 : decode cX13_why 176 = .ok (.iconst (-1), 1) := dk_2 (dk_at dksX13_why_7 14 rfl rfl)
theorem dX13_why_177 : decode cX13_why 177 = .ok (.if_icmp .eq 18, 3) := dk_159 0 18 (dk_at dksX13_why_7 15 rfl rfl)
theorem dX13_why_180 : decode cX13_why 180 = .ok (.aload_n 0, 1) := dk_42 (dk_at dksX13_why_7 18 rfl rfl)
theorem dX13_why_181 : decode cX13_why 181 = .ok (.iload 12, 2) := dk_21 12 (dk_at dksX13_why_7 19 rfl rfl)
theorem dX13_why_183 : decode cX13_why 183 = .ok (.invokevirtual 270, 3) := dk_182 1 14 (dk_at dksX13_why_7 21 rfl rfl)
theorem dX13_why_186 : decode cX13_why 186 = .ok (.aload_n 0, 1) := dk_42 (dk_at dksX13_why_8 0 rfl rfl)
theorem dX13_why_187 : decode cX13_why 187 = .ok (.iload 10, 2) := dk_21 10 (dk_at dksX13_why_8 1 rfl rfl)
theorem dX13_why_189 : decode cX13_why 189 = .ok (.invokevirtual 270, 3) := dk_182 1 14 (dk_at dksX13_why_8 3 rfl rfl)
theorem dX13_why_192 : decode cX13_why 192 = .ok (.if_icmp .ge 7, 3) := dk_162 0 7 (dk_at dksX13_why_8 6 rfl rfl)
theorem dX13_why_195 : decode cX13_why 195 = .ok (.iload 12, 2) := dk_21 12 (dk_at dksX13_why_8 9 rfl rfl)
theorem dX13_why_197 : decode cX13_why 197 = .ok (.istore 10, 2) := dk_54 10 (dk_at dksX13_why_8 11 rfl rfl)
theorem dX13_why_199 : decode cX13_why 199 = .ok (.iinc 12 1, 3) := dk_132 12 1 (dk_at dksX13_why_8 13 rfl rfl)
theorem dX13_why_202 : decode cX13_why 202 = .ok (.goto (-67), 3) := dk_167 255 189 (dk_at dksX13_why_8 16 rfl rfl)
theorem dX13_why_205 : decode cX13_why 205 = .ok (.iload 10, 2) := dk_21 10 (dk_at dksX13_why_8 19 rfl rfl)
theorem dX13_why_207 : decode cX13_why 207 = .ok (.iconst (-1), 1) := dk_2 (dk_at dksX13_why_8 21 rfl rfl)
theorem dX13_why_208 : decode cX13_why 208 = .ok (.if_icmp .ne 7, 3) := dk_160 0 7 (dk_at dksX13_why_9 0 rfl rfl)
theorem dX13_why_211 : decode cX13_why 211 = .ok (.iconst 2, 1) := dk_5 (dk_at dksX13_why_9 3 rfl rfl)
theorem dX13_why_212 : decode cX13_why 212 = .ok (.goto 4, 3) := dk_167 0 4 (dk_at dksX13_why_9 4 rfl rfl)
theorem dX13_why_215 : decode cX13_why 215 = .ok (.iconst 1, 1) := dk_4 (dk_at dksX13_why_9 7 rfl rfl)
theorem dX13_why_216 : decode cX13_why 216 = .ok (.istore 11, 2) := dk_54 11 (dk_at dksX13_why_9 8 rfl rfl)
theorem dX13_why_218 : decode cX13_why 218 = .ok (.aload_n 0, 1) := dk_42 (dk_at dksX13_why_9 10 rfl rfl)
theorem dX13_why_219 : decode cX13_why 219 = .ok (.getfield 13, 3) := dk_180 0 13 (dk_at dksX13_why_9 11 rfl rfl)
theorem dX13_why_222 : decode cX13_why 222 = .ok (.sipush 152, 3) := dk_17 0 152 (dk_at dksX13_why_9 14 rfl rfl)
theorem dX13_why_225 : decode cX13_why 225 = .ok (.iload 11, 2) := dk_21 11 (dk_at dksX13_why_9 17 rfl rfl)
theorem dX13_why_227 : decode cX13_why 227 = .ok (.iastore, 1) := dk_79 (dk_at dksX13_why_9 19 rfl rfl)
theorem dX13_why_228 : decode cX13_why 228 = .ok (.aload_n 0, 1) := dk_42 (dk_at dksX13_why_9 20 rfl rfl)
theorem dX13_why_229 : decode cX13_why 229 = .ok (.getfield 13, 3) := dk_180 0 13 (dk_at dksX13_why_9 21 rfl rfl)
theorem dX13_why_232 : decode cX13_why 232 = .ok (.sipush 153, 3) := dk_17 0 153 (dk_at dksX13_why_10 0 rfl rfl)
theorem dX13_why_235 : decode cX13_why 235 = .ok (.iload 8, 2) := dk_21 8 (dk_at dksX13_why_10 3 rfl rfl)
theorem dX13_why_237 : decode cX13_why 237 = .ok (.iastore, 1) := dk_79 (dk_at dksX13_why_10 5 rfl rfl)
theorem dX13_why_238 : decode cX13_why 238 = .ok (.aload_n 0, 1) := dk_42 (dk_at dksX13_why_10 6 rfl rfl)
theorem dX13_why_239 : decode cX13_why 239 = .ok (.getfield 13, 3) := dk_180 0 13 (dk_at dksX13_why_10 7 rfl rfl)
theorem dX13_why_242 : decode cX13_why 242 = .ok (.sipush 154, 3) := dk_17 0 154 (dk_at dksX13_why_10 10 rfl rfl)
theorem dX13_why_245 : decode cX13_why 245 = .ok (.iload 9, 2) := dk_21 9 (dk_at dksX13_why_10 13 rfl rfl)
theorem dX13_why_247 : decode cX13_why 247 = .ok (.iastore, 1) := dk_79 (dk_at dksX13_why_10 15 rfl rfl)
theorem dX13_why_248 : decode cX13_why 248 = .ok (.iload 10, 2) := dk_21 10 (dk_at dksX13_why_10 16 rfl rfl)
theorem dX13_why_250 : decode cX13_why 250 = .ok (.ireturn, 1) := dk_172 (dk_at dksX13_why_10 18 rfl rfl)
abbrev cX13_filled : ByteArray := prog_24_method_72_code
def yX13_filled : MethodName := ⟨RX13, "filled", "(I)I"⟩
def dkwX13_filled_1 : List UInt8 := [17, 0, 152, 27, 96, 46, 167, 0, 4, 2, 172]
abbrev dktX13_filled_1 : List UInt8 := dkwX13_filled_1 ++ []
def dkwX13_filled_0 : List UInt8 := [42, 3, 181, 0, 58, 42, 182, 0, 212, 27, 3, 5, 184, 0, 115, 153, 0, 16, 42, 180, 0, 13]
abbrev dktX13_filled_0 : List UInt8 := dkwX13_filled_0 ++ dktX13_filled_1
theorem dksX13_filled_0 : cX13_filled.data.toList.drop 0 = dktX13_filled_0 := by decide +kernel
theorem dksX13_filled_1 : cX13_filled.data.toList.drop 22 = dktX13_filled_1 := dk_seg dksX13_filled_0 22 rfl rfl
theorem dX13_filled_0 : decode cX13_filled 0 = .ok (.aload_n 0, 1) := dk_42 (dk_at dksX13_filled_0 0 rfl rfl)
theorem dX13_filled_1 : decode cX13_filled 1 = .ok (.iconst 0, 1) := dk_3 (dk_at dksX13_filled_0 1 rfl rfl)
theorem dX13_filled_2 : decode cX13_filled 2 = .ok (.putfield 58, 3) := dk_181 0 58 (dk_at dksX13_filled_0 2 rfl rfl)
theorem dX13_filled_5 : decode cX13_filled 5 = .ok (.aload_n 0, 1) := dk_42 (dk_at dksX13_filled_0 5 rfl rfl)
theorem dX13_filled_6 : decode cX13_filled 6 = .ok (.invokevirtual 212, 3) := dk_182 0 212 (dk_at dksX13_filled_0 6 rfl rfl)
theorem dX13_filled_9 : decode cX13_filled 9 = .ok (.iload_n 1, 1) := dk_27 (dk_at dksX13_filled_0 9 rfl rfl)
theorem dX13_filled_10 : decode cX13_filled 10 = .ok (.iconst 0, 1) := dk_3 (dk_at dksX13_filled_0 10 rfl rfl)
theorem dX13_filled_11 : decode cX13_filled 11 = .ok (.iconst 2, 1) := dk_5 (dk_at dksX13_filled_0 11 rfl rfl)
theorem dX13_filled_12 : decode cX13_filled 12 = .ok (.invokestatic 115, 3) := dk_184 0 115 (dk_at dksX13_filled_0 12 rfl rfl)
theorem dX13_filled_15 : decode cX13_filled 15 = .ok (.ifCond .eq 16, 3) := dk_153 0 16 (dk_at dksX13_filled_0 15 rfl rfl)
theorem dX13_filled_18 : decode cX13_filled 18 = .ok (.aload_n 0, 1) := dk_42 (dk_at dksX13_filled_0 18 rfl rfl)
theorem dX13_filled_19 : decode cX13_filled 19 = .ok (.getfield 13, 3) := dk_180 0 13 (dk_at dksX13_filled_0 19 rfl rfl)
theorem dX13_filled_22 : decode cX13_filled 22 = .ok (.sipush 152, 3) := dk_17 0 152 (dk_at dksX13_filled_1 0 rfl rfl)
theorem dX13_filled_25 : decode cX13_filled 25 = .ok (.iload_n 1, 1) := dk_27 (dk_at dksX13_filled_1 3 rfl rfl)
theorem dX13_filled_26 : decode cX13_filled 26 = .ok (.iadd, 1) := dk_96 (dk_at dksX13_filled_1 4 rfl rfl)
theorem dX13_filled_27 : decode cX13_filled 27 = .ok (.iaload, 1) := dk_46 (dk_at dksX13_filled_1 5 rfl rfl)
theorem dX13_filled_28 : decode cX13_filled 28 = .ok (.goto 4, 3) := dk_167 0 4 (dk_at dksX13_filled_1 6 rfl rfl)
theorem dX13_filled_31 : decode cX13_filled 31 = .ok (.iconst (-1), 1) := dk_2 (dk_at dksX13_filled_1 9 rfl rfl)
theorem dX13_filled_32 : decode cX13_filled 32 = .ok (.ireturn, 1) := dk_172 (dk_at dksX13_filled_1 10 rfl rfl)
abbrev cX13_fight : ByteArray := prog_24_method_73_code
def yX13_fight : MethodName := ⟨RX13, "fight", "(IIII)I"⟩
def dkwX13_fight_3 : List UInt8 := [4, 167, 0, 4, 3, 172]
abbrev dktX13_fight_3 : List UInt8 := dkwX13_fight_3 ++ []
def dkwX13_fight_2 : List UInt8 := [182, 1, 26, 54, 6, 21, 5, 2, 159, 0, 20, 21, 6, 2, 159, 0, 14, 21, 5, 21, 6, 159, 0, 7]
abbrev dktX13_fight_2 : List UInt8 := dkwX13_fight_2 ++ dktX13_fight_3
def dkwX13_fight_1 : List UInt8 := [180, 0, 13, 17, 0, 140, 46, 3, 182, 1, 49, 182, 1, 29, 42, 4, 182, 1, 26, 54, 5, 42, 3]
abbrev dktX13_fight_1 : List UInt8 := dkwX13_fight_1 ++ dktX13_fight_2
def dkwX13_fight_0 : List UInt8 := [42, 3, 181, 0, 58, 42, 27, 28, 29, 21, 4, 4, 182, 1, 52, 154, 0, 5, 2, 172, 42, 42, 42]
abbrev dktX13_fight_0 : List UInt8 := dkwX13_fight_0 ++ dktX13_fight_1
theorem dksX13_fight_0 : cX13_fight.data.toList.drop 0 = dktX13_fight_0 := by decide +kernel
theorem dksX13_fight_1 : cX13_fight.data.toList.drop 23 = dktX13_fight_1 := dk_seg dksX13_fight_0 23 rfl rfl
theorem dksX13_fight_2 : cX13_fight.data.toList.drop 46 = dktX13_fight_2 := dk_seg dksX13_fight_1 23 rfl rfl
theorem dksX13_fight_3 : cX13_fight.data.toList.drop 70 = dktX13_fight_3 := dk_seg dksX13_fight_2 24 rfl rfl
theorem dX13_fight_0 : decode cX13_fight 0 = .ok (.aload_n 0, 1) := dk_42 (dk_at dksX13_fight_0 0 rfl rfl)
theorem dX13_fight_1 : decode cX13_fight 1 = .ok (.iconst 0, 1) := dk_3 (dk_at dksX13_fight_0 1 rfl rfl)
theorem dX13_fight_2 : decode cX13_fight 2 = .ok (.putfield 58, 3) := dk_181 0 58 (dk_at dksX13_fight_0 2 rfl rfl)
theorem dX13_fight_5 : decode cX13_fight 5 = .ok (.aload_n 0, 1) := dk_42 (dk_at dksX13_fight_0 5 rfl rfl)
theorem dX13_fight_6 : decode cX13_fight 6 = .ok (.iload_n 1, 1) := dk_27 (dk_at dksX13_fight_0 6 rfl rfl)
theorem dX13_fight_7 : decode cX13_fight 7 = .ok (.iload_n 2, 1) := dk_28 (dk_at dksX13_fight_0 7 rfl rfl)
theorem dX13_fight_8 : decode cX13_fight 8 = .ok (.iload_n 3, 1) := dk_29 (dk_at dksX13_fight_0 8 rfl rfl)
theorem dX13_fight_9 : decode cX13_fight 9 = .ok (.iload 4, 2) := dk_21 4 (dk_at dksX13_fight_0 9 rfl rfl)
theorem dX13_fight_11 : decode cX13_fight 11 = .ok (.iconst 1, 1) := dk_4 (dk_at dksX13_fight_0 11 rfl rfl)
theorem dX13_fight_12 : decode cX13_fight 12 = .ok (.invokevirtual 308, 3) := dk_182 1 52 (dk_at dksX13_fight_0 12 rfl rfl)
theorem dX13_fight_15 : decode cX13_fight 15 = .ok (.ifCond .ne 5, 3) := dk_154 0 5 (dk_at dksX13_fight_0 15 rfl rfl)
theorem dX13_fight_18 : decode cX13_fight 18 = .ok (.iconst (-1), 1) := dk_2 (dk_at dksX13_fight_0 18 rfl rfl)
theorem dX13_fight_19 : decode cX13_fight 19 = .ok (.ireturn, 1) := dk_172 (dk_at dksX13_fight_0 19 rfl rfl)
theorem dX13_fight_20 : decode cX13_fight 20 = .ok (.aload_n 0, 1) := dk_42 (dk_at dksX13_fight_0 20 rfl rfl)
theorem dX13_fight_21 : decode cX13_fight 21 = .ok (.aload_n 0, 1) := dk_42 (dk_at dksX13_fight_0 21 rfl rfl)
theorem dX13_fight_22 : decode cX13_fight 22 = .ok (.aload_n 0, 1) := dk_42 (dk_at dksX13_fight_0 22 rfl rfl)
theorem dX13_fight_23 : decode cX13_fight 23 = .ok (.getfield 13, 3) := dk_180 0 13 (dk_at dksX13_fight_1 0 rfl rfl)
theorem dX13_fight_26 : decode cX13_fight 26 = .ok (.sipush 140, 3) := dk_17 0 140 (dk_at dksX13_fight_1 3 rfl rfl)
theorem dX13_fight_29 : decode cX13_fight 29 = .ok (.iaload, 1) := dk_46 (dk_at dksX13_fight_1 6 rfl rfl)
theorem dX13_fight_30 : decode cX13_fight 30 = .ok (.iconst 0, 1) := dk_3 (dk_at dksX13_fight_1 7 rfl rfl)
theorem dX13_fight_31 : decode cX13_fight 31 = .ok (.invokevirtual 305, 3) := dk_182 1 49 (dk_at dksX13_fight_1 8 rfl rfl)
theorem dX13_fight_34 : decode cX13_fight 34 = .ok (.invokevirtual 285, 3) := dk_182 1 29 (dk_at dksX13_fight_1 11 rfl rfl)
theorem dX13_fight_37 : decode cX13_fight 37 = .ok (.aload_n 0, 1) := dk_42 (dk_at dksX13_fight_1 14 rfl rfl)
theorem dX13_fight_38 : decode cX13_fight 38 = .ok (.iconst 1, 1) := dk_4 (dk_at dksX13_fight_1 15 rfl rfl)
theorem dX13_fight_39 : decode cX13_fight 39 = .ok (.invokevirtual 282, 3) := dk_182 1 26 (dk_at dksX13_fight_1 16 rfl rfl)
theorem dX13_fight_42 : decode cX13_fight 42 = .ok (.istore 5, 2) := dk_54 5 (dk_at dksX13_fight_1 19 rfl rfl)
theorem dX13_fight_44 : decode cX13_fight 44 = .ok (.aload_n 0, 1) := dk_42 (dk_at dksX13_fight_1 21 rfl rfl)
theorem dX13_fight_45 : decode cX13_fight 45 = .ok (.iconst 0, 1) := dk_3 (dk_at dksX13_fight_1 22 rfl rfl)
theorem dX13_fight_46 : decode cX13_fight 46 = .ok (.invokevirtual 282, 3) := dk_182 1 26 (dk_at dksX13_fight_2 0 rfl rfl)
theorem dX13_fight_49 : decode cX13_fight 49 = .ok (.istore 6, 2) := dk_54 6 (dk_at dksX13_fight_2 3 rfl rfl)
theorem dX13_fight_51 : decode cX13_fight 51 = .ok (.iload 5, 2) := dk_21 5 (dk_at dksX13_fight_2 5 rfl rfl)
theorem dX13_fight_53 : decode cX13_fight 53 = .ok (.iconst (-1), 1) := dk_2 (dk_at dksX13_fight_2 7 rfl rfl)
theorem dX13_fight_54 : decode cX13_fight 54 = .ok (.if_icmp .eq 20, 3) := dk_159 0 20 (dk_at dksX13_fight_2 8 rfl rfl)
theorem dX13_fight_57 : decode cX13_fight 57 = .ok (.iload 6, 2) := dk_21 6 (dk_at dksX13_fight_2 11 rfl rfl)
theorem dX13_fight_59 : decode cX13_fight 59 = .ok (.iconst (-1), 1) := dk_2 (dk_at dksX13_fight_2 13 rfl rfl)
theorem dX13_fight_60 : decode cX13_fight 60 = .ok (.if_icmp .eq 14, 3) := dk_159 0 14 (dk_at dksX13_fight_2 14 rfl rfl)
theorem dX13_fight_63 : decode cX13_fight 63 = .ok (.iload 5, 2) := dk_21 5 (dk_at dksX13_fight_2 17 rfl rfl)
theorem dX13_fight_65 : decode cX13_fight 65 = .ok (.iload 6, 2) := dk_21 6 (dk_at dksX13_fight_2 19 rfl rfl)
theorem dX13_fight_67 : decode cX13_fight 67 = .ok (.if_icmp .eq 7, 3) := dk_159 0 7 (dk_at dksX13_fight_2 21 rfl rfl)
theorem dX13_fight_70 : decode cX13_fight 70 = .ok (.iconst 1, 1) := dk_4 (dk_at dksX13_fight_3 0 rfl rfl)
theorem dX13_fight_71 : decode cX13_fight 71 = .ok (.goto 4, 3) := dk_167 0 4 (dk_at dksX13_fight_3 1 rfl rfl)
theorem dX13_fight_74 : decode cX13_fight 74 = .ok (.iconst 0, 1) := dk_3 (dk_at dksX13_fight_3 4 rfl rfl)
theorem dX13_fight_75 : decode cX13_fight 75 = .ok (.ireturn, 1) := dk_172 (dk_at dksX13_fight_3 5 rfl rfl)
abbrev cX13_helped : ByteArray := prog_24_method_74_code
def yX13_helped : MethodName := ⟨RX13, "helped", "(IIIII)I"⟩
def dkwX13_helped_2 : List UInt8 := [182, 1, 59, 2, 130, 126, 182, 1, 56, 159, 0, 7, 4, 167, 0, 4, 3, 172]
abbrev dktX13_helped_2 : List UInt8 := dkwX13_helped_2 ++ []
def dkwX13_helped_1 : List UInt8 := [180, 0, 13, 17, 0, 140, 46, 3, 182, 1, 49, 54, 6, 42, 21, 6, 182, 1, 56, 42, 21, 6, 42]
abbrev dktX13_helped_1 : List UInt8 := dkwX13_helped_1 ++ dktX13_helped_2
def dkwX13_helped_0 : List UInt8 := [42, 3, 181, 0, 58, 42, 27, 28, 29, 21, 4, 21, 5, 182, 1, 52, 154, 0, 5, 2, 172, 42, 42]
abbrev dktX13_helped_0 : List UInt8 := dkwX13_helped_0 ++ dktX13_helped_1
theorem dksX13_helped_0 : cX13_helped.data.toList.drop 0 = dktX13_helped_0 := by decide +kernel
theorem dksX13_helped_1 : cX13_helped.data.toList.drop 23 = dktX13_helped_1 := dk_seg dksX13_helped_0 23 rfl rfl
theorem dksX13_helped_2 : cX13_helped.data.toList.drop 46 = dktX13_helped_2 := dk_seg dksX13_helped_1 23 rfl rfl
theorem dX13_helped_0 : decode cX13_helped 0 = .ok (.aload_n 0, 1) := dk_42 (dk_at dksX13_helped_0 0 rfl rfl)
theorem dX13_helped_1 : decode cX13_helped 1 = .ok (.iconst 0, 1) := dk_3 (dk_at dksX13_helped_0 1 rfl rfl)
theorem dX13_helped_2 : decode cX13_helped 2 = .ok (.putfield 58, 3) := dk_181 0 58 (dk_at dksX13_helped_0 2 rfl rfl)
theorem dX13_helped_5 : decode cX13_helped 5 = .ok (.aload_n 0, 1) := dk_42 (dk_at dksX13_helped_0 5 rfl rfl)
theorem dX13_helped_6 : decode cX13_helped 6 = .ok (.iload_n 1, 1) := dk_27 (dk_at dksX13_helped_0 6 rfl rfl)
theorem dX13_helped_7 : decode cX13_helped 7 = .ok (.iload_n 2, 1) := dk_28 (dk_at dksX13_helped_0 7 rfl rfl)
theorem dX13_helped_8 : decode cX13_helped 8 = .ok (.iload_n 3, 1) := dk_29 (dk_at dksX13_helped_0 8 rfl rfl)
theorem dX13_helped_9 : decode cX13_helped 9 = .ok (.iload 4, 2) := dk_21 4 (dk_at dksX13_helped_0 9 rfl rfl)
theorem dX13_helped_11 : decode cX13_helped 11 = .ok (.iload 5, 2) := dk_21 5 (dk_at dksX13_helped_0 11 rfl rfl)
theorem dX13_helped_13 : decode cX13_helped 13 = .ok (.invokevirtual 308, 3) := dk_182 1 52 (dk_at dksX13_helped_0 13 rfl rfl)
theorem dX13_helped_16 : decode cX13_helped 16 = .ok (.ifCond .ne 5, 3) := dk_154 0 5 (dk_at dksX13_helped_0 16 rfl rfl)
theorem dX13_helped_19 : decode cX13_helped 19 = .ok (.iconst (-1), 1) := dk_2 (dk_at dksX13_helped_0 19 rfl rfl)
theorem dX13_helped_20 : decode cX13_helped 20 = .ok (.ireturn, 1) := dk_172 (dk_at dksX13_helped_0 20 rfl rfl)
theorem dX13_helped_21 : decode cX13_helped 21 = .ok (.aload_n 0, 1) := dk_42 (dk_at dksX13_helped_0 21 rfl rfl)
theorem dX13_helped_22 : decode cX13_helped 22 = .ok (.aload_n 0, 1) := dk_42 (dk_at dksX13_helped_0 22 rfl rfl)
theorem dX13_helped_23 : decode cX13_helped 23 = .ok (.getfield 13, 3) := dk_180 0 13 (dk_at dksX13_helped_1 0 rfl rfl)
theorem dX13_helped_26 : decode cX13_helped 26 = .ok (.sipush 140, 3) := dk_17 0 140 (dk_at dksX13_helped_1 3 rfl rfl)
theorem dX13_helped_29 : decode cX13_helped 29 = .ok (.iaload, 1) := dk_46 (dk_at dksX13_helped_1 6 rfl rfl)
theorem dX13_helped_30 : decode cX13_helped 30 = .ok (.iconst 0, 1) := dk_3 (dk_at dksX13_helped_1 7 rfl rfl)
theorem dX13_helped_31 : decode cX13_helped 31 = .ok (.invokevirtual 305, 3) := dk_182 1 49 (dk_at dksX13_helped_1 8 rfl rfl)
theorem dX13_helped_34 : decode cX13_helped 34 = .ok (.istore 6, 2) := dk_54 6 (dk_at dksX13_helped_1 11 rfl rfl)
theorem dX13_helped_36 : decode cX13_helped 36 = .ok (.aload_n 0, 1) := dk_42 (dk_at dksX13_helped_1 13 rfl rfl)
theorem dX13_helped_37 : decode cX13_helped 37 = .ok (.iload 6, 2) := dk_21 6 (dk_at dksX13_helped_1 14 rfl rfl)
theorem dX13_helped_39 : decode cX13_helped 39 = .ok (.invokevirtual 312, 3) := dk_182 1 56 (dk_at dksX13_helped_1 16 rfl rfl)
theorem dX13_helped_42 : decode cX13_helped 42 = .ok (.aload_n 0, 1) := dk_42 (dk_at dksX13_helped_1 19 rfl rfl)
theorem dX13_helped_43 : decode cX13_helped 43 = .ok (.iload 6, 2) := dk_21 6 (dk_at dksX13_helped_1 20 rfl rfl)
theorem dX13_helped_45 : decode cX13_helped 45 = .ok (.aload_n 0, 1) := dk_42 (dk_at dksX13_helped_1 22 rfl rfl)
theorem dX13_helped_46 : decode cX13_helped 46 = .ok (.invokevirtual 315, 3) := dk_182 1 59 (dk_at dksX13_helped_2 0 rfl rfl)
theorem dX13_helped_49 : decode cX13_helped 49 = .ok (.iconst (-1), 1) := dk_2 (dk_at dksX13_helped_2 3 rfl rfl)
theorem dX13_helped_50 : decode cX13_helped 50 = .ok (.ixor, 1) := dk_130 (dk_at dksX13_helped_2 4 rfl rfl)
theorem dX13_helped_51 : decode cX13_helped 51 = .ok (.iand, 1) := dk_126 (dk_at dksX13_helped_2 5 rfl rfl)
theorem dX13_helped_52 : decode cX13_helped 52 = .ok (.invokevirtual 312, 3) := dk_182 1 56 (dk_at dksX13_helped_2 6 rfl rfl)
theorem dX13_helped_55 : decode cX13_helped 55 = .ok (.if_icmp .eq 7, 3) := dk_159 0 7 (dk_at dksX13_helped_2 9 rfl rfl)
theorem dX13_helped_58 : decode cX13_helped 58 = .ok (.iconst 1, 1) := dk_4 (dk_at dksX13_helped_2 12 rfl rfl)
theorem dX13_helped_59 : decode cX13_helped 59 = .ok (.goto 4, 3) := dk_167 0 4 (dk_at dksX13_helped_2 13 rfl rfl)
theorem dX13_helped_62 : decode cX13_helped 62 = .ok (.iconst 0, 1) := dk_3 (dk_at dksX13_helped_2 16 rfl rfl)
theorem dX13_helped_63 : decode cX13_helped 63 = .ok (.ireturn, 1) := dk_172 (dk_at dksX13_helped_2 17 rfl rfl)
abbrev cX13_outers : ByteArray := prog_24_method_57_code
def yX13_outers : MethodName := ⟨RX13, "outers", "()I"⟩
def dkwX13_outers_1 : List UInt8 := [28, 120, 128, 60, 132, 2, 1, 167, 255, 229, 27, 172]
abbrev dktX13_outers_1 : List UInt8 := dkwX13_outers_1 ++ []
def dkwX13_outers_0 : List UInt8 := [3, 60, 3, 61, 28, 42, 182, 0, 224, 162, 0, 25, 42, 28, 6, 182, 0, 227, 4, 160, 0, 9, 27, 4]
abbrev dktX13_outers_0 : List UInt8 := dkwX13_outers_0 ++ dktX13_outers_1
theorem dksX13_outers_0 : cX13_outers.data.toList.drop 0 = dktX13_outers_0 := by decide +kernel
theorem dksX13_outers_1 : cX13_outers.data.toList.drop 24 = dktX13_outers_1 := dk_seg dksX13_outers_0 24 rfl rfl
theorem dX13_outers_0 : decode cX13_outers 0 = .ok (.iconst 0, 1) := dk_3 (dk_at dksX13_outers_0 0 rfl rfl)
theorem dX13_outers_1 : decode cX13_outers 1 = .ok (.istore_n 1, 1) := dk_60 (dk_at dksX13_outers_0 1 rfl rfl)
theorem dX13_outers_2 : decode cX13_outers 2 = .ok (.iconst 0, 1) := dk_3 (dk_at dksX13_outers_0 2 rfl rfl)
theorem dX13_outers_3 : decode cX13_outers 3 = .ok (.istore_n 2, 1) := dk_61 (dk_at dksX13_outers_0 3 rfl rfl)
theorem dX13_outers_4 : decode cX13_outers 4 = .ok (.iload_n 2, 1) := dk_28 (dk_at dksX13_outers_0 4 rfl rfl)
theorem dX13_outers_5 : decode cX13_outers 5 = .ok (.aload_n 0, 1) := dk_42 (dk_at dksX13_outers_0 5 rfl rfl)
theorem dX13_outers_6 : decode cX13_outers 6 = .ok (.invokevirtual 224, 3) := dk_182 0 224 (dk_at dksX13_outers_0 6 rfl rfl)
theorem dX13_outers_9 : decode cX13_outers 9 = .ok (.if_icmp .ge 25, 3) := dk_162 0 25 (dk_at dksX13_outers_0 9 rfl rfl)
theorem dX13_outers_12 : decode cX13_outers 12 = .ok (.aload_n 0, 1) := dk_42 (dk_at dksX13_outers_0 12 rfl rfl)
theorem dX13_outers_13 : decode cX13_outers 13 = .ok (.iload_n 2, 1) := dk_28 (dk_at dksX13_outers_0 13 rfl rfl)
theorem dX13_outers_14 : decode cX13_outers 14 = .ok (.iconst 3, 1) := dk_6 (dk_at dksX13_outers_0 14 rfl rfl)
theorem dX13_outers_15 : decode cX13_outers 15 = .ok (.invokevirtual 227, 3) := dk_182 0 227 (dk_at dksX13_outers_0 15 rfl rfl)
theorem dX13_outers_18 : decode cX13_outers 18 = .ok (.iconst 1, 1) := dk_4 (dk_at dksX13_outers_0 18 rfl rfl)
theorem dX13_outers_19 : decode cX13_outers 19 = .ok (.if_icmp .ne 9, 3) := dk_160 0 9 (dk_at dksX13_outers_0 19 rfl rfl)
theorem dX13_outers_22 : decode cX13_outers 22 = .ok (.iload_n 1, 1) := dk_27 (dk_at dksX13_outers_0 22 rfl rfl)
theorem dX13_outers_23 : decode cX13_outers 23 = .ok (.iconst 1, 1) := dk_4 (dk_at dksX13_outers_0 23 rfl rfl)
theorem dX13_outers_24 : decode cX13_outers 24 = .ok (.iload_n 2, 1) := dk_28 (dk_at dksX13_outers_1 0 rfl rfl)
theorem dX13_outers_25 : decode cX13_outers 25 = .ok (.ishl, 1) := dk_120 (dk_at dksX13_outers_1 1 rfl rfl)
theorem dX13_outers_26 : decode cX13_outers 26 = .ok (.ior, 1) := dk_128 (dk_at dksX13_outers_1 2 rfl rfl)
theorem dX13_outers_27 : decode cX13_outers 27 = .ok (.istore_n 1, 1) := dk_60 (dk_at dksX13_outers_1 3 rfl rfl)
theorem dX13_outers_28 : decode cX13_outers 28 = .ok (.iinc 2 1, 3) := dk_132 2 1 (dk_at dksX13_outers_1 4 rfl rfl)
theorem dX13_outers_31 : decode cX13_outers 31 = .ok (.goto (-27), 3) := dk_167 255 229 (dk_at dksX13_outers_1 7 rfl rfl)
theorem dX13_outers_34 : decode cX13_outers 34 = .ok (.iload_n 1, 1) := dk_27 (dk_at dksX13_outers_1 10 rfl rfl)
theorem dX13_outers_35 : decode cX13_outers 35 = .ok (.ireturn, 1) := dk_172 (dk_at dksX13_outers_1 11 rfl rfl)
abbrev cX13_foretell : ByteArray := prog_24_method_75_code
def yX13_foretell : MethodName := ⟨RX13, "foretell", "(IIII)I"⟩
def dkwX13_foretell_2 : List UInt8 := [42, 42, 180, 0, 255, 182, 1, 32, 172]
abbrev dktX13_foretell_2 : List UInt8 := dkwX13_foretell_2 ++ []
def dkwX13_foretell_1 : List UInt8 := [4, 184, 0, 115, 154, 0, 6, 16, 254, 172, 27, 154, 0, 9, 42, 3, 182, 1, 56, 172, 42, 182, 1, 62]
abbrev dktX13_foretell_1 : List UInt8 := dkwX13_foretell_1 ++ dktX13_foretell_2
def dkwX13_foretell_0 : List UInt8 := [42, 3, 181, 0, 58, 42, 28, 29, 4, 3, 21, 4, 182, 1, 52, 54, 5, 21, 5, 153, 0, 12, 27, 3]
abbrev dktX13_foretell_0 : List UInt8 := dkwX13_foretell_0 ++ dktX13_foretell_1
theorem dksX13_foretell_0 : cX13_foretell.data.toList.drop 0 = dktX13_foretell_0 := by decide +kernel
theorem dksX13_foretell_1 : cX13_foretell.data.toList.drop 24 = dktX13_foretell_1 := dk_seg dksX13_foretell_0 24 rfl rfl
theorem dksX13_foretell_2 : cX13_foretell.data.toList.drop 48 = dktX13_foretell_2 := dk_seg dksX13_foretell_1 24 rfl rfl
theorem dX13_foretell_0 : decode cX13_foretell 0 = .ok (.aload_n 0, 1) := dk_42 (dk_at dksX13_foretell_0 0 rfl rfl)
theorem dX13_foretell_1 : decode cX13_foretell 1 = .ok (.iconst 0, 1) := dk_3 (dk_at dksX13_foretell_0 1 rfl rfl)
theorem dX13_foretell_2 : decode cX13_foretell 2 = .ok (.putfield 58, 3) := dk_181 0 58 (dk_at dksX13_foretell_0 2 rfl rfl)
theorem dX13_foretell_5 : decode cX13_foretell 5 = .ok (.aload_n 0, 1) := dk_42 (dk_at dksX13_foretell_0 5 rfl rfl)
theorem dX13_foretell_6 : decode cX13_foretell 6 = .ok (.iload_n 2, 1) := dk_28 (dk_at dksX13_foretell_0 6 rfl rfl)
theorem dX13_foretell_7 : decode cX13_foretell 7 = .ok (.iload_n 3, 1) := dk_29 (dk_at dksX13_foretell_0 7 rfl rfl)
theorem dX13_foretell_8 : decode cX13_foretell 8 = .ok (.iconst 1, 1) := dk_4 (dk_at dksX13_foretell_0 8 rfl rfl)
theorem dX13_foretell_9 : decode cX13_foretell 9 = .ok (.iconst 0, 1) := dk_3 (dk_at dksX13_foretell_0 9 rfl rfl)
theorem dX13_foretell_10 : decode cX13_foretell 10 = .ok (.iload 4, 2) := dk_21 4 (dk_at dksX13_foretell_0 10 rfl rfl)
theorem dX13_foretell_12 : decode cX13_foretell 12 = .ok (.invokevirtual 308, 3) := dk_182 1 52 (dk_at dksX13_foretell_0 12 rfl rfl)
theorem dX13_foretell_15 : decode cX13_foretell 15 = .ok (.istore 5, 2) := dk_54 5 (dk_at dksX13_foretell_0 15 rfl rfl)
theorem dX13_foretell_17 : decode cX13_foretell 17 = .ok (.iload 5, 2) := dk_21 5 (dk_at dksX13_foretell_0 17 rfl rfl)
theorem dX13_foretell_19 : decode cX13_foretell 19 = .ok (.ifCond .eq 12, 3) := dk_153 0 12 (dk_at dksX13_foretell_0 19 rfl rfl)
theorem dX13_foretell_22 : decode cX13_foretell 22 = .ok (.iload_n 1, 1) := dk_27 (dk_at dksX13_foretell_0 22 rfl rfl)
theorem dX13_foretell_23 : decode cX13_foretell 23 = .ok (.iconst 0, 1) := dk_3 (dk_at dksX13_foretell_0 23 rfl rfl)
theorem dX13_foretell_24 : decode cX13_foretell 24 = .ok (.iconst 1, 1) := dk_4 (dk_at dksX13_foretell_1 0 rfl rfl)
theorem dX13_foretell_25 : decode cX13_foretell 25 = .ok (.invokestatic 115, 3) := dk_184 0 115 (dk_at dksX13_foretell_1 1 rfl rfl)
theorem dX13_foretell_28 : decode cX13_foretell 28 = .ok (.ifCond .ne 6, 3) := dk_154 0 6 (dk_at dksX13_foretell_1 4 rfl rfl)
theorem dX13_foretell_31 : decode cX13_foretell 31 = .ok (.bipush (-2), 2) := dk_16 254 (dk_at dksX13_foretell_1 7 rfl rfl)
theorem dX13_foretell_33 : decode cX13_foretell 33 = .ok (.ireturn, 1) := dk_172 (dk_at dksX13_foretell_1 9 rfl rfl)
theorem dX13_foretell_34 : decode cX13_foretell 34 = .ok (.iload_n 1, 1) := dk_27 (dk_at dksX13_foretell_1 10 rfl rfl)
theorem dX13_foretell_35 : decode cX13_foretell 35 = .ok (.ifCond .ne 9, 3) := dk_154 0 9 (dk_at dksX13_foretell_1 11 rfl rfl)
theorem dX13_foretell_38 : decode cX13_foretell 38 = .ok (.aload_n 0, 1) := dk_42 (dk_at dksX13_foretell_1 14 rfl rfl)
theorem dX13_foretell_39 : decode cX13_foretell 39 = .ok (.iconst 0, 1) := dk_3 (dk_at dksX13_foretell_1 15 rfl rfl)
theorem dX13_foretell_40 : decode cX13_foretell 40 = .ok (.invokevirtual 312, 3) := dk_182 1 56 (dk_at dksX13_foretell_1 16 rfl rfl)
theorem dX13_foretell_43 : decode cX13_foretell 43 = .ok (.ireturn, 1) := dk_172 (dk_at dksX13_foretell_1 19 rfl rfl)
theorem dX13_foretell_44 : decode cX13_foretell 44 = .ok (.aload_n 0, 1) := dk_42 (dk_at dksX13_foretell_1 20 rfl rfl)
theorem dX13_foretell_45 : decode cX13_foretell 45 = .ok (.invokevirtual 318, 3) := dk_182 1 62 (dk_at dksX13_foretell_1 21 rfl rfl)
theorem dX13_foretell_48 : decode cX13_foretell 48 = .ok (.aload_n 0, 1) := dk_42 (dk_at dksX13_foretell_2 0 rfl rfl)
theorem dX13_foretell_49 : decode cX13_foretell 49 = .ok (.aload_n 0, 1) := dk_42 (dk_at dksX13_foretell_2 1 rfl rfl)
theorem dX13_foretell_50 : decode cX13_foretell 50 = .ok (.getfield 255, 3) := dk_180 0 255 (dk_at dksX13_foretell_2 2 rfl rfl)
theorem dX13_foretell_53 : decode cX13_foretell 53 = .ok (.invokevirtual 288, 3) := dk_182 1 32 (dk_at dksX13_foretell_2 5 rfl rfl)
theorem dX13_foretell_56 : decode cX13_foretell 56 = .ok (.ireturn, 1) := dk_172 (dk_at dksX13_foretell_2 8 rfl rfl)
abbrev cX13_know : ByteArray := prog_24_method_59_code
def yX13_know : MethodName := ⟨RX13, "know", "()V"⟩
def dkwX13_know_1 : List UInt8 := [167, 0, 4, 3, 79, 132, 1, 1, 167, 255, 226, 177]
abbrev dktX13_know_1 : List UInt8 := dkwX13_know_1 ++ []
def dkwX13_know_0 : List UInt8 := [3, 60, 27, 7, 162, 0, 31, 42, 180, 0, 42, 27, 42, 27, 182, 1, 8, 2, 160, 0, 9, 17, 3, 232]
abbrev dktX13_know_0 : List UInt8 := dkwX13_know_0 ++ dktX13_know_1
theorem dksX13_know_0 : cX13_know.data.toList.drop 0 = dktX13_know_0 := by decide +kernel
theorem dksX13_know_1 : cX13_know.data.toList.drop 24 = dktX13_know_1 := dk_seg dksX13_know_0 24 rfl rfl
theorem dX13_know_0 : decode cX13_know 0 = .ok (.iconst 0, 1) := dk_3 (dk_at dksX13_know_0 0 rfl rfl)
theorem dX13_know_1 : decode cX13_know 1 = .ok (.istore_n 1, 1) := dk_60 (dk_at dksX13_know_0 1 rfl rfl)
theorem dX13_know_2 : decode cX13_know 2 = .ok (.iload_n 1, 1) := dk_27 (dk_at dksX13_know_0 2 rfl rfl)
theorem dX13_know_3 : decode cX13_know 3 = .ok (.iconst 4, 1) := dk_7 (dk_at dksX13_know_0 3 rfl rfl)
theorem dX13_know_4 : decode cX13_know 4 = .ok (.if_icmp .ge 31, 3) := dk_162 0 31 (dk_at dksX13_know_0 4 rfl rfl)
theorem dX13_know_7 : decode cX13_know 7 = .ok (.aload_n 0, 1) := dk_42 (dk_at dksX13_know_0 7 rfl rfl)
theorem dX13_know_8 : decode cX13_know 8 = .ok (.getfield 42, 3) := dk_180 0 42 (dk_at dksX13_know_0 8 rfl rfl)
theorem dX13_know_11 : decode cX13_know 11 = .ok (.iload_n 1, 1) := dk_27 (dk_at dksX13_know_0 11 rfl rfl)
theorem dX13_know_12 : decode cX13_know 12 = .ok (.aload_n 0, 1) := dk_42 (dk_at dksX13_know_0 12 rfl rfl)
theorem dX13_know_13 : decode cX13_know 13 = .ok (.iload_n 1, 1) := dk_27 (dk_at dksX13_know_0 13 rfl rfl)
theorem dX13_know_14 : decode cX13_know 14 = .ok (.invokevirtual 264, 3) := dk_182 1 8 (dk_at dksX13_know_0 14 rfl rfl)
theorem dX13_know_17 : decode cX13_know 17 = .ok (.iconst (-1), 1) := dk_2 (dk_at dksX13_know_0 17 rfl rfl)
theorem dX13_know_18 : decode cX13_know 18 = .ok (.if_icmp .ne 9, 3) := dk_160 0 9 (dk_at dksX13_know_0 18 rfl rfl)
theorem dX13_know_21 : decode cX13_know 21 = .ok (.sipush 1000, 3) := dk_17 3 232 (dk_at dksX13_know_0 21 rfl rfl)
theorem dX13_know_24 : decode cX13_know 24 = .ok (.goto 4, 3) := dk_167 0 4 (dk_at dksX13_know_1 0 rfl rfl)
theorem dX13_know_27 : decode cX13_know 27 = .ok (.iconst 0, 1) := dk_3 (dk_at dksX13_know_1 3 rfl rfl)
theorem dX13_know_28 : decode cX13_know 28 = .ok (.iastore, 1) := dk_79 (dk_at dksX13_know_1 4 rfl rfl)
theorem dX13_know_29 : decode cX13_know 29 = .ok (.iinc 1 1, 3) := dk_132 1 1 (dk_at dksX13_know_1 5 rfl rfl)
theorem dX13_know_32 : decode cX13_know 32 = .ok (.goto (-30), 3) := dk_167 255 226 (dk_at dksX13_know_1 8 rfl rfl)
theorem dX13_know_35 : decode cX13_know 35 = .ok (.return_, 1) := dk_177 (dk_at dksX13_know_1 11 rfl rfl)
abbrev cX13_odds : ByteArray := prog_24_method_76_code
def yX13_odds : MethodName := ⟨RX13, "odds", "(IIIIII)J"⟩
def dkwX13_odds_10 : List UInt8 := [54, 12, 21, 11, 4, 100, 21, 8, 126, 54, 11, 167, 255, 129, 22, 9, 173]
abbrev dktX13_odds_10 : List UInt8 := dkwX13_odds_10 ++ []
def dkwX13_odds_9 : List UInt8 := [132, 15, 1, 167, 255, 193, 22, 9, 22, 13, 97, 55, 9, 21, 11, 158, 0, 7, 4, 167, 0, 4, 3]
abbrev dktX13_odds_9 : List UInt8 := dkwX13_odds_9 ++ dktX13_odds_10
def dkwX13_odds_8 : List UInt8 := [182, 0, 227, 133, 167, 0, 15, 16, 20, 42, 21, 15, 16, 7, 182, 0, 227, 100, 133, 105, 55, 13]
abbrev dktX13_odds_8 : List UInt8 := dkwX13_odds_8 ++ dktX13_odds_9
def dkwX13_odds_7 : List UInt8 := [126, 4, 160, 0, 43, 22, 13, 21, 11, 21, 15, 122, 4, 126, 4, 160, 0, 15, 42, 21, 15, 16, 7]
abbrev dktX13_odds_7 : List UInt8 := dkwX13_odds_7 ++ dktX13_odds_8
def dkwX13_odds_6 : List UInt8 := [160, 0, 82, 10, 55, 13, 3, 54, 15, 21, 15, 42, 182, 0, 224, 162, 0, 60, 21, 8, 21, 15, 122, 4]
abbrev dktX13_odds_6 : List UInt8 := dkwX13_odds_6 ++ dktX13_odds_7
def dkwX13_odds_5 : List UInt8 := [153, 0, 128, 42, 42, 42, 180, 0, 13, 17, 0, 140, 46, 21, 11, 182, 1, 49, 182, 1, 56, 27]
abbrev dktX13_odds_5 : List UInt8 := dkwX13_odds_5 ++ dktX13_odds_6
def dkwX13_odds_4 : List UInt8 := [182, 1, 45, 42, 6, 182, 0, 231, 54, 8, 9, 55, 9, 21, 8, 54, 11, 4, 54, 12, 21, 12]
abbrev dktX13_odds_4 : List UInt8 := dkwX13_odds_4 ++ dktX13_odds_5
def dkwX13_odds_3 : List UInt8 := [54, 7, 21, 6, 158, 0, 9, 42, 21, 7, 182, 1, 42, 42, 28, 29, 21, 4, 21, 5, 21, 6]
abbrev dktX13_odds_3 : List UInt8 := dkwX13_odds_3 ++ dktX13_odds_4
def dkwX13_odds_2 : List UInt8 := [180, 0, 62, 182, 1, 39, 154, 0, 9, 42, 182, 0, 234, 133, 173, 42, 3, 181, 0, 58, 42, 182, 0, 215]
abbrev dktX13_odds_2 : List UInt8 := dkwX13_odds_2 ++ dktX13_odds_3
def dkwX13_odds_1 : List UInt8 := [182, 1, 35, 153, 0, 29, 21, 6, 3, 5, 184, 0, 115, 153, 0, 19, 21, 6, 158, 0, 20, 42, 42]
abbrev dktX13_odds_1 : List UInt8 := dkwX13_odds_1 ++ dktX13_odds_2
def dkwX13_odds_0 : List UInt8 := [42, 182, 0, 212, 27, 2, 159, 0, 11, 42, 27, 182, 0, 240, 153, 0, 42, 42, 28, 29, 21, 4, 21, 5]
abbrev dktX13_odds_0 : List UInt8 := dkwX13_odds_0 ++ dktX13_odds_1
theorem dksX13_odds_0 : cX13_odds.data.toList.drop 0 = dktX13_odds_0 := by decide +kernel
theorem dksX13_odds_1 : cX13_odds.data.toList.drop 24 = dktX13_odds_1 := dk_seg dksX13_odds_0 24 rfl rfl
theorem dksX13_odds_2 : cX13_odds.data.toList.drop 47 = dktX13_odds_2 := dk_seg dksX13_odds_1 23 rfl rfl
theorem dksX13_odds_3 : cX13_odds.data.toList.drop 71 = dktX13_odds_3 := dk_seg dksX13_odds_2 24 rfl rfl
theorem dksX13_odds_4 : cX13_odds.data.toList.drop 93 = dktX13_odds_4 := dk_seg dksX13_odds_3 22 rfl rfl
theorem dksX13_odds_5 : cX13_odds.data.toList.drop 115 = dktX13_odds_5 := dk_seg dksX13_odds_4 22 rfl rfl
theorem dksX13_odds_6 : cX13_odds.data.toList.drop 137 = dktX13_odds_6 := dk_seg dksX13_odds_5 22 rfl rfl
theorem dksX13_odds_7 : cX13_odds.data.toList.drop 161 = dktX13_odds_7 := dk_seg dksX13_odds_6 24 rfl rfl
theorem dksX13_odds_8 : cX13_odds.data.toList.drop 184 = dktX13_odds_8 := dk_seg dksX13_odds_7 23 rfl rfl
theorem dksX13_odds_9 : cX13_odds.data.toList.drop 206 = dktX13_odds_9 := dk_seg dksX13_odds_8 22 rfl rfl
theorem dksX13_odds_10 : cX13_odds.data.toList.drop 229 = dktX13_odds_10 := dk_seg dksX13_odds_9 23 rfl rfl
theorem dX13_odds_0 : decode cX13_odds 0 = .ok (.aload_n 0, 1) := dk_42 (dk_at dksX13_odds_0 0 rfl rfl)
theorem dX13_odds_1 : decode cX13_odds 1 = .ok (.invokevirtual 212, 3) := dk_182 0 212 (dk_at dksX13_odds_0 1 rfl rfl)
theorem dX13_odds_4 : decode cX13_odds 4 = .ok (.iload_n 1, 1) := dk_27 (dk_at dksX13_odds_0 4 rfl rfl)
theorem dX13_odds_5 : decode cX13_odds 5 = .ok (.iconst (-1), 1) := dk_2 (dk_at dksX13_odds_0 5 rfl rfl)
theorem dX13_odds_6 : decode cX13_odds 6 = .ok (.if_icmp .eq 11, 3) := dk_159 0 11 (dk_at dksX13_odds_0 6 rfl rfl)
theorem dX13_odds_9 : decode cX13_odds 9 = .ok (.aload_n 0, 1) := dk_42 (dk_at dksX13_odds_0 9 rfl rfl)
theorem dX13_odds_10 : decode cX13_odds 10 = .ok (.iload_n 1, 1) := dk_27 (dk_at dksX13_odds_0 10 rfl rfl)
theorem dX13_odds_11 : decode cX13_odds 11 = .ok (.invokevirtual 240, 3) := dk_182 0 240 (dk_at dksX13_odds_0 11 rfl rfl)
theorem dX13_odds_14 : decode cX13_odds 14 = .ok (.ifCond .eq 42, 3) := dk_153 0 42 (dk_at dksX13_odds_0 14 rfl rfl)
theorem dX13_odds_17 : decode cX13_odds 17 = .ok (.aload_n 0, 1) := dk_42 (dk_at dksX13_odds_0 17 rfl rfl)
theorem dX13_odds_18 : decode cX13_odds 18 = .ok (.iload_n 2, 1) := dk_28 (dk_at dksX13_odds_0 18 rfl rfl)
theorem dX13_odds_19 : decode cX13_odds 19 = .ok (.iload_n 3, 1) := dk_29 (dk_at dksX13_odds_0 19 rfl rfl)
theorem dX13_odds_20 : decode cX13_odds 20 = .ok (.iload 4, 2) := dk_21 4 (dk_at dksX13_odds_0 20 rfl rfl)
theorem dX13_odds_22 : decode cX13_odds 22 = .ok (.iload 5, 2) := dk_21 5 (dk_at dksX13_odds_0 22 rfl rfl)
theorem dX13_odds_24 : decode cX13_odds 24 = .ok (.invokevirtual 291, 3) := dk_182 1 35 (dk_at dksX13_odds_1 0 rfl rfl)
theorem dX13_odds_27 : decode cX13_odds 27 = .ok (.ifCond .eq 29, 3) := dk_153 0 29 (dk_at dksX13_odds_1 3 rfl rfl)
theorem dX13_odds_30 : decode cX13_odds 30 = .ok (.iload 6, 2) := dk_21 6 (dk_at dksX13_odds_1 6 rfl rfl)
theorem dX13_odds_32 : decode cX13_odds 32 = .ok (.iconst 0, 1) := dk_3 (dk_at dksX13_odds_1 8 rfl rfl)
theorem dX13_odds_33 : decode cX13_odds 33 = .ok (.iconst 2, 1) := dk_5 (dk_at dksX13_odds_1 9 rfl rfl)
theorem dX13_odds_34 : decode cX13_odds 34 = .ok (.invokestatic 115, 3) := dk_184 0 115 (dk_at dksX13_odds_1 10 rfl rfl)
theorem dX13_odds_37 : decode cX13_odds 37 = .ok (.ifCond .eq 19, 3) := dk_153 0 19 (dk_at dksX13_odds_1 13 rfl rfl)
theorem dX13_odds_40 : decode cX13_odds 40 = .ok (.iload 6, 2) := dk_21 6 (dk_at dksX13_odds_1 16 rfl rfl)
theorem dX13_odds_42 : decode cX13_odds 42 = .ok (.ifCond .le 20, 3) := dk_158 0 20 (dk_at dksX13_odds_1 18 rfl rfl)
theorem dX13_odds_45 : decode cX13_odds 45 = .ok (.aload_n 0, 1) := dk_42 (dk_at dksX13_odds_1 21 rfl rfl)
theorem dX13_odds_46 : decode cX13_odds 46 = .ok (.aload_n 0, 1) := dk_42 (dk_at dksX13_odds_1 22 rfl rfl)
theorem dX13_odds_47 : decode cX13_odds 47 = .ok (.getfield 62, 3) := dk_180 0 62 (dk_at dksX13_odds_2 0 rfl rfl)
theorem dX13_odds_50 : decode cX13_odds 50 = .ok (.invokevirtual 295, 3) := dk_182 1 39 (dk_at dksX13_odds_2 3 rfl rfl)
theorem dX13_odds_53 : decode cX13_odds 53 = .ok (.ifCond .ne 9, 3) := dk_154 0 9 (dk_at dksX13_odds_2 6 rfl rfl)
theorem dX13_odds_56 : decode cX13_odds 56 = .ok (.aload_n 0, 1) := dk_42 (dk_at dksX13_odds_2 9 rfl rfl)
theorem dX13_odds_57 : decode cX13_odds 57 = .ok (.invokevirtual 234, 3) := dk_182 0 234 (dk_at dksX13_odds_2 10 rfl rfl)
theorem dX13_odds_60 : decode cX13_odds 60 = .ok (.i2l, 1) := dk_133 (dk_at dksX13_odds_2 13 rfl rfl)
theorem dX13_odds_61 : decode cX13_odds 61 = .ok (.lreturn, 1) := dk_173 (dk_at dksX13_odds_2 14 rfl rfl)
theorem dX13_odds_62 : decode cX13_odds 62 = .ok (.aload_n 0, 1) := dk_42 (dk_at dksX13_odds_2 15 rfl rfl)
theorem dX13_odds_63 : decode cX13_odds 63 = .ok (.iconst 0, 1) := dk_3 (dk_at dksX13_odds_2 16 rfl rfl)
theorem dX13_odds_64 : decode cX13_odds 64 = .ok (.putfield 58, 3) := dk_181 0 58 (dk_at dksX13_odds_2 17 rfl rfl)
theorem dX13_odds_67 : decode cX13_odds 67 = .ok (.aload_n 0, 1) := dk_42 (dk_at dksX13_odds_2 20 rfl rfl)
theorem dX13_odds_68 : decode cX13_odds 68 = .ok (.invokevirtual 215, 3) := dk_182 0 215 (dk_at dksX13_odds_2 21 rfl rfl)
theorem dX13_odds_71 : decode cX13_odds 71 = .ok (.istore 7, 2) := dk_54 7 (dk_at dksX13_odds_3 0 rfl rfl)
theorem dX13_odds_73 : decode cX13_odds 73 = .ok (.iload 6, 2) := dk_21 6 (dk_at dksX13_odds_3 2 rfl rfl)
theorem dX13_odds_75 : decode cX13_odds 75 = .ok (.ifCond .le 9, 3) := dk_158 0 9 (dk_at dksX13_odds_3 4 rfl rfl)
theorem dX13_odds_78 : decode cX13_odds 78 = .ok (.aload_n 0, 1) := dk_42 (dk_at dksX13_odds_3 7 rfl rfl)
theorem dX13_odds_79 : decode cX13_odds 79 = .ok (.iload 7, 2) := dk_21 7 (dk_at dksX13_odds_3 8 rfl rfl)
theorem dX13_odds_81 : decode cX13_odds 81 = .ok (.invokevirtual 298, 3) := dk_182 1 42 (dk_at dksX13_odds_3 10 rfl rfl)
theorem dX13_odds_84 : decode cX13_odds 84 = .ok (.aload_n 0, 1) := dk_42 (dk_at dksX13_odds_3 13 rfl rfl)
theorem dX13_odds_85 : decode cX13_odds 85 = .ok (.iload_n 2, 1) := dk_28 (dk_at dksX13_odds_3 14 rfl rfl)
theorem dX13_odds_86 : decode cX13_odds 86 = .ok (.iload_n 3, 1) := dk_29 (dk_at dksX13_odds_3 15 rfl rfl)
theorem dX13_odds_87 : decode cX13_odds 87 = .ok (.iload 4, 2) := dk_21 4 (dk_at dksX13_odds_3 16 rfl rfl)
theorem dX13_odds_89 : decode cX13_odds 89 = .ok (.iload 5, 2) := dk_21 5 (dk_at dksX13_odds_3 18 rfl rfl)
theorem dX13_odds_91 : decode cX13_odds 91 = .ok (.iload 6, 2) := dk_21 6 (dk_at dksX13_odds_3 20 rfl rfl)
theorem dX13_odds_93 : decode cX13_odds 93 = .ok (.invokevirtual 301, 3) := dk_182 1 45 (dk_at dksX13_odds_4 0 rfl rfl)
theorem dX13_odds_96 : decode cX13_odds 96 = .ok (.aload_n 0, 1) := dk_42 (dk_at dksX13_odds_4 3 rfl rfl)
theorem dX13_odds_97 : decode cX13_odds 97 = .ok (.iconst 3, 1) := dk_6 (dk_at dksX13_odds_4 4 rfl rfl)
theorem dX13_odds_98 : decode cX13_odds 98 = .ok (.invokevirtual 231, 3) := dk_182 0 231 (dk_at dksX13_odds_4 5 rfl rfl)
theorem dX13_odds_101 : decode cX13_odds 101 = .ok (.istore 8, 2) := dk_54 8 (dk_at dksX13_odds_4 8 rfl rfl)
theorem dX13_odds_103 : decode cX13_odds 103 = .ok (.lconst 0, 1) := dk_9 (dk_at dksX13_odds_4 10 rfl rfl)
theorem dX13_odds_104 : decode cX13_odds 104 = .ok (.lstore 9, 2) := dk_55 9 (dk_at dksX13_odds_4 11 rfl rfl)
theorem dX13_odds_106 : decode cX13_odds 106 = .ok (.iload 8, 2) := dk_21 8 (dk_at dksX13_odds_4 13 rfl rfl)
theorem dX13_odds_108 : decode cX13_odds 108 = .ok (.istore 11, 2) := dk_54 11 (dk_at dksX13_odds_4 15 rfl rfl)
theorem dX13_odds_110 : decode cX13_odds 110 = .ok (.iconst 1, 1) := dk_4 (dk_at dksX13_odds_4 17 rfl rfl)
theorem dX13_odds_111 : decode cX13_odds 111 = .ok (.istore 12, 2) := dk_54 12 (dk_at dksX13_odds_4 18 rfl rfl)
theorem dX13_odds_113 : decode cX13_odds 113 = .ok (.iload 12, 2) := dk_21 12 (dk_at dksX13_odds_4 20 rfl rfl)
theorem dX13_odds_115 : decode cX13_odds 115 = .ok (.ifCond .eq 128, 3) := dk_153 0 128 (dk_at dksX13_odds_5 0 rfl rfl)
theorem dX13_odds_118 : decode cX13_odds 118 = .ok (.aload_n 0, 1) := dk_42 (dk_at dksX13_odds_5 3 rfl rfl)
theorem dX13_odds_119 : decode cX13_odds 119 = .ok (.aload_n 0, 1) := dk_42 (dk_at dksX13_odds_5 4 rfl rfl)
theorem dX13_odds_120 : decode cX13_odds 120 = .ok (.aload_n 0, 1) := dk_42 (dk_at dksX13_odds_5 5 rfl rfl)
theorem dX13_odds_121 : decode cX13_odds 121 = .ok (.getfield 13, 3) := dk_180 0 13 (dk_at dksX13_odds_5 6 rfl rfl)
theorem dX13_odds_124 : decode cX13_odds 124 = .ok (.sipush 140, 3) := dk_17 0 140 (dk_at dksX13_odds_5 9 rfl rfl)
theorem dX13_odds_127 : decode cX13_odds 127 = .ok (.iaload, 1) := dk_46 (dk_at dksX13_odds_5 12 rfl rfl)
theorem dX13_odds_128 : decode cX13_odds 128 = .ok (.iload 11, 2) := dk_21 11 (dk_at dksX13_odds_5 13 rfl rfl)
theorem dX13_odds_130 : decode cX13_odds 130 = .ok (.invokevirtual 305, 3) := dk_182 1 49 (dk_at dksX13_odds_5 15 rfl rfl)
theorem dX13_odds_133 : decode cX13_odds 133 = .ok (.invokevirtual 312, 3) := dk_182 1 56 (dk_at dksX13_odds_5 18 rfl rfl)
theorem dX13_odds_136 : decode cX13_odds 136 = .ok (.iload_n 1, 1) := dk_27 (dk_at dksX13_odds_5 21 rfl rfl)
theorem dX13_odds_137 : decode cX13_odds 137 = .ok (.if_icmp .ne 82, 3) := dk_160 0 82 (dk_at dksX13_odds_6 0 rfl rfl)
theorem dX13_odds_140 : decode cX13_odds 140 = .ok (.lconst 1, 1) := dk_10 (dk_at dksX13_odds_6 3 rfl rfl)
theorem dX13_odds_141 : decode cX13_odds 141 = .ok (.lstore 13, 2) := dk_55 13 (dk_at dksX13_odds_6 4 rfl rfl)
theorem dX13_odds_143 : decode cX13_odds 143 = .ok (.iconst 0, 1) := dk_3 (dk_at dksX13_odds_6 6 rfl rfl)
theorem dX13_odds_144 : decode cX13_odds 144 = .ok (.istore 15, 2) := dk_54 15 (dk_at dksX13_odds_6 7 rfl rfl)
theorem dX13_odds_146 : decode cX13_odds 146 = .ok (.iload 15, 2) := dk_21 15 (dk_at dksX13_odds_6 9 rfl rfl)
theorem dX13_odds_148 : decode cX13_odds 148 = .ok (.aload_n 0, 1) := dk_42 (dk_at dksX13_odds_6 11 rfl rfl)
theorem dX13_odds_149 : decode cX13_odds 149 = .ok (.invokevirtual 224, 3) := dk_182 0 224 (dk_at dksX13_odds_6 12 rfl rfl)
theorem dX13_odds_152 : decode cX13_odds 152 = .ok (.if_icmp .ge 60, 3) := dk_162 0 60 (dk_at dksX13_odds_6 15 rfl rfl)
theorem dX13_odds_155 : decode cX13_odds 155 = .ok (.iload 8, 2) := dk_21 8 (dk_at dksX13_odds_6 18 rfl rfl)
theorem dX13_odds_157 : decode cX13_odds 157 = .ok (.iload 15, 2) := dk_21 15 (dk_at dksX13_odds_6 20 rfl rfl)
theorem dX13_odds_159 : decode cX13_odds 159 = .ok (.ishr, 1) := dk_122 (dk_at dksX13_odds_6 22 rfl rfl)
theorem dX13_odds_160 : decode cX13_odds 160 = .ok (.iconst 1, 1) := dk_4 (dk_at dksX13_odds_6 23 rfl rfl)
theorem dX13_odds_161 : decode cX13_odds 161 = .ok (.iand, 1) := dk_126 (dk_at dksX13_odds_7 0 rfl rfl)
theorem dX13_odds_162 : decode cX13_odds 162 = .ok (.iconst 1, 1) := dk_4 (dk_at dksX13_odds_7 1 rfl rfl)
theorem dX13_odds_163 : decode cX13_odds 163 = .ok (.if_icmp .ne 43, 3) := dk_160 0 43 (dk_at dksX13_odds_7 2 rfl rfl)
theorem dX13_odds_166 : decode cX13_odds 166 = .ok (.lload 13, 2) := dk_22 13 (dk_at dksX13_odds_7 5 rfl rfl)
theorem dX13_odds_168 : decode cX13_odds 168 = .ok (.iload 11, 2) := dk_21 11 (dk_at dksX13_odds_7 7 rfl rfl)
theorem dX13_odds_170 : decode cX13_odds 170 = .ok (.iload 15, 2) := dk_21 15 (dk_at dksX13_odds_7 9 rfl rfl)
theorem dX13_odds_172 : decode cX13_odds 172 = .ok (.ishr, 1) := dk_122 (dk_at dksX13_odds_7 11 rfl rfl)
theorem dX13_odds_173 : decode cX13_odds 173 = .ok (.iconst 1, 1) := dk_4 (dk_at dksX13_odds_7 12 rfl rfl)
theorem dX13_odds_174 : decode cX13_odds 174 = .ok (.iand, 1) := dk_126 (dk_at dksX13_odds_7 13 rfl rfl)
theorem dX13_odds_175 : decode cX13_odds 175 = .ok (.iconst 1, 1) := dk_4 (dk_at dksX13_odds_7 14 rfl rfl)
theorem dX13_odds_176 : decode cX13_odds 176 = .ok (.if_icmp .ne 15, 3) := dk_160 0 15 (dk_at dksX13_odds_7 15 rfl rfl)
theorem dX13_odds_179 : decode cX13_odds 179 = .ok (.aload_n 0, 1) := dk_42 (dk_at dksX13_odds_7 18 rfl rfl)
theorem dX13_odds_180 : decode cX13_odds 180 = .ok (.iload 15, 2) := dk_21 15 (dk_at dksX13_odds_7 19 rfl rfl)
theorem dX13_odds_182 : decode cX13_odds 182 = .ok (.bipush 7, 2) := dk_16 7 (dk_at dksX13_odds_7 21 rfl rfl)
theorem dX13_odds_184 : decode cX13_odds 184 = .ok (.invokevirtual 227, 3) := dk_182 0 227 (dk_at dksX13_odds_8 0 rfl rfl)
theorem dX13_odds_187 : decode cX13_odds 187 = .ok (.i2l, 1) := dk_133 (dk_at dksX13_odds_8 3 rfl rfl)
theorem dX13_odds_188 : decode cX13_odds 188 = .ok (.goto 15, 3) := dk_167 0 15 (dk_at dksX13_odds_8 4 rfl rfl)
theorem dX13_odds_191 : decode cX13_odds 191 = .ok (.bipush 20, 2) := dk_16 20 (dk_at dksX13_odds_8 7 rfl rfl)
theorem dX13_odds_193 : decode cX13_odds 193 = .ok (.aload_n 0, 1) := dk_42 (dk_at dksX13_odds_8 9 rfl rfl)
theorem dX13_odds_194 : decode cX13_odds 194 = .ok (.iload 15, 2) := dk_21 15 (dk_at dksX13_odds_8 10 rfl rfl)
theorem dX13_odds_196 : decode cX13_odds 196 = .ok (.bipush 7, 2) := dk_16 7 (dk_at dksX13_odds_8 12 rfl rfl)
theorem dX13_odds_198 : decode cX13_odds 198 = .ok (.invokevirtual 227, 3) := dk_182 0 227 (dk_at dksX13_odds_8 14 rfl rfl)
theorem dX13_odds_201 : decode cX13_odds 201 = .ok (.isub, 1) := dk_100 (dk_at dksX13_odds_8 17 rfl rfl)
theorem dX13_odds_202 : decode cX13_odds 202 = .ok (.i2l, 1) := dk_133 (dk_at dksX13_odds_8 18 rfl rfl)
theorem dX13_odds_203 : decode cX13_odds 203 = .ok (.lmul, 1) := dk_105 (dk_at dksX13_odds_8 19 rfl rfl)
theorem dX13_odds_204 : decode cX13_odds 204 = .ok (.lstore 13, 2) := dk_55 13 (dk_at dksX13_odds_8 20 rfl rfl)
theorem dX13_odds_206 : decode cX13_odds 206 = .ok (.iinc 15 1, 3) := dk_132 15 1 (dk_at dksX13_odds_9 0 rfl rfl)
theorem dX13_odds_209 : decode cX13_odds 209 = .ok (.goto (-63), 3) := dk_167 255 193 (dk_at dksX13_odds_9 3 rfl rfl)
theorem dX13_odds_212 : decode cX13_odds 212 = .ok (.lload 9, 2) := dk_22 9 (dk_at dksX13_odds_9 6 rfl rfl)
theorem dX13_odds_214 : decode cX13_odds 214 = .ok (.lload 13, 2) := dk_22 13 (dk_at dksX13_odds_9 8 rfl rfl)
theorem dX13_odds_216 : decode cX13_odds 216 = .ok (.ladd, 1) := dk_97 (dk_at dksX13_odds_9 10 rfl rfl)
theorem dX13_odds_217 : decode cX13_odds 217 = .ok (.lstore 9, 2) := dk_55 9 (dk_at dksX13_odds_9 11 rfl rfl)
theorem dX13_odds_219 : decode cX13_odds 219 = .ok (.iload 11, 2) := dk_21 11 (dk_at dksX13_odds_9 13 rfl rfl)
theorem dX13_odds_221 : decode cX13_odds 221 = .ok (.ifCond .le 7, 3) := dk_158 0 7 (dk_at dksX13_odds_9 15 rfl rfl)
theorem dX13_odds_224 : decode cX13_odds 224 = .ok (.iconst 1, 1) := dk_4 (dk_at dksX13_odds_9 18 rfl rfl)
theorem dX13_odds_225 : decode cX13_odds 225 = .ok (.goto 4, 3) := dk_167 0 4 (dk_at dksX13_odds_9 19 rfl rfl)
theorem dX13_odds_228 : decode cX13_odds 228 = .ok (.iconst 0, 1) := dk_3 (dk_at dksX13_odds_9 22 rfl rfl)
theorem dX13_odds_229 : decode cX13_odds 229 = .ok (.istore 12, 2) := dk_54 12 (dk_at dksX13_odds_10 0 rfl rfl)
theorem dX13_odds_231 : decode cX13_odds 231 = .ok (.iload 11, 2) := dk_21 11 (dk_at dksX13_odds_10 2 rfl rfl)
theorem dX13_odds_233 : decode cX13_odds 233 = .ok (.iconst 1, 1) := dk_4 (dk_at dksX13_odds_10 4 rfl rfl)
theorem dX13_odds_234 : decode cX13_odds 234 = .ok (.isub, 1) := dk_100 (dk_at dksX13_odds_10 5 rfl rfl)
theorem dX13_odds_235 : decode cX13_odds 235 = .ok (.iload 8, 2) := dk_21 8 (dk_at dksX13_odds_10 6 rfl rfl)
theorem dX13_odds_237 : decode cX13_odds 237 = .ok (.iand, 1) := dk_126 (dk_at dksX13_odds_10 8 rfl rfl)
theorem dX13_odds_238 : decode cX13_odds 238 = .ok (.istore 11, 2) := dk_54 11 (dk_at dksX13_odds_10 9 rfl rfl)
theorem dX13_odds_240 : decode cX13_odds 240 = .ok (.goto (-127), 3) := dk_167 255 129 (dk_at dksX13_odds_10 11 rfl rfl)
theorem dX13_odds_243 : decode cX13_odds 243 = .ok (.lload 9, 2) := dk_22 9 (dk_at dksX13_odds_10 14 rfl rfl)
theorem dX13_odds_245 : decode cX13_odds 245 = .ok (.lreturn, 1) := dk_173 (dk_at dksX13_odds_10 16 rfl rfl)
abbrev cX13_all : ByteArray := prog_24_method_77_code
def yX13_all : MethodName := ⟨RX13, "all", "()J"⟩
def dkwX13_all_1 : List UInt8 := [6, 160, 0, 9, 31, 20, 1, 65, 105, 64, 132, 3, 1, 167, 255, 228, 31, 173]
abbrev dktX13_all_1 : List UInt8 := dkwX13_all_1 ++ []
def dkwX13_all_0 : List UInt8 := [42, 3, 181, 0, 58, 10, 64, 3, 62, 29, 42, 182, 0, 224, 162, 0, 26, 42, 29, 16, 6, 182, 0, 227]
abbrev dktX13_all_0 : List UInt8 := dkwX13_all_0 ++ dktX13_all_1
theorem dksX13_all_0 : cX13_all.data.toList.drop 0 = dktX13_all_0 := by decide +kernel
theorem dksX13_all_1 : cX13_all.data.toList.drop 24 = dktX13_all_1 := dk_seg dksX13_all_0 24 rfl rfl
theorem dX13_all_0 : decode cX13_all 0 = .ok (.aload_n 0, 1) := dk_42 (dk_at dksX13_all_0 0 rfl rfl)
theorem dX13_all_1 : decode cX13_all 1 = .ok (.iconst 0, 1) := dk_3 (dk_at dksX13_all_0 1 rfl rfl)
theorem dX13_all_2 : decode cX13_all 2 = .ok (.putfield 58, 3) := dk_181 0 58 (dk_at dksX13_all_0 2 rfl rfl)
theorem dX13_all_5 : decode cX13_all 5 = .ok (.lconst 1, 1) := dk_10 (dk_at dksX13_all_0 5 rfl rfl)
theorem dX13_all_6 : decode cX13_all 6 = .ok (.lstore_n 1, 1) := dk_64 (dk_at dksX13_all_0 6 rfl rfl)
theorem dX13_all_7 : decode cX13_all 7 = .ok (.iconst 0, 1) := dk_3 (dk_at dksX13_all_0 7 rfl rfl)
theorem dX13_all_8 : decode cX13_all 8 = .ok (.istore_n 3, 1) := dk_62 (dk_at dksX13_all_0 8 rfl rfl)
theorem dX13_all_9 : decode cX13_all 9 = .ok (.iload_n 3, 1) := dk_29 (dk_at dksX13_all_0 9 rfl rfl)
theorem dX13_all_10 : decode cX13_all 10 = .ok (.aload_n 0, 1) := dk_42 (dk_at dksX13_all_0 10 rfl rfl)
theorem dX13_all_11 : decode cX13_all 11 = .ok (.invokevirtual 224, 3) := dk_182 0 224 (dk_at dksX13_all_0 11 rfl rfl)
theorem dX13_all_14 : decode cX13_all 14 = .ok (.if_icmp .ge 26, 3) := dk_162 0 26 (dk_at dksX13_all_0 14 rfl rfl)
theorem dX13_all_17 : decode cX13_all 17 = .ok (.aload_n 0, 1) := dk_42 (dk_at dksX13_all_0 17 rfl rfl)
theorem dX13_all_18 : decode cX13_all 18 = .ok (.iload_n 3, 1) := dk_29 (dk_at dksX13_all_0 18 rfl rfl)
theorem dX13_all_19 : decode cX13_all 19 = .ok (.bipush 6, 2) := dk_16 6 (dk_at dksX13_all_0 19 rfl rfl)
theorem dX13_all_21 : decode cX13_all 21 = .ok (.invokevirtual 227, 3) := dk_182 0 227 (dk_at dksX13_all_0 21 rfl rfl)
theorem dX13_all_24 : decode cX13_all 24 = .ok (.iconst 3, 1) := dk_6 (dk_at dksX13_all_1 0 rfl rfl)
theorem dX13_all_25 : decode cX13_all 25 = .ok (.if_icmp .ne 9, 3) := dk_160 0 9 (dk_at dksX13_all_1 1 rfl rfl)
theorem dX13_all_28 : decode cX13_all 28 = .ok (.lload_n 1, 1) := dk_31 (dk_at dksX13_all_1 4 rfl rfl)
theorem dX13_all_29 : decode cX13_all 29 = .ok (.ldc2_w 321, 3) := dk_20 1 65 (dk_at dksX13_all_1 5 rfl rfl)
theorem dX13_all_32 : decode cX13_all 32 = .ok (.lmul, 1) := dk_105 (dk_at dksX13_all_1 8 rfl rfl)
theorem dX13_all_33 : decode cX13_all 33 = .ok (.lstore_n 1, 1) := dk_64 (dk_at dksX13_all_1 9 rfl rfl)
theorem dX13_all_34 : decode cX13_all 34 = .ok (.iinc 3 1, 3) := dk_132 3 1 (dk_at dksX13_all_1 10 rfl rfl)
theorem dX13_all_37 : decode cX13_all 37 = .ok (.goto (-28), 3) := dk_167 255 228 (dk_at dksX13_all_1 13 rfl rfl)
theorem dX13_all_40 : decode cX13_all 40 = .ok (.lload_n 1, 1) := dk_31 (dk_at dksX13_all_1 16 rfl rfl)
theorem dX13_all_41 : decode cX13_all 41 = .ok (.lreturn, 1) := dk_173 (dk_at dksX13_all_1 17 rfl rfl)
abbrev cX13_row : ByteArray := prog_24_method_80_code
def yX13_row : MethodName := ⟨RX13, "row", "(IIIIII)I"⟩
def dkwX13_row_6 : List UInt8 := [172]
abbrev dktX13_row_6 : List UInt8 := dkwX13_row_6 ++ []
def dkwX13_row_5 : List UInt8 := [17, 0, 143, 21, 7, 96, 92, 46, 4, 96, 79, 42, 180, 0, 13, 17, 0, 143, 21, 7, 96, 46, 4, 100]
abbrev dktX13_row_5 : List UInt8 := dkwX13_row_5 ++ dktX13_row_6
def dkwX13_row_4 : List UInt8 := [21, 7, 104, 42, 180, 0, 13, 17, 0, 143, 21, 7, 96, 46, 96, 27, 182, 1, 67, 42, 180, 0, 13]
abbrev dktX13_row_4 : List UInt8 := dkwX13_row_4 ++ dktX13_row_5
def dkwX13_row_3 : List UInt8 := [153, 0, 19, 42, 180, 0, 13, 17, 0, 143, 21, 7, 96, 46, 16, 40, 160, 0, 5, 2, 172, 42, 16, 40]
abbrev dktX13_row_3 : List UInt8 := dkwX13_row_3 ++ dktX13_row_4
def dkwX13_row_2 : List UInt8 := [21, 8, 153, 0, 39, 21, 7, 16, 6, 162, 0, 32, 27, 2, 159, 0, 11, 42, 27, 182, 0, 240]
abbrev dktX13_row_2 : List UInt8 := dkwX13_row_2 ++ dktX13_row_3
def dkwX13_row_1 : List UInt8 := [21, 4, 21, 5, 21, 6, 156, 0, 7, 2, 167, 0, 8, 21, 6, 16, 10, 112, 182, 1, 52, 54, 8]
abbrev dktX13_row_1 : List UInt8 := dkwX13_row_1 ++ dktX13_row_2
def dkwX13_row_0 : List UInt8 := [42, 3, 181, 0, 58, 21, 6, 156, 0, 7, 2, 167, 0, 8, 21, 6, 16, 10, 108, 54, 7, 42, 28, 29]
abbrev dktX13_row_0 : List UInt8 := dkwX13_row_0 ++ dktX13_row_1
theorem dksX13_row_0 : cX13_row.data.toList.drop 0 = dktX13_row_0 := by decide +kernel
theorem dksX13_row_1 : cX13_row.data.toList.drop 24 = dktX13_row_1 := dk_seg dksX13_row_0 24 rfl rfl
theorem dksX13_row_2 : cX13_row.data.toList.drop 47 = dktX13_row_2 := dk_seg dksX13_row_1 23 rfl rfl
theorem dksX13_row_3 : cX13_row.data.toList.drop 69 = dktX13_row_3 := dk_seg dksX13_row_2 22 rfl rfl
theorem dksX13_row_4 : cX13_row.data.toList.drop 93 = dktX13_row_4 := dk_seg dksX13_row_3 24 rfl rfl
theorem dksX13_row_5 : cX13_row.data.toList.drop 116 = dktX13_row_5 := dk_seg dksX13_row_4 23 rfl rfl
theorem dksX13_row_6 : cX13_row.data.toList.drop 140 = dktX13_row_6 := dk_seg dksX13_row_5 24 rfl rfl
theorem dX13_row_0 : decode cX13_row 0 = .ok (.aload_n 0, 1) := dk_42 (dk_at dksX13_row_0 0 rfl rfl)
theorem dX13_row_1 : decode cX13_row 1 = .ok (.iconst 0, 1) := dk_3 (dk_at dksX13_row_0 1 rfl rfl)
theorem dX13_row_2 : decode cX13_row 2 = .ok (.putfield 58, 3) := dk_181 0 58 (dk_at dksX13_row_0 2 rfl rfl)
theorem dX13_row_5 : decode cX13_row 5 = .ok (.iload 6, 2) := dk_21 6 (dk_at dksX13_row_0 5 rfl rfl)
theorem dX13_row_7 : decode cX13_row 7 = .ok (.ifCond .ge 7, 3) := dk_156 0 7 (dk_at dksX13_row_0 7 rfl rfl)
theorem dX13_row_10 : decode cX13_row 10 = .ok (.iconst (-1), 1) := dk_2 (dk_at dksX13_row_0 10 rfl rfl)
theorem dX13_row_11 : decode cX13_row 11 = .ok (.goto 8, 3) := dk_167 0 8 (dk_at dksX13_row_0 11 rfl rfl)
theorem dX13_row_14 : decode cX13_row 14 = .ok (.iload 6, 2) := dk_21 6 (dk_at dksX13_row_0 14 rfl rfl)
theorem dX13_row_16 : decode cX13_row 16 = .ok (.bipush 10, 2) := dk_16 10 (dk_at dksX13_row_0 16 rfl rfl)
theorem dX13_row_18 : decode cX13_row 18 = .ok (.idiv, 1) := dk_108 (dk_at dksX13_row_0 18 rfl rfl)
theorem dX13_row_19 : decode cX13_row 19 = .ok (.istore 7, 2) := dk_54 7 (dk_at dksX13_row_0 19 rfl rfl)
theorem dX13_row_21 : decode cX13_row 21 = .ok (.aload_n 0, 1) := dk_42 (dk_at dksX13_row_0 21 rfl rfl)
theorem dX13_row_22 : decode cX13_row 22 = .ok (.iload_n 2, 1) := dk_28 (dk_at dksX13_row_0 22 rfl rfl)
theorem dX13_row_23 : decode cX13_row 23 = .ok (.iload_n 3, 1) := dk_29 (dk_at dksX13_row_0 23 rfl rfl)
theorem dX13_row_24 : decode cX13_row 24 = .ok (.iload 4, 2) := dk_21 4 (dk_at dksX13_row_1 0 rfl rfl)
theorem dX13_row_26 : decode cX13_row 26 = .ok (.iload 5, 2) := dk_21 5 (dk_at dksX13_row_1 2 rfl rfl)
theorem dX13_row_28 : decode cX13_row 28 = .ok (.iload 6, 2) := dk_21 6 (dk_at dksX13_row_1 4 rfl rfl)
theorem dX13_row_30 : decode cX13_row 30 = .ok (.ifCond .ge 7, 3) := dk_156 0 7 (dk_at dksX13_row_1 6 rfl rfl)
theorem dX13_row_33 : decode cX13_row 33 = .ok (.iconst (-1), 1) := dk_2 (dk_at dksX13_row_1 9 rfl rfl)
theorem dX13_row_34 : decode cX13_row 34 = .ok (.goto 8, 3) := dk_167 0 8 (dk_at dksX13_row_1 10 rfl rfl)
theorem dX13_row_37 : decode cX13_row 37 = .ok (.iload 6, 2) := dk_21 6 (dk_at dksX13_row_1 13 rfl rfl)
theorem dX13_row_39 : decode cX13_row 39 = .ok (.bipush 10, 2) := dk_16 10 (dk_at dksX13_row_1 15 rfl rfl)
theorem dX13_row_41 : decode cX13_row 41 = .ok (.irem, 1) := dk_112 (dk_at dksX13_row_1 17 rfl rfl)
theorem dX13_row_42 : decode cX13_row 42 = .ok (.invokevirtual 308, 3) := dk_182 1 52 (dk_at dksX13_row_1 18 rfl rfl)
theorem dX13_row_45 : decode cX13_row 45 = .ok (.istore 8, 2) := dk_54 8 (dk_at dksX13_row_1 21 rfl rfl)
theorem dX13_row_47 : decode cX13_row 47 = .ok (.iload 8, 2) := dk_21 8 (dk_at dksX13_row_2 0 rfl rfl)
theorem dX13_row_49 : decode cX13_row 49 = .ok (.ifCond .eq 39, 3) := dk_153 0 39 (dk_at dksX13_row_2 2 rfl rfl)
theorem dX13_row_52 : decode cX13_row 52 = .ok (.iload 7, 2) := dk_21 7 (dk_at dksX13_row_2 5 rfl rfl)
theorem dX13_row_54 : decode cX13_row 54 = .ok (.bipush 6, 2) := dk_16 6 (dk_at dksX13_row_2 7 rfl rfl)
theorem dX13_row_56 : decode cX13_row 56 = .ok (.if_icmp .ge 32, 3) := dk_162 0 32 (dk_at dksX13_row_2 9 rfl rfl)
theorem dX13_row_59 : decode cX13_row 59 = .ok (.iload_n 1, 1) := dk_27 (dk_at dksX13_row_2 12 rfl rfl)
theorem dX13_row_60 : decode cX13_row 60 = .ok (.iconst (-1), 1) := dk_2 (dk_at dksX13_row_2 13 rfl rfl)
theorem dX13_row_61 : decode cX13_row 61 = .ok (.if_icmp .eq 11, 3) := dk_159 0 11 (dk_at dksX13_row_2 14 rfl rfl)
theorem dX13_row_64 : decode cX13_row 64 = .ok (.aload_n 0, 1) := dk_42 (dk_at dksX13_row_2 17 rfl rfl)
theorem dX13_row_65 : decode cX13_row 65 = .ok (.iload_n 1, 1) := dk_27 (dk_at dksX13_row_2 18 rfl rfl)
theorem dX13_row_66 : decode cX13_row 66 = .ok (.invokevirtual 240, 3) := dk_182 0 240 (dk_at dksX13_row_2 19 rfl rfl)
theorem dX13_row_69 : decode cX13_row 69 = .ok (.ifCond .eq 19, 3) := dk_153 0 19 (dk_at dksX13_row_3 0 rfl rfl)
theorem dX13_row_72 : decode cX13_row 72 = .ok (.aload_n 0, 1) := dk_42 (dk_at dksX13_row_3 3 rfl rfl)
theorem dX13_row_73 : decode cX13_row 73 = .ok (.getfield 13, 3) := dk_180 0 13 (dk_at dksX13_row_3 4 rfl rfl)
theorem dX13_row_76 : decode cX13_row 76 = .ok (.sipush 143, 3) := dk_17 0 143 (dk_at dksX13_row_3 7 rfl rfl)
theorem dX13_row_79 : decode cX13_row 79 = .ok (.iload 7, 2) := dk_21 7 (dk_at dksX13_row_3 10 rfl rfl)
theorem dX13_row_81 : decode cX13_row 81 = .ok (.iadd, 1) := dk_96 (dk_at dksX13_row_3 12 rfl rfl)
theorem dX13_row_82 : decode cX13_row 82 = .ok (.iaload, 1) := dk_46 (dk_at dksX13_row_3 13 rfl rfl)
theorem dX13_row_83 : decode cX13_row 83 = .ok (.bipush 40, 2) := dk_16 40 (dk_at dksX13_row_3 14 rfl rfl)
theorem dX13_row_85 : decode cX13_row 85 = .ok (.if_icmp .ne 5, 3) := dk_160 0 5 (dk_at dksX13_row_3 16 rfl rfl)
theorem dX13_row_88 : decode cX13_row 88 = .ok (.iconst (-1), 1) := dk_2 (dk_at dksX13_row_3 19 rfl rfl)
theorem dX13_row_89 : decode cX13_row 89 = .ok (.ireturn, 1) := dk_172 (dk_at dksX13_row_3 20 rfl rfl)
theorem dX13_row_90 : decode cX13_row 90 = .ok (.aload_n 0, 1) := dk_42 (dk_at dksX13_row_3 21 rfl rfl)
theorem dX13_row_91 : decode cX13_row 91 = .ok (.bipush 40, 2) := dk_16 40 (dk_at dksX13_row_3 22 rfl rfl)
theorem dX13_row_93 : decode cX13_row 93 = .ok (.iload 7, 2) := dk_21 7 (dk_at dksX13_row_4 0 rfl rfl)
theorem dX13_row_95 : decode cX13_row 95 = .ok (.imul, 1) := dk_104 (dk_at dksX13_row_4 2 rfl rfl)
theorem dX13_row_96 : decode cX13_row 96 = .ok (.aload_n 0, 1) := dk_42 (dk_at dksX13_row_4 3 rfl rfl)
theorem dX13_row_97 : decode cX13_row 97 = .ok (.getfield 13, 3) := dk_180 0 13 (dk_at dksX13_row_4 4 rfl rfl)
theorem dX13_row_100 : decode cX13_row 100 = .ok (.sipush 143, 3) := dk_17 0 143 (dk_at dksX13_row_4 7 rfl rfl)
theorem dX13_row_103 : decode cX13_row 103 = .ok (.iload 7, 2) := dk_21 7 (dk_at dksX13_row_4 10 rfl rfl)
theorem dX13_row_105 : decode cX13_row 105 = .ok (.iadd, 1) := dk_96 (dk_at dksX13_row_4 12 rfl rfl)
theorem dX13_row_106 : decode cX13_row 106 = .ok (.iaload, 1) := dk_46 (dk_at dksX13_row_4 13 rfl rfl)
theorem dX13_row_107 : decode cX13_row 107 = .ok (.iadd, 1) := dk_96 (dk_at dksX13_row_4 14 rfl rfl)
theorem dX13_row_108 : decode cX13_row 108 = .ok (.iload_n 1, 1) := dk_27 (dk_at dksX13_row_4 15 rfl rfl)
theorem dX13_row_109 : decode cX13_row 109 = .ok (.invokevirtual 323, 3) := dk_182 1 67 (dk_at dksX13_row_4 16 rfl rfl)
theorem dX13_row_112 : decode cX13_row 112 = .ok (.aload_n 0, 1) := dk_42 (dk_at dksX13_row_4 19 rfl rfl)
theorem dX13_row_113 : decode cX13_row 113 = .ok (.getfield 13, 3) := dk_180 0 13 (dk_at dksX13_row_4 20 rfl rfl)
theorem dX13_row_116 : decode cX13_row 116 = .ok (.sipush 143, 3) := dk_17 0 143 (dk_at dksX13_row_5 0 rfl rfl)
theorem dX13_row_119 : decode cX13_row 119 = .ok (.iload 7, 2) := dk_21 7 (dk_at dksX13_row_5 3 rfl rfl)
theorem dX13_row_121 : decode cX13_row 121 = .ok (.iadd, 1) := dk_96 (dk_at dksX13_row_5 5 rfl rfl)
theorem dX13_row_122 : decode cX13_row 122 = .ok (.dup2, 1) := dk_92 (dk_at dksX13_row_5 6 rfl rfl)
theorem dX13_row_123 : decode cX13_row 123 = .ok (.iaload, 1) := dk_46 (dk_at dksX13_row_5 7 rfl rfl)
theorem dX13_row_124 : decode cX13_row 124 = .ok (.iconst 1, 1) := dk_4 (dk_at dksX13_row_5 8 rfl rfl)
theorem dX13_row_125 : decode cX13_row 125 = .ok (.iadd, 1) := dk_96 (dk_at dksX13_row_5 9 rfl rfl)
theorem dX13_row_126 : decode cX13_row 126 = .ok (.iastore, 1) := dk_79 (dk_at dksX13_row_5 10 rfl rfl)
theorem dX13_row_127 : decode cX13_row 127 = .ok (.aload_n 0, 1) := dk_42 (dk_at dksX13_row_5 11 rfl rfl)
theorem dX13_row_128 : decode cX13_row 128 = .ok (.getfield 13, 3) := dk_180 0 13 (dk_at dksX13_row_5 12 rfl rfl)
theorem dX13_row_131 : decode cX13_row 131 = .ok (.sipush 143, 3) := dk_17 0 143 (dk_at dksX13_row_5 15 rfl rfl)
theorem dX13_row_134 : decode cX13_row 134 = .ok (.iload 7, 2) := dk_21 7 (dk_at dksX13_row_5 18 rfl rfl)
theorem dX13_row_136 : decode cX13_row 136 = .ok (.iadd, 1) := dk_96 (dk_at dksX13_row_5 20 rfl rfl)
theorem dX13_row_137 : decode cX13_row 137 = .ok (.iaload, 1) := dk_46 (dk_at dksX13_row_5 21 rfl rfl)
theorem dX13_row_138 : decode cX13_row 138 = .ok (.iconst 1, 1) := dk_4 (dk_at dksX13_row_5 22 rfl rfl)
theorem dX13_row_139 : decode cX13_row 139 = .ok (.isub, 1) := dk_100 (dk_at dksX13_row_5 23 rfl rfl)
theorem dX13_row_140 : decode cX13_row 140 = .ok (.ireturn, 1) := dk_172 (dk_at dksX13_row_6 0 rfl rfl)
abbrev cX13_store : ByteArray := prog_24_method_78_code
def yX13_store : MethodName := ⟨RX13, "store", "(II)V"⟩
def dkwX13_store_6 : List UInt8 := [180, 0, 39, 21, 4, 46, 79, 132, 4, 1, 167, 255, 220, 177]
abbrev dktX13_store_6 : List UInt8 := dkwX13_store_6 ++ []
def dkwX13_store_5 : List UInt8 := [42, 180, 0, 13, 29, 16, 7, 96, 46, 162, 0, 28, 42, 180, 0, 13, 29, 16, 8, 96, 21, 4, 96, 42]
abbrev dktX13_store_5 : List UInt8 := dkwX13_store_5 ++ dktX13_store_6
def dkwX13_store_4 : List UInt8 := [16, 7, 96, 42, 180, 0, 255, 158, 0, 10, 42, 180, 1, 5, 167, 0, 4, 3, 79, 3, 54, 4, 21, 4]
abbrev dktX13_store_4 : List UInt8 := dkwX13_store_4 ++ dktX13_store_5
def dkwX13_store_3 : List UInt8 := [96, 42, 180, 0, 255, 79, 42, 180, 0, 13, 29, 16, 6, 96, 42, 180, 1, 2, 79, 42, 180, 0, 13, 29]
abbrev dktX13_store_3 : List UInt8 := dkwX13_store_3 ++ dktX13_store_4
def dkwX13_store_2 : List UInt8 := [96, 42, 180, 0, 249, 79, 42, 180, 0, 13, 29, 7, 96, 42, 180, 0, 252, 79, 42, 180, 0, 13, 29, 8]
abbrev dktX13_store_2 : List UInt8 := dkwX13_store_2 ++ dktX13_store_3
def dkwX13_store_1 : List UInt8 := [96, 42, 180, 0, 243, 79, 42, 180, 0, 13, 29, 5, 96, 42, 180, 0, 246, 79, 42, 180, 0, 13, 29, 6]
abbrev dktX13_store_1 : List UInt8 := dkwX13_store_1 ++ dktX13_store_2
def dkwX13_store_0 : List UInt8 := [17, 0, 160, 16, 16, 27, 104, 96, 62, 42, 180, 0, 13, 29, 3, 96, 28, 79, 42, 180, 0, 13, 29, 4]
abbrev dktX13_store_0 : List UInt8 := dkwX13_store_0 ++ dktX13_store_1
theorem dksX13_store_0 : cX13_store.data.toList.drop 0 = dktX13_store_0 := by decide +kernel
theorem dksX13_store_1 : cX13_store.data.toList.drop 24 = dktX13_store_1 := dk_seg dksX13_store_0 24 rfl rfl
theorem dksX13_store_2 : cX13_store.data.toList.drop 48 = dktX13_store_2 := dk_seg dksX13_store_1 24 rfl rfl
theorem dksX13_store_3 : cX13_store.data.toList.drop 72 = dktX13_store_3 := dk_seg dksX13_store_2 24 rfl rfl
theorem dksX13_store_4 : cX13_store.data.toList.drop 96 = dktX13_store_4 := dk_seg dksX13_store_3 24 rfl rfl
theorem dksX13_store_5 : cX13_store.data.toList.drop 120 = dktX13_store_5 := dk_seg dksX13_store_4 24 rfl rfl
theorem dksX13_store_6 : cX13_store.data.toList.drop 144 = dktX13_store_6 := dk_seg dksX13_store_5 24 rfl rfl
theorem dX13_store_0 : decode cX13_store 0 = .ok (.sipush 160, 3) := dk_17 0 160 (dk_at dksX13_store_0 0 rfl rfl)
theorem dX13_store_3 : decode cX13_store 3 = .ok (.bipush 16, 2) := dk_16 16 (dk_at dksX13_store_0 3 rfl rfl)
theorem dX13_store_5 : decode cX13_store 5 = .ok (.iload_n 1, 1) := dk_27 (dk_at dksX13_store_0 5 rfl rfl)
theorem dX13_store_6 : decode cX13_store 6 = .ok (.imul, 1) := dk_104 (dk_at dksX13_store_0 6 rfl rfl)
theorem dX13_store_7 : decode cX13_store 7 = .ok (.iadd, 1) := dk_96 (dk_at dksX13_store_0 7 rfl rfl)
theorem dX13_store_8 : decode cX13_store 8 = .ok (.istore_n 3, 1) := dk_62 (dk_at dksX13_store_0 8 rfl rfl)
theorem dX13_store_9 : decode cX13_store 9 = .ok (.aload_n 0, 1) := dk_42 (dk_at dksX13_store_0 9 rfl rfl)
theorem dX13_store_10 : decode cX13_store 10 = .ok (.getfield 13, 3) := dk_180 0 13 (dk_at dksX13_store_0 10 rfl rfl)
theorem dX13_store_13 : decode cX13_store 13 = .ok (.iload_n 3, 1) := dk_29 (dk_at dksX13_store_0 13 rfl rfl)
theorem dX13_store_14 : decode cX13_store 14 = .ok (.iconst 0, 1) := dk_3 (dk_at dksX13_store_0 14 rfl rfl)
theorem dX13_store_15 : decode cX13_store 15 = .ok (.iadd, 1) := dk_96 (dk_at dksX13_store_0 15 rfl rfl)
theorem dX13_store_16 : decode cX13_store 16 = .ok (.iload_n 2, 1) := dk_28 (dk_at dksX13_store_0 16 rfl rfl)
theorem dX13_store_17 : decode cX13_store 17 = .ok (.iastore, 1) := dk_79 (dk_at dksX13_store_0 17 rfl rfl)
theorem dX13_store_18 : decode cX13_store 18 = .ok (.aload_n 0, 1) := dk_42 (dk_at dksX13_store_0 18 rfl rfl)
theorem dX13_store_19 : decode cX13_store 19 = .ok (.getfield 13, 3) := dk_180 0 13 (dk_at dksX13_store_0 19 rfl rfl)
theorem dX13_store_22 : decode cX13_store 22 = .ok (.iload_n 3, 1) := dk_29 (dk_at dksX13_store_0 22 rfl rfl)
theorem dX13_store_23 : decode cX13_store 23 = .ok (.iconst 1, 1) := dk_4 (dk_at dksX13_store_0 23 rfl rfl)
theorem dX13_store_24 : decode cX13_store 24 = .ok (.iadd, 1) := dk_96 (dk_at dksX13_store_1 0 rfl rfl)
theorem dX13_store_25 : decode cX13_store 25 = .ok (.aload_n 0, 1) := dk_42 (dk_at dksX13_store_1 1 rfl rfl)
theorem dX13_store_26 : decode cX13_store 26 = .ok (.getfield 243, 3) := dk_180 0 243 (dk_at dksX13_store_1 2 rfl rfl)
theorem dX13_store_29 : decode cX13_store 29 = .ok (.iastore, 1) := dk_79 (dk_at dksX13_store_1 5 rfl rfl)
theorem dX13_store_30 : decode cX13_store 30 = .ok (.aload_n 0, 1) := dk_42 (dk_at dksX13_store_1 6 rfl rfl)
theorem dX13_store_31 : decode cX13_store 31 = .ok (.getfield 13, 3) := dk_180 0 13 (dk_at dksX13_store_1 7 rfl rfl)
theorem dX13_store_34 : decode cX13_store 34 = .ok (.iload_n 3, 1) := dk_29 (dk_at dksX13_store_1 10 rfl rfl)
theorem dX13_store_35 : decode cX13_store 35 = .ok (.iconst 2, 1) := dk_5 (dk_at dksX13_store_1 11 rfl rfl)
theorem dX13_store_36 : decode cX13_store 36 = .ok (.iadd, 1) := dk_96 (dk_at dksX13_store_1 12 rfl rfl)
theorem dX13_store_37 : decode cX13_store 37 = .ok (.aload_n 0, 1) := dk_42 (dk_at dksX13_store_1 13 rfl rfl)
theorem dX13_store_38 : decode cX13_store 38 = .ok (.getfield 246, 3) := dk_180 0 246 (dk_at dksX13_store_1 14 rfl rfl)
theorem dX13_store_41 : decode cX13_store 41 = .ok (.iastore, 1) := dk_79 (dk_at dksX13_store_1 17 rfl rfl)
theorem dX13_store_42 : decode cX13_store 42 = .ok (.aload_n 0, 1) := dk_42 (dk_at dksX13_store_1 18 rfl rfl)
theorem dX13_store_43 : decode cX13_store 43 = .ok (.getfield 13, 3) := dk_180 0 13 (dk_at dksX13_store_1 19 rfl rfl)
theorem dX13_store_46 : decode cX13_store 46 = .ok (.iload_n 3, 1) := dk_29 (dk_at dksX13_store_1 22 rfl rfl)
theorem dX13_store_47 : decode cX13_store 47 = .ok (.iconst 3, 1) := dk_6 (dk_at dksX13_store_1 23 rfl rfl)
theorem dX13_store_48 : decode cX13_store 48 = .ok (.iadd, 1) := dk_96 (dk_at dksX13_store_2 0 rfl rfl)
theorem dX13_store_49 : decode cX13_store 49 = .ok (.aload_n 0, 1) := dk_42 (dk_at dksX13_store_2 1 rfl rfl)
theorem dX13_store_50 : decode cX13_store 50 = .ok (.getfield 249, 3) := dk_180 0 249 (dk_at dksX13_store_2 2 rfl rfl)
theorem dX13_store_53 : decode cX13_store 53 = .ok (.iastore, 1) := dk_79 (dk_at dksX13_store_2 5 rfl rfl)
theorem dX13_store_54 : decode cX13_store 54 = .ok (.aload_n 0, 1) := dk_42 (dk_at dksX13_store_2 6 rfl rfl)
theorem dX13_store_55 : decode cX13_store 55 = .ok (.getfield 13, 3) := dk_180 0 13 (dk_at dksX13_store_2 7 rfl rfl)
theorem dX13_store_58 : decode cX13_store 58 = .ok (.iload_n 3, 1) := dk_29 (dk_at dksX13_store_2 10 rfl rfl)
theorem dX13_store_59 : decode cX13_store 59 = .ok (.iconst 4, 1) := dk_7 (dk_at dksX13_store_2 11 rfl rfl)
theorem dX13_store_60 : decode cX13_store 60 = .ok (.iadd, 1) := dk_96 (dk_at dksX13_store_2 12 rfl rfl)
theorem dX13_store_61 : decode cX13_store 61 = .ok (.aload_n 0, 1) := dk_42 (dk_at dksX13_store_2 13 rfl rfl)
theorem dX13_store_62 : decode cX13_store 62 = .ok (.getfield 252, 3) := dk_180 0 252 (dk_at dksX13_store_2 14 rfl rfl)
theorem dX13_store_65 : decode cX13_store 65 = .ok (.iastore, 1) := dk_79 (dk_at dksX13_store_2 17 rfl rfl)
theorem dX13_store_66 : decode cX13_store 66 = .ok (.aload_n 0, 1) := dk_42 (dk_at dksX13_store_2 18 rfl rfl)
theorem dX13_store_67 : decode cX13_store 67 = .ok (.getfield 13, 3) := dk_180 0 13 (dk_at dksX13_store_2 19 rfl rfl)
theorem dX13_store_70 : decode cX13_store 70 = .ok (.iload_n 3, 1) := dk_29 (dk_at dksX13_store_2 22 rfl rfl)
theorem dX13_store_71 : decode cX13_store 71 = .ok (.iconst 5, 1) := dk_8 (dk_at dksX13_store_2 23 rfl rfl)
theorem dX13_store_72 : decode cX13_store 72 = .ok (.iadd, 1) := dk_96 (dk_at dksX13_store_3 0 rfl rfl)
theorem dX13_store_73 : decode cX13_store 73 = .ok (.aload_n 0, 1) := dk_42 (dk_at dksX13_store_3 1 rfl rfl)
theorem dX13_store_74 : decode cX13_store 74 = .ok (.getfield 255, 3) := dk_180 0 255 (dk_at dksX13_store_3 2 rfl rfl)
theorem dX13_store_77 : decode cX13_store 77 = .ok (.iastore, 1) := dk_79 (dk_at dksX13_store_3 5 rfl rfl)
theorem dX13_store_78 : decode cX13_store 78 = .ok (.aload_n 0, 1) := dk_42 (dk_at dksX13_store_3 6 rfl rfl)
theorem dX13_store_79 : decode cX13_store 79 = .ok (.getfield 13, 3) := dk_180 0 13 (dk_at dksX13_store_3 7 rfl rfl)
theorem dX13_store_82 : decode cX13_store 82 = .ok (.iload_n 3, 1) := dk_29 (dk_at dksX13_store_3 10 rfl rfl)
theorem dX13_store_83 : decode cX13_store 83 = .ok (.bipush 6, 2) := dk_16 6 (dk_at dksX13_store_3 11 rfl rfl)
theorem dX13_store_85 : decode cX13_store 85 = .ok (.iadd, 1) := dk_96 (dk_at dksX13_store_3 13 rfl rfl)
theorem dX13_store_86 : decode cX13_store 86 = .ok (.aload_n 0, 1) := dk_42 (dk_at dksX13_store_3 14 rfl rfl)
theorem dX13_store_87 : decode cX13_store 87 = .ok (.getfield 258, 3) := dk_180 1 2 (dk_at dksX13_store_3 15 rfl rfl)
theorem dX13_store_90 : decode cX13_store 90 = .ok (.iastore, 1) := dk_79 (dk_at dksX13_store_3 18 rfl rfl)
theorem dX13_store_91 : decode cX13_store 91 = .ok (.aload_n 0, 1) := dk_42 (dk_at dksX13_store_3 19 rfl rfl)
theorem dX13_store_92 : decode cX13_store 92 = .ok (.getfield 13, 3) := dk_180 0 13 (dk_at dksX13_store_3 20 rfl rfl)
theorem dX13_store_95 : decode cX13_store 95 = .ok (.iload_n 3, 1) := dk_29 (dk_at dksX13_store_3 23 rfl rfl)
theorem dX13_store_96 : decode cX13_store 96 = .ok (.bipush 7, 2) := dk_16 7 (dk_at dksX13_store_4 0 rfl rfl)
theorem dX13_store_98 : decode cX13_store 98 = .ok (.iadd, 1) := dk_96 (dk_at dksX13_store_4 2 rfl rfl)
theorem dX13_store_99 : decode cX13_store 99 = .ok (.aload_n 0, 1) := dk_42 (dk_at dksX13_store_4 3 rfl rfl)
theorem dX13_store_100 : decode cX13_store 100 = .ok (.getfield 255, 3) := dk_180 0 255 (dk_at dksX13_store_4 4 rfl rfl)
theorem dX13_store_103 : decode cX13_store 103 = .ok (.ifCond .le 10, 3) := dk_158 0 10 (dk_at dksX13_store_4 7 rfl rfl)
theorem dX13_store_106 : decode cX13_store 106 = .ok (.aload_n 0, 1) := dk_42 (dk_at dksX13_store_4 10 rfl rfl)
theorem dX13_store_107 : decode cX13_store 107 = .ok (.getfield 261, 3) := dk_180 1 5 (dk_at dksX13_store_4 11 rfl rfl)
theorem dX13_store_110 : decode cX13_store 110 = .ok (.goto 4, 3) := dk_167 0 4 (dk_at dksX13_store_4 14 rfl rfl)
theorem dX13_store_113 : decode cX13_store 113 = .ok (.iconst 0, 1) := dk_3 (dk_at dksX13_store_4 17 rfl rfl)
theorem dX13_store_114 : decode cX13_store 114 = .ok (.iastore, 1) := dk_79 (dk_at dksX13_store_4 18 rfl rfl)
theorem dX13_store_115 : decode cX13_store 115 = .ok (.iconst 0, 1) := dk_3 (dk_at dksX13_store_4 19 rfl rfl)
theorem dX13_store_116 : decode cX13_store 116 = .ok (.istore 4, 2) := dk_54 4 (dk_at dksX13_store_4 20 rfl rfl)
theorem dX13_store_118 : decode cX13_store 118 = .ok (.iload 4, 2) := dk_21 4 (dk_at dksX13_store_4 22 rfl rfl)
theorem dX13_store_120 : decode cX13_store 120 = .ok (.aload_n 0, 1) := dk_42 (dk_at dksX13_store_5 0 rfl rfl)
theorem dX13_store_121 : decode cX13_store 121 = .ok (.getfield 13, 3) := dk_180 0 13 (dk_at dksX13_store_5 1 rfl rfl)
theorem dX13_store_124 : decode cX13_store 124 = .ok (.iload_n 3, 1) := dk_29 (dk_at dksX13_store_5 4 rfl rfl)
theorem dX13_store_125 : decode cX13_store 125 = .ok (.bipush 7, 2) := dk_16 7 (dk_at dksX13_store_5 5 rfl rfl)
theorem dX13_store_127 : decode cX13_store 127 = .ok (.iadd, 1) := dk_96 (dk_at dksX13_store_5 7 rfl rfl)
theorem dX13_store_128 : decode cX13_store 128 = .ok (.iaload, 1) := dk_46 (dk_at dksX13_store_5 8 rfl rfl)
theorem dX13_store_129 : decode cX13_store 129 = .ok (.if_icmp .ge 28, 3) := dk_162 0 28 (dk_at dksX13_store_5 9 rfl rfl)
theorem dX13_store_132 : decode cX13_store 132 = .ok (.aload_n 0, 1) := dk_42 (dk_at dksX13_store_5 12 rfl rfl)
theorem dX13_store_133 : decode cX13_store 133 = .ok (.getfield 13, 3) := dk_180 0 13 (dk_at dksX13_store_5 13 rfl rfl)
theorem dX13_store_136 : decode cX13_store 136 = .ok (.iload_n 3, 1) := dk_29 (dk_at dksX13_store_5 16 rfl rfl)
theorem dX13_store_137 : decode cX13_store 137 = .ok (.bipush 8, 2) := dk_16 8 (dk_at dksX13_store_5 17 rfl rfl)
theorem dX13_store_139 : decode cX13_store 139 = .ok (.iadd, 1) := dk_96 (dk_at dksX13_store_5 19 rfl rfl)
theorem dX13_store_140 : decode cX13_store 140 = .ok (.iload 4, 2) := dk_21 4 (dk_at dksX13_store_5 20 rfl rfl)
theorem dX13_store_142 : decode cX13_store 142 = .ok (.iadd, 1) := dk_96 (dk_at dksX13_store_5 22 rfl rfl)
theorem dX13_store_143 : decode cX13_store 143 = .ok (.aload_n 0, 1) := dk_42 (dk_at dksX13_store_5 23 rfl rfl)
theorem dX13_store_144 : decode cX13_store 144 = .ok (.getfield 39, 3) := dk_180 0 39 (dk_at dksX13_store_6 0 rfl rfl)
theorem dX13_store_147 : decode cX13_store 147 = .ok (.iload 4, 2) := dk_21 4 (dk_at dksX13_store_6 3 rfl rfl)
theorem dX13_store_149 : decode cX13_store 149 = .ok (.iaload, 1) := dk_46 (dk_at dksX13_store_6 5 rfl rfl)
theorem dX13_store_150 : decode cX13_store 150 = .ok (.iastore, 1) := dk_79 (dk_at dksX13_store_6 6 rfl rfl)
theorem dX13_store_151 : decode cX13_store 151 = .ok (.iinc 4 1, 3) := dk_132 4 1 (dk_at dksX13_store_6 7 rfl rfl)
theorem dX13_store_154 : decode cX13_store 154 = .ok (.goto (-36), 3) := dk_167 255 220 (dk_at dksX13_store_6 10 rfl rfl)
theorem dX13_store_157 : decode cX13_store 157 = .ok (.return_, 1) := dk_177 (dk_at dksX13_store_6 13 rfl rfl)
abbrev cX13_worlds : ByteArray := prog_24_method_83_code
def yX13_worlds : MethodName := ⟨RX13, "worlds", "(I)I"⟩
def dkwX13_worlds_2 : List UInt8 := [17, 17, 208, 28, 96, 42, 180, 0, 45, 28, 46, 79, 132, 2, 1, 167, 255, 229, 42, 180, 1, 71, 172]
abbrev dktX13_worlds_2 : List UInt8 := dkwX13_worlds_2 ++ []
def dkwX13_worlds_1 : List UInt8 := [17, 0, 155, 42, 180, 1, 71, 79, 3, 61, 28, 42, 180, 1, 71, 162, 0, 25, 42, 180, 0, 13]
abbrev dktX13_worlds_1 : List UInt8 := dkwX13_worlds_1 ++ dktX13_worlds_2
def dkwX13_worlds_0 : List UInt8 := [42, 3, 181, 0, 58, 42, 27, 182, 1, 77, 154, 0, 5, 2, 172, 42, 27, 182, 1, 80, 42, 180, 0, 13]
abbrev dktX13_worlds_0 : List UInt8 := dkwX13_worlds_0 ++ dktX13_worlds_1
theorem dksX13_worlds_0 : cX13_worlds.data.toList.drop 0 = dktX13_worlds_0 := by decide +kernel
theorem dksX13_worlds_1 : cX13_worlds.data.toList.drop 24 = dktX13_worlds_1 := dk_seg dksX13_worlds_0 24 rfl rfl
theorem dksX13_worlds_2 : cX13_worlds.data.toList.drop 46 = dktX13_worlds_2 := dk_seg dksX13_worlds_1 22 rfl rfl
theorem dX13_worlds_0 : decode cX13_worlds 0 = .ok (.aload_n 0, 1) := dk_42 (dk_at dksX13_worlds_0 0 rfl rfl)
theorem dX13_worlds_1 : decode cX13_worlds 1 = .ok (.iconst 0, 1) := dk_3 (dk_at dksX13_worlds_0 1 rfl rfl)
theorem dX13_worlds_2 : decode cX13_worlds 2 = .ok (.putfield 58, 3) := dk_181 0 58 (dk_at dksX13_worlds_0 2 rfl rfl)
theorem dX13_worlds_5 : decode cX13_worlds 5 = .ok (.aload_n 0, 1) := dk_42 (dk_at dksX13_worlds_0 5 rfl rfl)
theorem dX13_worlds_6 : decode cX13_worlds 6 = .ok (.iload_n 1, 1) := dk_27 (dk_at dksX13_worlds_0 6 rfl rfl)
theorem dX13_worlds_7 : decode cX13_worlds 7 = .ok (.invokevirtual 333, 3) := dk_182 1 77 (dk_at dksX13_worlds_0 7 rfl rfl)
theorem dX13_worlds_10 : decode cX13_worlds 10 = .ok (.ifCond .ne 5, 3) := dk_154 0 5 (dk_at dksX13_worlds_0 10 rfl rfl)
theorem dX13_worlds_13 : decode cX13_worlds 13 = .ok (.iconst (-1), 1) := dk_2 (dk_at dksX13_worlds_0 13 rfl rfl)
theorem dX13_worlds_14 : decode cX13_worlds 14 = .ok (.ireturn, 1) := dk_172 (dk_at dksX13_worlds_0 14 rfl rfl)
theorem dX13_worlds_15 : decode cX13_worlds 15 = .ok (.aload_n 0, 1) := dk_42 (dk_at dksX13_worlds_0 15 rfl rfl)
theorem dX13_worlds_16 : decode cX13_worlds 16 = .ok (.iload_n 1, 1) := dk_27 (dk_at dksX13_worlds_0 16 rfl rfl)
theorem dX13_worlds_17 : decode cX13_worlds 17 = .ok (.invokevirtual 336, 3) := dk_182 1 80 (dk_at dksX13_worlds_0 17 rfl rfl)
theorem dX13_worlds_20 : decode cX13_worlds 20 = .ok (.aload_n 0, 1) := dk_42 (dk_at dksX13_worlds_0 20 rfl rfl)
theorem dX13_worlds_21 : decode cX13_worlds 21 = .ok (.getfield 13, 3) := dk_180 0 13 (dk_at dksX13_worlds_0 21 rfl rfl)
theorem dX13_worlds_24 : decode cX13_worlds 24 = .ok (.sipush 155, 3) := dk_17 0 155 (dk_at dksX13_worlds_1 0 rfl rfl)
theorem dX13_worlds_27 : decode cX13_worlds 27 = .ok (.aload_n 0, 1) := dk_42 (dk_at dksX13_worlds_1 3 rfl rfl)
theorem dX13_worlds_28 : decode cX13_worlds 28 = .ok (.getfield 327, 3) := dk_180 1 71 (dk_at dksX13_worlds_1 4 rfl rfl)
theorem dX13_worlds_31 : decode cX13_worlds 31 = .ok (.iastore, 1) := dk_79 (dk_at dksX13_worlds_1 7 rfl rfl)
theorem dX13_worlds_32 : decode cX13_worlds 32 = .ok (.iconst 0, 1) := dk_3 (dk_at dksX13_worlds_1 8 rfl rfl)
theorem dX13_worlds_33 : decode cX13_worlds 33 = .ok (.istore_n 2, 1) := dk_61 (dk_at dksX13_worlds_1 9 rfl rfl)
theorem dX13_worlds_34 : decode cX13_worlds 34 = .ok (.iload_n 2, 1) := dk_28 (dk_at dksX13_worlds_1 10 rfl rfl)
theorem dX13_worlds_35 : decode cX13_worlds 35 = .ok (.aload_n 0, 1) := dk_42 (dk_at dksX13_worlds_1 11 rfl rfl)
theorem dX13_worlds_36 : decode cX13_worlds 36 = .ok (.getfield 327, 3) := dk_180 1 71 (dk_at dksX13_worlds_1 12 rfl rfl)
theorem dX13_worlds_39 : decode cX13_worlds 39 = .ok (.if_icmp .ge 25, 3) := dk_162 0 25 (dk_at dksX13_worlds_1 15 rfl rfl)
theorem dX13_worlds_42 : decode cX13_worlds 42 = .ok (.aload_n 0, 1) := dk_42 (dk_at dksX13_worlds_1 18 rfl rfl)
theorem dX13_worlds_43 : decode cX13_worlds 43 = .ok (.getfield 13, 3) := dk_180 0 13 (dk_at dksX13_worlds_1 19 rfl rfl)
theorem dX13_worlds_46 : decode cX13_worlds 46 = .ok (.sipush 4560, 3) := dk_17 17 208 (dk_at dksX13_worlds_2 0 rfl rfl)
theorem dX13_worlds_49 : decode cX13_worlds 49 = .ok (.iload_n 2, 1) := dk_28 (dk_at dksX13_worlds_2 3 rfl rfl)
theorem dX13_worlds_50 : decode cX13_worlds 50 = .ok (.iadd, 1) := dk_96 (dk_at dksX13_worlds_2 4 rfl rfl)
theorem dX13_worlds_51 : decode cX13_worlds 51 = .ok (.aload_n 0, 1) := dk_42 (dk_at dksX13_worlds_2 5 rfl rfl)
theorem dX13_worlds_52 : decode cX13_worlds 52 = .ok (.getfield 45, 3) := dk_180 0 45 (dk_at dksX13_worlds_2 6 rfl rfl)
theorem dX13_worlds_55 : decode cX13_worlds 55 = .ok (.iload_n 2, 1) := dk_28 (dk_at dksX13_worlds_2 9 rfl rfl)
theorem dX13_worlds_56 : decode cX13_worlds 56 = .ok (.iaload, 1) := dk_46 (dk_at dksX13_worlds_2 10 rfl rfl)
theorem dX13_worlds_57 : decode cX13_worlds 57 = .ok (.iastore, 1) := dk_79 (dk_at dksX13_worlds_2 11 rfl rfl)
theorem dX13_worlds_58 : decode cX13_worlds 58 = .ok (.iinc 2 1, 3) := dk_132 2 1 (dk_at dksX13_worlds_2 12 rfl rfl)
theorem dX13_worlds_61 : decode cX13_worlds 61 = .ok (.goto (-27), 3) := dk_167 255 229 (dk_at dksX13_worlds_2 15 rfl rfl)
theorem dX13_worlds_64 : decode cX13_worlds 64 = .ok (.aload_n 0, 1) := dk_42 (dk_at dksX13_worlds_2 18 rfl rfl)
theorem dX13_worlds_65 : decode cX13_worlds 65 = .ok (.getfield 327, 3) := dk_180 1 71 (dk_at dksX13_worlds_2 19 rfl rfl)
theorem dX13_worlds_68 : decode cX13_worlds 68 = .ok (.ireturn, 1) := dk_172 (dk_at dksX13_worlds_2 22 rfl rfl)
abbrev cX13_isPerson : ByteArray := prog_24_method_81_code
def yX13_isPerson : MethodName := ⟨RX13, "isPerson", "(I)Z"⟩
def dkwX13_isPerson_0 : List UInt8 := [42, 182, 0, 212, 27, 3, 8, 184, 0, 115, 172]
abbrev dktX13_isPerson_0 : List UInt8 := dkwX13_isPerson_0 ++ []
theorem dksX13_isPerson_0 : cX13_isPerson.data.toList.drop 0 = dktX13_isPerson_0 := by decide +kernel
theorem dX13_isPerson_0 : decode cX13_isPerson 0 = .ok (.aload_n 0, 1) := dk_42 (dk_at dksX13_isPerson_0 0 rfl rfl)
theorem dX13_isPerson_1 : decode cX13_isPerson 1 = .ok (.invokevirtual 212, 3) := dk_182 0 212 (dk_at dksX13_isPerson_0 1 rfl rfl)
theorem dX13_isPerson_4 : decode cX13_isPerson 4 = .ok (.iload_n 1, 1) := dk_27 (dk_at dksX13_isPerson_0 4 rfl rfl)
theorem dX13_isPerson_5 : decode cX13_isPerson 5 = .ok (.iconst 0, 1) := dk_3 (dk_at dksX13_isPerson_0 5 rfl rfl)
theorem dX13_isPerson_6 : decode cX13_isPerson 6 = .ok (.iconst 5, 1) := dk_8 (dk_at dksX13_isPerson_0 6 rfl rfl)
theorem dX13_isPerson_7 : decode cX13_isPerson 7 = .ok (.invokestatic 115, 3) := dk_184 0 115 (dk_at dksX13_isPerson_0 7 rfl rfl)
theorem dX13_isPerson_10 : decode cX13_isPerson 10 = .ok (.ireturn, 1) := dk_172 (dk_at dksX13_isPerson_0 10 rfl rfl)
abbrev cX13_layFits : ByteArray := prog_24_method_82_code
def yX13_layFits : MethodName := ⟨RX13, "layFits", "(I)V"⟩
def dkwX13_layFits_6 : List UInt8 := [100, 28, 126, 62, 167, 255, 124, 177]
abbrev dktX13_layFits_6 : List UInt8 := dkwX13_layFits_6 ++ []
def dkwX13_layFits_5 : List UInt8 := [42, 89, 180, 1, 71, 4, 96, 181, 1, 71, 29, 28, 159, 0, 7, 4, 167, 0, 4, 3, 54, 4, 29, 28]
abbrev dktX13_layFits_5 : List UInt8 := dkwX13_layFits_5 ++ dktX13_layFits_6
def dkwX13_layFits_4 : List UInt8 := [3, 54, 5, 132, 6, 1, 167, 255, 181, 21, 5, 153, 0, 23, 42, 180, 0, 45, 42, 180, 1, 71, 29, 79]
abbrev dktX13_layFits_4 : List UInt8 := dkwX13_layFits_4 ++ dktX13_layFits_5
def dkwX13_layFits_3 : List UInt8 := [17, 0, 160, 16, 16, 16, 40, 27, 104, 21, 6, 96, 104, 96, 3, 96, 46, 160, 0, 7, 4, 167, 0, 4]
abbrev dktX13_layFits_3 : List UInt8 := dkwX13_layFits_3 ++ dktX13_layFits_4
def dkwX13_layFits_2 : List UInt8 := [16, 40, 27, 104, 21, 6, 96, 182, 1, 74, 42, 42, 29, 3, 182, 1, 49, 182, 1, 56, 42, 180, 0, 13]
abbrev dktX13_layFits_2 : List UInt8 := dkwX13_layFits_2 ++ dktX13_layFits_3
def dkwX13_layFits_1 : List UInt8 := [3, 54, 6, 21, 6, 42, 180, 0, 13, 17, 0, 143, 27, 96, 46, 162, 0, 66, 21, 5, 153, 0, 61, 42]
abbrev dktX13_layFits_1 : List UInt8 := dkwX13_layFits_1 ++ dktX13_layFits_2
def dkwX13_layFits_0 : List UInt8 := [42, 5, 182, 0, 231, 61, 42, 3, 181, 1, 71, 3, 62, 4, 54, 4, 21, 4, 153, 0, 133, 4, 54, 5]
abbrev dktX13_layFits_0 : List UInt8 := dkwX13_layFits_0 ++ dktX13_layFits_1
theorem dksX13_layFits_0 : cX13_layFits.data.toList.drop 0 = dktX13_layFits_0 := by decide +kernel
theorem dksX13_layFits_1 : cX13_layFits.data.toList.drop 24 = dktX13_layFits_1 := dk_seg dksX13_layFits_0 24 rfl rfl
theorem dksX13_layFits_2 : cX13_layFits.data.toList.drop 48 = dktX13_layFits_2 := dk_seg dksX13_layFits_1 24 rfl rfl
theorem dksX13_layFits_3 : cX13_layFits.data.toList.drop 72 = dktX13_layFits_3 := dk_seg dksX13_layFits_2 24 rfl rfl
theorem dksX13_layFits_4 : cX13_layFits.data.toList.drop 96 = dktX13_layFits_4 := dk_seg dksX13_layFits_3 24 rfl rfl
theorem dksX13_layFits_5 : cX13_layFits.data.toList.drop 120 = dktX13_layFits_5 := dk_seg dksX13_layFits_4 24 rfl rfl
theorem dksX13_layFits_6 : cX13_layFits.data.toList.drop 144 = dktX13_layFits_6 := dk_seg dksX13_layFits_5 24 rfl rfl
theorem dX13_layFits_0 : decode cX13_layFits 0 = .ok (.aload_n 0, 1) := dk_42 (dk_at dksX13_layFits_0 0 rfl rfl)
theorem dX13_layFits_1 : decode cX13_layFits 1 = .ok (.iconst 2, 1) := dk_5 (dk_at dksX13_layFits_0 1 rfl rfl)
theorem dX13_layFits_2 : decode cX13_layFits 2 = .ok (.invokevirtual 231, 3) := dk_182 0 231 (dk_at dksX13_layFits_0 2 rfl rfl)
theorem dX13_layFits_5 : decode cX13_layFits 5 = .ok (.istore_n 2, 1) := dk_61 (dk_at dksX13_layFits_0 5 rfl rfl)
theorem dX13_layFits_6 : decode cX13_layFits 6 = .ok (.aload_n 0, 1) := dk_42 (dk_at dksX13_layFits_0 6 rfl rfl)
theorem dX13_layFits_7 : decode cX13_layFits 7 = .ok (.iconst 0, 1) := dk_3 (dk_at dksX13_layFits_0 7 rfl rfl)
theorem dX13_layFits_8 : decode cX13_layFits 8 = .ok (.putfield 327, 3) := dk_181 1 71 (dk_at dksX13_layFits_0 8 rfl rfl)
theorem dX13_layFits_11 : decode cX13_layFits 11 = .ok (.iconst 0, 1) := dk_3 (dk_at dksX13_layFits_0 11 rfl rfl)
theorem dX13_layFits_12 : decode cX13_layFits 12 = .ok (.istore_n 3, 1) := dk_62 (dk_at dksX13_layFits_0 12 rfl rfl)
theorem dX13_layFits_13 : decode cX13_layFits 13 = .ok (.iconst 1, 1) := dk_4 (dk_at dksX13_layFits_0 13 rfl rfl)
theorem dX13_layFits_14 : decode cX13_layFits 14 = .ok (.istore 4, 2) := dk_54 4 (dk_at dksX13_layFits_0 14 rfl rfl)
theorem dX13_layFits_16 : decode cX13_layFits 16 = .ok (.iload 4, 2) := dk_21 4 (dk_at dksX13_layFits_0 16 rfl rfl)
theorem dX13_layFits_18 : decode cX13_layFits 18 = .ok (.ifCond .eq 133, 3) := dk_153 0 133 (dk_at dksX13_layFits_0 18 rfl rfl)
theorem dX13_layFits_21 : decode cX13_layFits 21 = .ok (.iconst 1, 1) := dk_4 (dk_at dksX13_layFits_0 21 rfl rfl)
theorem dX13_layFits_22 : decode cX13_layFits 22 = .ok (.istore 5, 2) := dk_54 5 (dk_at dksX13_layFits_0 22 rfl rfl)
theorem dX13_layFits_24 : decode cX13_layFits 24 = .ok (.iconst 0, 1) := dk_3 (dk_at dksX13_layFits_1 0 rfl rfl)
theorem dX13_layFits_25 : decode cX13_layFits 25 = .ok (.istore 6, 2) := dk_54 6 (dk_at dksX13_layFits_1 1 rfl rfl)
theorem dX13_layFits_27 : decode cX13_layFits 27 = .ok (.iload 6, 2) := dk_21 6 (dk_at dksX13_layFits_1 3 rfl rfl)
theorem dX13_layFits_29 : decode cX13_layFits 29 = .ok (.aload_n 0, 1) := dk_42 (dk_at dksX13_layFits_1 5 rfl rfl)
theorem dX13_layFits_30 : decode cX13_layFits 30 = .ok (.getfield 13, 3) := dk_180 0 13 (dk_at dksX13_layFits_1 6 rfl rfl)
theorem dX13_layFits_33 : decode cX13_layFits 33 = .ok (.sipush 143, 3) := dk_17 0 143 (dk_at dksX13_layFits_1 9 rfl rfl)
theorem dX13_layFits_36 : decode cX13_layFits 36 = .ok (.iload_n 1, 1) := dk_27 (dk_at dksX13_layFits_1 12 rfl rfl)
theorem dX13_layFits_37 : decode cX13_layFits 37 = .ok (.iadd, 1) := dk_96 (dk_at dksX13_layFits_1 13 rfl rfl)
theorem dX13_layFits_38 : decode cX13_layFits 38 = .ok (.iaload, 1) := dk_46 (dk_at dksX13_layFits_1 14 rfl rfl)
theorem dX13_layFits_39 : decode cX13_layFits 39 = .ok (.if_icmp .ge 66, 3) := dk_162 0 66 (dk_at dksX13_layFits_1 15 rfl rfl)
theorem dX13_layFits_42 : decode cX13_layFits 42 = .ok (.iload 5, 2) := dk_21 5 (dk_at dksX13_layFits_1 18 rfl rfl)
theorem dX13_layFits_44 : decode cX13_layFits 44 = .ok (.ifCond .eq 61, 3) := dk_153 0 61 (dk_at dksX13_layFits_1 20 rfl rfl)
theorem dX13_layFits_47 : decode cX13_layFits 47 = .ok (.aload_n 0, 1) := dk_42 (dk_at dksX13_layFits_1 23 rfl rfl)
theorem dX13_layFits_48 : decode cX13_layFits 48 = .ok (.bipush 40, 2) := dk_16 40 (dk_at dksX13_layFits_2 0 rfl rfl)
theorem dX13_layFits_50 : decode cX13_layFits 50 = .ok (.iload_n 1, 1) := dk_27 (dk_at dksX13_layFits_2 2 rfl rfl)
theorem dX13_layFits_51 : decode cX13_layFits 51 = .ok (.imul, 1) := dk_104 (dk_at dksX13_layFits_2 3 rfl rfl)
theorem dX13_layFits_52 : decode cX13_layFits 52 = .ok (.iload 6, 2) := dk_21 6 (dk_at dksX13_layFits_2 4 rfl rfl)
theorem dX13_layFits_54 : decode cX13_layFits 54 = .ok (.iadd, 1) := dk_96 (dk_at dksX13_layFits_2 6 rfl rfl)
theorem dX13_layFits_55 : decode cX13_layFits 55 = .ok (.invokevirtual 330, 3) := dk_182 1 74 (dk_at dksX13_layFits_2 7 rfl rfl)
theorem dX13_layFits_58 : decode cX13_layFits 58 = .ok (.aload_n 0, 1) := dk_42 (dk_at dksX13_layFits_2 10 rfl rfl)
theorem dX13_layFits_59 : decode cX13_layFits 59 = .ok (.aload_n 0, 1) := dk_42 (dk_at dksX13_layFits_2 11 rfl rfl)
theorem dX13_layFits_60 : decode cX13_layFits 60 = .ok (.iload_n 3, 1) := dk_29 (dk_at dksX13_layFits_2 12 rfl rfl)
theorem dX13_layFits_61 : decode cX13_layFits 61 = .ok (.iconst 0, 1) := dk_3 (dk_at dksX13_layFits_2 13 rfl rfl)
theorem dX13_layFits_62 : decode cX13_layFits 62 = .ok (.invokevirtual 305, 3) := dk_182 1 49 (dk_at dksX13_layFits_2 14 rfl rfl)
theorem dX13_layFits_65 : decode cX13_layFits 65 = .ok (.invokevirtual 312, 3) := dk_182 1 56 (dk_at dksX13_layFits_2 17 rfl rfl)
theorem dX13_layFits_68 : decode cX13_layFits 68 = .ok (.aload_n 0, 1) := dk_42 (dk_at dksX13_layFits_2 20 rfl rfl)
theorem dX13_layFits_69 : decode cX13_layFits 69 = .ok (.getfield 13, 3) := dk_180 0 13 (dk_at dksX13_layFits_2 21 rfl rfl)
theorem dX13_layFits_72 : decode cX13_layFits 72 = .ok (.sipush 160, 3) := dk_17 0 160 (dk_at dksX13_layFits_3 0 rfl rfl)
theorem dX13_layFits_75 : decode cX13_layFits 75 = .ok (.bipush 16, 2) := dk_16 16 (dk_at dksX13_layFits_3 3 rfl rfl)
theorem dX13_layFits_77 : decode cX13_layFits 77 = .ok (.bipush 40, 2) := dk_16 40 (dk_at dksX13_layFits_3 5 rfl rfl)
theorem dX13_layFits_79 : decode cX13_layFits 79 = .ok (.iload_n 1, 1) := dk_27 (dk_at dksX13_layFits_3 7 rfl rfl)
theorem dX13_layFits_80 : decode cX13_layFits 80 = .ok (.imul, 1) := dk_104 (dk_at dksX13_layFits_3 8 rfl rfl)
theorem dX13_layFits_81 : decode cX13_layFits 81 = .ok (.iload 6, 2) := dk_21 6 (dk_at dksX13_layFits_3 9 rfl rfl)
theorem dX13_layFits_83 : decode cX13_layFits 83 = .ok (.iadd, 1) := dk_96 (dk_at dksX13_layFits_3 11 rfl rfl)
theorem dX13_layFits_84 : decode cX13_layFits 84 = .ok (.imul, 1) := dk_104 (dk_at dksX13_layFits_3 12 rfl rfl)
theorem dX13_layFits_85 : decode cX13_layFits 85 = .ok (.iadd, 1) := dk_96 (dk_at dksX13_layFits_3 13 rfl rfl)
theorem dX13_layFits_86 : decode cX13_layFits 86 = .ok (.iconst 0, 1) := dk_3 (dk_at dksX13_layFits_3 14 rfl rfl)
theorem dX13_layFits_87 : decode cX13_layFits 87 = .ok (.iadd, 1) := dk_96 (dk_at dksX13_layFits_3 15 rfl rfl)
theorem dX13_layFits_88 : decode cX13_layFits 88 = .ok (.iaload, 1) := dk_46 (dk_at dksX13_layFits_3 16 rfl rfl)
theorem dX13_layFits_89 : decode cX13_layFits 89 = .ok (.if_icmp .ne 7, 3) := dk_160 0 7 (dk_at dksX13_layFits_3 17 rfl rfl)
theorem dX13_layFits_92 : decode cX13_layFits 92 = .ok (.iconst 1, 1) := dk_4 (dk_at dksX13_layFits_3 20 rfl rfl)
theorem dX13_layFits_93 : decode cX13_layFits 93 = .ok (.goto 4, 3) := dk_167 0 4 (dk_at dksX13_layFits_3 21 rfl rfl)
theorem dX13_layFits_96 : decode cX13_layFits 96 = .ok (.iconst 0, 1) := dk_3 (dk_at dksX13_layFits_4 0 rfl rfl)
theorem dX13_layFits_97 : decode cX13_layFits 97 = .ok (.istore 5, 2) := dk_54 5 (dk_at dksX13_layFits_4 1 rfl rfl)
theorem dX13_layFits_99 : decode cX13_layFits 99 = .ok (.iinc 6 1, 3) := dk_132 6 1 (dk_at dksX13_layFits_4 3 rfl rfl)
theorem dX13_layFits_102 : decode cX13_layFits 102 = .ok (.goto (-75), 3) := dk_167 255 181 (dk_at dksX13_layFits_4 6 rfl rfl)
theorem dX13_layFits_105 : decode cX13_layFits 105 = .ok (.iload 5, 2) := dk_21 5 (dk_at dksX13_layFits_4 9 rfl rfl)
theorem dX13_layFits_107 : decode cX13_layFits 107 = .ok (.ifCond .eq 23, 3) := dk_153 0 23 (dk_at dksX13_layFits_4 11 rfl rfl)
theorem dX13_layFits_110 : decode cX13_layFits 110 = .ok (.aload_n 0, 1) := dk_42 (dk_at dksX13_layFits_4 14 rfl rfl)
theorem dX13_layFits_111 : decode cX13_layFits 111 = .ok (.getfield 45, 3) := dk_180 0 45 (dk_at dksX13_layFits_4 15 rfl rfl)
theorem dX13_layFits_114 : decode cX13_layFits 114 = .ok (.aload_n 0, 1) := dk_42 (dk_at dksX13_layFits_4 18 rfl rfl)
theorem dX13_layFits_115 : decode cX13_layFits 115 = .ok (.getfield 327, 3) := dk_180 1 71 (dk_at dksX13_layFits_4 19 rfl rfl)
theorem dX13_layFits_118 : decode cX13_layFits 118 = .ok (.iload_n 3, 1) := dk_29 (dk_at dksX13_layFits_4 22 rfl rfl)
theorem dX13_layFits_119 : decode cX13_layFits 119 = .ok (.iastore, 1) := dk_79 (dk_at dksX13_layFits_4 23 rfl rfl)
theorem dX13_layFits_120 : decode cX13_layFits 120 = .ok (.aload_n 0, 1) := dk_42 (dk_at dksX13_layFits_5 0 rfl rfl)
theorem dX13_layFits_121 : decode cX13_layFits 121 = .ok (.dup, 1) := dk_89 (dk_at dksX13_layFits_5 1 rfl rfl)
theorem dX13_layFits_122 : decode cX13_layFits 122 = .ok (.getfield 327, 3) := dk_180 1 71 (dk_at dksX13_layFits_5 2 rfl rfl)
theorem dX13_layFits_125 : decode cX13_layFits 125 = .ok (.iconst 1, 1) := dk_4 (dk_at dksX13_layFits_5 5 rfl rfl)
theorem dX13_layFits_126 : decode cX13_layFits 126 = .ok (.iadd, 1) := dk_96 (dk_at dksX13_layFits_5 6 rfl rfl)
theorem dX13_layFits_127 : decode cX13_layFits 127 = .ok (.putfield 327, 3) := dk_181 1 71 (dk_at dksX13_layFits_5 7 rfl rfl)
theorem dX13_layFits_130 : decode cX13_layFits 130 = .ok (.iload_n 3, 1) := dk_29 (dk_at dksX13_layFits_5 10 rfl rfl)
theorem dX13_layFits_131 : decode cX13_layFits 131 = .ok (.iload_n 2, 1) := dk_28 (dk_at dksX13_layFits_5 11 rfl rfl)
theorem dX13_layFits_132 : decode cX13_layFits 132 = .ok (.if_icmp .eq 7, 3) := dk_159 0 7 (dk_at dksX13_layFits_5 12 rfl rfl)
theorem dX13_layFits_135 : decode cX13_layFits 135 = .ok (.iconst 1, 1) := dk_4 (dk_at dksX13_layFits_5 15 rfl rfl)
theorem dX13_layFits_136 : decode cX13_layFits 136 = .ok (.goto 4, 3) := dk_167 0 4 (dk_at dksX13_layFits_5 16 rfl rfl)
theorem dX13_layFits_139 : decode cX13_layFits 139 = .ok (.iconst 0, 1) := dk_3 (dk_at dksX13_layFits_5 19 rfl rfl)
theorem dX13_layFits_140 : decode cX13_layFits 140 = .ok (.istore 4, 2) := dk_54 4 (dk_at dksX13_layFits_5 20 rfl rfl)
theorem dX13_layFits_142 : decode cX13_layFits 142 = .ok (.iload_n 3, 1) := dk_29 (dk_at dksX13_layFits_5 22 rfl rfl)
theorem dX13_layFits_143 : decode cX13_layFits 143 = .ok (.iload_n 2, 1) := dk_28 (dk_at dksX13_layFits_5 23 rfl rfl)
theorem dX13_layFits_144 : decode cX13_layFits 144 = .ok (.isub, 1) := dk_100 (dk_at dksX13_layFits_6 0 rfl rfl)
theorem dX13_layFits_145 : decode cX13_layFits 145 = .ok (.iload_n 2, 1) := dk_28 (dk_at dksX13_layFits_6 1 rfl rfl)
theorem dX13_layFits_146 : decode cX13_layFits 146 = .ok (.iand, 1) := dk_126 (dk_at dksX13_layFits_6 2 rfl rfl)
theorem dX13_layFits_147 : decode cX13_layFits 147 = .ok (.istore_n 3, 1) := dk_62 (dk_at dksX13_layFits_6 3 rfl rfl)
theorem dX13_layFits_148 : decode cX13_layFits 148 = .ok (.goto (-132), 3) := dk_167 255 124 (dk_at dksX13_layFits_6 4 rfl rfl)
theorem dX13_layFits_151 : decode cX13_layFits 151 = .ok (.return_, 1) := dk_177 (dk_at dksX13_layFits_6 7 rfl rfl)
abbrev cX13_recall : ByteArray := prog_24_method_79_code
def yX13_recall : MethodName := ⟨RX13, "recall", "(I)V"⟩
def dkwX13_recall_5 : List UInt8 := [96, 46, 79, 132, 3, 1, 167, 255, 228, 177]
abbrev dktX13_recall_5 : List UInt8 := dkwX13_recall_5 ++ []
def dkwX13_recall_4 : List UInt8 := [3, 62, 29, 42, 180, 1, 5, 162, 0, 26, 42, 180, 0, 39, 29, 42, 180, 0, 13, 28, 16, 8, 96, 29]
abbrev dktX13_recall_4 : List UInt8 := dkwX13_recall_4 ++ dktX13_recall_5
def dkwX13_recall_3 : List UInt8 := [180, 0, 13, 28, 16, 6, 96, 46, 181, 1, 2, 42, 42, 180, 0, 13, 28, 16, 7, 96, 46, 181, 1, 5]
abbrev dktX13_recall_3 : List UInt8 := dkwX13_recall_3 ++ dktX13_recall_4
def dkwX13_recall_2 : List UInt8 := [180, 0, 13, 28, 7, 96, 46, 181, 0, 252, 42, 42, 180, 0, 13, 28, 8, 96, 46, 181, 0, 255, 42, 42]
abbrev dktX13_recall_2 : List UInt8 := dkwX13_recall_2 ++ dktX13_recall_3
def dkwX13_recall_1 : List UInt8 := [180, 0, 13, 28, 5, 96, 46, 181, 0, 246, 42, 42, 180, 0, 13, 28, 6, 96, 46, 181, 0, 249, 42, 42]
abbrev dktX13_recall_1 : List UInt8 := dkwX13_recall_1 ++ dktX13_recall_2
def dkwX13_recall_0 : List UInt8 := [17, 0, 160, 16, 16, 27, 104, 96, 61, 42, 42, 180, 0, 13, 28, 4, 96, 46, 181, 0, 243, 42, 42]
abbrev dktX13_recall_0 : List UInt8 := dkwX13_recall_0 ++ dktX13_recall_1
theorem dksX13_recall_0 : cX13_recall.data.toList.drop 0 = dktX13_recall_0 := by decide +kernel
theorem dksX13_recall_1 : cX13_recall.data.toList.drop 23 = dktX13_recall_1 := dk_seg dksX13_recall_0 23 rfl rfl
theorem dksX13_recall_2 : cX13_recall.data.toList.drop 47 = dktX13_recall_2 := dk_seg dksX13_recall_1 24 rfl rfl
theorem dksX13_recall_3 : cX13_recall.data.toList.drop 71 = dktX13_recall_3 := dk_seg dksX13_recall_2 24 rfl rfl
theorem dksX13_recall_4 : cX13_recall.data.toList.drop 95 = dktX13_recall_4 := dk_seg dksX13_recall_3 24 rfl rfl
theorem dksX13_recall_5 : cX13_recall.data.toList.drop 119 = dktX13_recall_5 := dk_seg dksX13_recall_4 24 rfl rfl
theorem dX13_recall_0 : decode cX13_recall 0 = .ok (.sipush 160, 3) := dk_17 0 160 (dk_at dksX13_recall_0 0 rfl rfl)
theorem dX13_recall_3 : decode cX13_recall 3 = .ok (.bipush 16, 2) := dk_16 16 (dk_at dksX13_recall_0 3 rfl rfl)
theorem dX13_recall_5 : decode cX13_recall 5 = .ok (.iload_n 1, 1) := dk_27 (dk_at dksX13_recall_0 5 rfl rfl)
theorem dX13_recall_6 : decode cX13_recall 6 = .ok (.imul, 1) := dk_104 (dk_at dksX13_recall_0 6 rfl rfl)
theorem dX13_recall_7 : decode cX13_recall 7 = .ok (.iadd, 1) := dk_96 (dk_at dksX13_recall_0 7 rfl rfl)
theorem dX13_recall_8 : decode cX13_recall 8 = .ok (.istore_n 2, 1) := dk_61 (dk_at dksX13_recall_0 8 rfl rfl)
theorem dX13_recall_9 : decode cX13_recall 9 = .ok (.aload_n 0, 1) := dk_42 (dk_at dksX13_recall_0 9 rfl rfl)
theorem dX13_recall_10 : decode cX13_recall 10 = .ok (.aload_n 0, 1) := dk_42 (dk_at dksX13_recall_0 10 rfl rfl)
theorem dX13_recall_11 : decode cX13_recall 11 = .ok (.getfield 13, 3) := dk_180 0 13 (dk_at dksX13_recall_0 11 rfl rfl)
theorem dX13_recall_14 : decode cX13_recall 14 = .ok (.iload_n 2, 1) := dk_28 (dk_at dksX13_recall_0 14 rfl rfl)
theorem dX13_recall_15 : decode cX13_recall 15 = .ok (.iconst 1, 1) := dk_4 (dk_at dksX13_recall_0 15 rfl rfl)
theorem dX13_recall_16 : decode cX13_recall 16 = .ok (.iadd, 1) := dk_96 (dk_at dksX13_recall_0 16 rfl rfl)
theorem dX13_recall_17 : decode cX13_recall 17 = .ok (.iaload, 1) := dk_46 (dk_at dksX13_recall_0 17 rfl rfl)
theorem dX13_recall_18 : decode cX13_recall 18 = .ok (.putfield 243, 3) := dk_181 0 243 (dk_at dksX13_recall_0 18 rfl rfl)
theorem dX13_recall_21 : decode cX13_recall 21 = .ok (.aload_n 0, 1) := dk_42 (dk_at dksX13_recall_0 21 rfl rfl)
theorem dX13_recall_22 : decode cX13_recall 22 = .ok (.aload_n 0, 1) := dk_42 (dk_at dksX13_recall_0 22 rfl rfl)
theorem dX13_recall_23 : decode cX13_recall 23 = .ok (.getfield 13, 3) := dk_180 0 13 (dk_at dksX13_recall_1 0 rfl rfl)
theorem dX13_recall_26 : decode cX13_recall 26 = .ok (.iload_n 2, 1) := dk_28 (dk_at dksX13_recall_1 3 rfl rfl)
theorem dX13_recall_27 : decode cX13_recall 27 = .ok (.iconst 2, 1) := dk_5 (dk_at dksX13_recall_1 4 rfl rfl)
theorem dX13_recall_28 : decode cX13_recall 28 = .ok (.iadd, 1) := dk_96 (dk_at dksX13_recall_1 5 rfl rfl)
theorem dX13_recall_29 : decode cX13_recall 29 = .ok (.iaload, 1) := dk_46 (dk_at dksX13_recall_1 6 rfl rfl)
theorem dX13_recall_30 : decode cX13_recall 30 = .ok (.putfield 246, 3) := dk_181 0 246 (dk_at dksX13_recall_1 7 rfl rfl)
theorem dX13_recall_33 : decode cX13_recall 33 = .ok (.aload_n 0, 1) := dk_42 (dk_at dksX13_recall_1 10 rfl rfl)
theorem dX13_recall_34 : decode cX13_recall 34 = .ok (.aload_n 0, 1) := dk_42 (dk_at dksX13_recall_1 11 rfl rfl)
theorem dX13_recall_35 : decode cX13_recall 35 = .ok (.getfield 13, 3) := dk_180 0 13 (dk_at dksX13_recall_1 12 rfl rfl)
theorem dX13_recall_38 : decode cX13_recall 38 = .ok (.iload_n 2, 1) := dk_28 (dk_at dksX13_recall_1 15 rfl rfl)
theorem dX13_recall_39 : decode cX13_recall 39 = .ok (.iconst 3, 1) := dk_6 (dk_at dksX13_recall_1 16 rfl rfl)
theorem dX13_recall_40 : decode cX13_recall 40 = .ok (.iadd, 1) := dk_96 (dk_at dksX13_recall_1 17 rfl rfl)
theorem dX13_recall_41 : decode cX13_recall 41 = .ok (.iaload, 1) := dk_46 (dk_at dksX13_recall_1 18 rfl rfl)
theorem dX13_recall_42 : decode cX13_recall 42 = .ok (.putfield 249, 3) := dk_181 0 249 (dk_at dksX13_recall_1 19 rfl rfl)
theorem dX13_recall_45 : decode cX13_recall 45 = .ok (.aload_n 0, 1) := dk_42 (dk_at dksX13_recall_1 22 rfl rfl)
theorem dX13_recall_46 : decode cX13_recall 46 = .ok (.aload_n 0, 1) := dk_42 (dk_at dksX13_recall_1 23 rfl rfl)
theorem dX13_recall_47 : decode cX13_recall 47 = .ok (.getfield 13, 3) := dk_180 0 13 (dk_at dksX13_recall_2 0 rfl rfl)
theorem dX13_recall_50 : decode cX13_recall 50 = .ok (.iload_n 2, 1) := dk_28 (dk_at dksX13_recall_2 3 rfl rfl)
theorem dX13_recall_51 : decode cX13_recall 51 = .ok (.iconst 4, 1) := dk_7 (dk_at dksX13_recall_2 4 rfl rfl)
theorem dX13_recall_52 : decode cX13_recall 52 = .ok (.iadd, 1) := dk_96 (dk_at dksX13_recall_2 5 rfl rfl)
theorem dX13_recall_53 : decode cX13_recall 53 = .ok (.iaload, 1) := dk_46 (dk_at dksX13_recall_2 6 rfl rfl)
theorem dX13_recall_54 : decode cX13_recall 54 = .ok (.putfield 252, 3) := dk_181 0 252 (dk_at dksX13_recall_2 7 rfl rfl)
theorem dX13_recall_57 : decode cX13_recall 57 = .ok (.aload_n 0, 1) := dk_42 (dk_at dksX13_recall_2 10 rfl rfl)
theorem dX13_recall_58 : decode cX13_recall 58 = .ok (.aload_n 0, 1) := dk_42 (dk_at dksX13_recall_2 11 rfl rfl)
theorem dX13_recall_59 : decode cX13_recall 59 = .ok (.getfield 13, 3) := dk_180 0 13 (dk_at dksX13_recall_2 12 rfl rfl)
theorem dX13_recall_62 : decode cX13_recall 62 = .ok (.iload_n 2, 1) := dk_28 (dk_at dksX13_recall_2 15 rfl rfl)
theorem dX13_recall_63 : decode cX13_recall 63 = .ok (.iconst 5, 1) := dk_8 (dk_at dksX13_recall_2 16 rfl rfl)
theorem dX13_recall_64 : decode cX13_recall 64 = .ok (.iadd, 1) := dk_96 (dk_at dksX13_recall_2 17 rfl rfl)
theorem dX13_recall_65 : decode cX13_recall 65 = .ok (.iaload, 1) := dk_46 (dk_at dksX13_recall_2 18 rfl rfl)
theorem dX13_recall_66 : decode cX13_recall 66 = .ok (.putfield 255, 3) := dk_181 0 255 (dk_at dksX13_recall_2 19 rfl rfl)
theorem dX13_recall_69 : decode cX13_recall 69 = .ok (.aload_n 0, 1) := dk_42 (dk_at dksX13_recall_2 22 rfl rfl)
theorem dX13_recall_70 : decode cX13_recall 70 = .ok (.aload_n 0, 1) := dk_42 (dk_at dksX13_recall_2 23 rfl rfl)
theorem dX13_recall_71 : decode cX13_recall 71 = .ok (.getfield 13, 3) := dk_180 0 13 (dk_at dksX13_recall_3 0 rfl rfl)
theorem dX13_recall_74 : decode cX13_recall 74 = .ok (.iload_n 2, 1) := dk_28 (dk_at dksX13_recall_3 3 rfl rfl)
theorem dX13_recall_75 : decode cX13_recall 75 = .ok (.bipush 6, 2) := dk_16 6 (dk_at dksX13_recall_3 4 rfl rfl)
theorem dX13_recall_77 : decode cX13_recall 77 = .ok (.iadd, 1) := dk_96 (dk_at dksX13_recall_3 6 rfl rfl)
theorem dX13_recall_78 : decode cX13_recall 78 = .ok (.iaload, 1) := dk_46 (dk_at dksX13_recall_3 7 rfl rfl)
theorem dX13_recall_79 : decode cX13_recall 79 = .ok (.putfield 258, 3) := dk_181 1 2 (dk_at dksX13_recall_3 8 rfl rfl)
theorem dX13_recall_82 : decode cX13_recall 82 = .ok (.aload_n 0, 1) := dk_42 (dk_at dksX13_recall_3 11 rfl rfl)
theorem dX13_recall_83 : decode cX13_recall 83 = .ok (.aload_n 0, 1) := dk_42 (dk_at dksX13_recall_3 12 rfl rfl)
theorem dX13_recall_84 : decode cX13_recall 84 = .ok (.getfield 13, 3) := dk_180 0 13 (dk_at dksX13_recall_3 13 rfl rfl)
theorem dX13_recall_87 : decode cX13_recall 87 = .ok (.iload_n 2, 1) := dk_28 (dk_at dksX13_recall_3 16 rfl rfl)
theorem dX13_recall_88 : decode cX13_recall 88 = .ok (.bipush 7, 2) := dk_16 7 (dk_at dksX13_recall_3 17 rfl rfl)
theorem dX13_recall_90 : decode cX13_recall 90 = .ok (.iadd, 1) := dk_96 (dk_at dksX13_recall_3 19 rfl rfl)
theorem dX13_recall_91 : decode cX13_recall 91 = .ok (.iaload, 1) := dk_46 (dk_at dksX13_recall_3 20 rfl rfl)
theorem dX13_recall_92 : decode cX13_recall 92 = .ok (.putfield 261, 3) := dk_181 1 5 (dk_at dksX13_recall_3 21 rfl rfl)
theorem dX13_recall_95 : decode cX13_recall 95 = .ok (.iconst 0, 1) := dk_3 (dk_at dksX13_recall_4 0 rfl rfl)
theorem dX13_recall_96 : decode cX13_recall 96 = .ok (.istore_n 3, 1) := dk_62 (dk_at dksX13_recall_4 1 rfl rfl)
theorem dX13_recall_97 : decode cX13_recall 97 = .ok (.iload_n 3, 1) := dk_29 (dk_at dksX13_recall_4 2 rfl rfl)
theorem dX13_recall_98 : decode cX13_recall 98 = .ok (.aload_n 0, 1) := dk_42 (dk_at dksX13_recall_4 3 rfl rfl)
theorem dX13_recall_99 : decode cX13_recall 99 = .ok (.getfield 261, 3) := dk_180 1 5 (dk_at dksX13_recall_4 4 rfl rfl)
theorem dX13_recall_102 : decode cX13_recall 102 = .ok (.if_icmp .ge 26, 3) := dk_162 0 26 (dk_at dksX13_recall_4 7 rfl rfl)
theorem dX13_recall_105 : decode cX13_recall 105 = .ok (.aload_n 0, 1) := dk_42 (dk_at dksX13_recall_4 10 rfl rfl)
theorem dX13_recall_106 : decode cX13_recall 106 = .ok (.getfield 39, 3) := dk_180 0 39 (dk_at dksX13_recall_4 11 rfl rfl)
theorem dX13_recall_109 : decode cX13_recall 109 = .ok (.iload_n 3, 1) := dk_29 (dk_at dksX13_recall_4 14 rfl rfl)
theorem dX13_recall_110 : decode cX13_recall 110 = .ok (.aload_n 0, 1) := dk_42 (dk_at dksX13_recall_4 15 rfl rfl)
theorem dX13_recall_111 : decode cX13_recall 111 = .ok (.getfield 13, 3) := dk_180 0 13 (dk_at dksX13_recall_4 16 rfl rfl)
theorem dX13_recall_114 : decode cX13_recall 114 = .ok (.iload_n 2, 1) := dk_28 (dk_at dksX13_recall_4 19 rfl rfl)
theorem dX13_recall_115 : decode cX13_recall 115 = .ok (.bipush 8, 2) := dk_16 8 (dk_at dksX13_recall_4 20 rfl rfl)
theorem dX13_recall_117 : decode cX13_recall 117 = .ok (.iadd, 1) := dk_96 (dk_at dksX13_recall_4 22 rfl rfl)
theorem dX13_recall_118 : decode cX13_recall 118 = .ok (.iload_n 3, 1) := dk_29 (dk_at dksX13_recall_4 23 rfl rfl)
theorem dX13_recall_119 : decode cX13_recall 119 = .ok (.iadd, 1) := dk_96 (dk_at dksX13_recall_5 0 rfl rfl)
theorem dX13_recall_120 : decode cX13_recall 120 = .ok (.iaload, 1) := dk_46 (dk_at dksX13_recall_5 1 rfl rfl)
theorem dX13_recall_121 : decode cX13_recall 121 = .ok (.iastore, 1) := dk_79 (dk_at dksX13_recall_5 2 rfl rfl)
theorem dX13_recall_122 : decode cX13_recall 122 = .ok (.iinc 3 1, 3) := dk_132 3 1 (dk_at dksX13_recall_5 3 rfl rfl)
theorem dX13_recall_125 : decode cX13_recall 125 = .ok (.goto (-28), 3) := dk_167 255 228 (dk_at dksX13_recall_5 6 rfl rfl)
theorem dX13_recall_128 : decode cX13_recall 128 = .ok (.return_, 1) := dk_177 (dk_at dksX13_recall_5 9 rfl rfl)
abbrev cX13_worldAt : ByteArray := prog_24_method_84_code
def yX13_worldAt : MethodName := ⟨RX13, "worldAt", "(I)I"⟩
def dkwX13_worldAt_1 : List UInt8 := [162, 0, 16, 42, 180, 0, 13, 17, 17, 208, 27, 96, 46, 167, 0, 4, 2, 172]
abbrev dktX13_worldAt_1 : List UInt8 := dkwX13_worldAt_1 ++ []
def dkwX13_worldAt_0 : List UInt8 := [42, 3, 181, 0, 58, 42, 182, 0, 212, 27, 155, 0, 28, 27, 42, 180, 0, 13, 17, 0, 155, 46]
abbrev dktX13_worldAt_0 : List UInt8 := dkwX13_worldAt_0 ++ dktX13_worldAt_1
theorem dksX13_worldAt_0 : cX13_worldAt.data.toList.drop 0 = dktX13_worldAt_0 := by decide +kernel
theorem dksX13_worldAt_1 : cX13_worldAt.data.toList.drop 22 = dktX13_worldAt_1 := dk_seg dksX13_worldAt_0 22 rfl rfl
theorem dX13_worldAt_0 : decode cX13_worldAt 0 = .ok (.aload_n 0, 1) := dk_42 (dk_at dksX13_worldAt_0 0 rfl rfl)
theorem dX13_worldAt_1 : decode cX13_worldAt 1 = .ok (.iconst 0, 1) := dk_3 (dk_at dksX13_worldAt_0 1 rfl rfl)
theorem dX13_worldAt_2 : decode cX13_worldAt 2 = .ok (.putfield 58, 3) := dk_181 0 58 (dk_at dksX13_worldAt_0 2 rfl rfl)
theorem dX13_worldAt_5 : decode cX13_worldAt 5 = .ok (.aload_n 0, 1) := dk_42 (dk_at dksX13_worldAt_0 5 rfl rfl)
theorem dX13_worldAt_6 : decode cX13_worldAt 6 = .ok (.invokevirtual 212, 3) := dk_182 0 212 (dk_at dksX13_worldAt_0 6 rfl rfl)
theorem dX13_worldAt_9 : decode cX13_worldAt 9 = .ok (.iload_n 1, 1) := dk_27 (dk_at dksX13_worldAt_0 9 rfl rfl)
theorem dX13_worldAt_10 : decode cX13_worldAt 10 = .ok (.ifCond .lt 28, 3) := dk_155 0 28 (dk_at dksX13_worldAt_0 10 rfl rfl)
theorem dX13_worldAt_13 : decode cX13_worldAt 13 = .ok (.iload_n 1, 1) := dk_27 (dk_at dksX13_worldAt_0 13 rfl rfl)
theorem dX13_worldAt_14 : decode cX13_worldAt 14 = .ok (.aload_n 0, 1) := dk_42 (dk_at dksX13_worldAt_0 14 rfl rfl)
theorem dX13_worldAt_15 : decode cX13_worldAt 15 = .ok (.getfield 13, 3) := dk_180 0 13 (dk_at dksX13_worldAt_0 15 rfl rfl)
theorem dX13_worldAt_18 : decode cX13_worldAt 18 = .ok (.sipush 155, 3) := dk_17 0 155 (dk_at dksX13_worldAt_0 18 rfl rfl)
theorem dX13_worldAt_21 : decode cX13_worldAt 21 = .ok (.iaload, 1) := dk_46 (dk_at dksX13_worldAt_0 21 rfl rfl)
theorem dX13_worldAt_22 : decode cX13_worldAt 22 = .ok (.if_icmp .ge 16, 3) := dk_162 0 16 (dk_at dksX13_worldAt_1 0 rfl rfl)
theorem dX13_worldAt_25 : decode cX13_worldAt 25 = .ok (.aload_n 0, 1) := dk_42 (dk_at dksX13_worldAt_1 3 rfl rfl)
theorem dX13_worldAt_26 : decode cX13_worldAt 26 = .ok (.getfield 13, 3) := dk_180 0 13 (dk_at dksX13_worldAt_1 4 rfl rfl)
theorem dX13_worldAt_29 : decode cX13_worldAt 29 = .ok (.sipush 4560, 3) := dk_17 17 208 (dk_at dksX13_worldAt_1 7 rfl rfl)
theorem dX13_worldAt_32 : decode cX13_worldAt 32 = .ok (.iload_n 1, 1) := dk_27 (dk_at dksX13_worldAt_1 10 rfl rfl)
theorem dX13_worldAt_33 : decode cX13_worldAt 33 = .ok (.iadd, 1) := dk_96 (dk_at dksX13_worldAt_1 11 rfl rfl)
theorem dX13_worldAt_34 : decode cX13_worldAt 34 = .ok (.iaload, 1) := dk_46 (dk_at dksX13_worldAt_1 12 rfl rfl)
theorem dX13_worldAt_35 : decode cX13_worldAt 35 = .ok (.goto 4, 3) := dk_167 0 4 (dk_at dksX13_worldAt_1 13 rfl rfl)
theorem dX13_worldAt_38 : decode cX13_worldAt 38 = .ok (.iconst (-1), 1) := dk_2 (dk_at dksX13_worldAt_1 16 rfl rfl)
theorem dX13_worldAt_39 : decode cX13_worldAt 39 = .ok (.ireturn, 1) := dk_172 (dk_at dksX13_worldAt_1 17 rfl rfl)
abbrev cX13_sure : ByteArray := prog_24_method_86_code
def yX13_sure : MethodName := ⟨RX13, "sure", "(II)I"⟩
def dkwX13_sure_1 : List UInt8 := [161, 0, 5, 2, 172, 42, 27, 182, 1, 80, 42, 28, 182, 1, 83, 172]
abbrev dktX13_sure_1 : List UInt8 := dkwX13_sure_1 ++ []
def dkwX13_sure_0 : List UInt8 := [42, 3, 181, 0, 58, 42, 27, 182, 1, 77, 153, 0, 15, 28, 155, 0, 11, 28, 42, 182, 0, 224]
abbrev dktX13_sure_0 : List UInt8 := dkwX13_sure_0 ++ dktX13_sure_1
theorem dksX13_sure_0 : cX13_sure.data.toList.drop 0 = dktX13_sure_0 := by decide +kernel
theorem dksX13_sure_1 : cX13_sure.data.toList.drop 22 = dktX13_sure_1 := dk_seg dksX13_sure_0 22 rfl rfl
theorem dX13_sure_0 : decode cX13_sure 0 = .ok (.aload_n 0, 1) := dk_42 (dk_at dksX13_sure_0 0 rfl rfl)
theorem dX13_sure_1 : decode cX13_sure 1 = .ok (.iconst 0, 1) := dk_3 (dk_at dksX13_sure_0 1 rfl rfl)
theorem dX13_sure_2 : decode cX13_sure 2 = .ok (.putfield 58, 3) := dk_181 0 58 (dk_at dksX13_sure_0 2 rfl rfl)
theorem dX13_sure_5 : decode cX13_sure 5 = .ok (.aload_n 0, 1) := dk_42 (dk_at dksX13_sure_0 5 rfl rfl)
theorem dX13_sure_6 : decode cX13_sure 6 = .ok (.iload_n 1, 1) := dk_27 (dk_at dksX13_sure_0 6 rfl rfl)
theorem dX13_sure_7 : decode cX13_sure 7 = .ok (.invokevirtual 333, 3) := dk_182 1 77 (dk_at dksX13_sure_0 7 rfl rfl)
theorem dX13_sure_10 : decode cX13_sure 10 = .ok (.ifCond .eq 15, 3) := dk_153 0 15 (dk_at dksX13_sure_0 10 rfl rfl)
theorem dX13_sure_13 : decode cX13_sure 13 = .ok (.iload_n 2, 1) := dk_28 (dk_at dksX13_sure_0 13 rfl rfl)
theorem dX13_sure_14 : decode cX13_sure 14 = .ok (.ifCond .lt 11, 3) := dk_155 0 11 (dk_at dksX13_sure_0 14 rfl rfl)
theorem dX13_sure_17 : decode cX13_sure 17 = .ok (.iload_n 2, 1) := dk_28 (dk_at dksX13_sure_0 17 rfl rfl)
theorem dX13_sure_18 : decode cX13_sure 18 = .ok (.aload_n 0, 1) := dk_42 (dk_at dksX13_sure_0 18 rfl rfl)
theorem dX13_sure_19 : decode cX13_sure 19 = .ok (.invokevirtual 224, 3) := dk_182 0 224 (dk_at dksX13_sure_0 19 rfl rfl)
theorem dX13_sure_22 : decode cX13_sure 22 = .ok (.if_icmp .lt 5, 3) := dk_161 0 5 (dk_at dksX13_sure_1 0 rfl rfl)
theorem dX13_sure_25 : decode cX13_sure 25 = .ok (.iconst (-1), 1) := dk_2 (dk_at dksX13_sure_1 3 rfl rfl)
theorem dX13_sure_26 : decode cX13_sure 26 = .ok (.ireturn, 1) := dk_172 (dk_at dksX13_sure_1 4 rfl rfl)
theorem dX13_sure_27 : decode cX13_sure 27 = .ok (.aload_n 0, 1) := dk_42 (dk_at dksX13_sure_1 5 rfl rfl)
theorem dX13_sure_28 : decode cX13_sure 28 = .ok (.iload_n 1, 1) := dk_27 (dk_at dksX13_sure_1 6 rfl rfl)
theorem dX13_sure_29 : decode cX13_sure 29 = .ok (.invokevirtual 336, 3) := dk_182 1 80 (dk_at dksX13_sure_1 7 rfl rfl)
theorem dX13_sure_32 : decode cX13_sure 32 = .ok (.aload_n 0, 1) := dk_42 (dk_at dksX13_sure_1 10 rfl rfl)
theorem dX13_sure_33 : decode cX13_sure 33 = .ok (.iload_n 2, 1) := dk_28 (dk_at dksX13_sure_1 11 rfl rfl)
theorem dX13_sure_34 : decode cX13_sure 34 = .ok (.invokevirtual 339, 3) := dk_182 1 83 (dk_at dksX13_sure_1 12 rfl rfl)
theorem dX13_sure_37 : decode cX13_sure 37 = .ok (.ireturn, 1) := dk_172 (dk_at dksX13_sure_1 15 rfl rfl)
abbrev cX13_sureOf : ByteArray := prog_24_method_85_code
def yX13_sureOf : MethodName := ⟨RX13, "sureOf", "(I)I"⟩
def dkwX13_sureOf_3 : List UInt8 := [172]
abbrev dktX13_sureOf_3 : List UInt8 := dkwX13_sureOf_3 ++ []
def dkwX13_sureOf_2 : List UInt8 := [167, 255, 232, 28, 42, 180, 1, 71, 160, 0, 7, 4, 167, 0, 12, 28, 154, 0, 7, 3, 167, 0, 4, 5]
abbrev dktX13_sureOf_2 : List UInt8 := dkwX13_sureOf_2 ++ dktX13_sureOf_3
def dkwX13_sureOf_1 : List UInt8 := [29, 42, 180, 1, 71, 162, 0, 22, 28, 42, 180, 0, 45, 29, 46, 27, 122, 4, 126, 96, 61, 132, 3, 1]
abbrev dktX13_sureOf_1 : List UInt8 := dkwX13_sureOf_1 ++ dktX13_sureOf_2
def dkwX13_sureOf_0 : List UInt8 := [42, 27, 16, 6, 182, 0, 227, 5, 160, 0, 10, 42, 180, 1, 71, 154, 0, 5, 2, 172, 3, 61, 3, 62]
abbrev dktX13_sureOf_0 : List UInt8 := dkwX13_sureOf_0 ++ dktX13_sureOf_1
theorem dksX13_sureOf_0 : cX13_sureOf.data.toList.drop 0 = dktX13_sureOf_0 := by decide +kernel
theorem dksX13_sureOf_1 : cX13_sureOf.data.toList.drop 24 = dktX13_sureOf_1 := dk_seg dksX13_sureOf_0 24 rfl rfl
theorem dksX13_sureOf_2 : cX13_sureOf.data.toList.drop 48 = dktX13_sureOf_2 := dk_seg dksX13_sureOf_1 24 rfl rfl
theorem dksX13_sureOf_3 : cX13_sureOf.data.toList.drop 72 = dktX13_sureOf_3 := dk_seg dksX13_sureOf_2 24 rfl rfl
theorem dX13_sureOf_0 : decode cX13_sureOf 0 = .ok (.aload_n 0, 1) := dk_42 (dk_at dksX13_sureOf_0 0 rfl rfl)
theorem dX13_sureOf_1 : decode cX13_sureOf 1 = .ok (.iload_n 1, 1) := dk_27 (dk_at dksX13_sureOf_0 1 rfl rfl)
theorem dX13_sureOf_2 : decode cX13_sureOf 2 = .ok (.bipush 6, 2) := dk_16 6 (dk_at dksX13_sureOf_0 2 rfl rfl)
theorem dX13_sureOf_4 : decode cX13_sureOf 4 = .ok (.invokevirtual 227, 3) := dk_182 0 227 (dk_at dksX13_sureOf_0 4 rfl rfl)
theorem dX13_sureOf_7 : decode cX13_sureOf 7 = .ok (.iconst 2, 1) := dk_5 (dk_at dksX13_sureOf_0 7 rfl rfl)
theorem dX13_sureOf_8 : decode cX13_sureOf 8 = .ok (.if_icmp .ne 10, 3) := dk_160 0 10 (dk_at dksX13_sureOf_0 8 rfl rfl)
theorem dX13_sureOf_11 : decode cX13_sureOf 11 = .ok (.aload_n 0, 1) := dk_42 (dk_at dksX13_sureOf_0 11 rfl rfl)
theorem dX13_sureOf_12 : decode cX13_sureOf 12 = .ok (.getfield 327, 3) := dk_180 1 71 (dk_at dksX13_sureOf_0 12 rfl rfl)
theorem dX13_sureOf_15 : decode cX13_sureOf 15 = .ok (.ifCond .ne 5, 3) := dk_154 0 5 (dk_at dksX13_sureOf_0 15 rfl rfl)
theorem dX13_sureOf_18 : decode cX13_sureOf 18 = .ok (.iconst (-1), 1) := dk_2 (dk_at dksX13_sureOf_0 18 rfl rfl)
theorem dX13_sureOf_19 : decode cX13_sureOf 19 = .ok (.ireturn, 1) := dk_172 (dk_at dksX13_sureOf_0 19 rfl rfl)
theorem dX13_sureOf_20 : decode cX13_sureOf 20 = .ok (.iconst 0, 1) := dk_3 (dk_at dksX13_sureOf_0 20 rfl rfl)
theorem dX13_sureOf_21 : decode cX13_sureOf 21 = .ok (.istore_n 2, 1) := dk_61 (dk_at dksX13_sureOf_0 21 rfl rfl)
theorem dX13_sureOf_22 : decode cX13_sureOf 22 = .ok (.iconst 0, 1) := dk_3 (dk_at dksX13_sureOf_0 22 rfl rfl)
theorem dX13_sureOf_23 : decode cX13_sureOf 23 = .ok (.istore_n 3, 1) := dk_62 (dk_at dksX13_sureOf_0 23 rfl rfl)
theorem dX13_sureOf_24 : decode cX13_sureOf 24 = .ok (.iload_n 3, 1) := dk_29 (dk_at dksX13_sureOf_1 0 rfl rfl)
theorem dX13_sureOf_25 : decode cX13_sureOf 25 = .ok (.aload_n 0, 1) := dk_42 (dk_at dksX13_sureOf_1 1 rfl rfl)
theorem dX13_sureOf_26 : decode cX13_sureOf 26 = .ok (.getfield 327, 3) := dk_180 1 71 (dk_at dksX13_sureOf_1 2 rfl rfl)
theorem dX13_sureOf_29 : decode cX13_sureOf 29 = .ok (.if_icmp .ge 22, 3) := dk_162 0 22 (dk_at dksX13_sureOf_1 5 rfl rfl)
theorem dX13_sureOf_32 : decode cX13_sureOf 32 = .ok (.iload_n 2, 1) := dk_28 (dk_at dksX13_sureOf_1 8 rfl rfl)
theorem dX13_sureOf_33 : decode cX13_sureOf 33 = .ok (.aload_n 0, 1) := dk_42 (dk_at dksX13_sureOf_1 9 rfl rfl)
theorem dX13_sureOf_34 : decode cX13_sureOf 34 = .ok (.getfield 45, 3) := dk_180 0 45 (dk_at dksX13_sureOf_1 10 rfl rfl)
theorem dX13_sureOf_37 : decode cX13_sureOf 37 = .ok (.iload_n 3, 1) := dk_29 (dk_at dksX13_sureOf_1 13 rfl rfl)
theorem dX13_sureOf_38 : decode cX13_sureOf 38 = .ok (.iaload, 1) := dk_46 (dk_at dksX13_sureOf_1 14 rfl rfl)
theorem dX13_sureOf_39 : decode cX13_sureOf 39 = .ok (.iload_n 1, 1) := dk_27 (dk_at dksX13_sureOf_1 15 rfl rfl)
theorem dX13_sureOf_40 : decode cX13_sureOf 40 = .ok (.ishr, 1) := dk_122 (dk_at dksX13_sureOf_1 16 rfl rfl)
theorem dX13_sureOf_41 : decode cX13_sureOf 41 = .ok (.iconst 1, 1) := dk_4 (dk_at dksX13_sureOf_1 17 rfl rfl)
theorem dX13_sureOf_42 : decode cX13_sureOf 42 = .ok (.iand, 1) := dk_126 (dk_at dksX13_sureOf_1 18 rfl rfl)
theorem dX13_sureOf_43 : decode cX13_sureOf 43 = .ok (.iadd, 1) := dk_96 (dk_at dksX13_sureOf_1 19 rfl rfl)
theorem dX13_sureOf_44 : decode cX13_sureOf 44 = .ok (.istore_n 2, 1) := dk_61 (dk_at dksX13_sureOf_1 20 rfl rfl)
theorem dX13_sureOf_45 : decode cX13_sureOf 45 = .ok (.iinc 3 1, 3) := dk_132 3 1 (dk_at dksX13_sureOf_1 21 rfl rfl)
theorem dX13_sureOf_48 : decode cX13_sureOf 48 = .ok (.goto (-24), 3) := dk_167 255 232 (dk_at dksX13_sureOf_2 0 rfl rfl)
theorem dX13_sureOf_51 : decode cX13_sureOf 51 = .ok (.iload_n 2, 1) := dk_28 (dk_at dksX13_sureOf_2 3 rfl rfl)
theorem dX13_sureOf_52 : decode cX13_sureOf 52 = .ok (.aload_n 0, 1) := dk_42 (dk_at dksX13_sureOf_2 4 rfl rfl)
theorem dX13_sureOf_53 : decode cX13_sureOf 53 = .ok (.getfield 327, 3) := dk_180 1 71 (dk_at dksX13_sureOf_2 5 rfl rfl)
theorem dX13_sureOf_56 : decode cX13_sureOf 56 = .ok (.if_icmp .ne 7, 3) := dk_160 0 7 (dk_at dksX13_sureOf_2 8 rfl rfl)
theorem dX13_sureOf_59 : decode cX13_sureOf 59 = .ok (.iconst 1, 1) := dk_4 (dk_at dksX13_sureOf_2 11 rfl rfl)
theorem dX13_sureOf_60 : decode cX13_sureOf 60 = .ok (.goto 12, 3) := dk_167 0 12 (dk_at dksX13_sureOf_2 12 rfl rfl)
theorem dX13_sureOf_63 : decode cX13_sureOf 63 = .ok (.iload_n 2, 1) := dk_28 (dk_at dksX13_sureOf_2 15 rfl rfl)
theorem dX13_sureOf_64 : decode cX13_sureOf 64 = .ok (.ifCond .ne 7, 3) := dk_154 0 7 (dk_at dksX13_sureOf_2 16 rfl rfl)
theorem dX13_sureOf_67 : decode cX13_sureOf 67 = .ok (.iconst 0, 1) := dk_3 (dk_at dksX13_sureOf_2 19 rfl rfl)
theorem dX13_sureOf_68 : decode cX13_sureOf 68 = .ok (.goto 4, 3) := dk_167 0 4 (dk_at dksX13_sureOf_2 20 rfl rfl)
theorem dX13_sureOf_71 : decode cX13_sureOf 71 = .ok (.iconst 2, 1) := dk_5 (dk_at dksX13_sureOf_2 23 rfl rfl)
theorem dX13_sureOf_72 : decode cX13_sureOf 72 = .ok (.ireturn, 1) := dk_172 (dk_at dksX13_sureOf_3 0 rfl rfl)
abbrev cX13_probe : ByteArray := prog_24_method_87_code
def yX13_probe : MethodName := ⟨RX13, "probe", "(IIIII)I"⟩
def dkwX13_probe_3 : List UInt8 := [180, 0, 13, 17, 0, 142, 46, 4, 100, 172]
abbrev dktX13_probe_3 : List UInt8 := dkwX13_probe_3 ++ []
def dkwX13_probe_2 : List UInt8 := [17, 0, 142, 46, 96, 2, 182, 1, 67, 42, 180, 0, 13, 17, 0, 142, 92, 46, 4, 96, 79, 42]
abbrev dktX13_probe_2 : List UInt8 := dkwX13_probe_2 ++ dktX13_probe_3
def dkwX13_probe_1 : List UInt8 := [180, 0, 13, 17, 0, 142, 46, 16, 16, 160, 0, 5, 2, 172, 42, 17, 0, 240, 42, 180, 0, 13]
abbrev dktX13_probe_1 : List UInt8 := dkwX13_probe_1 ++ dktX13_probe_2
def dkwX13_probe_0 : List UInt8 := [42, 3, 181, 0, 58, 42, 27, 28, 29, 21, 4, 21, 5, 182, 1, 52, 54, 6, 21, 6, 153, 0, 16, 42]
abbrev dktX13_probe_0 : List UInt8 := dkwX13_probe_0 ++ dktX13_probe_1
theorem dksX13_probe_0 : cX13_probe.data.toList.drop 0 = dktX13_probe_0 := by decide +kernel
theorem dksX13_probe_1 : cX13_probe.data.toList.drop 24 = dktX13_probe_1 := dk_seg dksX13_probe_0 24 rfl rfl
theorem dksX13_probe_2 : cX13_probe.data.toList.drop 46 = dktX13_probe_2 := dk_seg dksX13_probe_1 22 rfl rfl
theorem dksX13_probe_3 : cX13_probe.data.toList.drop 68 = dktX13_probe_3 := dk_seg dksX13_probe_2 22 rfl rfl
theorem dX13_probe_0 : decode cX13_probe 0 = .ok (.aload_n 0, 1) := dk_42 (dk_at dksX13_probe_0 0 rfl rfl)
theorem dX13_probe_1 : decode cX13_probe 1 = .ok (.iconst 0, 1) := dk_3 (dk_at dksX13_probe_0 1 rfl rfl)
theorem dX13_probe_2 : decode cX13_probe 2 = .ok (.putfield 58, 3) := dk_181 0 58 (dk_at dksX13_probe_0 2 rfl rfl)
theorem dX13_probe_5 : decode cX13_probe 5 = .ok (.aload_n 0, 1) := dk_42 (dk_at dksX13_probe_0 5 rfl rfl)
theorem dX13_probe_6 : decode cX13_probe 6 = .ok (.iload_n 1, 1) := dk_27 (dk_at dksX13_probe_0 6 rfl rfl)
theorem dX13_probe_7 : decode cX13_probe 7 = .ok (.iload_n 2, 1) := dk_28 (dk_at dksX13_probe_0 7 rfl rfl)
theorem dX13_probe_8 : decode cX13_probe 8 = .ok (.iload_n 3, 1) := dk_29 (dk_at dksX13_probe_0 8 rfl rfl)
theorem dX13_probe_9 : decode cX13_probe 9 = .ok (.iload 4, 2) := dk_21 4 (dk_at dksX13_probe_0 9 rfl rfl)
theorem dX13_probe_11 : decode cX13_probe 11 = .ok (.iload 5, 2) := dk_21 5 (dk_at dksX13_probe_0 11 rfl rfl)
theorem dX13_probe_13 : decode cX13_probe 13 = .ok (.invokevirtual 308, 3) := dk_182 1 52 (dk_at dksX13_probe_0 13 rfl rfl)
theorem dX13_probe_16 : decode cX13_probe 16 = .ok (.istore 6, 2) := dk_54 6 (dk_at dksX13_probe_0 16 rfl rfl)
theorem dX13_probe_18 : decode cX13_probe 18 = .ok (.iload 6, 2) := dk_21 6 (dk_at dksX13_probe_0 18 rfl rfl)
theorem dX13_probe_20 : decode cX13_probe 20 = .ok (.ifCond .eq 16, 3) := dk_153 0 16 (dk_at dksX13_probe_0 20 rfl rfl)
theorem dX13_probe_23 : decode cX13_probe 23 = .ok (.aload_n 0, 1) := dk_42 (dk_at dksX13_probe_0 23 rfl rfl)
theorem dX13_probe_24 : decode cX13_probe 24 = .ok (.getfield 13, 3) := dk_180 0 13 (dk_at dksX13_probe_1 0 rfl rfl)
theorem dX13_probe_27 : decode cX13_probe 27 = .ok (.sipush 142, 3) := dk_17 0 142 (dk_at dksX13_probe_1 3 rfl rfl)
theorem dX13_probe_30 : decode cX13_probe 30 = .ok (.iaload, 1) := dk_46 (dk_at dksX13_probe_1 6 rfl rfl)
theorem dX13_probe_31 : decode cX13_probe 31 = .ok (.bipush 16, 2) := dk_16 16 (dk_at dksX13_probe_1 7 rfl rfl)
theorem dX13_probe_33 : decode cX13_probe 33 = .ok (.if_icmp .ne 5, 3) := dk_160 0 5 (dk_at dksX13_probe_1 9 rfl rfl)
theorem dX13_probe_36 : decode cX13_probe 36 = .ok (.iconst (-1), 1) := dk_2 (dk_at dksX13_probe_1 12 rfl rfl)
theorem dX13_probe_37 : decode cX13_probe 37 = .ok (.ireturn, 1) := dk_172 (dk_at dksX13_probe_1 13 rfl rfl)
theorem dX13_probe_38 : decode cX13_probe 38 = .ok (.aload_n 0, 1) := dk_42 (dk_at dksX13_probe_1 14 rfl rfl)
theorem dX13_probe_39 : decode cX13_probe 39 = .ok (.sipush 240, 3) := dk_17 0 240 (dk_at dksX13_probe_1 15 rfl rfl)
theorem dX13_probe_42 : decode cX13_probe 42 = .ok (.aload_n 0, 1) := dk_42 (dk_at dksX13_probe_1 18 rfl rfl)
theorem dX13_probe_43 : decode cX13_probe 43 = .ok (.getfield 13, 3) := dk_180 0 13 (dk_at dksX13_probe_1 19 rfl rfl)
theorem dX13_probe_46 : decode cX13_probe 46 = .ok (.sipush 142, 3) := dk_17 0 142 (dk_at dksX13_probe_2 0 rfl rfl)
theorem dX13_probe_49 : decode cX13_probe 49 = .ok (.iaload, 1) := dk_46 (dk_at dksX13_probe_2 3 rfl rfl)
theorem dX13_probe_50 : decode cX13_probe 50 = .ok (.iadd, 1) := dk_96 (dk_at dksX13_probe_2 4 rfl rfl)
theorem dX13_probe_51 : decode cX13_probe 51 = .ok (.iconst (-1), 1) := dk_2 (dk_at dksX13_probe_2 5 rfl rfl)
theorem dX13_probe_52 : decode cX13_probe 52 = .ok (.invokevirtual 323, 3) := dk_182 1 67 (dk_at dksX13_probe_2 6 rfl rfl)
theorem dX13_probe_55 : decode cX13_probe 55 = .ok (.aload_n 0, 1) := dk_42 (dk_at dksX13_probe_2 9 rfl rfl)
theorem dX13_probe_56 : decode cX13_probe 56 = .ok (.getfield 13, 3) := dk_180 0 13 (dk_at dksX13_probe_2 10 rfl rfl)
theorem dX13_probe_59 : decode cX13_probe 59 = .ok (.sipush 142, 3) := dk_17 0 142 (dk_at dksX13_probe_2 13 rfl rfl)
theorem dX13_probe_62 : decode cX13_probe 62 = .ok (.dup2, 1) := dk_92 (dk_at dksX13_probe_2 16 rfl rfl)
theorem dX13_probe_63 : decode cX13_probe 63 = .ok (.iaload, 1) := dk_46 (dk_at dksX13_probe_2 17 rfl rfl)
theorem dX13_probe_64 : decode cX13_probe 64 = .ok (.iconst 1, 1) := dk_4 (dk_at dksX13_probe_2 18 rfl rfl)
theorem dX13_probe_65 : decode cX13_probe 65 = .ok (.iadd, 1) := dk_96 (dk_at dksX13_probe_2 19 rfl rfl)
theorem dX13_probe_66 : decode cX13_probe 66 = .ok (.iastore, 1) := dk_79 (dk_at dksX13_probe_2 20 rfl rfl)
theorem dX13_probe_67 : decode cX13_probe 67 = .ok (.aload_n 0, 1) := dk_42 (dk_at dksX13_probe_2 21 rfl rfl)
theorem dX13_probe_68 : decode cX13_probe 68 = .ok (.getfield 13, 3) := dk_180 0 13 (dk_at dksX13_probe_3 0 rfl rfl)
theorem dX13_probe_71 : decode cX13_probe 71 = .ok (.sipush 142, 3) := dk_17 0 142 (dk_at dksX13_probe_3 3 rfl rfl)
theorem dX13_probe_74 : decode cX13_probe 74 = .ok (.iaload, 1) := dk_46 (dk_at dksX13_probe_3 6 rfl rfl)
theorem dX13_probe_75 : decode cX13_probe 75 = .ok (.iconst 1, 1) := dk_4 (dk_at dksX13_probe_3 7 rfl rfl)
theorem dX13_probe_76 : decode cX13_probe 76 = .ok (.isub, 1) := dk_100 (dk_at dksX13_probe_3 8 rfl rfl)
theorem dX13_probe_77 : decode cX13_probe 77 = .ok (.ireturn, 1) := dk_172 (dk_at dksX13_probe_3 9 rfl rfl)
abbrev cX13_parts : ByteArray := prog_24_method_90_code
def yX13_parts : MethodName := ⟨RX13, "parts", "(II)I"⟩
def dkwX13_parts_1 : List UInt8 := [17, 0, 142, 46, 161, 0, 5, 2, 172, 42, 27, 182, 1, 80, 42, 28, 182, 1, 89, 172]
abbrev dktX13_parts_1 : List UInt8 := dkwX13_parts_1 ++ []
def dkwX13_parts_0 : List UInt8 := [42, 3, 181, 0, 58, 42, 27, 182, 1, 77, 153, 0, 19, 28, 155, 0, 15, 28, 42, 180, 0, 13]
abbrev dktX13_parts_0 : List UInt8 := dkwX13_parts_0 ++ dktX13_parts_1
theorem dksX13_parts_0 : cX13_parts.data.toList.drop 0 = dktX13_parts_0 := by decide +kernel
theorem dksX13_parts_1 : cX13_parts.data.toList.drop 22 = dktX13_parts_1 := dk_seg dksX13_parts_0 22 rfl rfl
theorem dX13_parts_0 : decode cX13_parts 0 = .ok (.aload_n 0, 1) := dk_42 (dk_at dksX13_parts_0 0 rfl rfl)
theorem dX13_parts_1 : decode cX13_parts 1 = .ok (.iconst 0, 1) := dk_3 (dk_at dksX13_parts_0 1 rfl rfl)
theorem dX13_parts_2 : decode cX13_parts 2 = .ok (.putfield 58, 3) := dk_181 0 58 (dk_at dksX13_parts_0 2 rfl rfl)
theorem dX13_parts_5 : decode cX13_parts 5 = .ok (.aload_n 0, 1) := dk_42 (dk_at dksX13_parts_0 5 rfl rfl)
theorem dX13_parts_6 : decode cX13_parts 6 = .ok (.iload_n 1, 1) := dk_27 (dk_at dksX13_parts_0 6 rfl rfl)
theorem dX13_parts_7 : decode cX13_parts 7 = .ok (.invokevirtual 333, 3) := dk_182 1 77 (dk_at dksX13_parts_0 7 rfl rfl)
theorem dX13_parts_10 : decode cX13_parts 10 = .ok (.ifCond .eq 19, 3) := dk_153 0 19 (dk_at dksX13_parts_0 10 rfl rfl)
theorem dX13_parts_13 : decode cX13_parts 13 = .ok (.iload_n 2, 1) := dk_28 (dk_at dksX13_parts_0 13 rfl rfl)
theorem dX13_parts_14 : decode cX13_parts 14 = .ok (.ifCond .lt 15, 3) := dk_155 0 15 (dk_at dksX13_parts_0 14 rfl rfl)
theorem dX13_parts_17 : decode cX13_parts 17 = .ok (.iload_n 2, 1) := dk_28 (dk_at dksX13_parts_0 17 rfl rfl)
theorem dX13_parts_18 : decode cX13_parts 18 = .ok (.aload_n 0, 1) := dk_42 (dk_at dksX13_parts_0 18 rfl rfl)
theorem dX13_parts_19 : decode cX13_parts 19 = .ok (.getfield 13, 3) := dk_180 0 13 (dk_at dksX13_parts_0 19 rfl rfl)
theorem dX13_parts_22 : decode cX13_parts 22 = .ok (.sipush 142, 3) := dk_17 0 142 (dk_at dksX13_parts_1 0 rfl rfl)
theorem dX13_parts_25 : decode cX13_parts 25 = .ok (.iaload, 1) := dk_46 (dk_at dksX13_parts_1 3 rfl rfl)
theorem dX13_parts_26 : decode cX13_parts 26 = .ok (.if_icmp .lt 5, 3) := dk_161 0 5 (dk_at dksX13_parts_1 4 rfl rfl)
theorem dX13_parts_29 : decode cX13_parts 29 = .ok (.iconst (-1), 1) := dk_2 (dk_at dksX13_parts_1 7 rfl rfl)
theorem dX13_parts_30 : decode cX13_parts 30 = .ok (.ireturn, 1) := dk_172 (dk_at dksX13_parts_1 8 rfl rfl)
theorem dX13_parts_31 : decode cX13_parts 31 = .ok (.aload_n 0, 1) := dk_42 (dk_at dksX13_parts_1 9 rfl rfl)
theorem dX13_parts_32 : decode cX13_parts 32 = .ok (.iload_n 1, 1) := dk_27 (dk_at dksX13_parts_1 10 rfl rfl)
theorem dX13_parts_33 : decode cX13_parts 33 = .ok (.invokevirtual 336, 3) := dk_182 1 80 (dk_at dksX13_parts_1 11 rfl rfl)
theorem dX13_parts_36 : decode cX13_parts 36 = .ok (.aload_n 0, 1) := dk_42 (dk_at dksX13_parts_1 14 rfl rfl)
theorem dX13_parts_37 : decode cX13_parts 37 = .ok (.iload_n 2, 1) := dk_28 (dk_at dksX13_parts_1 15 rfl rfl)
theorem dX13_parts_38 : decode cX13_parts 38 = .ok (.invokevirtual 345, 3) := dk_182 1 89 (dk_at dksX13_parts_1 16 rfl rfl)
theorem dX13_parts_41 : decode cX13_parts 41 = .ok (.ireturn, 1) := dk_172 (dk_at dksX13_parts_1 19 rfl rfl)
abbrev cX13_partsOf : ByteArray := prog_24_method_89_code
def yX13_partsOf : MethodName := ⟨RX13, "partsOf", "(I)I"⟩
def dkwX13_partsOf_3 : List UInt8 := [167, 255, 195, 28, 172]
abbrev dktX13_partsOf_3 : List UInt8 := dkwX13_partsOf_3 ++ []
def dkwX13_partsOf_2 : List UInt8 := [160, 0, 6, 132, 4, 1, 132, 5, 1, 167, 255, 224, 21, 4, 28, 164, 0, 6, 21, 4, 61, 132, 3, 1]
abbrev dktX13_partsOf_2 : List UInt8 := dkwX13_partsOf_2 ++ dktX13_partsOf_3
def dkwX13_partsOf_1 : List UInt8 := [21, 5, 42, 180, 1, 71, 162, 0, 29, 42, 180, 0, 48, 17, 1, 0, 27, 104, 21, 5, 96, 46, 29]
abbrev dktX13_partsOf_1 : List UInt8 := dkwX13_partsOf_1 ++ dktX13_partsOf_2
def dkwX13_partsOf_0 : List UInt8 := [42, 27, 182, 1, 86, 3, 61, 2, 62, 29, 42, 182, 0, 237, 162, 0, 59, 3, 54, 4, 3, 54, 5]
abbrev dktX13_partsOf_0 : List UInt8 := dkwX13_partsOf_0 ++ dktX13_partsOf_1
theorem dksX13_partsOf_0 : cX13_partsOf.data.toList.drop 0 = dktX13_partsOf_0 := by decide +kernel
theorem dksX13_partsOf_1 : cX13_partsOf.data.toList.drop 23 = dktX13_partsOf_1 := dk_seg dksX13_partsOf_0 23 rfl rfl
theorem dksX13_partsOf_2 : cX13_partsOf.data.toList.drop 46 = dktX13_partsOf_2 := dk_seg dksX13_partsOf_1 23 rfl rfl
theorem dksX13_partsOf_3 : cX13_partsOf.data.toList.drop 70 = dktX13_partsOf_3 := dk_seg dksX13_partsOf_2 24 rfl rfl
theorem dX13_partsOf_0 : decode cX13_partsOf 0 = .ok (.aload_n 0, 1) := dk_42 (dk_at dksX13_partsOf_0 0 rfl rfl)
theorem dX13_partsOf_1 : decode cX13_partsOf 1 = .ok (.iload_n 1, 1) := dk_27 (dk_at dksX13_partsOf_0 1 rfl rfl)
theorem dX13_partsOf_2 : decode cX13_partsOf 2 = .ok (.invokevirtual 342, 3) := dk_182 1 86 (dk_at dksX13_partsOf_0 2 rfl rfl)
theorem dX13_partsOf_5 : decode cX13_partsOf 5 = .ok (.iconst 0, 1) := dk_3 (dk_at dksX13_partsOf_0 5 rfl rfl)
theorem dX13_partsOf_6 : decode cX13_partsOf 6 = .ok (.istore_n 2, 1) := dk_61 (dk_at dksX13_partsOf_0 6 rfl rfl)
theorem dX13_partsOf_7 : decode cX13_partsOf 7 = .ok (.iconst (-1), 1) := dk_2 (dk_at dksX13_partsOf_0 7 rfl rfl)
theorem dX13_partsOf_8 : decode cX13_partsOf 8 = .ok (.istore_n 3, 1) := dk_62 (dk_at dksX13_partsOf_0 8 rfl rfl)
theorem dX13_partsOf_9 : decode cX13_partsOf 9 = .ok (.iload_n 3, 1) := dk_29 (dk_at dksX13_partsOf_0 9 rfl rfl)
theorem dX13_partsOf_10 : decode cX13_partsOf 10 = .ok (.aload_n 0, 1) := dk_42 (dk_at dksX13_partsOf_0 10 rfl rfl)
theorem dX13_partsOf_11 : decode cX13_partsOf 11 = .ok (.invokevirtual 237, 3) := dk_182 0 237 (dk_at dksX13_partsOf_0 11 rfl rfl)
theorem dX13_partsOf_14 : decode cX13_partsOf 14 = .ok (.if_icmp .ge 59, 3) := dk_162 0 59 (dk_at dksX13_partsOf_0 14 rfl rfl)
theorem dX13_partsOf_17 : decode cX13_partsOf 17 = .ok (.iconst 0, 1) := dk_3 (dk_at dksX13_partsOf_0 17 rfl rfl)
theorem dX13_partsOf_18 : decode cX13_partsOf 18 = .ok (.istore 4, 2) := dk_54 4 (dk_at dksX13_partsOf_0 18 rfl rfl)
theorem dX13_partsOf_20 : decode cX13_partsOf 20 = .ok (.iconst 0, 1) := dk_3 (dk_at dksX13_partsOf_0 20 rfl rfl)
theorem dX13_partsOf_21 : decode cX13_partsOf 21 = .ok (.istore 5, 2) := dk_54 5 (dk_at dksX13_partsOf_0 21 rfl rfl)
theorem dX13_partsOf_23 : decode cX13_partsOf 23 = .ok (.iload 5, 2) := dk_21 5 (dk_at dksX13_partsOf_1 0 rfl rfl)
theorem dX13_partsOf_25 : decode cX13_partsOf 25 = .ok (.aload_n 0, 1) := dk_42 (dk_at dksX13_partsOf_1 2 rfl rfl)
theorem dX13_partsOf_26 : decode cX13_partsOf 26 = .ok (.getfield 327, 3) := dk_180 1 71 (dk_at dksX13_partsOf_1 3 rfl rfl)
theorem dX13_partsOf_29 : decode cX13_partsOf 29 = .ok (.if_icmp .ge 29, 3) := dk_162 0 29 (dk_at dksX13_partsOf_1 6 rfl rfl)
theorem dX13_partsOf_32 : decode cX13_partsOf 32 = .ok (.aload_n 0, 1) := dk_42 (dk_at dksX13_partsOf_1 9 rfl rfl)
theorem dX13_partsOf_33 : decode cX13_partsOf 33 = .ok (.getfield 48, 3) := dk_180 0 48 (dk_at dksX13_partsOf_1 10 rfl rfl)
theorem dX13_partsOf_36 : decode cX13_partsOf 36 = .ok (.sipush 256, 3) := dk_17 1 0 (dk_at dksX13_partsOf_1 13 rfl rfl)
theorem dX13_partsOf_39 : decode cX13_partsOf 39 = .ok (.iload_n 1, 1) := dk_27 (dk_at dksX13_partsOf_1 16 rfl rfl)
theorem dX13_partsOf_40 : decode cX13_partsOf 40 = .ok (.imul, 1) := dk_104 (dk_at dksX13_partsOf_1 17 rfl rfl)
theorem dX13_partsOf_41 : decode cX13_partsOf 41 = .ok (.iload 5, 2) := dk_21 5 (dk_at dksX13_partsOf_1 18 rfl rfl)
theorem dX13_partsOf_43 : decode cX13_partsOf 43 = .ok (.iadd, 1) := dk_96 (dk_at dksX13_partsOf_1 20 rfl rfl)
theorem dX13_partsOf_44 : decode cX13_partsOf 44 = .ok (.iaload, 1) := dk_46 (dk_at dksX13_partsOf_1 21 rfl rfl)
theorem dX13_partsOf_45 : decode cX13_partsOf 45 = .ok (.iload_n 3, 1) := dk_29 (dk_at dksX13_partsOf_1 22 rfl rfl)
theorem dX13_partsOf_46 : decode cX13_partsOf 46 = .ok (.if_icmp .ne 6, 3) := dk_160 0 6 (dk_at dksX13_partsOf_2 0 rfl rfl)
theorem dX13_partsOf_49 : decode cX13_partsOf 49 = .ok (.iinc 4 1, 3) := dk_132 4 1 (dk_at dksX13_partsOf_2 3 rfl rfl)
theorem dX13_partsOf_52 : decode cX13_partsOf 52 = .ok (.iinc 5 1, 3) := dk_132 5 1 (dk_at dksX13_partsOf_2 6 rfl rfl)
theorem dX13_partsOf_55 : decode cX13_partsOf 55 = .ok (.goto (-32), 3) := dk_167 255 224 (dk_at dksX13_partsOf_2 9 rfl rfl)
theorem dX13_partsOf_58 : decode cX13_partsOf 58 = .ok (.iload 4, 2) := dk_21 4 (dk_at dksX13_partsOf_2 12 rfl rfl)
theorem dX13_partsOf_60 : decode cX13_partsOf 60 = .ok (.iload_n 2, 1) := dk_28 (dk_at dksX13_partsOf_2 14 rfl rfl)
theorem dX13_partsOf_61 : decode cX13_partsOf 61 = .ok (.if_icmp .le 6, 3) := dk_164 0 6 (dk_at dksX13_partsOf_2 15 rfl rfl)
theorem dX13_partsOf_64 : decode cX13_partsOf 64 = .ok (.iload 4, 2) := dk_21 4 (dk_at dksX13_partsOf_2 18 rfl rfl)
theorem dX13_partsOf_66 : decode cX13_partsOf 66 = .ok (.istore_n 2, 1) := dk_61 (dk_at dksX13_partsOf_2 20 rfl rfl)
theorem dX13_partsOf_67 : decode cX13_partsOf 67 = .ok (.iinc 3 1, 3) := dk_132 3 1 (dk_at dksX13_partsOf_2 21 rfl rfl)
theorem dX13_partsOf_70 : decode cX13_partsOf 70 = .ok (.goto (-61), 3) := dk_167 255 195 (dk_at dksX13_partsOf_3 0 rfl rfl)
theorem dX13_partsOf_73 : decode cX13_partsOf 73 = .ok (.iload_n 2, 1) := dk_28 (dk_at dksX13_partsOf_3 3 rfl rfl)
theorem dX13_partsOf_74 : decode cX13_partsOf 74 = .ok (.ireturn, 1) := dk_172 (dk_at dksX13_partsOf_3 4 rfl rfl)
abbrev cX13_layReplies : ByteArray := prog_24_method_88_code
def yX13_layReplies : MethodName := ⟨RX13, "layReplies", "(I)V"⟩
def dkwX13_layReplies_2 : List UInt8 := [132, 2, 1, 167, 255, 218, 177]
abbrev dktX13_layReplies_2 : List UInt8 := dkwX13_layReplies_2 ++ []
def dkwX13_layReplies_1 : List UInt8 := [17, 1, 0, 27, 104, 28, 96, 42, 42, 42, 180, 0, 45, 28, 46, 3, 182, 1, 49, 182, 1, 56, 79]
abbrev dktX13_layReplies_1 : List UInt8 := dkwX13_layReplies_1 ++ dktX13_layReplies_2
def dkwX13_layReplies_0 : List UInt8 := [42, 17, 0, 240, 27, 96, 182, 1, 74, 3, 61, 28, 42, 180, 1, 71, 162, 0, 36, 42, 180, 0, 48]
abbrev dktX13_layReplies_0 : List UInt8 := dkwX13_layReplies_0 ++ dktX13_layReplies_1
theorem dksX13_layReplies_0 : cX13_layReplies.data.toList.drop 0 = dktX13_layReplies_0 := by decide +kernel
theorem dksX13_layReplies_1 : cX13_layReplies.data.toList.drop 23 = dktX13_layReplies_1 := dk_seg dksX13_layReplies_0 23 rfl rfl
theorem dksX13_layReplies_2 : cX13_layReplies.data.toList.drop 46 = dktX13_layReplies_2 := dk_seg dksX13_layReplies_1 23 rfl rfl
theorem dX13_layReplies_0 : decode cX13_layReplies 0 = .ok (.aload_n 0, 1) := dk_42 (dk_at dksX13_layReplies_0 0 rfl rfl)
theorem dX13_layReplies_1 : decode cX13_layReplies 1 = .ok (.sipush 240, 3) := dk_17 0 240 (dk_at dksX13_layReplies_0 1 rfl rfl)
theorem dX13_layReplies_4 : decode cX13_layReplies 4 = .ok (.iload_n 1, 1) := dk_27 (dk_at dksX13_layReplies_0 4 rfl rfl)
theorem dX13_layReplies_5 : decode cX13_layReplies 5 = .ok (.iadd, 1) := dk_96 (dk_at dksX13_layReplies_0 5 rfl rfl)
theorem dX13_layReplies_6 : decode cX13_layReplies 6 = .ok (.invokevirtual 330, 3) := dk_182 1 74 (dk_at dksX13_layReplies_0 6 rfl rfl)
theorem dX13_layReplies_9 : decode cX13_layReplies 9 = .ok (.iconst 0, 1) := dk_3 (dk_at dksX13_layReplies_0 9 rfl rfl)
theorem dX13_layReplies_10 : decode cX13_layReplies 10 = .ok (.istore_n 2, 1) := dk_61 (dk_at dksX13_layReplies_0 10 rfl rfl)
theorem dX13_layReplies_11 : decode cX13_layReplies 11 = .ok (.iload_n 2, 1) := dk_28 (dk_at dksX13_layReplies_0 11 rfl rfl)
theorem dX13_layReplies_12 : decode cX13_layReplies 12 = .ok (.aload_n 0, 1) := dk_42 (dk_at dksX13_layReplies_0 12 rfl rfl)
theorem dX13_layReplies_13 : decode cX13_layReplies 13 = .ok (.getfield 327, 3) := dk_180 1 71 (dk_at dksX13_layReplies_0 13 rfl rfl)
theorem dX13_layReplies_16 : decode cX13_layReplies 16 = .ok (.if_icmp .ge 36, 3) := dk_162 0 36 (dk_at dksX13_layReplies_0 16 rfl rfl)
theorem dX13_layReplies_19 : decode cX13_layReplies 19 = .ok (.aload_n 0, 1) := dk_42 (dk_at dksX13_layReplies_0 19 rfl rfl)
theorem dX13_layReplies_20 : decode cX13_layReplies 20 = .ok (.getfield 48, 3) := dk_180 0 48 (dk_at dksX13_layReplies_0 20 rfl rfl)
theorem dX13_layReplies_23 : decode cX13_layReplies 23 = .ok (.sipush 256, 3) := dk_17 1 0 (dk_at dksX13_layReplies_1 0 rfl rfl)
theorem dX13_layReplies_26 : decode cX13_layReplies 26 = .ok (.iload_n 1, 1) := dk_27 (dk_at dksX13_layReplies_1 3 rfl rfl)
theorem dX13_layReplies_27 : decode cX13_layReplies 27 = .ok (.imul, 1) := dk_104 (dk_at dksX13_layReplies_1 4 rfl rfl)
theorem dX13_layReplies_28 : decode cX13_layReplies 28 = .ok (.iload_n 2, 1) := dk_28 (dk_at dksX13_layReplies_1 5 rfl rfl)
theorem dX13_layReplies_29 : decode cX13_layReplies 29 = .ok (.iadd, 1) := dk_96 (dk_at dksX13_layReplies_1 6 rfl rfl)
theorem dX13_layReplies_30 : decode cX13_layReplies 30 = .ok (.aload_n 0, 1) := dk_42 (dk_at dksX13_layReplies_1 7 rfl rfl)
theorem dX13_layReplies_31 : decode cX13_layReplies 31 = .ok (.aload_n 0, 1) := dk_42 (dk_at dksX13_layReplies_1 8 rfl rfl)
theorem dX13_layReplies_32 : decode cX13_layReplies 32 = .ok (.aload_n 0, 1) := dk_42 (dk_at dksX13_layReplies_1 9 rfl rfl)
theorem dX13_layReplies_33 : decode cX13_layReplies 33 = .ok (.getfield 45, 3) := dk_180 0 45 (dk_at dksX13_layReplies_1 10 rfl rfl)
theorem dX13_layReplies_36 : decode cX13_layReplies 36 = .ok (.iload_n 2, 1) := dk_28 (dk_at dksX13_layReplies_1 13 rfl rfl)
theorem dX13_layReplies_37 : decode cX13_layReplies 37 = .ok (.iaload, 1) := dk_46 (dk_at dksX13_layReplies_1 14 rfl rfl)
theorem dX13_layReplies_38 : decode cX13_layReplies 38 = .ok (.iconst 0, 1) := dk_3 (dk_at dksX13_layReplies_1 15 rfl rfl)
theorem dX13_layReplies_39 : decode cX13_layReplies 39 = .ok (.invokevirtual 305, 3) := dk_182 1 49 (dk_at dksX13_layReplies_1 16 rfl rfl)
theorem dX13_layReplies_42 : decode cX13_layReplies 42 = .ok (.invokevirtual 312, 3) := dk_182 1 56 (dk_at dksX13_layReplies_1 19 rfl rfl)
theorem dX13_layReplies_45 : decode cX13_layReplies 45 = .ok (.iastore, 1) := dk_79 (dk_at dksX13_layReplies_1 22 rfl rfl)
theorem dX13_layReplies_46 : decode cX13_layReplies 46 = .ok (.iinc 2 1, 3) := dk_132 2 1 (dk_at dksX13_layReplies_2 0 rfl rfl)
theorem dX13_layReplies_49 : decode cX13_layReplies 49 = .ok (.goto (-38), 3) := dk_167 255 218 (dk_at dksX13_layReplies_2 3 rfl rfl)
theorem dX13_layReplies_52 : decode cX13_layReplies 52 = .ok (.return_, 1) := dk_177 (dk_at dksX13_layReplies_2 6 rfl rfl)
abbrev cX13_best : ByteArray := prog_24_method_91_code
def yX13_best : MethodName := ⟨RX13, "best", "(I)I"⟩
def dkwX13_best_3 : List UInt8 := [167, 255, 212, 28, 172]
abbrev dktX13_best_3 : List UInt8 := dkwX13_best_3 ++ []
def dkwX13_best_2 : List UInt8 := [28, 2, 159, 0, 12, 21, 5, 29, 161, 0, 6, 167, 0, 9, 21, 5, 62, 21, 4, 61, 132, 4, 1]
abbrev dktX13_best_2 : List UInt8 := dkwX13_best_2 ++ dktX13_best_3
def dkwX13_best_1 : List UInt8 := [3, 54, 4, 21, 4, 42, 180, 0, 13, 17, 0, 142, 46, 162, 0, 37, 42, 21, 4, 182, 1, 89, 54, 5]
abbrev dktX13_best_1 : List UInt8 := dkwX13_best_1 ++ dktX13_best_2
def dkwX13_best_0 : List UInt8 := [42, 3, 181, 0, 58, 42, 27, 182, 1, 77, 154, 0, 5, 2, 172, 42, 27, 182, 1, 80, 2, 61, 3, 62]
abbrev dktX13_best_0 : List UInt8 := dkwX13_best_0 ++ dktX13_best_1
theorem dksX13_best_0 : cX13_best.data.toList.drop 0 = dktX13_best_0 := by decide +kernel
theorem dksX13_best_1 : cX13_best.data.toList.drop 24 = dktX13_best_1 := dk_seg dksX13_best_0 24 rfl rfl
theorem dksX13_best_2 : cX13_best.data.toList.drop 48 = dktX13_best_2 := dk_seg dksX13_best_1 24 rfl rfl
theorem dksX13_best_3 : cX13_best.data.toList.drop 71 = dktX13_best_3 := dk_seg dksX13_best_2 23 rfl rfl
theorem dX13_best_0 : decode cX13_best 0 = .ok (.aload_n 0, 1) := dk_42 (dk_at dksX13_best_0 0 rfl rfl)
theorem dX13_best_1 : decode cX13_best 1 = .ok (.iconst 0, 1) := dk_3 (dk_at dksX13_best_0 1 rfl rfl)
theorem dX13_best_2 : decode cX13_best 2 = .ok (.putfield 58, 3) := dk_181 0 58 (dk_at dksX13_best_0 2 rfl rfl)
theorem dX13_best_5 : decode cX13_best 5 = .ok (.aload_n 0, 1) := dk_42 (dk_at dksX13_best_0 5 rfl rfl)
theorem dX13_best_6 : decode cX13_best 6 = .ok (.iload_n 1, 1) := dk_27 (dk_at dksX13_best_0 6 rfl rfl)
theorem dX13_best_7 : decode cX13_best 7 = .ok (.invokevirtual 333, 3) := dk_182 1 77 (dk_at dksX13_best_0 7 rfl rfl)
theorem dX13_best_10 : decode cX13_best 10 = .ok (.ifCond .ne 5, 3) := dk_154 0 5 (dk_at dksX13_best_0 10 rfl rfl)
theorem dX13_best_13 : decode cX13_best 13 = .ok (.iconst (-1), 1) := dk_2 (dk_at dksX13_best_0 13 rfl rfl)
theorem dX13_best_14 : decode cX13_best 14 = .ok (.ireturn, 1) := dk_172 (dk_at dksX13_best_0 14 rfl rfl)
theorem dX13_best_15 : decode cX13_best 15 = .ok (.aload_n 0, 1) := dk_42 (dk_at dksX13_best_0 15 rfl rfl)
theorem dX13_best_16 : decode cX13_best 16 = .ok (.iload_n 1, 1) := dk_27 (dk_at dksX13_best_0 16 rfl rfl)
theorem dX13_best_17 : decode cX13_best 17 = .ok (.invokevirtual 336, 3) := dk_182 1 80 (dk_at dksX13_best_0 17 rfl rfl)
theorem dX13_best_20 : decode cX13_best 20 = .ok (.iconst (-1), 1) := dk_2 (dk_at dksX13_best_0 20 rfl rfl)
theorem dX13_best_21 : decode cX13_best 21 = .ok (.istore_n 2, 1) := dk_61 (dk_at dksX13_best_0 21 rfl rfl)
theorem dX13_best_22 : decode cX13_best 22 = .ok (.iconst 0, 1) := dk_3 (dk_at dksX13_best_0 22 rfl rfl)
theorem dX13_best_23 : decode cX13_best 23 = .ok (.istore_n 3, 1) := dk_62 (dk_at dksX13_best_0 23 rfl rfl)
theorem dX13_best_24 : decode cX13_best 24 = .ok (.iconst 0, 1) := dk_3 (dk_at dksX13_best_1 0 rfl rfl)
theorem dX13_best_25 : decode cX13_best 25 = .ok (.istore 4, 2) := dk_54 4 (dk_at dksX13_best_1 1 rfl rfl)
theorem dX13_best_27 : decode cX13_best 27 = .ok (.iload 4, 2) := dk_21 4 (dk_at dksX13_best_1 3 rfl rfl)
theorem dX13_best_29 : decode cX13_best 29 = .ok (.aload_n 0, 1) := dk_42 (dk_at dksX13_best_1 5 rfl rfl)
theorem dX13_best_30 : decode cX13_best 30 = .ok (.getfield 13, 3) := dk_180 0 13 (dk_at dksX13_best_1 6 rfl rfl)
theorem dX13_best_33 : decode cX13_best 33 = .ok (.sipush 142, 3) := dk_17 0 142 (dk_at dksX13_best_1 9 rfl rfl)
theorem dX13_best_36 : decode cX13_best 36 = .ok (.iaload, 1) := dk_46 (dk_at dksX13_best_1 12 rfl rfl)
theorem dX13_best_37 : decode cX13_best 37 = .ok (.if_icmp .ge 37, 3) := dk_162 0 37 (dk_at dksX13_best_1 13 rfl rfl)
theorem dX13_best_40 : decode cX13_best 40 = .ok (.aload_n 0, 1) := dk_42 (dk_at dksX13_best_1 16 rfl rfl)
theorem dX13_best_41 : decode cX13_best 41 = .ok (.iload 4, 2) := dk_21 4 (dk_at dksX13_best_1 17 rfl rfl)
theorem dX13_best_43 : decode cX13_best 43 = .ok (.invokevirtual 345, 3) := dk_182 1 89 (dk_at dksX13_best_1 19 rfl rfl)
theorem dX13_best_46 : decode cX13_best 46 = .ok (.istore 5, 2) := dk_54 5 (dk_at dksX13_best_1 22 rfl rfl)
theorem dX13_best_48 : decode cX13_best 48 = .ok (.iload_n 2, 1) := dk_28 (dk_at dksX13_best_2 0 rfl rfl)
theorem dX13_best_49 : decode cX13_best 49 = .ok (.iconst (-1), 1) := dk_2 (dk_at dksX13_best_2 1 rfl rfl)
theorem dX13_best_50 : decode cX13_best 50 = .ok (.if_icmp .eq 12, 3) := dk_159 0 12 (dk_at dksX13_best_2 2 rfl rfl)
theorem dX13_best_53 : decode cX13_best 53 = .ok (.iload 5, 2) := dk_21 5 (dk_at dksX13_best_2 5 rfl rfl)
theorem dX13_best_55 : decode cX13_best 55 = .ok (.iload_n 3, 1) := dk_29 (dk_at dksX13_best_2 7 rfl rfl)
theorem dX13_best_56 : decode cX13_best 56 = .ok (.if_icmp .lt 6, 3) := dk_161 0 6 (dk_at dksX13_best_2 8 rfl rfl)
theorem dX13_best_59 : decode cX13_best 59 = .ok (.goto 9, 3) := dk_167 0 9 (dk_at dksX13_best_2 11 rfl rfl)
theorem dX13_best_62 : decode cX13_best 62 = .ok (.iload 5, 2) := dk_21 5 (dk_at dksX13_best_2 14 rfl rfl)
theorem dX13_best_64 : decode cX13_best 64 = .ok (.istore_n 3, 1) := dk_62 (dk_at dksX13_best_2 16 rfl rfl)
theorem dX13_best_65 : decode cX13_best 65 = .ok (.iload 4, 2) := dk_21 4 (dk_at dksX13_best_2 17 rfl rfl)
theorem dX13_best_67 : decode cX13_best 67 = .ok (.istore_n 2, 1) := dk_61 (dk_at dksX13_best_2 19 rfl rfl)
theorem dX13_best_68 : decode cX13_best 68 = .ok (.iinc 4 1, 3) := dk_132 4 1 (dk_at dksX13_best_2 20 rfl rfl)
theorem dX13_best_71 : decode cX13_best 71 = .ok (.goto (-44), 3) := dk_167 255 212 (dk_at dksX13_best_3 0 rfl rfl)
theorem dX13_best_74 : decode cX13_best 74 = .ok (.iload_n 2, 1) := dk_28 (dk_at dksX13_best_3 3 rfl rfl)
theorem dX13_best_75 : decode cX13_best 75 = .ok (.ireturn, 1) := dk_172 (dk_at dksX13_best_3 4 rfl rfl)
abbrev cX13_fewest : ByteArray := prog_24_method_93_code
def yX13_fewest : MethodName := ⟨RX13, "fewest", "(I)I"⟩
def dkwX13_fewest_14 : List UInt8 := [167, 255, 184, 21, 4, 172]
abbrev dktX13_fewest_14 : List UInt8 := dkwX13_fewest_14 ++ []
def dkwX13_fewest_13 : List UInt8 := [21, 4, 184, 1, 92, 160, 0, 14, 21, 5, 21, 4, 162, 0, 7, 21, 5, 54, 4, 132, 5, 1]
abbrev dktX13_fewest_13 : List UInt8 := dkwX13_fewest_13 ++ dktX13_fewest_14
def dkwX13_fewest_12 : List UInt8 := [153, 0, 6, 167, 0, 40, 21, 5, 184, 1, 92, 21, 4, 184, 1, 92, 161, 0, 23, 21, 5, 184, 1, 92]
abbrev dktX13_fewest_12 : List UInt8 := dkwX13_fewest_12 ++ dktX13_fewest_13
def dkwX13_fewest_11 : List UInt8 := [163, 0, 72, 29, 21, 5, 2, 130, 126, 54, 6, 21, 6, 158, 0, 16, 42, 180, 0, 52, 21, 6, 51]
abbrev dktX13_fewest_11 : List UInt8 := dkwX13_fewest_11 ++ dktX13_fewest_12
def dkwX13_fewest_10 : List UInt8 := [167, 255, 195, 132, 3, 1, 167, 255, 181, 4, 28, 120, 4, 100, 62, 29, 54, 4, 3, 54, 5, 21, 5, 29]
abbrev dktX13_fewest_10 : List UInt8 := dkwX13_fewest_10 ++ dktX13_fewest_11
def dkwX13_fewest_9 : List UInt8 := [21, 4, 4, 29, 120, 2, 130, 126, 51, 153, 0, 11, 42, 180, 0, 52, 21, 4, 4, 84, 132, 4, 1]
abbrev dktX13_fewest_9 : List UInt8 := dkwX13_fewest_9 ++ dktX13_fewest_10
def dkwX13_fewest_8 : List UInt8 := [29, 122, 4, 126, 4, 160, 0, 38, 21, 4, 4, 29, 120, 2, 130, 126, 153, 0, 27, 42, 180, 0, 52]
abbrev dktX13_fewest_8 : List UInt8 := dkwX13_fewest_8 ++ dktX13_fewest_9
def dkwX13_fewest_7 : List UInt8 := [62, 29, 28, 162, 0, 76, 3, 54, 4, 21, 4, 4, 28, 120, 162, 0, 59, 21, 4, 158, 0, 48, 21, 4]
abbrev dktX13_fewest_7 : List UInt8 := dkwX13_fewest_7 ++ dktX13_fewest_8
def dkwX13_fewest_6 : List UInt8 := [167, 255, 208, 42, 180, 0, 52, 21, 5, 4, 84, 132, 4, 1, 167, 255, 182, 132, 3, 1, 167, 255, 165, 3]
abbrev dktX13_fewest_6 : List UInt8 := dkwX13_fewest_6 ++ dktX13_fewest_7
def dkwX13_fewest_5 : List UInt8 := [21, 6, 104, 21, 4, 96, 46, 159, 0, 12, 21, 5, 4, 21, 6, 120, 128, 54, 5, 132, 6, 1]
abbrev dktX13_fewest_5 : List UInt8 := dkwX13_fewest_5 ++ dktX13_fewest_6
def dkwX13_fewest_4 : List UInt8 := [28, 162, 0, 48, 42, 180, 0, 48, 17, 1, 0, 21, 6, 104, 29, 96, 46, 42, 180, 0, 48, 17, 1, 0]
abbrev dktX13_fewest_4 : List UInt8 := dkwX13_fewest_4 ++ dktX13_fewest_5
def dkwX13_fewest_3 : List UInt8 := [42, 180, 1, 71, 162, 0, 89, 3, 54, 4, 21, 4, 29, 162, 0, 74, 3, 54, 5, 3, 54, 6, 21, 6]
abbrev dktX13_fewest_3 : List UInt8 := dkwX13_fewest_3 ++ dktX13_fewest_4
def dkwX13_fewest_2 : List UInt8 := [62, 29, 4, 28, 120, 162, 0, 16, 42, 180, 0, 52, 29, 3, 84, 132, 3, 1, 167, 255, 239, 3, 62, 29]
abbrev dktX13_fewest_2 : List UInt8 := dkwX13_fewest_2 ++ dktX13_fewest_3
def dkwX13_fewest_1 : List UInt8 := [17, 0, 142, 46, 61, 3, 62, 29, 28, 162, 0, 14, 42, 29, 182, 1, 86, 132, 3, 1, 167, 255, 243, 3]
abbrev dktX13_fewest_1 : List UInt8 := dkwX13_fewest_1 ++ dktX13_fewest_2
def dkwX13_fewest_0 : List UInt8 := [42, 3, 181, 0, 58, 42, 27, 182, 1, 77, 154, 0, 5, 2, 172, 42, 27, 182, 1, 80, 42, 180, 0, 13]
abbrev dktX13_fewest_0 : List UInt8 := dkwX13_fewest_0 ++ dktX13_fewest_1
theorem dksX13_fewest_0 : cX13_fewest.data.toList.drop 0 = dktX13_fewest_0 := by decide +kernel
theorem dksX13_fewest_1 : cX13_fewest.data.toList.drop 24 = dktX13_fewest_1 := dk_seg dksX13_fewest_0 24 rfl rfl
theorem dksX13_fewest_2 : cX13_fewest.data.toList.drop 48 = dktX13_fewest_2 := dk_seg dksX13_fewest_1 24 rfl rfl
theorem dksX13_fewest_3 : cX13_fewest.data.toList.drop 72 = dktX13_fewest_3 := dk_seg dksX13_fewest_2 24 rfl rfl
theorem dksX13_fewest_4 : cX13_fewest.data.toList.drop 96 = dktX13_fewest_4 := dk_seg dksX13_fewest_3 24 rfl rfl
theorem dksX13_fewest_5 : cX13_fewest.data.toList.drop 120 = dktX13_fewest_5 := dk_seg dksX13_fewest_4 24 rfl rfl
theorem dksX13_fewest_6 : cX13_fewest.data.toList.drop 142 = dktX13_fewest_6 := dk_seg dksX13_fewest_5 22 rfl rfl
theorem dksX13_fewest_7 : cX13_fewest.data.toList.drop 166 = dktX13_fewest_7 := dk_seg dksX13_fewest_6 24 rfl rfl
theorem dksX13_fewest_8 : cX13_fewest.data.toList.drop 190 = dktX13_fewest_8 := dk_seg dksX13_fewest_7 24 rfl rfl
theorem dksX13_fewest_9 : cX13_fewest.data.toList.drop 213 = dktX13_fewest_9 := dk_seg dksX13_fewest_8 23 rfl rfl
theorem dksX13_fewest_10 : cX13_fewest.data.toList.drop 236 = dktX13_fewest_10 := dk_seg dksX13_fewest_9 23 rfl rfl
theorem dksX13_fewest_11 : cX13_fewest.data.toList.drop 260 = dktX13_fewest_11 := dk_seg dksX13_fewest_10 24 rfl rfl
theorem dksX13_fewest_12 : cX13_fewest.data.toList.drop 283 = dktX13_fewest_12 := dk_seg dksX13_fewest_11 23 rfl rfl
theorem dksX13_fewest_13 : cX13_fewest.data.toList.drop 307 = dktX13_fewest_13 := dk_seg dksX13_fewest_12 24 rfl rfl
theorem dksX13_fewest_14 : cX13_fewest.data.toList.drop 329 = dktX13_fewest_14 := dk_seg dksX13_fewest_13 22 rfl rfl
theorem dX13_fewest_0 : decode cX13_fewest 0 = .ok (.aload_n 0, 1) := dk_42 (dk_at dksX13_fewest_0 0 rfl rfl)
theorem dX13_fewest_1 : decode cX13_fewest 1 = .ok (.iconst 0, 1) := dk_3 (dk_at dksX13_fewest_0 1 rfl rfl)
theorem dX13_fewest_2 : decode cX13_fewest 2 = .ok (.putfield 58, 3) := dk_181 0 58 (dk_at dksX13_fewest_0 2 rfl rfl)
theorem dX13_fewest_5 : decode cX13_fewest 5 = .ok (.aload_n 0, 1) := dk_42 (dk_at dksX13_fewest_0 5 rfl rfl)
theorem dX13_fewest_6 : decode cX13_fewest 6 = .ok (.iload_n 1, 1) := dk_27 (dk_at dksX13_fewest_0 6 rfl rfl)
theorem dX13_fewest_7 : decode cX13_fewest 7 = .ok (.invokevirtual 333, 3) := dk_182 1 77 (dk_at dksX13_fewest_0 7 rfl rfl)
theorem dX13_fewest_10 : decode cX13_fewest 10 = .ok (.ifCond .ne 5, 3) := dk_154 0 5 (dk_at dksX13_fewest_0 10 rfl rfl)
theorem dX13_fewest_13 : decode cX13_fewest 13 = .ok (.iconst (-1), 1) := dk_2 (dk_at dksX13_fewest_0 13 rfl rfl)
theorem dX13_fewest_14 : decode cX13_fewest 14 = .ok (.ireturn, 1) := dk_172 (dk_at dksX13_fewest_0 14 rfl rfl)
theorem dX13_fewest_15 : decode cX13_fewest 15 = .ok (.aload_n 0, 1) := dk_42 (dk_at dksX13_fewest_0 15 rfl rfl)
theorem dX13_fewest_16 : decode cX13_fewest 16 = .ok (.iload_n 1, 1) := dk_27 (dk_at dksX13_fewest_0 16 rfl rfl)
theorem dX13_fewest_17 : decode cX13_fewest 17 = .ok (.invokevirtual 336, 3) := dk_182 1 80 (dk_at dksX13_fewest_0 17 rfl rfl)
theorem dX13_fewest_20 : decode cX13_fewest 20 = .ok (.aload_n 0, 1) := dk_42 (dk_at dksX13_fewest_0 20 rfl rfl)
theorem dX13_fewest_21 : decode cX13_fewest 21 = .ok (.getfield 13, 3) := dk_180 0 13 (dk_at dksX13_fewest_0 21 rfl rfl)
theorem dX13_fewest_24 : decode cX13_fewest 24 = .ok (.sipush 142, 3) := dk_17 0 142 (dk_at dksX13_fewest_1 0 rfl rfl)
theorem dX13_fewest_27 : decode cX13_fewest 27 = .ok (.iaload, 1) := dk_46 (dk_at dksX13_fewest_1 3 rfl rfl)
theorem dX13_fewest_28 : decode cX13_fewest 28 = .ok (.istore_n 2, 1) := dk_61 (dk_at dksX13_fewest_1 4 rfl rfl)
theorem dX13_fewest_29 : decode cX13_fewest 29 = .ok (.iconst 0, 1) := dk_3 (dk_at dksX13_fewest_1 5 rfl rfl)
theorem dX13_fewest_30 : decode cX13_fewest 30 = .ok (.istore_n 3, 1) := dk_62 (dk_at dksX13_fewest_1 6 rfl rfl)
theorem dX13_fewest_31 : decode cX13_fewest 31 = .ok (.iload_n 3, 1) := dk_29 (dk_at dksX13_fewest_1 7 rfl rfl)
theorem dX13_fewest_32 : decode cX13_fewest 32 = .ok (.iload_n 2, 1) := dk_28 (dk_at dksX13_fewest_1 8 rfl rfl)
theorem dX13_fewest_33 : decode cX13_fewest 33 = .ok (.if_icmp .ge 14, 3) := dk_162 0 14 (dk_at dksX13_fewest_1 9 rfl rfl)
theorem dX13_fewest_36 : decode cX13_fewest 36 = .ok (.aload_n 0, 1) := dk_42 (dk_at dksX13_fewest_1 12 rfl rfl)
theorem dX13_fewest_37 : decode cX13_fewest 37 = .ok (.iload_n 3, 1) := dk_29 (dk_at dksX13_fewest_1 13 rfl rfl)
theorem dX13_fewest_38 : decode cX13_fewest 38 = .ok (.invokevirtual 342, 3) := dk_182 1 86 (dk_at dksX13_fewest_1 14 rfl rfl)
theorem dX13_fewest_41 : decode cX13_fewest 41 = .ok (.iinc 3 1, 3) := dk_132 3 1 (dk_at dksX13_fewest_1 17 rfl rfl)
theorem dX13_fewest_44 : decode cX13_fewest 44 = .ok (.goto (-13), 3) := dk_167 255 243 (dk_at dksX13_fewest_1 20 rfl rfl)
theorem dX13_fewest_47 : decode cX13_fewest 47 = .ok (.iconst 0, 1) := dk_3 (dk_at dksX13_fewest_1 23 rfl rfl)
theorem dX13_fewest_48 : decode cX13_fewest 48 = .ok (.istore_n 3, 1) := dk_62 (dk_at dksX13_fewest_2 0 rfl rfl)
theorem dX13_fewest_49 : decode cX13_fewest 49 = .ok (.iload_n 3, 1) := dk_29 (dk_at dksX13_fewest_2 1 rfl rfl)
theorem dX13_fewest_50 : decode cX13_fewest 50 = .ok (.iconst 1, 1) := dk_4 (dk_at dksX13_fewest_2 2 rfl rfl)
theorem dX13_fewest_51 : decode cX13_fewest 51 = .ok (.iload_n 2, 1) := dk_28 (dk_at dksX13_fewest_2 3 rfl rfl)
theorem dX13_fewest_52 : decode cX13_fewest 52 = .ok (.ishl, 1) := dk_120 (dk_at dksX13_fewest_2 4 rfl rfl)
theorem dX13_fewest_53 : decode cX13_fewest 53 = .ok (.if_icmp .ge 16, 3) := dk_162 0 16 (dk_at dksX13_fewest_2 5 rfl rfl)
theorem dX13_fewest_56 : decode cX13_fewest 56 = .ok (.aload_n 0, 1) := dk_42 (dk_at dksX13_fewest_2 8 rfl rfl)
theorem dX13_fewest_57 : decode cX13_fewest 57 = .ok (.getfield 52, 3) := dk_180 0 52 (dk_at dksX13_fewest_2 9 rfl rfl)
theorem dX13_fewest_60 : decode cX13_fewest 60 = .ok (.iload_n 3, 1) := dk_29 (dk_at dksX13_fewest_2 12 rfl rfl)
theorem dX13_fewest_61 : decode cX13_fewest 61 = .ok (.iconst 0, 1) := dk_3 (dk_at dksX13_fewest_2 13 rfl rfl)
theorem dX13_fewest_62 : decode cX13_fewest 62 = .ok (.bastore, 1) := dk_84 (dk_at dksX13_fewest_2 14 rfl rfl)
theorem dX13_fewest_63 : decode cX13_fewest 63 = .ok (.iinc 3 1, 3) := dk_132 3 1 (dk_at dksX13_fewest_2 15 rfl rfl)
theorem dX13_fewest_66 : decode cX13_fewest 66 = .ok (.goto (-17), 3) := dk_167 255 239 (dk_at dksX13_fewest_2 18 rfl rfl)
theorem dX13_fewest_69 : decode cX13_fewest 69 = .ok (.iconst 0, 1) := dk_3 (dk_at dksX13_fewest_2 21 rfl rfl)
theorem dX13_fewest_70 : decode cX13_fewest 70 = .ok (.istore_n 3, 1) := dk_62 (dk_at dksX13_fewest_2 22 rfl rfl)
theorem dX13_fewest_71 : decode cX13_fewest 71 = .ok (.iload_n 3, 1) := dk_29 (dk_at dksX13_fewest_2 23 rfl rfl)
theorem dX13_fewest_72 : decode cX13_fewest 72 = .ok (.aload_n 0, 1) := dk_42 (dk_at dksX13_fewest_3 0 rfl rfl)
theorem dX13_fewest_73 : decode cX13_fewest 73 = .ok (.getfield 327, 3) := dk_180 1 71 (dk_at dksX13_fewest_3 1 rfl rfl)
theorem dX13_fewest_76 : decode cX13_fewest 76 = .ok (.if_icmp .ge 89, 3) := dk_162 0 89 (dk_at dksX13_fewest_3 4 rfl rfl)
theorem dX13_fewest_79 : decode cX13_fewest 79 = .ok (.iconst 0, 1) := dk_3 (dk_at dksX13_fewest_3 7 rfl rfl)
theorem dX13_fewest_80 : decode cX13_fewest 80 = .ok (.istore 4, 2) := dk_54 4 (dk_at dksX13_fewest_3 8 rfl rfl)
theorem dX13_fewest_82 : decode cX13_fewest 82 = .ok (.iload 4, 2) := dk_21 4 (dk_at dksX13_fewest_3 10 rfl rfl)
theorem dX13_fewest_84 : decode cX13_fewest 84 = .ok (.iload_n 3, 1) := dk_29 (dk_at dksX13_fewest_3 12 rfl rfl)
theorem dX13_fewest_85 : decode cX13_fewest 85 = .ok (.if_icmp .ge 74, 3) := dk_162 0 74 (dk_at dksX13_fewest_3 13 rfl rfl)
theorem dX13_fewest_88 : decode cX13_fewest 88 = .ok (.iconst 0, 1) := dk_3 (dk_at dksX13_fewest_3 16 rfl rfl)
theorem dX13_fewest_89 : decode cX13_fewest 89 = .ok (.istore 5, 2) := dk_54 5 (dk_at dksX13_fewest_3 17 rfl rfl)
theorem dX13_fewest_91 : decode cX13_fewest 91 = .ok (.iconst 0, 1) := dk_3 (dk_at dksX13_fewest_3 19 rfl rfl)
theorem dX13_fewest_92 : decode cX13_fewest 92 = .ok (.istore 6, 2) := dk_54 6 (dk_at dksX13_fewest_3 20 rfl rfl)
theorem dX13_fewest_94 : decode cX13_fewest 94 = .ok (.iload 6, 2) := dk_21 6 (dk_at dksX13_fewest_3 22 rfl rfl)
theorem dX13_fewest_96 : decode cX13_fewest 96 = .ok (.iload_n 2, 1) := dk_28 (dk_at dksX13_fewest_4 0 rfl rfl)
theorem dX13_fewest_97 : decode cX13_fewest 97 = .ok (.if_icmp .ge 48, 3) := dk_162 0 48 (dk_at dksX13_fewest_4 1 rfl rfl)
theorem dX13_fewest_100 : decode cX13_fewest 100 = .ok (.aload_n 0, 1) := dk_42 (dk_at dksX13_fewest_4 4 rfl rfl)
theorem dX13_fewest_101 : decode cX13_fewest 101 = .ok (.getfield 48, 3) := dk_180 0 48 (dk_at dksX13_fewest_4 5 rfl rfl)
theorem dX13_fewest_104 : decode cX13_fewest 104 = .ok (.sipush 256, 3) := dk_17 1 0 (dk_at dksX13_fewest_4 8 rfl rfl)
theorem dX13_fewest_107 : decode cX13_fewest 107 = .ok (.iload 6, 2) := dk_21 6 (dk_at dksX13_fewest_4 11 rfl rfl)
theorem dX13_fewest_109 : decode cX13_fewest 109 = .ok (.imul, 1) := dk_104 (dk_at dksX13_fewest_4 13 rfl rfl)
theorem dX13_fewest_110 : decode cX13_fewest 110 = .ok (.iload_n 3, 1) := dk_29 (dk_at dksX13_fewest_4 14 rfl rfl)
theorem dX13_fewest_111 : decode cX13_fewest 111 = .ok (.iadd, 1) := dk_96 (dk_at dksX13_fewest_4 15 rfl rfl)
theorem dX13_fewest_112 : decode cX13_fewest 112 = .ok (.iaload, 1) := dk_46 (dk_at dksX13_fewest_4 16 rfl rfl)
theorem dX13_fewest_113 : decode cX13_fewest 113 = .ok (.aload_n 0, 1) := dk_42 (dk_at dksX13_fewest_4 17 rfl rfl)
theorem dX13_fewest_114 : decode cX13_fewest 114 = .ok (.getfield 48, 3) := dk_180 0 48 (dk_at dksX13_fewest_4 18 rfl rfl)
theorem dX13_fewest_117 : decode cX13_fewest 117 = .ok (.sipush 256, 3) := dk_17 1 0 (dk_at dksX13_fewest_4 21 rfl rfl)
theorem dX13_fewest_120 : decode cX13_fewest 120 = .ok (.iload 6, 2) := dk_21 6 (dk_at dksX13_fewest_5 0 rfl rfl)
theorem dX13_fewest_122 : decode cX13_fewest 122 = .ok (.imul, 1) := dk_104 (dk_at dksX13_fewest_5 2 rfl rfl)
theorem dX13_fewest_123 : decode cX13_fewest 123 = .ok (.iload 4, 2) := dk_21 4 (dk_at dksX13_fewest_5 3 rfl rfl)
theorem dX13_fewest_125 : decode cX13_fewest 125 = .ok (.iadd, 1) := dk_96 (dk_at dksX13_fewest_5 5 rfl rfl)
theorem dX13_fewest_126 : decode cX13_fewest 126 = .ok (.iaload, 1) := dk_46 (dk_at dksX13_fewest_5 6 rfl rfl)
theorem dX13_fewest_127 : decode cX13_fewest 127 = .ok (.if_icmp .eq 12, 3) := dk_159 0 12 (dk_at dksX13_fewest_5 7 rfl rfl)
theorem dX13_fewest_130 : decode cX13_fewest 130 = .ok (.iload 5, 2) := dk_21 5 (dk_at dksX13_fewest_5 10 rfl rfl)
theorem dX13_fewest_132 : decode cX13_fewest 132 = .ok (.iconst 1, 1) := dk_4 (dk_at dksX13_fewest_5 12 rfl rfl)
theorem dX13_fewest_133 : decode cX13_fewest 133 = .ok (.iload 6, 2) := dk_21 6 (dk_at dksX13_fewest_5 13 rfl rfl)
theorem dX13_fewest_135 : decode cX13_fewest 135 = .ok (.ishl, 1) := dk_120 (dk_at dksX13_fewest_5 15 rfl rfl)
theorem dX13_fewest_136 : decode cX13_fewest 136 = .ok (.ior, 1) := dk_128 (dk_at dksX13_fewest_5 16 rfl rfl)
theorem dX13_fewest_137 : decode cX13_fewest 137 = .ok (.istore 5, 2) := dk_54 5 (dk_at dksX13_fewest_5 17 rfl rfl)
theorem dX13_fewest_139 : decode cX13_fewest 139 = .ok (.iinc 6 1, 3) := dk_132 6 1 (dk_at dksX13_fewest_5 19 rfl rfl)
theorem dX13_fewest_142 : decode cX13_fewest 142 = .ok (.goto (-48), 3) := dk_167 255 208 (dk_at dksX13_fewest_6 0 rfl rfl)
theorem dX13_fewest_145 : decode cX13_fewest 145 = .ok (.aload_n 0, 1) := dk_42 (dk_at dksX13_fewest_6 3 rfl rfl)
theorem dX13_fewest_146 : decode cX13_fewest 146 = .ok (.getfield 52, 3) := dk_180 0 52 (dk_at dksX13_fewest_6 4 rfl rfl)
theorem dX13_fewest_149 : decode cX13_fewest 149 = .ok (.iload 5, 2) := dk_21 5 (dk_at dksX13_fewest_6 7 rfl rfl)
theorem dX13_fewest_151 : decode cX13_fewest 151 = .ok (.iconst 1, 1) := dk_4 (dk_at dksX13_fewest_6 9 rfl rfl)
theorem dX13_fewest_152 : decode cX13_fewest 152 = .ok (.bastore, 1) := dk_84 (dk_at dksX13_fewest_6 10 rfl rfl)
theorem dX13_fewest_153 : decode cX13_fewest 153 = .ok (.iinc 4 1, 3) := dk_132 4 1 (dk_at dksX13_fewest_6 11 rfl rfl)
theorem dX13_fewest_156 : decode cX13_fewest 156 = .ok (.goto (-74), 3) := dk_167 255 182 (dk_at dksX13_fewest_6 14 rfl rfl)
theorem dX13_fewest_159 : decode cX13_fewest 159 = .ok (.iinc 3 1, 3) := dk_132 3 1 (dk_at dksX13_fewest_6 17 rfl rfl)
theorem dX13_fewest_162 : decode cX13_fewest 162 = .ok (.goto (-91), 3) := dk_167 255 165 (dk_at dksX13_fewest_6 20 rfl rfl)
theorem dX13_fewest_165 : decode cX13_fewest 165 = .ok (.iconst 0, 1) := dk_3 (dk_at dksX13_fewest_6 23 rfl rfl)
theorem dX13_fewest_166 : decode cX13_fewest 166 = .ok (.istore_n 3, 1) := dk_62 (dk_at dksX13_fewest_7 0 rfl rfl)
theorem dX13_fewest_167 : decode cX13_fewest 167 = .ok (.iload_n 3, 1) := dk_29 (dk_at dksX13_fewest_7 1 rfl rfl)
theorem dX13_fewest_168 : decode cX13_fewest 168 = .ok (.iload_n 2, 1) := dk_28 (dk_at dksX13_fewest_7 2 rfl rfl)
theorem dX13_fewest_169 : decode cX13_fewest 169 = .ok (.if_icmp .ge 76, 3) := dk_162 0 76 (dk_at dksX13_fewest_7 3 rfl rfl)
theorem dX13_fewest_172 : decode cX13_fewest 172 = .ok (.iconst 0, 1) := dk_3 (dk_at dksX13_fewest_7 6 rfl rfl)
theorem dX13_fewest_173 : decode cX13_fewest 173 = .ok (.istore 4, 2) := dk_54 4 (dk_at dksX13_fewest_7 7 rfl rfl)
theorem dX13_fewest_175 : decode cX13_fewest 175 = .ok (.iload 4, 2) := dk_21 4 (dk_at dksX13_fewest_7 9 rfl rfl)
theorem dX13_fewest_177 : decode cX13_fewest 177 = .ok (.iconst 1, 1) := dk_4 (dk_at dksX13_fewest_7 11 rfl rfl)
theorem dX13_fewest_178 : decode cX13_fewest 178 = .ok (.iload_n 2, 1) := dk_28 (dk_at dksX13_fewest_7 12 rfl rfl)
theorem dX13_fewest_179 : decode cX13_fewest 179 = .ok (.ishl, 1) := dk_120 (dk_at dksX13_fewest_7 13 rfl rfl)
theorem dX13_fewest_180 : decode cX13_fewest 180 = .ok (.if_icmp .ge 59, 3) := dk_162 0 59 (dk_at dksX13_fewest_7 14 rfl rfl)
theorem dX13_fewest_183 : decode cX13_fewest 183 = .ok (.iload 4, 2) := dk_21 4 (dk_at dksX13_fewest_7 17 rfl rfl)
theorem dX13_fewest_185 : decode cX13_fewest 185 = .ok (.ifCond .le 48, 3) := dk_158 0 48 (dk_at dksX13_fewest_7 19 rfl rfl)
theorem dX13_fewest_188 : decode cX13_fewest 188 = .ok (.iload 4, 2) := dk_21 4 (dk_at dksX13_fewest_7 22 rfl rfl)
theorem dX13_fewest_190 : decode cX13_fewest 190 = .ok (.iload_n 3, 1) := dk_29 (dk_at dksX13_fewest_8 0 rfl rfl)
theorem dX13_fewest_191 : decode cX13_fewest 191 = .ok (.ishr, 1) := dk_122 (dk_at dksX13_fewest_8 1 rfl rfl)
theorem dX13_fewest_192 : decode cX13_fewest 192 = .ok (.iconst 1, 1) := dk_4 (dk_at dksX13_fewest_8 2 rfl rfl)
theorem dX13_fewest_193 : decode cX13_fewest 193 = .ok (.iand, 1) := dk_126 (dk_at dksX13_fewest_8 3 rfl rfl)
theorem dX13_fewest_194 : decode cX13_fewest 194 = .ok (.iconst 1, 1) := dk_4 (dk_at dksX13_fewest_8 4 rfl rfl)
theorem dX13_fewest_195 : decode cX13_fewest 195 = .ok (.if_icmp .ne 38, 3) := dk_160 0 38 (dk_at dksX13_fewest_8 5 rfl rfl)
theorem dX13_fewest_198 : decode cX13_fewest 198 = .ok (.iload 4, 2) := dk_21 4 (dk_at dksX13_fewest_8 8 rfl rfl)
theorem dX13_fewest_200 : decode cX13_fewest 200 = .ok (.iconst 1, 1) := dk_4 (dk_at dksX13_fewest_8 10 rfl rfl)
theorem dX13_fewest_201 : decode cX13_fewest 201 = .ok (.iload_n 3, 1) := dk_29 (dk_at dksX13_fewest_8 11 rfl rfl)
theorem dX13_fewest_202 : decode cX13_fewest 202 = .ok (.ishl, 1) := dk_120 (dk_at dksX13_fewest_8 12 rfl rfl)
theorem dX13_fewest_203 : decode cX13_fewest 203 = .ok (.iconst (-1), 1) := dk_2 (dk_at dksX13_fewest_8 13 rfl rfl)
theorem dX13_fewest_204 : decode cX13_fewest 204 = .ok (.ixor, 1) := dk_130 (dk_at dksX13_fewest_8 14 rfl rfl)
theorem dX13_fewest_205 : decode cX13_fewest 205 = .ok (.iand, 1) := dk_126 (dk_at dksX13_fewest_8 15 rfl rfl)
theorem dX13_fewest_206 : decode cX13_fewest 206 = .ok (.ifCond .eq 27, 3) := dk_153 0 27 (dk_at dksX13_fewest_8 16 rfl rfl)
theorem dX13_fewest_209 : decode cX13_fewest 209 = .ok (.aload_n 0, 1) := dk_42 (dk_at dksX13_fewest_8 19 rfl rfl)
theorem dX13_fewest_210 : decode cX13_fewest 210 = .ok (.getfield 52, 3) := dk_180 0 52 (dk_at dksX13_fewest_8 20 rfl rfl)
theorem dX13_fewest_213 : decode cX13_fewest 213 = .ok (.iload 4, 2) := dk_21 4 (dk_at dksX13_fewest_9 0 rfl rfl)
theorem dX13_fewest_215 : decode cX13_fewest 215 = .ok (.iconst 1, 1) := dk_4 (dk_at dksX13_fewest_9 2 rfl rfl)
theorem dX13_fewest_216 : decode cX13_fewest 216 = .ok (.iload_n 3, 1) := dk_29 (dk_at dksX13_fewest_9 3 rfl rfl)
theorem dX13_fewest_217 : decode cX13_fewest 217 = .ok (.ishl, 1) := dk_120 (dk_at dksX13_fewest_9 4 rfl rfl)
theorem dX13_fewest_218 : decode cX13_fewest 218 = .ok (.iconst (-1), 1) := dk_2 (dk_at dksX13_fewest_9 5 rfl rfl)
theorem dX13_fewest_219 : decode cX13_fewest 219 = .ok (.ixor, 1) := dk_130 (dk_at dksX13_fewest_9 6 rfl rfl)
theorem dX13_fewest_220 : decode cX13_fewest 220 = .ok (.iand, 1) := dk_126 (dk_at dksX13_fewest_9 7 rfl rfl)
theorem dX13_fewest_221 : decode cX13_fewest 221 = .ok (.baload, 1) := dk_51 (dk_at dksX13_fewest_9 8 rfl rfl)
theorem dX13_fewest_222 : decode cX13_fewest 222 = .ok (.ifCond .eq 11, 3) := dk_153 0 11 (dk_at dksX13_fewest_9 9 rfl rfl)
theorem dX13_fewest_225 : decode cX13_fewest 225 = .ok (.aload_n 0, 1) := dk_42 (dk_at dksX13_fewest_9 12 rfl rfl)
theorem dX13_fewest_226 : decode cX13_fewest 226 = .ok (.getfield 52, 3) := dk_180 0 52 (dk_at dksX13_fewest_9 13 rfl rfl)
theorem dX13_fewest_229 : decode cX13_fewest 229 = .ok (.iload 4, 2) := dk_21 4 (dk_at dksX13_fewest_9 16 rfl rfl)
theorem dX13_fewest_231 : decode cX13_fewest 231 = .ok (.iconst 1, 1) := dk_4 (dk_at dksX13_fewest_9 18 rfl rfl)
theorem dX13_fewest_232 : decode cX13_fewest 232 = .ok (.bastore, 1) := dk_84 (dk_at dksX13_fewest_9 19 rfl rfl)
theorem dX13_fewest_233 : decode cX13_fewest 233 = .ok (.iinc 4 1, 3) := dk_132 4 1 (dk_at dksX13_fewest_9 20 rfl rfl)
theorem dX13_fewest_236 : decode cX13_fewest 236 = .ok (.goto (-61), 3) := dk_167 255 195 (dk_at dksX13_fewest_10 0 rfl rfl)
theorem dX13_fewest_239 : decode cX13_fewest 239 = .ok (.iinc 3 1, 3) := dk_132 3 1 (dk_at dksX13_fewest_10 3 rfl rfl)
theorem dX13_fewest_242 : decode cX13_fewest 242 = .ok (.goto (-75), 3) := dk_167 255 181 (dk_at dksX13_fewest_10 6 rfl rfl)
theorem dX13_fewest_245 : decode cX13_fewest 245 = .ok (.iconst 1, 1) := dk_4 (dk_at dksX13_fewest_10 9 rfl rfl)
theorem dX13_fewest_246 : decode cX13_fewest 246 = .ok (.iload_n 2, 1) := dk_28 (dk_at dksX13_fewest_10 10 rfl rfl)
theorem dX13_fewest_247 : decode cX13_fewest 247 = .ok (.ishl, 1) := dk_120 (dk_at dksX13_fewest_10 11 rfl rfl)
theorem dX13_fewest_248 : decode cX13_fewest 248 = .ok (.iconst 1, 1) := dk_4 (dk_at dksX13_fewest_10 12 rfl rfl)
theorem dX13_fewest_249 : decode cX13_fewest 249 = .ok (.isub, 1) := dk_100 (dk_at dksX13_fewest_10 13 rfl rfl)
theorem dX13_fewest_250 : decode cX13_fewest 250 = .ok (.istore_n 3, 1) := dk_62 (dk_at dksX13_fewest_10 14 rfl rfl)
theorem dX13_fewest_251 : decode cX13_fewest 251 = .ok (.iload_n 3, 1) := dk_29 (dk_at dksX13_fewest_10 15 rfl rfl)
theorem dX13_fewest_252 : decode cX13_fewest 252 = .ok (.istore 4, 2) := dk_54 4 (dk_at dksX13_fewest_10 16 rfl rfl)
theorem dX13_fewest_254 : decode cX13_fewest 254 = .ok (.iconst 0, 1) := dk_3 (dk_at dksX13_fewest_10 18 rfl rfl)
theorem dX13_fewest_255 : decode cX13_fewest 255 = .ok (.istore 5, 2) := dk_54 5 (dk_at dksX13_fewest_10 19 rfl rfl)
theorem dX13_fewest_257 : decode cX13_fewest 257 = .ok (.iload 5, 2) := dk_21 5 (dk_at dksX13_fewest_10 21 rfl rfl)
theorem dX13_fewest_259 : decode cX13_fewest 259 = .ok (.iload_n 3, 1) := dk_29 (dk_at dksX13_fewest_10 23 rfl rfl)
theorem dX13_fewest_260 : decode cX13_fewest 260 = .ok (.if_icmp .gt 72, 3) := dk_163 0 72 (dk_at dksX13_fewest_11 0 rfl rfl)
theorem dX13_fewest_263 : decode cX13_fewest 263 = .ok (.iload_n 3, 1) := dk_29 (dk_at dksX13_fewest_11 3 rfl rfl)
theorem dX13_fewest_264 : decode cX13_fewest 264 = .ok (.iload 5, 2) := dk_21 5 (dk_at dksX13_fewest_11 4 rfl rfl)
theorem dX13_fewest_266 : decode cX13_fewest 266 = .ok (.iconst (-1), 1) := dk_2 (dk_at dksX13_fewest_11 6 rfl rfl)
theorem dX13_fewest_267 : decode cX13_fewest 267 = .ok (.ixor, 1) := dk_130 (dk_at dksX13_fewest_11 7 rfl rfl)
theorem dX13_fewest_268 : decode cX13_fewest 268 = .ok (.iand, 1) := dk_126 (dk_at dksX13_fewest_11 8 rfl rfl)
theorem dX13_fewest_269 : decode cX13_fewest 269 = .ok (.istore 6, 2) := dk_54 6 (dk_at dksX13_fewest_11 9 rfl rfl)
theorem dX13_fewest_271 : decode cX13_fewest 271 = .ok (.iload 6, 2) := dk_21 6 (dk_at dksX13_fewest_11 11 rfl rfl)
theorem dX13_fewest_273 : decode cX13_fewest 273 = .ok (.ifCond .le 16, 3) := dk_158 0 16 (dk_at dksX13_fewest_11 13 rfl rfl)
theorem dX13_fewest_276 : decode cX13_fewest 276 = .ok (.aload_n 0, 1) := dk_42 (dk_at dksX13_fewest_11 16 rfl rfl)
theorem dX13_fewest_277 : decode cX13_fewest 277 = .ok (.getfield 52, 3) := dk_180 0 52 (dk_at dksX13_fewest_11 17 rfl rfl)
theorem dX13_fewest_280 : decode cX13_fewest 280 = .ok (.iload 6, 2) := dk_21 6 (dk_at dksX13_fewest_11 20 rfl rfl)
theorem dX13_fewest_282 : decode cX13_fewest 282 = .ok (.baload, 1) := dk_51 (dk_at dksX13_fewest_11 22 rfl rfl)
theorem dX13_fewest_283 : decode cX13_fewest 283 = .ok (.ifCond .eq 6, 3) := dk_153 0 6 (dk_at dksX13_fewest_12 0 rfl rfl)
theorem dX13_fewest_286 : decode cX13_fewest 286 = .ok (.goto 40, 3) := dk_167 0 40 (dk_at dksX13_fewest_12 3 rfl rfl)
theorem dX13_fewest_289 : decode cX13_fewest 289 = .ok (.iload 5, 2) := dk_21 5 (dk_at dksX13_fewest_12 6 rfl rfl)
theorem dX13_fewest_291 : decode cX13_fewest 291 = .ok (.invokestatic 348, 3) := dk_184 1 92 (dk_at dksX13_fewest_12 8 rfl rfl)
theorem dX13_fewest_294 : decode cX13_fewest 294 = .ok (.iload 4, 2) := dk_21 4 (dk_at dksX13_fewest_12 11 rfl rfl)
theorem dX13_fewest_296 : decode cX13_fewest 296 = .ok (.invokestatic 348, 3) := dk_184 1 92 (dk_at dksX13_fewest_12 13 rfl rfl)
theorem dX13_fewest_299 : decode cX13_fewest 299 = .ok (.if_icmp .lt 23, 3) := dk_161 0 23 (dk_at dksX13_fewest_12 16 rfl rfl)
theorem dX13_fewest_302 : decode cX13_fewest 302 = .ok (.iload 5, 2) := dk_21 5 (dk_at dksX13_fewest_12 19 rfl rfl)
theorem dX13_fewest_304 : decode cX13_fewest 304 = .ok (.invokestatic 348, 3) := dk_184 1 92 (dk_at dksX13_fewest_12 21 rfl rfl)
theorem dX13_fewest_307 : decode cX13_fewest 307 = .ok (.iload 4, 2) := dk_21 4 (dk_at dksX13_fewest_13 0 rfl rfl)
theorem dX13_fewest_309 : decode cX13_fewest 309 = .ok (.invokestatic 348, 3) := dk_184 1 92 (dk_at dksX13_fewest_13 2 rfl rfl)
theorem dX13_fewest_312 : decode cX13_fewest 312 = .ok (.if_icmp .ne 14, 3) := dk_160 0 14 (dk_at dksX13_fewest_13 5 rfl rfl)
theorem dX13_fewest_315 : decode cX13_fewest 315 = .ok (.iload 5, 2) := dk_21 5 (dk_at dksX13_fewest_13 8 rfl rfl)
theorem dX13_fewest_317 : decode cX13_fewest 317 = .ok (.iload 4, 2) := dk_21 4 (dk_at dksX13_fewest_13 10 rfl rfl)
theorem dX13_fewest_319 : decode cX13_fewest 319 = .ok (.if_icmp .ge 7, 3) := dk_162 0 7 (dk_at dksX13_fewest_13 12 rfl rfl)
theorem dX13_fewest_322 : decode cX13_fewest 322 = .ok (.iload 5, 2) := dk_21 5 (dk_at dksX13_fewest_13 15 rfl rfl)
theorem dX13_fewest_324 : decode cX13_fewest 324 = .ok (.istore 4, 2) := dk_54 4 (dk_at dksX13_fewest_13 17 rfl rfl)
theorem dX13_fewest_326 : decode cX13_fewest 326 = .ok (.iinc 5 1, 3) := dk_132 5 1 (dk_at dksX13_fewest_13 19 rfl rfl)
theorem dX13_fewest_329 : decode cX13_fewest 329 = .ok (.goto (-72), 3) := dk_167 255 184 (dk_at dksX13_fewest_14 0 rfl rfl)
theorem dX13_fewest_332 : decode cX13_fewest 332 = .ok (.iload 4, 2) := dk_21 4 (dk_at dksX13_fewest_14 3 rfl rfl)
theorem dX13_fewest_334 : decode cX13_fewest 334 = .ok (.ireturn, 1) := dk_172 (dk_at dksX13_fewest_14 5 rfl rfl)
abbrev cX13_bits : ByteArray := prog_24_method_92_code
def yX13_bits : MethodName := ⟨RX13, "bits", "(I)I"⟩
def dkwX13_bits_0 : List UInt8 := [3, 60, 26, 61, 28, 153, 0, 15, 132, 1, 1, 28, 28, 4, 100, 126, 61, 167, 255, 243, 27, 172]
abbrev dktX13_bits_0 : List UInt8 := dkwX13_bits_0 ++ []
theorem dksX13_bits_0 : cX13_bits.data.toList.drop 0 = dktX13_bits_0 := by decide +kernel
theorem dX13_bits_0 : decode cX13_bits 0 = .ok (.iconst 0, 1) := dk_3 (dk_at dksX13_bits_0 0 rfl rfl)
theorem dX13_bits_1 : decode cX13_bits 1 = .ok (.istore_n 1, 1) := dk_60 (dk_at dksX13_bits_0 1 rfl rfl)
theorem dX13_bits_2 : decode cX13_bits 2 = .ok (.iload_n 0, 1) := dk_26 (dk_at dksX13_bits_0 2 rfl rfl)
theorem dX13_bits_3 : decode cX13_bits 3 = .ok (.istore_n 2, 1) := dk_61 (dk_at dksX13_bits_0 3 rfl rfl)
theorem dX13_bits_4 : decode cX13_bits 4 = .ok (.iload_n 2, 1) := dk_28 (dk_at dksX13_bits_0 4 rfl rfl)
theorem dX13_bits_5 : decode cX13_bits 5 = .ok (.ifCond .eq 15, 3) := dk_153 0 15 (dk_at dksX13_bits_0 5 rfl rfl)
theorem dX13_bits_8 : decode cX13_bits 8 = .ok (.iinc 1 1, 3) := dk_132 1 1 (dk_at dksX13_bits_0 8 rfl rfl)
theorem dX13_bits_11 : decode cX13_bits 11 = .ok (.iload_n 2, 1) := dk_28 (dk_at dksX13_bits_0 11 rfl rfl)
theorem dX13_bits_12 : decode cX13_bits 12 = .ok (.iload_n 2, 1) := dk_28 (dk_at dksX13_bits_0 12 rfl rfl)
theorem dX13_bits_13 : decode cX13_bits 13 = .ok (.iconst 1, 1) := dk_4 (dk_at dksX13_bits_0 13 rfl rfl)
theorem dX13_bits_14 : decode cX13_bits 14 = .ok (.isub, 1) := dk_100 (dk_at dksX13_bits_0 14 rfl rfl)
theorem dX13_bits_15 : decode cX13_bits 15 = .ok (.iand, 1) := dk_126 (dk_at dksX13_bits_0 15 rfl rfl)
theorem dX13_bits_16 : decode cX13_bits 16 = .ok (.istore_n 2, 1) := dk_61 (dk_at dksX13_bits_0 16 rfl rfl)
theorem dX13_bits_17 : decode cX13_bits 17 = .ok (.goto (-13), 3) := dk_167 255 243 (dk_at dksX13_bits_0 17 rfl rfl)
theorem dX13_bits_20 : decode cX13_bits 20 = .ok (.iload_n 1, 1) := dk_27 (dk_at dksX13_bits_0 20 rfl rfl)
theorem dX13_bits_21 : decode cX13_bits 21 = .ok (.ireturn, 1) := dk_172 (dk_at dksX13_bits_0 21 rfl rfl)
abbrev cX13_shutting : ByteArray := prog_24_method_94_code
def yX13_shutting : MethodName := ⟨RX13, "shutting", "(I)I"⟩
def dkwX13_shutting_7 : List UInt8 := [154, 0, 12, 21, 4, 4, 21, 5, 120, 128, 54, 4, 132, 5, 1, 167, 255, 211, 21, 4, 172]
abbrev dktX13_shutting_7 : List UInt8 := dkwX13_shutting_7 ++ []
def dkwX13_shutting_6 : List UInt8 := [162, 0, 42, 42, 21, 5, 16, 6, 182, 0, 227, 4, 159, 0, 24, 42, 21, 5, 8, 182, 0, 227, 28, 126]
abbrev dktX13_shutting_6 : List UInt8 := dkwX13_shutting_6 ++ dktX13_shutting_7
def dkwX13_shutting_5 : List UInt8 := [132, 4, 1, 167, 255, 163, 27, 154, 0, 5, 28, 172, 3, 54, 4, 3, 54, 5, 21, 5, 42, 182, 0, 224]
abbrev dktX13_shutting_5 : List UInt8 := dkwX13_shutting_5 ++ dktX13_shutting_6
def dkwX13_shutting_4 : List UInt8 := [160, 0, 18, 21, 4, 184, 1, 92, 28, 184, 1, 92, 161, 0, 6, 167, 0, 9, 21, 5, 62, 21, 4, 61]
abbrev dktX13_shutting_4 : List UInt8 := dkwX13_shutting_4 ++ dktX13_shutting_5
def dkwX13_shutting_3 : List UInt8 := [126, 153, 0, 6, 132, 5, 1, 132, 6, 1, 167, 255, 216, 21, 5, 29, 161, 0, 30, 21, 5, 29]
abbrev dktX13_shutting_3 : List UInt8 := dkwX13_shutting_3 ++ dktX13_shutting_4
def dkwX13_shutting_2 : List UInt8 := [162, 0, 37, 42, 21, 6, 16, 6, 182, 0, 227, 4, 159, 0, 19, 42, 21, 6, 8, 182, 0, 227, 21, 4]
abbrev dktX13_shutting_2 : List UInt8 := dkwX13_shutting_2 ++ dktX13_shutting_3
def dkwX13_shutting_1 : List UInt8 := [3, 54, 4, 21, 4, 17, 1, 0, 162, 0, 91, 3, 54, 5, 3, 54, 6, 21, 6, 42, 182, 0, 224]
abbrev dktX13_shutting_1 : List UInt8 := dkwX13_shutting_1 ++ dktX13_shutting_2
def dkwX13_shutting_0 : List UInt8 := [42, 3, 181, 0, 58, 42, 182, 0, 212, 27, 3, 4, 184, 0, 115, 154, 0, 5, 2, 172, 3, 61, 3, 62]
abbrev dktX13_shutting_0 : List UInt8 := dkwX13_shutting_0 ++ dktX13_shutting_1
theorem dksX13_shutting_0 : cX13_shutting.data.toList.drop 0 = dktX13_shutting_0 := by decide +kernel
theorem dksX13_shutting_1 : cX13_shutting.data.toList.drop 24 = dktX13_shutting_1 := dk_seg dksX13_shutting_0 24 rfl rfl
theorem dksX13_shutting_2 : cX13_shutting.data.toList.drop 47 = dktX13_shutting_2 := dk_seg dksX13_shutting_1 23 rfl rfl
theorem dksX13_shutting_3 : cX13_shutting.data.toList.drop 71 = dktX13_shutting_3 := dk_seg dksX13_shutting_2 24 rfl rfl
theorem dksX13_shutting_4 : cX13_shutting.data.toList.drop 93 = dktX13_shutting_4 := dk_seg dksX13_shutting_3 22 rfl rfl
theorem dksX13_shutting_5 : cX13_shutting.data.toList.drop 117 = dktX13_shutting_5 := dk_seg dksX13_shutting_4 24 rfl rfl
theorem dksX13_shutting_6 : cX13_shutting.data.toList.drop 141 = dktX13_shutting_6 := dk_seg dksX13_shutting_5 24 rfl rfl
theorem dksX13_shutting_7 : cX13_shutting.data.toList.drop 165 = dktX13_shutting_7 := dk_seg dksX13_shutting_6 24 rfl rfl
theorem dX13_shutting_0 : decode cX13_shutting 0 = .ok (.aload_n 0, 1) := dk_42 (dk_at dksX13_shutting_0 0 rfl rfl)
theorem dX13_shutting_1 : decode cX13_shutting 1 = .ok (.iconst 0, 1) := dk_3 (dk_at dksX13_shutting_0 1 rfl rfl)
theorem dX13_shutting_2 : decode cX13_shutting 2 = .ok (.putfield 58, 3) := dk_181 0 58 (dk_at dksX13_shutting_0 2 rfl rfl)
theorem dX13_shutting_5 : decode cX13_shutting 5 = .ok (.aload_n 0, 1) := dk_42 (dk_at dksX13_shutting_0 5 rfl rfl)
theorem dX13_shutting_6 : decode cX13_shutting 6 = .ok (.invokevirtual 212, 3) := dk_182 0 212 (dk_at dksX13_shutting_0 6 rfl rfl)
theorem dX13_shutting_9 : decode cX13_shutting 9 = .ok (.iload_n 1, 1) := dk_27 (dk_at dksX13_shutting_0 9 rfl rfl)
theorem dX13_shutting_10 : decode cX13_shutting 10 = .ok (.iconst 0, 1) := dk_3 (dk_at dksX13_shutting_0 10 rfl rfl)
theorem dX13_shutting_11 : decode cX13_shutting 11 = .ok (.iconst 1, 1) := dk_4 (dk_at dksX13_shutting_0 11 rfl rfl)
theorem dX13_shutting_12 : decode cX13_shutting 12 = .ok (.invokestatic 115, 3) := dk_184 0 115 (dk_at dksX13_shutting_0 12 rfl rfl)
theorem dX13_shutting_15 : decode cX13_shutting 15 = .ok (.ifCond .ne 5, 3) := dk_154 0 5 (dk_at dksX13_shutting_0 15 rfl rfl)
theorem dX13_shutting_18 : decode cX13_shutting 18 = .ok (.iconst (-1), 1) := dk_2 (dk_at dksX13_shutting_0 18 rfl rfl)
theorem dX13_shutting_19 : decode cX13_shutting 19 = .ok (.ireturn, 1) := dk_172 (dk_at dksX13_shutting_0 19 rfl rfl)
theorem dX13_shutting_20 : decode cX13_shutting 20 = .ok (.iconst 0, 1) := dk_3 (dk_at dksX13_shutting_0 20 rfl rfl)
theorem dX13_shutting_21 : decode cX13_shutting 21 = .ok (.istore_n 2, 1) := dk_61 (dk_at dksX13_shutting_0 21 rfl rfl)
theorem dX13_shutting_22 : decode cX13_shutting 22 = .ok (.iconst 0, 1) := dk_3 (dk_at dksX13_shutting_0 22 rfl rfl)
theorem dX13_shutting_23 : decode cX13_shutting 23 = .ok (.istore_n 3, 1) := dk_62 (dk_at dksX13_shutting_0 23 rfl rfl)
theorem dX13_shutting_24 : decode cX13_shutting 24 = .ok (.iconst 0, 1) := dk_3 (dk_at dksX13_shutting_1 0 rfl rfl)
theorem dX13_shutting_25 : decode cX13_shutting 25 = .ok (.istore 4, 2) := dk_54 4 (dk_at dksX13_shutting_1 1 rfl rfl)
theorem dX13_shutting_27 : decode cX13_shutting 27 = .ok (.iload 4, 2) := dk_21 4 (dk_at dksX13_shutting_1 3 rfl rfl)
theorem dX13_shutting_29 : decode cX13_shutting 29 = .ok (.sipush 256, 3) := dk_17 1 0 (dk_at dksX13_shutting_1 5 rfl rfl)
theorem dX13_shutting_32 : decode cX13_shutting 32 = .ok (.if_icmp .ge 91, 3) := dk_162 0 91 (dk_at dksX13_shutting_1 8 rfl rfl)
theorem dX13_shutting_35 : decode cX13_shutting 35 = .ok (.iconst 0, 1) := dk_3 (dk_at dksX13_shutting_1 11 rfl rfl)
theorem dX13_shutting_36 : decode cX13_shutting 36 = .ok (.istore 5, 2) := dk_54 5 (dk_at dksX13_shutting_1 12 rfl rfl)
theorem dX13_shutting_38 : decode cX13_shutting 38 = .ok (.iconst 0, 1) := dk_3 (dk_at dksX13_shutting_1 14 rfl rfl)
theorem dX13_shutting_39 : decode cX13_shutting 39 = .ok (.istore 6, 2) := dk_54 6 (dk_at dksX13_shutting_1 15 rfl rfl)
theorem dX13_shutting_41 : decode cX13_shutting 41 = .ok (.iload 6, 2) := dk_21 6 (dk_at dksX13_shutting_1 17 rfl rfl)
theorem dX13_shutting_43 : decode cX13_shutting 43 = .ok (.aload_n 0, 1) := dk_42 (dk_at dksX13_shutting_1 19 rfl rfl)
theorem dX13_shutting_44 : decode cX13_shutting 44 = .ok (.invokevirtual 224, 3) := dk_182 0 224 (dk_at dksX13_shutting_1 20 rfl rfl)
theorem dX13_shutting_47 : decode cX13_shutting 47 = .ok (.if_icmp .ge 37, 3) := dk_162 0 37 (dk_at dksX13_shutting_2 0 rfl rfl)
theorem dX13_shutting_50 : decode cX13_shutting 50 = .ok (.aload_n 0, 1) := dk_42 (dk_at dksX13_shutting_2 3 rfl rfl)
theorem dX13_shutting_51 : decode cX13_shutting 51 = .ok (.iload 6, 2) := dk_21 6 (dk_at dksX13_shutting_2 4 rfl rfl)
theorem dX13_shutting_53 : decode cX13_shutting 53 = .ok (.bipush 6, 2) := dk_16 6 (dk_at dksX13_shutting_2 6 rfl rfl)
theorem dX13_shutting_55 : decode cX13_shutting 55 = .ok (.invokevirtual 227, 3) := dk_182 0 227 (dk_at dksX13_shutting_2 8 rfl rfl)
theorem dX13_shutting_58 : decode cX13_shutting 58 = .ok (.iconst 1, 1) := dk_4 (dk_at dksX13_shutting_2 11 rfl rfl)
theorem dX13_shutting_59 : decode cX13_shutting 59 = .ok (.if_icmp .eq 19, 3) := dk_159 0 19 (dk_at dksX13_shutting_2 12 rfl rfl)
theorem dX13_shutting_62 : decode cX13_shutting 62 = .ok (.aload_n 0, 1) := dk_42 (dk_at dksX13_shutting_2 15 rfl rfl)
theorem dX13_shutting_63 : decode cX13_shutting 63 = .ok (.iload 6, 2) := dk_21 6 (dk_at dksX13_shutting_2 16 rfl rfl)
theorem dX13_shutting_65 : decode cX13_shutting 65 = .ok (.iconst 5, 1) := dk_8 (dk_at dksX13_shutting_2 18 rfl rfl)
theorem dX13_shutting_66 : decode cX13_shutting 66 = .ok (.invokevirtual 227, 3) := dk_182 0 227 (dk_at dksX13_shutting_2 19 rfl rfl)
theorem dX13_shutting_69 : decode cX13_shutting 69 = .ok (.iload 4, 2) := dk_21 4 (dk_at dksX13_shutting_2 22 rfl rfl)
theorem dX13_shutting_71 : decode cX13_shutting 71 = .ok (.iand, 1) := dk_126 (dk_at dksX13_shutting_3 0 rfl rfl)
theorem dX13_shutting_72 : decode cX13_shutting 72 = .ok (.ifCond .eq 6, 3) := dk_153 0 6 (dk_at dksX13_shutting_3 1 rfl rfl)
theorem dX13_shutting_75 : decode cX13_shutting 75 = .ok (.iinc 5 1, 3) := dk_132 5 1 (dk_at dksX13_shutting_3 4 rfl rfl)
theorem dX13_shutting_78 : decode cX13_shutting 78 = .ok (.iinc 6 1, 3) := dk_132 6 1 (dk_at dksX13_shutting_3 7 rfl rfl)
theorem dX13_shutting_81 : decode cX13_shutting 81 = .ok (.goto (-40), 3) := dk_167 255 216 (dk_at dksX13_shutting_3 10 rfl rfl)
theorem dX13_shutting_84 : decode cX13_shutting 84 = .ok (.iload 5, 2) := dk_21 5 (dk_at dksX13_shutting_3 13 rfl rfl)
theorem dX13_shutting_86 : decode cX13_shutting 86 = .ok (.iload_n 3, 1) := dk_29 (dk_at dksX13_shutting_3 15 rfl rfl)
theorem dX13_shutting_87 : decode cX13_shutting 87 = .ok (.if_icmp .lt 30, 3) := dk_161 0 30 (dk_at dksX13_shutting_3 16 rfl rfl)
theorem dX13_shutting_90 : decode cX13_shutting 90 = .ok (.iload 5, 2) := dk_21 5 (dk_at dksX13_shutting_3 19 rfl rfl)
theorem dX13_shutting_92 : decode cX13_shutting 92 = .ok (.iload_n 3, 1) := dk_29 (dk_at dksX13_shutting_3 21 rfl rfl)
theorem dX13_shutting_93 : decode cX13_shutting 93 = .ok (.if_icmp .ne 18, 3) := dk_160 0 18 (dk_at dksX13_shutting_4 0 rfl rfl)
theorem dX13_shutting_96 : decode cX13_shutting 96 = .ok (.iload 4, 2) := dk_21 4 (dk_at dksX13_shutting_4 3 rfl rfl)
theorem dX13_shutting_98 : decode cX13_shutting 98 = .ok (.invokestatic 348, 3) := dk_184 1 92 (dk_at dksX13_shutting_4 5 rfl rfl)
theorem dX13_shutting_101 : decode cX13_shutting 101 = .ok (.iload_n 2, 1) := dk_28 (dk_at dksX13_shutting_4 8 rfl rfl)
theorem dX13_shutting_102 : decode cX13_shutting 102 = .ok (.invokestatic 348, 3) := dk_184 1 92 (dk_at dksX13_shutting_4 9 rfl rfl)
theorem dX13_shutting_105 : decode cX13_shutting 105 = .ok (.if_icmp .lt 6, 3) := dk_161 0 6 (dk_at dksX13_shutting_4 12 rfl rfl)
theorem dX13_shutting_108 : decode cX13_shutting 108 = .ok (.goto 9, 3) := dk_167 0 9 (dk_at dksX13_shutting_4 15 rfl rfl)
theorem dX13_shutting_111 : decode cX13_shutting 111 = .ok (.iload 5, 2) := dk_21 5 (dk_at dksX13_shutting_4 18 rfl rfl)
theorem dX13_shutting_113 : decode cX13_shutting 113 = .ok (.istore_n 3, 1) := dk_62 (dk_at dksX13_shutting_4 20 rfl rfl)
theorem dX13_shutting_114 : decode cX13_shutting 114 = .ok (.iload 4, 2) := dk_21 4 (dk_at dksX13_shutting_4 21 rfl rfl)
theorem dX13_shutting_116 : decode cX13_shutting 116 = .ok (.istore_n 2, 1) := dk_61 (dk_at dksX13_shutting_4 23 rfl rfl)
theorem dX13_shutting_117 : decode cX13_shutting 117 = .ok (.iinc 4 1, 3) := dk_132 4 1 (dk_at dksX13_shutting_5 0 rfl rfl)
theorem dX13_shutting_120 : decode cX13_shutting 120 = .ok (.goto (-93), 3) := dk_167 255 163 (dk_at dksX13_shutting_5 3 rfl rfl)
theorem dX13_shutting_123 : decode cX13_shutting 123 = .ok (.iload_n 1, 1) := dk_27 (dk_at dksX13_shutting_5 6 rfl rfl)
theorem dX13_shutting_124 : decode cX13_shutting 124 = .ok (.ifCond .ne 5, 3) := dk_154 0 5 (dk_at dksX13_shutting_5 7 rfl rfl)
theorem dX13_shutting_127 : decode cX13_shutting 127 = .ok (.iload_n 2, 1) := dk_28 (dk_at dksX13_shutting_5 10 rfl rfl)
theorem dX13_shutting_128 : decode cX13_shutting 128 = .ok (.ireturn, 1) := dk_172 (dk_at dksX13_shutting_5 11 rfl rfl)
theorem dX13_shutting_129 : decode cX13_shutting 129 = .ok (.iconst 0, 1) := dk_3 (dk_at dksX13_shutting_5 12 rfl rfl)
theorem dX13_shutting_130 : decode cX13_shutting 130 = .ok (.istore 4, 2) := dk_54 4 (dk_at dksX13_shutting_5 13 rfl rfl)
theorem dX13_shutting_132 : decode cX13_shutting 132 = .ok (.iconst 0, 1) := dk_3 (dk_at dksX13_shutting_5 15 rfl rfl)
theorem dX13_shutting_133 : decode cX13_shutting 133 = .ok (.istore 5, 2) := dk_54 5 (dk_at dksX13_shutting_5 16 rfl rfl)
theorem dX13_shutting_135 : decode cX13_shutting 135 = .ok (.iload 5, 2) := dk_21 5 (dk_at dksX13_shutting_5 18 rfl rfl)
theorem dX13_shutting_137 : decode cX13_shutting 137 = .ok (.aload_n 0, 1) := dk_42 (dk_at dksX13_shutting_5 20 rfl rfl)
theorem dX13_shutting_138 : decode cX13_shutting 138 = .ok (.invokevirtual 224, 3) := dk_182 0 224 (dk_at dksX13_shutting_5 21 rfl rfl)
theorem dX13_shutting_141 : decode cX13_shutting 141 = .ok (.if_icmp .ge 42, 3) := dk_162 0 42 (dk_at dksX13_shutting_6 0 rfl rfl)
theorem dX13_shutting_144 : decode cX13_shutting 144 = .ok (.aload_n 0, 1) := dk_42 (dk_at dksX13_shutting_6 3 rfl rfl)
theorem dX13_shutting_145 : decode cX13_shutting 145 = .ok (.iload 5, 2) := dk_21 5 (dk_at dksX13_shutting_6 4 rfl rfl)
theorem dX13_shutting_147 : decode cX13_shutting 147 = .ok (.bipush 6, 2) := dk_16 6 (dk_at dksX13_shutting_6 6 rfl rfl)
theorem dX13_shutting_149 : decode cX13_shutting 149 = .ok (.invokevirtual 227, 3) := dk_182 0 227 (dk_at dksX13_shutting_6 8 rfl rfl)
theorem dX13_shutting_152 : decode cX13_shutting 152 = .ok (.iconst 1, 1) := dk_4 (dk_at dksX13_shutting_6 11 rfl rfl)
theorem dX13_shutting_153 : decode cX13_shutting 153 = .ok (.if_icmp .eq 24, 3) := dk_159 0 24 (dk_at dksX13_shutting_6 12 rfl rfl)
theorem dX13_shutting_156 : decode cX13_shutting 156 = .ok (.aload_n 0, 1) := dk_42 (dk_at dksX13_shutting_6 15 rfl rfl)
theorem dX13_shutting_157 : decode cX13_shutting 157 = .ok (.iload 5, 2) := dk_21 5 (dk_at dksX13_shutting_6 16 rfl rfl)
theorem dX13_shutting_159 : decode cX13_shutting 159 = .ok (.iconst 5, 1) := dk_8 (dk_at dksX13_shutting_6 18 rfl rfl)
theorem dX13_shutting_160 : decode cX13_shutting 160 = .ok (.invokevirtual 227, 3) := dk_182 0 227 (dk_at dksX13_shutting_6 19 rfl rfl)
theorem dX13_shutting_163 : decode cX13_shutting 163 = .ok (.iload_n 2, 1) := dk_28 (dk_at dksX13_shutting_6 22 rfl rfl)
theorem dX13_shutting_164 : decode cX13_shutting 164 = .ok (.iand, 1) := dk_126 (dk_at dksX13_shutting_6 23 rfl rfl)
theorem dX13_shutting_165 : decode cX13_shutting 165 = .ok (.ifCond .ne 12, 3) := dk_154 0 12 (dk_at dksX13_shutting_7 0 rfl rfl)
theorem dX13_shutting_168 : decode cX13_shutting 168 = .ok (.iload 4, 2) := dk_21 4 (dk_at dksX13_shutting_7 3 rfl rfl)
theorem dX13_shutting_170 : decode cX13_shutting 170 = .ok (.iconst 1, 1) := dk_4 (dk_at dksX13_shutting_7 5 rfl rfl)
theorem dX13_shutting_171 : decode cX13_shutting 171 = .ok (.iload 5, 2) := dk_21 5 (dk_at dksX13_shutting_7 6 rfl rfl)
theorem dX13_shutting_173 : decode cX13_shutting 173 = .ok (.ishl, 1) := dk_120 (dk_at dksX13_shutting_7 8 rfl rfl)
theorem dX13_shutting_174 : decode cX13_shutting 174 = .ok (.ior, 1) := dk_128 (dk_at dksX13_shutting_7 9 rfl rfl)
theorem dX13_shutting_175 : decode cX13_shutting 175 = .ok (.istore 4, 2) := dk_54 4 (dk_at dksX13_shutting_7 10 rfl rfl)
theorem dX13_shutting_177 : decode cX13_shutting 177 = .ok (.iinc 5 1, 3) := dk_132 5 1 (dk_at dksX13_shutting_7 12 rfl rfl)
theorem dX13_shutting_180 : decode cX13_shutting 180 = .ok (.goto (-45), 3) := dk_167 255 211 (dk_at dksX13_shutting_7 15 rfl rfl)
theorem dX13_shutting_183 : decode cX13_shutting 183 = .ok (.iload 4, 2) := dk_21 4 (dk_at dksX13_shutting_7 18 rfl rfl)
theorem dX13_shutting_185 : decode cX13_shutting 185 = .ok (.ireturn, 1) := dk_172 (dk_at dksX13_shutting_7 20 rfl rfl)
abbrev cX13_sentence : ByteArray := prog_24_method_105_code
def yX13_sentence : MethodName := ⟨RX13, "sentence", "()I"⟩
def dkwX13_sentence_4 : List UInt8 := [27, 96, 42, 180, 0, 55, 27, 46, 79, 132, 1, 1, 167, 255, 230, 42, 180, 1, 123, 172]
abbrev dktX13_sentence_4 : List UInt8 := dkwX13_sentence_4 ++ []
def dkwX13_sentence_3 : List UInt8 := [17, 0, 151, 42, 180, 1, 107, 79, 3, 60, 27, 17, 0, 240, 162, 0, 25, 42, 180, 0, 13, 17, 16, 204]
abbrev dktX13_sentence_3 : List UInt8 := dkwX13_sentence_3 ++ dktX13_sentence_4
def dkwX13_sentence_2 : List UInt8 := [182, 0, 112, 87, 2, 42, 180, 0, 109, 100, 172, 42, 180, 0, 13, 17, 0, 150, 4, 79, 42, 180, 0, 13]
abbrev dktX13_sentence_2 : List UInt8 := dkwX13_sentence_2 ++ dktX13_sentence_3
def dkwX13_sentence_1 : List UInt8 := [182, 1, 141, 154, 0, 10, 2, 42, 180, 0, 109, 100, 172, 42, 180, 0, 81, 153, 0, 16, 42, 4]
abbrev dktX13_sentence_1 : List UInt8 := dkwX13_sentence_1 ++ dktX13_sentence_2
def dkwX13_sentence_0 : List UInt8 := [42, 17, 0, 200, 182, 0, 218, 42, 3, 181, 1, 95, 42, 3, 181, 1, 123, 42, 3, 181, 1, 126, 42]
abbrev dktX13_sentence_0 : List UInt8 := dkwX13_sentence_0 ++ dktX13_sentence_1
theorem dksX13_sentence_0 : cX13_sentence.data.toList.drop 0 = dktX13_sentence_0 := by decide +kernel
theorem dksX13_sentence_1 : cX13_sentence.data.toList.drop 23 = dktX13_sentence_1 := dk_seg dksX13_sentence_0 23 rfl rfl
theorem dksX13_sentence_2 : cX13_sentence.data.toList.drop 45 = dktX13_sentence_2 := dk_seg dksX13_sentence_1 22 rfl rfl
theorem dksX13_sentence_3 : cX13_sentence.data.toList.drop 69 = dktX13_sentence_3 := dk_seg dksX13_sentence_2 24 rfl rfl
theorem dksX13_sentence_4 : cX13_sentence.data.toList.drop 93 = dktX13_sentence_4 := dk_seg dksX13_sentence_3 24 rfl rfl
theorem dX13_sentence_0 : decode cX13_sentence 0 = .ok (.aload_n 0, 1) := dk_42 (dk_at dksX13_sentence_0 0 rfl rfl)
theorem dX13_sentence_1 : decode cX13_sentence 1 = .ok (.sipush 200, 3) := dk_17 0 200 (dk_at dksX13_sentence_0 1 rfl rfl)
theorem dX13_sentence_4 : decode cX13_sentence 4 = .ok (.invokevirtual 218, 3) := dk_182 0 218 (dk_at dksX13_sentence_0 4 rfl rfl)
theorem dX13_sentence_7 : decode cX13_sentence 7 = .ok (.aload_n 0, 1) := dk_42 (dk_at dksX13_sentence_0 7 rfl rfl)
theorem dX13_sentence_8 : decode cX13_sentence 8 = .ok (.iconst 0, 1) := dk_3 (dk_at dksX13_sentence_0 8 rfl rfl)
theorem dX13_sentence_9 : decode cX13_sentence 9 = .ok (.putfield 351, 3) := dk_181 1 95 (dk_at dksX13_sentence_0 9 rfl rfl)
theorem dX13_sentence_12 : decode cX13_sentence 12 = .ok (.aload_n 0, 1) := dk_42 (dk_at dksX13_sentence_0 12 rfl rfl)
theorem dX13_sentence_13 : decode cX13_sentence 13 = .ok (.iconst 0, 1) := dk_3 (dk_at dksX13_sentence_0 13 rfl rfl)
theorem dX13_sentence_14 : decode cX13_sentence 14 = .ok (.putfield 379, 3) := dk_181 1 123 (dk_at dksX13_sentence_0 14 rfl rfl)
theorem dX13_sentence_17 : decode cX13_sentence 17 = .ok (.aload_n 0, 1) := dk_42 (dk_at dksX13_sentence_0 17 rfl rfl)
theorem dX13_sentence_18 : decode cX13_sentence 18 = .ok (.iconst 0, 1) := dk_3 (dk_at dksX13_sentence_0 18 rfl rfl)
theorem dX13_sentence_19 : decode cX13_sentence 19 = .ok (.putfield 382, 3) := dk_181 1 126 (dk_at dksX13_sentence_0 19 rfl rfl)
theorem dX13_sentence_22 : decode cX13_sentence 22 = .ok (.aload_n 0, 1) := dk_42 (dk_at dksX13_sentence_0 22 rfl rfl)
theorem dX13_sentence_23 : decode cX13_sentence 23 = .ok (.invokevirtual 397, 3) := dk_182 1 141 (dk_at dksX13_sentence_1 0 rfl rfl)
theorem dX13_sentence_26 : decode cX13_sentence 26 = .ok (.ifCond .ne 10, 3) := dk_154 0 10 (dk_at dksX13_sentence_1 3 rfl rfl)
theorem dX13_sentence_29 : decode cX13_sentence 29 = .ok (.iconst (-1), 1) := dk_2 (dk_at dksX13_sentence_1 6 rfl rfl)
theorem dX13_sentence_30 : decode cX13_sentence 30 = .ok (.aload_n 0, 1) := dk_42 (dk_at dksX13_sentence_1 7 rfl rfl)
theorem dX13_sentence_31 : decode cX13_sentence 31 = .ok (.getfield 109, 3) := dk_180 0 109 (dk_at dksX13_sentence_1 8 rfl rfl)
theorem dX13_sentence_34 : decode cX13_sentence 34 = .ok (.isub, 1) := dk_100 (dk_at dksX13_sentence_1 11 rfl rfl)
theorem dX13_sentence_35 : decode cX13_sentence 35 = .ok (.ireturn, 1) := dk_172 (dk_at dksX13_sentence_1 12 rfl rfl)
theorem dX13_sentence_36 : decode cX13_sentence 36 = .ok (.aload_n 0, 1) := dk_42 (dk_at dksX13_sentence_1 13 rfl rfl)
theorem dX13_sentence_37 : decode cX13_sentence 37 = .ok (.getfield 81, 3) := dk_180 0 81 (dk_at dksX13_sentence_1 14 rfl rfl)
theorem dX13_sentence_40 : decode cX13_sentence 40 = .ok (.ifCond .eq 16, 3) := dk_153 0 16 (dk_at dksX13_sentence_1 17 rfl rfl)
theorem dX13_sentence_43 : decode cX13_sentence 43 = .ok (.aload_n 0, 1) := dk_42 (dk_at dksX13_sentence_1 20 rfl rfl)
theorem dX13_sentence_44 : decode cX13_sentence 44 = .ok (.iconst 1, 1) := dk_4 (dk_at dksX13_sentence_1 21 rfl rfl)
theorem dX13_sentence_45 : decode cX13_sentence 45 = .ok (.invokevirtual 112, 3) := dk_182 0 112 (dk_at dksX13_sentence_2 0 rfl rfl)
theorem dX13_sentence_48 : decode cX13_sentence 48 = .ok (.pop, 1) := dk_87 (dk_at dksX13_sentence_2 3 rfl rfl)
theorem dX13_sentence_49 : decode cX13_sentence 49 = .ok (.iconst (-1), 1) := dk_2 (dk_at dksX13_sentence_2 4 rfl rfl)
theorem dX13_sentence_50 : decode cX13_sentence 50 = .ok (.aload_n 0, 1) := dk_42 (dk_at dksX13_sentence_2 5 rfl rfl)
theorem dX13_sentence_51 : decode cX13_sentence 51 = .ok (.getfield 109, 3) := dk_180 0 109 (dk_at dksX13_sentence_2 6 rfl rfl)
theorem dX13_sentence_54 : decode cX13_sentence 54 = .ok (.isub, 1) := dk_100 (dk_at dksX13_sentence_2 9 rfl rfl)
theorem dX13_sentence_55 : decode cX13_sentence 55 = .ok (.ireturn, 1) := dk_172 (dk_at dksX13_sentence_2 10 rfl rfl)
theorem dX13_sentence_56 : decode cX13_sentence 56 = .ok (.aload_n 0, 1) := dk_42 (dk_at dksX13_sentence_2 11 rfl rfl)
theorem dX13_sentence_57 : decode cX13_sentence 57 = .ok (.getfield 13, 3) := dk_180 0 13 (dk_at dksX13_sentence_2 12 rfl rfl)
theorem dX13_sentence_60 : decode cX13_sentence 60 = .ok (.sipush 150, 3) := dk_17 0 150 (dk_at dksX13_sentence_2 15 rfl rfl)
theorem dX13_sentence_63 : decode cX13_sentence 63 = .ok (.iconst 1, 1) := dk_4 (dk_at dksX13_sentence_2 18 rfl rfl)
theorem dX13_sentence_64 : decode cX13_sentence 64 = .ok (.iastore, 1) := dk_79 (dk_at dksX13_sentence_2 19 rfl rfl)
theorem dX13_sentence_65 : decode cX13_sentence 65 = .ok (.aload_n 0, 1) := dk_42 (dk_at dksX13_sentence_2 20 rfl rfl)
theorem dX13_sentence_66 : decode cX13_sentence 66 = .ok (.getfield 13, 3) := dk_180 0 13 (dk_at dksX13_sentence_2 21 rfl rfl)
theorem dX13_sentence_69 : decode cX13_sentence 69 = .ok (.sipush 151, 3) := dk_17 0 151 (dk_at dksX13_sentence_3 0 rfl rfl)
theorem dX13_sentence_72 : decode cX13_sentence 72 = .ok (.aload_n 0, 1) := dk_42 (dk_at dksX13_sentence_3 3 rfl rfl)
theorem dX13_sentence_73 : decode cX13_sentence 73 = .ok (.getfield 363, 3) := dk_180 1 107 (dk_at dksX13_sentence_3 4 rfl rfl)
theorem dX13_sentence_76 : decode cX13_sentence 76 = .ok (.iastore, 1) := dk_79 (dk_at dksX13_sentence_3 7 rfl rfl)
theorem dX13_sentence_77 : decode cX13_sentence 77 = .ok (.iconst 0, 1) := dk_3 (dk_at dksX13_sentence_3 8 rfl rfl)
theorem dX13_sentence_78 : decode cX13_sentence 78 = .ok (.istore_n 1, 1) := dk_60 (dk_at dksX13_sentence_3 9 rfl rfl)
theorem dX13_sentence_79 : decode cX13_sentence 79 = .ok (.iload_n 1, 1) := dk_27 (dk_at dksX13_sentence_3 10 rfl rfl)
theorem dX13_sentence_80 : decode cX13_sentence 80 = .ok (.sipush 240, 3) := dk_17 0 240 (dk_at dksX13_sentence_3 11 rfl rfl)
theorem dX13_sentence_83 : decode cX13_sentence 83 = .ok (.if_icmp .ge 25, 3) := dk_162 0 25 (dk_at dksX13_sentence_3 14 rfl rfl)
theorem dX13_sentence_86 : decode cX13_sentence 86 = .ok (.aload_n 0, 1) := dk_42 (dk_at dksX13_sentence_3 17 rfl rfl)
theorem dX13_sentence_87 : decode cX13_sentence 87 = .ok (.getfield 13, 3) := dk_180 0 13 (dk_at dksX13_sentence_3 18 rfl rfl)
theorem dX13_sentence_90 : decode cX13_sentence 90 = .ok (.sipush 4300, 3) := dk_17 16 204 (dk_at dksX13_sentence_3 21 rfl rfl)
theorem dX13_sentence_93 : decode cX13_sentence 93 = .ok (.iload_n 1, 1) := dk_27 (dk_at dksX13_sentence_4 0 rfl rfl)
theorem dX13_sentence_94 : decode cX13_sentence 94 = .ok (.iadd, 1) := dk_96 (dk_at dksX13_sentence_4 1 rfl rfl)
theorem dX13_sentence_95 : decode cX13_sentence 95 = .ok (.aload_n 0, 1) := dk_42 (dk_at dksX13_sentence_4 2 rfl rfl)
theorem dX13_sentence_96 : decode cX13_sentence 96 = .ok (.getfield 55, 3) := dk_180 0 55 (dk_at dksX13_sentence_4 3 rfl rfl)
theorem dX13_sentence_99 : decode cX13_sentence 99 = .ok (.iload_n 1, 1) := dk_27 (dk_at dksX13_sentence_4 6 rfl rfl)
theorem dX13_sentence_100 : decode cX13_sentence 100 = .ok (.iaload, 1) := dk_46 (dk_at dksX13_sentence_4 7 rfl rfl)
theorem dX13_sentence_101 : decode cX13_sentence 101 = .ok (.iastore, 1) := dk_79 (dk_at dksX13_sentence_4 8 rfl rfl)
theorem dX13_sentence_102 : decode cX13_sentence 102 = .ok (.iinc 1 1, 3) := dk_132 1 1 (dk_at dksX13_sentence_4 9 rfl rfl)
theorem dX13_sentence_105 : decode cX13_sentence 105 = .ok (.goto (-26), 3) := dk_167 255 230 (dk_at dksX13_sentence_4 12 rfl rfl)
theorem dX13_sentence_108 : decode cX13_sentence 108 = .ok (.aload_n 0, 1) := dk_42 (dk_at dksX13_sentence_4 15 rfl rfl)
theorem dX13_sentence_109 : decode cX13_sentence 109 = .ok (.getfield 379, 3) := dk_180 1 123 (dk_at dksX13_sentence_4 16 rfl rfl)
theorem dX13_sentence_112 : decode cX13_sentence 112 = .ok (.ireturn, 1) := dk_172 (dk_at dksX13_sentence_4 19 rfl rfl)
abbrev cX13_readOr : ByteArray := prog_24_method_98_code
def yX13_readOr : MethodName := ⟨RX13, "readOr", "()Z"⟩
def dkwX13_readOr_2 : List UInt8 := [27, 42, 180, 1, 107, 3, 182, 1, 110, 60, 167, 255, 214, 42, 27, 181, 1, 107, 4, 172]
abbrev dktX13_readOr_2 : List UInt8 := dkwX13_readOr_2 ++ []
def dkwX13_readOr_1 : List UInt8 := [184, 0, 125, 182, 0, 135, 153, 0, 31, 42, 182, 0, 122, 42, 182, 1, 104, 154, 0, 5, 3, 172, 42, 6]
abbrev dktX13_readOr_1 : List UInt8 := dkwX13_readOr_1 ++ dktX13_readOr_2
def dkwX13_readOr_0 : List UInt8 := [42, 182, 1, 104, 154, 0, 5, 3, 172, 42, 180, 1, 107, 60, 42, 16, 111, 16, 114, 3, 3, 3]
abbrev dktX13_readOr_0 : List UInt8 := dkwX13_readOr_0 ++ dktX13_readOr_1
theorem dksX13_readOr_0 : cX13_readOr.data.toList.drop 0 = dktX13_readOr_0 := by decide +kernel
theorem dksX13_readOr_1 : cX13_readOr.data.toList.drop 22 = dktX13_readOr_1 := dk_seg dksX13_readOr_0 22 rfl rfl
theorem dksX13_readOr_2 : cX13_readOr.data.toList.drop 46 = dktX13_readOr_2 := dk_seg dksX13_readOr_1 24 rfl rfl
theorem dX13_readOr_0 : decode cX13_readOr 0 = .ok (.aload_n 0, 1) := dk_42 (dk_at dksX13_readOr_0 0 rfl rfl)
theorem dX13_readOr_1 : decode cX13_readOr 1 = .ok (.invokevirtual 360, 3) := dk_182 1 104 (dk_at dksX13_readOr_0 1 rfl rfl)
theorem dX13_readOr_4 : decode cX13_readOr 4 = .ok (.ifCond .ne 5, 3) := dk_154 0 5 (dk_at dksX13_readOr_0 4 rfl rfl)
theorem dX13_readOr_7 : decode cX13_readOr 7 = .ok (.iconst 0, 1) := dk_3 (dk_at dksX13_readOr_0 7 rfl rfl)
theorem dX13_readOr_8 : decode cX13_readOr 8 = .ok (.ireturn, 1) := dk_172 (dk_at dksX13_readOr_0 8 rfl rfl)
theorem dX13_readOr_9 : decode cX13_readOr 9 = .ok (.aload_n 0, 1) := dk_42 (dk_at dksX13_readOr_0 9 rfl rfl)
theorem dX13_readOr_10 : decode cX13_readOr 10 = .ok (.getfield 363, 3) := dk_180 1 107 (dk_at dksX13_readOr_0 10 rfl rfl)
theorem dX13_readOr_13 : decode cX13_readOr 13 = .ok (.istore_n 1, 1) := dk_60 (dk_at dksX13_readOr_0 13 rfl rfl)
theorem dX13_readOr_14 : decode cX13_readOr 14 = .ok (.aload_n 0, 1) := dk_42 (dk_at dksX13_readOr_0 14 rfl rfl)
theorem dX13_readOr_15 : decode cX13_readOr 15 = .ok (.bipush 111, 2) := dk_16 111 (dk_at dksX13_readOr_0 15 rfl rfl)
theorem dX13_readOr_17 : decode cX13_readOr 17 = .ok (.bipush 114, 2) := dk_16 114 (dk_at dksX13_readOr_0 17 rfl rfl)
theorem dX13_readOr_19 : decode cX13_readOr 19 = .ok (.iconst 0, 1) := dk_3 (dk_at dksX13_readOr_0 19 rfl rfl)
theorem dX13_readOr_20 : decode cX13_readOr 20 = .ok (.iconst 0, 1) := dk_3 (dk_at dksX13_readOr_0 20 rfl rfl)
theorem dX13_readOr_21 : decode cX13_readOr 21 = .ok (.iconst 0, 1) := dk_3 (dk_at dksX13_readOr_0 21 rfl rfl)
theorem dX13_readOr_22 : decode cX13_readOr 22 = .ok (.invokestatic 125, 3) := dk_184 0 125 (dk_at dksX13_readOr_1 0 rfl rfl)
theorem dX13_readOr_25 : decode cX13_readOr 25 = .ok (.invokevirtual 135, 3) := dk_182 0 135 (dk_at dksX13_readOr_1 3 rfl rfl)
theorem dX13_readOr_28 : decode cX13_readOr 28 = .ok (.ifCond .eq 31, 3) := dk_153 0 31 (dk_at dksX13_readOr_1 6 rfl rfl)
theorem dX13_readOr_31 : decode cX13_readOr 31 = .ok (.aload_n 0, 1) := dk_42 (dk_at dksX13_readOr_1 9 rfl rfl)
theorem dX13_readOr_32 : decode cX13_readOr 32 = .ok (.invokevirtual 122, 3) := dk_182 0 122 (dk_at dksX13_readOr_1 10 rfl rfl)
theorem dX13_readOr_35 : decode cX13_readOr 35 = .ok (.aload_n 0, 1) := dk_42 (dk_at dksX13_readOr_1 13 rfl rfl)
theorem dX13_readOr_36 : decode cX13_readOr 36 = .ok (.invokevirtual 360, 3) := dk_182 1 104 (dk_at dksX13_readOr_1 14 rfl rfl)
theorem dX13_readOr_39 : decode cX13_readOr 39 = .ok (.ifCond .ne 5, 3) := dk_154 0 5 (dk_at dksX13_readOr_1 17 rfl rfl)
theorem dX13_readOr_42 : decode cX13_readOr 42 = .ok (.iconst 0, 1) := dk_3 (dk_at dksX13_readOr_1 20 rfl rfl)
theorem dX13_readOr_43 : decode cX13_readOr 43 = .ok (.ireturn, 1) := dk_172 (dk_at dksX13_readOr_1 21 rfl rfl)
theorem dX13_readOr_44 : decode cX13_readOr 44 = .ok (.aload_n 0, 1) := dk_42 (dk_at dksX13_readOr_1 22 rfl rfl)
theorem dX13_readOr_45 : decode cX13_readOr 45 = .ok (.iconst 3, 1) := dk_6 (dk_at dksX13_readOr_1 23 rfl rfl)
theorem dX13_readOr_46 : decode cX13_readOr 46 = .ok (.iload_n 1, 1) := dk_27 (dk_at dksX13_readOr_2 0 rfl rfl)
theorem dX13_readOr_47 : decode cX13_readOr 47 = .ok (.aload_n 0, 1) := dk_42 (dk_at dksX13_readOr_2 1 rfl rfl)
theorem dX13_readOr_48 : decode cX13_readOr 48 = .ok (.getfield 363, 3) := dk_180 1 107 (dk_at dksX13_readOr_2 2 rfl rfl)
theorem dX13_readOr_51 : decode cX13_readOr 51 = .ok (.iconst 0, 1) := dk_3 (dk_at dksX13_readOr_2 5 rfl rfl)
theorem dX13_readOr_52 : decode cX13_readOr 52 = .ok (.invokevirtual 366, 3) := dk_182 1 110 (dk_at dksX13_readOr_2 6 rfl rfl)
theorem dX13_readOr_55 : decode cX13_readOr 55 = .ok (.istore_n 1, 1) := dk_60 (dk_at dksX13_readOr_2 9 rfl rfl)
theorem dX13_readOr_56 : decode cX13_readOr 56 = .ok (.goto (-42), 3) := dk_167 255 214 (dk_at dksX13_readOr_2 10 rfl rfl)
theorem dX13_readOr_59 : decode cX13_readOr 59 = .ok (.aload_n 0, 1) := dk_42 (dk_at dksX13_readOr_2 13 rfl rfl)
theorem dX13_readOr_60 : decode cX13_readOr 60 = .ok (.iload_n 1, 1) := dk_27 (dk_at dksX13_readOr_2 14 rfl rfl)
theorem dX13_readOr_61 : decode cX13_readOr 61 = .ok (.putfield 363, 3) := dk_181 1 107 (dk_at dksX13_readOr_2 15 rfl rfl)
theorem dX13_readOr_64 : decode cX13_readOr 64 = .ok (.iconst 1, 1) := dk_4 (dk_at dksX13_readOr_2 18 rfl rfl)
theorem dX13_readOr_65 : decode cX13_readOr 65 = .ok (.ireturn, 1) := dk_172 (dk_at dksX13_readOr_2 19 rfl rfl)
abbrev cX13_readAnd : ByteArray := prog_24_method_99_code
def yX13_readAnd : MethodName := ⟨RX13, "readAnd", "()Z"⟩
def dkwX13_readAnd_2 : List UInt8 := [27, 42, 180, 1, 107, 3, 182, 1, 110, 60, 167, 255, 213, 42, 27, 181, 1, 107, 4, 172]
abbrev dktX13_readAnd_2 : List UInt8 := dkwX13_readAnd_2 ++ []
def dkwX13_readAnd_1 : List UInt8 := [184, 0, 125, 182, 0, 135, 153, 0, 31, 42, 182, 0, 122, 42, 182, 1, 114, 154, 0, 5, 3, 172, 42, 5]
abbrev dktX13_readAnd_1 : List UInt8 := dkwX13_readAnd_1 ++ dktX13_readAnd_2
def dkwX13_readAnd_0 : List UInt8 := [42, 182, 1, 114, 154, 0, 5, 3, 172, 42, 180, 1, 107, 60, 42, 16, 97, 16, 110, 16, 100, 3, 3]
abbrev dktX13_readAnd_0 : List UInt8 := dkwX13_readAnd_0 ++ dktX13_readAnd_1
theorem dksX13_readAnd_0 : cX13_readAnd.data.toList.drop 0 = dktX13_readAnd_0 := by decide +kernel
theorem dksX13_readAnd_1 : cX13_readAnd.data.toList.drop 23 = dktX13_readAnd_1 := dk_seg dksX13_readAnd_0 23 rfl rfl
theorem dksX13_readAnd_2 : cX13_readAnd.data.toList.drop 47 = dktX13_readAnd_2 := dk_seg dksX13_readAnd_1 24 rfl rfl
theorem dX13_readAnd_0 : decode cX13_readAnd 0 = .ok (.aload_n 0, 1) := dk_42 (dk_at dksX13_readAnd_0 0 rfl rfl)
theorem dX13_readAnd_1 : decode cX13_readAnd 1 = .ok (.invokevirtual 370, 3) := dk_182 1 114 (dk_at dksX13_readAnd_0 1 rfl rfl)
theorem dX13_readAnd_4 : decode cX13_readAnd 4 = .ok (.ifCond .ne 5, 3) := dk_154 0 5 (dk_at dksX13_readAnd_0 4 rfl rfl)
theorem dX13_readAnd_7 : decode cX13_readAnd 7 = .ok (.iconst 0, 1) := dk_3 (dk_at dksX13_readAnd_0 7 rfl rfl)
theorem dX13_readAnd_8 : decode cX13_readAnd 8 = .ok (.ireturn, 1) := dk_172 (dk_at dksX13_readAnd_0 8 rfl rfl)
theorem dX13_readAnd_9 : decode cX13_readAnd 9 = .ok (.aload_n 0, 1) := dk_42 (dk_at dksX13_readAnd_0 9 rfl rfl)
theorem dX13_readAnd_10 : decode cX13_readAnd 10 = .ok (.getfield 363, 3) := dk_180 1 107 (dk_at dksX13_readAnd_0 10 rfl rfl)
theorem dX13_readAnd_13 : decode cX13_readAnd 13 = .ok (.istore_n 1, 1) := dk_60 (dk_at dksX13_readAnd_0 13 rfl rfl)
theorem dX13_readAnd_14 : decode cX13_readAnd 14 = .ok (.aload_n 0, 1) := dk_42 (dk_at dksX13_readAnd_0 14 rfl rfl)
theorem dX13_readAnd_15 : decode cX13_readAnd 15 = .ok (.bipush 97, 2) := dk_16 97 (dk_at dksX13_readAnd_0 15 rfl rfl)
theorem dX13_readAnd_17 : decode cX13_readAnd 17 = .ok (.bipush 110, 2) := dk_16 110 (dk_at dksX13_readAnd_0 17 rfl rfl)
theorem dX13_readAnd_19 : decode cX13_readAnd 19 = .ok (.bipush 100, 2) := dk_16 100 (dk_at dksX13_readAnd_0 19 rfl rfl)
theorem dX13_readAnd_21 : decode cX13_readAnd 21 = .ok (.iconst 0, 1) := dk_3 (dk_at dksX13_readAnd_0 21 rfl rfl)
theorem dX13_readAnd_22 : decode cX13_readAnd 22 = .ok (.iconst 0, 1) := dk_3 (dk_at dksX13_readAnd_0 22 rfl rfl)
theorem dX13_readAnd_23 : decode cX13_readAnd 23 = .ok (.invokestatic 125, 3) := dk_184 0 125 (dk_at dksX13_readAnd_1 0 rfl rfl)
theorem dX13_readAnd_26 : decode cX13_readAnd 26 = .ok (.invokevirtual 135, 3) := dk_182 0 135 (dk_at dksX13_readAnd_1 3 rfl rfl)
theorem dX13_readAnd_29 : decode cX13_readAnd 29 = .ok (.ifCond .eq 31, 3) := dk_153 0 31 (dk_at dksX13_readAnd_1 6 rfl rfl)
theorem dX13_readAnd_32 : decode cX13_readAnd 32 = .ok (.aload_n 0, 1) := dk_42 (dk_at dksX13_readAnd_1 9 rfl rfl)
theorem dX13_readAnd_33 : decode cX13_readAnd 33 = .ok (.invokevirtual 122, 3) := dk_182 0 122 (dk_at dksX13_readAnd_1 10 rfl rfl)
theorem dX13_readAnd_36 : decode cX13_readAnd 36 = .ok (.aload_n 0, 1) := dk_42 (dk_at dksX13_readAnd_1 13 rfl rfl)
theorem dX13_readAnd_37 : decode cX13_readAnd 37 = .ok (.invokevirtual 370, 3) := dk_182 1 114 (dk_at dksX13_readAnd_1 14 rfl rfl)
theorem dX13_readAnd_40 : decode cX13_readAnd 40 = .ok (.ifCond .ne 5, 3) := dk_154 0 5 (dk_at dksX13_readAnd_1 17 rfl rfl)
theorem dX13_readAnd_43 : decode cX13_readAnd 43 = .ok (.iconst 0, 1) := dk_3 (dk_at dksX13_readAnd_1 20 rfl rfl)
theorem dX13_readAnd_44 : decode cX13_readAnd 44 = .ok (.ireturn, 1) := dk_172 (dk_at dksX13_readAnd_1 21 rfl rfl)
theorem dX13_readAnd_45 : decode cX13_readAnd 45 = .ok (.aload_n 0, 1) := dk_42 (dk_at dksX13_readAnd_1 22 rfl rfl)
theorem dX13_readAnd_46 : decode cX13_readAnd 46 = .ok (.iconst 2, 1) := dk_5 (dk_at dksX13_readAnd_1 23 rfl rfl)
theorem dX13_readAnd_47 : decode cX13_readAnd 47 = .ok (.iload_n 1, 1) := dk_27 (dk_at dksX13_readAnd_2 0 rfl rfl)
theorem dX13_readAnd_48 : decode cX13_readAnd 48 = .ok (.aload_n 0, 1) := dk_42 (dk_at dksX13_readAnd_2 1 rfl rfl)
theorem dX13_readAnd_49 : decode cX13_readAnd 49 = .ok (.getfield 363, 3) := dk_180 1 107 (dk_at dksX13_readAnd_2 2 rfl rfl)
theorem dX13_readAnd_52 : decode cX13_readAnd 52 = .ok (.iconst 0, 1) := dk_3 (dk_at dksX13_readAnd_2 5 rfl rfl)
theorem dX13_readAnd_53 : decode cX13_readAnd 53 = .ok (.invokevirtual 366, 3) := dk_182 1 110 (dk_at dksX13_readAnd_2 6 rfl rfl)
theorem dX13_readAnd_56 : decode cX13_readAnd 56 = .ok (.istore_n 1, 1) := dk_60 (dk_at dksX13_readAnd_2 9 rfl rfl)
theorem dX13_readAnd_57 : decode cX13_readAnd 57 = .ok (.goto (-43), 3) := dk_167 255 213 (dk_at dksX13_readAnd_2 10 rfl rfl)
theorem dX13_readAnd_60 : decode cX13_readAnd 60 = .ok (.aload_n 0, 1) := dk_42 (dk_at dksX13_readAnd_2 13 rfl rfl)
theorem dX13_readAnd_61 : decode cX13_readAnd 61 = .ok (.iload_n 1, 1) := dk_27 (dk_at dksX13_readAnd_2 14 rfl rfl)
theorem dX13_readAnd_62 : decode cX13_readAnd 62 = .ok (.putfield 363, 3) := dk_181 1 107 (dk_at dksX13_readAnd_2 15 rfl rfl)
theorem dX13_readAnd_65 : decode cX13_readAnd 65 = .ok (.iconst 1, 1) := dk_4 (dk_at dksX13_readAnd_2 18 rfl rfl)
theorem dX13_readAnd_66 : decode cX13_readAnd 66 = .ok (.ireturn, 1) := dk_172 (dk_at dksX13_readAnd_2 19 rfl rfl)
abbrev cX13_readOne : ByteArray := prog_24_method_100_code
def yX13_readOne : MethodName := ⟨RX13, "readOne", "()Z"⟩
def dkwX13_readOne_6 : List UInt8 := [167, 0, 9, 42, 21, 4, 182, 1, 138, 54, 5, 42, 89, 180, 1, 126, 4, 100, 181, 1, 126, 21, 5, 172]
abbrev dktX13_readOne_6 : List UInt8 := dkwX13_readOne_6 ++ []
def dkwX13_readOne_5 : List UInt8 := [167, 0, 33, 28, 153, 0, 10, 42, 182, 1, 132, 167, 0, 22, 29, 2, 159, 0, 11, 42, 29, 182, 1, 135]
abbrev dktX13_readOne_5 : List UInt8 := dkwX13_readOne_5 ++ dktX13_readOne_6
def dkwX13_readOne_4 : List UInt8 := [42, 89, 180, 1, 126, 4, 96, 181, 1, 126, 42, 182, 0, 122, 27, 153, 0, 10, 42, 182, 1, 129]
abbrev dktX13_readOne_4 : List UInt8 := dkwX13_readOne_4 ++ dktX13_readOne_5
def dkwX13_readOne_3 : List UInt8 := [180, 1, 126, 16, 8, 160, 0, 9, 42, 7, 182, 0, 112, 172, 42, 89, 180, 1, 123, 4, 96, 181, 1, 123]
abbrev dktX13_readOne_3 : List UInt8 := dkwX13_readOne_3 ++ dktX13_readOne_4
def dkwX13_readOne_2 : List UInt8 := [21, 4, 2, 160, 0, 9, 42, 4, 182, 0, 112, 172, 42, 180, 1, 123, 16, 20, 159, 0, 12, 42]
abbrev dktX13_readOne_2 : List UInt8 := dkwX13_readOne_2 ++ dktX13_readOne_3
def dkwX13_readOne_1 : List UInt8 := [182, 1, 117, 62, 42, 182, 1, 120, 54, 4, 27, 154, 0, 24, 28, 154, 0, 20, 29, 2, 160, 0, 15]
abbrev dktX13_readOne_1 : List UInt8 := dkwX13_readOne_1 ++ dktX13_readOne_2
def dkwX13_readOne_0 : List UInt8 := [42, 16, 110, 16, 111, 16, 116, 3, 3, 184, 0, 125, 182, 0, 135, 60, 42, 16, 40, 182, 0, 209, 61, 42]
abbrev dktX13_readOne_0 : List UInt8 := dkwX13_readOne_0 ++ dktX13_readOne_1
theorem dksX13_readOne_0 : cX13_readOne.data.toList.drop 0 = dktX13_readOne_0 := by decide +kernel
theorem dksX13_readOne_1 : cX13_readOne.data.toList.drop 24 = dktX13_readOne_1 := dk_seg dksX13_readOne_0 24 rfl rfl
theorem dksX13_readOne_2 : cX13_readOne.data.toList.drop 47 = dktX13_readOne_2 := dk_seg dksX13_readOne_1 23 rfl rfl
theorem dksX13_readOne_3 : cX13_readOne.data.toList.drop 69 = dktX13_readOne_3 := dk_seg dksX13_readOne_2 22 rfl rfl
theorem dksX13_readOne_4 : cX13_readOne.data.toList.drop 93 = dktX13_readOne_4 := dk_seg dksX13_readOne_3 24 rfl rfl
theorem dksX13_readOne_5 : cX13_readOne.data.toList.drop 115 = dktX13_readOne_5 := dk_seg dksX13_readOne_4 22 rfl rfl
theorem dksX13_readOne_6 : cX13_readOne.data.toList.drop 139 = dktX13_readOne_6 := dk_seg dksX13_readOne_5 24 rfl rfl
theorem dX13_readOne_0 : decode cX13_readOne 0 = .ok (.aload_n 0, 1) := dk_42 (dk_at dksX13_readOne_0 0 rfl rfl)
theorem dX13_readOne_1 : decode cX13_readOne 1 = .ok (.bipush 110, 2) := dk_16 110 (dk_at dksX13_readOne_0 1 rfl rfl)
theorem dX13_readOne_3 : decode cX13_readOne 3 = .ok (.bipush 111, 2) := dk_16 111 (dk_at dksX13_readOne_0 3 rfl rfl)
theorem dX13_readOne_5 : decode cX13_readOne 5 = .ok (.bipush 116, 2) := dk_16 116 (dk_at dksX13_readOne_0 5 rfl rfl)
theorem dX13_readOne_7 : decode cX13_readOne 7 = .ok (.iconst 0, 1) := dk_3 (dk_at dksX13_readOne_0 7 rfl rfl)
theorem dX13_readOne_8 : decode cX13_readOne 8 = .ok (.iconst 0, 1) := dk_3 (dk_at dksX13_readOne_0 8 rfl rfl)
theorem dX13_readOne_9 : decode cX13_readOne 9 = .ok (.invokestatic 125, 3) := dk_184 0 125 (dk_at dksX13_readOne_0 9 rfl rfl)
theorem dX13_readOne_12 : decode cX13_readOne 12 = .ok (.invokevirtual 135, 3) := dk_182 0 135 (dk_at dksX13_readOne_0 12 rfl rfl)
theorem dX13_readOne_15 : decode cX13_readOne 15 = .ok (.istore_n 1, 1) := dk_60 (dk_at dksX13_readOne_0 15 rfl rfl)
theorem dX13_readOne_16 : decode cX13_readOne 16 = .ok (.aload_n 0, 1) := dk_42 (dk_at dksX13_readOne_0 16 rfl rfl)
theorem dX13_readOne_17 : decode cX13_readOne 17 = .ok (.bipush 40, 2) := dk_16 40 (dk_at dksX13_readOne_0 17 rfl rfl)
theorem dX13_readOne_19 : decode cX13_readOne 19 = .ok (.invokevirtual 209, 3) := dk_182 0 209 (dk_at dksX13_readOne_0 19 rfl rfl)
theorem dX13_readOne_22 : decode cX13_readOne 22 = .ok (.istore_n 2, 1) := dk_61 (dk_at dksX13_readOne_0 22 rfl rfl)
theorem dX13_readOne_23 : decode cX13_readOne 23 = .ok (.aload_n 0, 1) := dk_42 (dk_at dksX13_readOne_0 23 rfl rfl)
theorem dX13_readOne_24 : decode cX13_readOne 24 = .ok (.invokevirtual 373, 3) := dk_182 1 117 (dk_at dksX13_readOne_1 0 rfl rfl)
theorem dX13_readOne_27 : decode cX13_readOne 27 = .ok (.istore_n 3, 1) := dk_62 (dk_at dksX13_readOne_1 3 rfl rfl)
theorem dX13_readOne_28 : decode cX13_readOne 28 = .ok (.aload_n 0, 1) := dk_42 (dk_at dksX13_readOne_1 4 rfl rfl)
theorem dX13_readOne_29 : decode cX13_readOne 29 = .ok (.invokevirtual 376, 3) := dk_182 1 120 (dk_at dksX13_readOne_1 5 rfl rfl)
theorem dX13_readOne_32 : decode cX13_readOne 32 = .ok (.istore 4, 2) := dk_54 4 (dk_at dksX13_readOne_1 8 rfl rfl)
theorem dX13_readOne_34 : decode cX13_readOne 34 = .ok (.iload_n 1, 1) := dk_27 (dk_at dksX13_readOne_1 10 rfl rfl)
theorem dX13_readOne_35 : decode cX13_readOne 35 = .ok (.ifCond .ne 24, 3) := dk_154 0 24 (dk_at dksX13_readOne_1 11 rfl rfl)
theorem dX13_readOne_38 : decode cX13_readOne 38 = .ok (.iload_n 2, 1) := dk_28 (dk_at dksX13_readOne_1 14 rfl rfl)
theorem dX13_readOne_39 : decode cX13_readOne 39 = .ok (.ifCond .ne 20, 3) := dk_154 0 20 (dk_at dksX13_readOne_1 15 rfl rfl)
theorem dX13_readOne_42 : decode cX13_readOne 42 = .ok (.iload_n 3, 1) := dk_29 (dk_at dksX13_readOne_1 18 rfl rfl)
theorem dX13_readOne_43 : decode cX13_readOne 43 = .ok (.iconst (-1), 1) := dk_2 (dk_at dksX13_readOne_1 19 rfl rfl)
theorem dX13_readOne_44 : decode cX13_readOne 44 = .ok (.if_icmp .ne 15, 3) := dk_160 0 15 (dk_at dksX13_readOne_1 20 rfl rfl)
theorem dX13_readOne_47 : decode cX13_readOne 47 = .ok (.iload 4, 2) := dk_21 4 (dk_at dksX13_readOne_2 0 rfl rfl)
theorem dX13_readOne_49 : decode cX13_readOne 49 = .ok (.iconst (-1), 1) := dk_2 (dk_at dksX13_readOne_2 2 rfl rfl)
theorem dX13_readOne_50 : decode cX13_readOne 50 = .ok (.if_icmp .ne 9, 3) := dk_160 0 9 (dk_at dksX13_readOne_2 3 rfl rfl)
theorem dX13_readOne_53 : decode cX13_readOne 53 = .ok (.aload_n 0, 1) := dk_42 (dk_at dksX13_readOne_2 6 rfl rfl)
theorem dX13_readOne_54 : decode cX13_readOne 54 = .ok (.iconst 1, 1) := dk_4 (dk_at dksX13_readOne_2 7 rfl rfl)
theorem dX13_readOne_55 : decode cX13_readOne 55 = .ok (.invokevirtual 112, 3) := dk_182 0 112 (dk_at dksX13_readOne_2 8 rfl rfl)
theorem dX13_readOne_58 : decode cX13_readOne 58 = .ok (.ireturn, 1) := dk_172 (dk_at dksX13_readOne_2 11 rfl rfl)
theorem dX13_readOne_59 : decode cX13_readOne 59 = .ok (.aload_n 0, 1) := dk_42 (dk_at dksX13_readOne_2 12 rfl rfl)
theorem dX13_readOne_60 : decode cX13_readOne 60 = .ok (.getfield 379, 3) := dk_180 1 123 (dk_at dksX13_readOne_2 13 rfl rfl)
theorem dX13_readOne_63 : decode cX13_readOne 63 = .ok (.bipush 20, 2) := dk_16 20 (dk_at dksX13_readOne_2 16 rfl rfl)
theorem dX13_readOne_65 : decode cX13_readOne 65 = .ok (.if_icmp .eq 12, 3) := dk_159 0 12 (dk_at dksX13_readOne_2 18 rfl rfl)
theorem dX13_readOne_68 : decode cX13_readOne 68 = .ok (.aload_n 0, 1) := dk_42 (dk_at dksX13_readOne_2 21 rfl rfl)
theorem dX13_readOne_69 : decode cX13_readOne 69 = .ok (.getfield 382, 3) := dk_180 1 126 (dk_at dksX13_readOne_3 0 rfl rfl)
theorem dX13_readOne_72 : decode cX13_readOne 72 = .ok (.bipush 8, 2) := dk_16 8 (dk_at dksX13_readOne_3 3 rfl rfl)
theorem dX13_readOne_74 : decode cX13_readOne 74 = .ok (.if_icmp .ne 9, 3) := dk_160 0 9 (dk_at dksX13_readOne_3 5 rfl rfl)
theorem dX13_readOne_77 : decode cX13_readOne 77 = .ok (.aload_n 0, 1) := dk_42 (dk_at dksX13_readOne_3 8 rfl rfl)
theorem dX13_readOne_78 : decode cX13_readOne 78 = .ok (.iconst 4, 1) := dk_7 (dk_at dksX13_readOne_3 9 rfl rfl)
theorem dX13_readOne_79 : decode cX13_readOne 79 = .ok (.invokevirtual 112, 3) := dk_182 0 112 (dk_at dksX13_readOne_3 10 rfl rfl)
theorem dX13_readOne_82 : decode cX13_readOne 82 = .ok (.ireturn, 1) := dk_172 (dk_at dksX13_readOne_3 13 rfl rfl)
theorem dX13_readOne_83 : decode cX13_readOne 83 = .ok (.aload_n 0, 1) := dk_42 (dk_at dksX13_readOne_3 14 rfl rfl)
theorem dX13_readOne_84 : decode cX13_readOne 84 = .ok (.dup, 1) := dk_89 (dk_at dksX13_readOne_3 15 rfl rfl)
theorem dX13_readOne_85 : decode cX13_readOne 85 = .ok (.getfield 379, 3) := dk_180 1 123 (dk_at dksX13_readOne_3 16 rfl rfl)
theorem dX13_readOne_88 : decode cX13_readOne 88 = .ok (.iconst 1, 1) := dk_4 (dk_at dksX13_readOne_3 19 rfl rfl)
theorem dX13_readOne_89 : decode cX13_readOne 89 = .ok (.iadd, 1) := dk_96 (dk_at dksX13_readOne_3 20 rfl rfl)
theorem dX13_readOne_90 : decode cX13_readOne 90 = .ok (.putfield 379, 3) := dk_181 1 123 (dk_at dksX13_readOne_3 21 rfl rfl)
theorem dX13_readOne_93 : decode cX13_readOne 93 = .ok (.aload_n 0, 1) := dk_42 (dk_at dksX13_readOne_4 0 rfl rfl)
theorem dX13_readOne_94 : decode cX13_readOne 94 = .ok (.dup, 1) := dk_89 (dk_at dksX13_readOne_4 1 rfl rfl)
theorem dX13_readOne_95 : decode cX13_readOne 95 = .ok (.getfield 382, 3) := dk_180 1 126 (dk_at dksX13_readOne_4 2 rfl rfl)
theorem dX13_readOne_98 : decode cX13_readOne 98 = .ok (.iconst 1, 1) := dk_4 (dk_at dksX13_readOne_4 5 rfl rfl)
theorem dX13_readOne_99 : decode cX13_readOne 99 = .ok (.iadd, 1) := dk_96 (dk_at dksX13_readOne_4 6 rfl rfl)
theorem dX13_readOne_100 : decode cX13_readOne 100 = .ok (.putfield 382, 3) := dk_181 1 126 (dk_at dksX13_readOne_4 7 rfl rfl)
theorem dX13_readOne_103 : decode cX13_readOne 103 = .ok (.aload_n 0, 1) := dk_42 (dk_at dksX13_readOne_4 10 rfl rfl)
theorem dX13_readOne_104 : decode cX13_readOne 104 = .ok (.invokevirtual 122, 3) := dk_182 0 122 (dk_at dksX13_readOne_4 11 rfl rfl)
theorem dX13_readOne_107 : decode cX13_readOne 107 = .ok (.iload_n 1, 1) := dk_27 (dk_at dksX13_readOne_4 14 rfl rfl)
theorem dX13_readOne_108 : decode cX13_readOne 108 = .ok (.ifCond .eq 10, 3) := dk_153 0 10 (dk_at dksX13_readOne_4 15 rfl rfl)
theorem dX13_readOne_111 : decode cX13_readOne 111 = .ok (.aload_n 0, 1) := dk_42 (dk_at dksX13_readOne_4 18 rfl rfl)
theorem dX13_readOne_112 : decode cX13_readOne 112 = .ok (.invokevirtual 385, 3) := dk_182 1 129 (dk_at dksX13_readOne_4 19 rfl rfl)
theorem dX13_readOne_115 : decode cX13_readOne 115 = .ok (.goto 33, 3) := dk_167 0 33 (dk_at dksX13_readOne_5 0 rfl rfl)
theorem dX13_readOne_118 : decode cX13_readOne 118 = .ok (.iload_n 2, 1) := dk_28 (dk_at dksX13_readOne_5 3 rfl rfl)
theorem dX13_readOne_119 : decode cX13_readOne 119 = .ok (.ifCond .eq 10, 3) := dk_153 0 10 (dk_at dksX13_readOne_5 4 rfl rfl)
theorem dX13_readOne_122 : decode cX13_readOne 122 = .ok (.aload_n 0, 1) := dk_42 (dk_at dksX13_readOne_5 7 rfl rfl)
theorem dX13_readOne_123 : decode cX13_readOne 123 = .ok (.invokevirtual 388, 3) := dk_182 1 132 (dk_at dksX13_readOne_5 8 rfl rfl)
theorem dX13_readOne_126 : decode cX13_readOne 126 = .ok (.goto 22, 3) := dk_167 0 22 (dk_at dksX13_readOne_5 11 rfl rfl)
theorem dX13_readOne_129 : decode cX13_readOne 129 = .ok (.iload_n 3, 1) := dk_29 (dk_at dksX13_readOne_5 14 rfl rfl)
theorem dX13_readOne_130 : decode cX13_readOne 130 = .ok (.iconst (-1), 1) := dk_2 (dk_at dksX13_readOne_5 15 rfl rfl)
theorem dX13_readOne_131 : decode cX13_readOne 131 = .ok (.if_icmp .eq 11, 3) := dk_159 0 11 (dk_at dksX13_readOne_5 16 rfl rfl)
theorem dX13_readOne_134 : decode cX13_readOne 134 = .ok (.aload_n 0, 1) := dk_42 (dk_at dksX13_readOne_5 19 rfl rfl)
theorem dX13_readOne_135 : decode cX13_readOne 135 = .ok (.iload_n 3, 1) := dk_29 (dk_at dksX13_readOne_5 20 rfl rfl)
theorem dX13_readOne_136 : decode cX13_readOne 136 = .ok (.invokevirtual 391, 3) := dk_182 1 135 (dk_at dksX13_readOne_5 21 rfl rfl)
theorem dX13_readOne_139 : decode cX13_readOne 139 = .ok (.goto 9, 3) := dk_167 0 9 (dk_at dksX13_readOne_6 0 rfl rfl)
theorem dX13_readOne_142 : decode cX13_readOne 142 = .ok (.aload_n 0, 1) := dk_42 (dk_at dksX13_readOne_6 3 rfl rfl)
theorem dX13_readOne_143 : decode cX13_readOne 143 = .ok (.iload 4, 2) := dk_21 4 (dk_at dksX13_readOne_6 4 rfl rfl)
theorem dX13_readOne_145 : decode cX13_readOne 145 = .ok (.invokevirtual 394, 3) := dk_182 1 138 (dk_at dksX13_readOne_6 6 rfl rfl)
theorem dX13_readOne_148 : decode cX13_readOne 148 = .ok (.istore 5, 2) := dk_54 5 (dk_at dksX13_readOne_6 9 rfl rfl)
theorem dX13_readOne_150 : decode cX13_readOne 150 = .ok (.aload_n 0, 1) := dk_42 (dk_at dksX13_readOne_6 11 rfl rfl)
theorem dX13_readOne_151 : decode cX13_readOne 151 = .ok (.dup, 1) := dk_89 (dk_at dksX13_readOne_6 12 rfl rfl)
theorem dX13_readOne_152 : decode cX13_readOne 152 = .ok (.getfield 382, 3) := dk_180 1 126 (dk_at dksX13_readOne_6 13 rfl rfl)
theorem dX13_readOne_155 : decode cX13_readOne 155 = .ok (.iconst 1, 1) := dk_4 (dk_at dksX13_readOne_6 16 rfl rfl)
theorem dX13_readOne_156 : decode cX13_readOne 156 = .ok (.isub, 1) := dk_100 (dk_at dksX13_readOne_6 17 rfl rfl)
theorem dX13_readOne_157 : decode cX13_readOne 157 = .ok (.putfield 382, 3) := dk_181 1 126 (dk_at dksX13_readOne_6 18 rfl rfl)
theorem dX13_readOne_160 : decode cX13_readOne 160 = .ok (.iload 5, 2) := dk_21 5 (dk_at dksX13_readOne_6 21 rfl rfl)
theorem dX13_readOne_162 : decode cX13_readOne 162 = .ok (.ireturn, 1) := dk_172 (dk_at dksX13_readOne_6 23 rfl rfl)
abbrev cX13_sureAtHand : ByteArray := prog_24_method_97_code
def yX13_sureAtHand : MethodName := ⟨RX13, "sureAtHand", "()I"⟩
def dkwX13_sureAtHand_2 : List UInt8 := [16, 121, 16, 98, 16, 101, 184, 0, 125, 182, 0, 135, 153, 0, 7, 5, 167, 0, 4, 2, 172]
abbrev dktX13_sureAtHand_2 : List UInt8 := dkwX13_sureAtHand_2 ++ []
def dkwX13_sureAtHand_1 : List UInt8 := [16, 101, 16, 118, 16, 101, 16, 114, 184, 0, 125, 182, 0, 135, 153, 0, 5, 3, 172, 42, 16, 109, 16, 97]
abbrev dktX13_sureAtHand_1 : List UInt8 := dkwX13_sureAtHand_1 ++ dktX13_sureAtHand_2
def dkwX13_sureAtHand_0 : List UInt8 := [42, 16, 115, 16, 117, 16, 114, 16, 101, 3, 184, 0, 125, 182, 0, 135, 153, 0, 5, 4, 172, 42, 16, 110]
abbrev dktX13_sureAtHand_0 : List UInt8 := dkwX13_sureAtHand_0 ++ dktX13_sureAtHand_1
theorem dksX13_sureAtHand_0 : cX13_sureAtHand.data.toList.drop 0 = dktX13_sureAtHand_0 := by decide +kernel
theorem dksX13_sureAtHand_1 : cX13_sureAtHand.data.toList.drop 24 = dktX13_sureAtHand_1 := dk_seg dksX13_sureAtHand_0 24 rfl rfl
theorem dksX13_sureAtHand_2 : cX13_sureAtHand.data.toList.drop 48 = dktX13_sureAtHand_2 := dk_seg dksX13_sureAtHand_1 24 rfl rfl
theorem dX13_sureAtHand_0 : decode cX13_sureAtHand 0 = .ok (.aload_n 0, 1) := dk_42 (dk_at dksX13_sureAtHand_0 0 rfl rfl)
theorem dX13_sureAtHand_1 : decode cX13_sureAtHand 1 = .ok (.bipush 115, 2) := dk_16 115 (dk_at dksX13_sureAtHand_0 1 rfl rfl)
theorem dX13_sureAtHand_3 : decode cX13_sureAtHand 3 = .ok (.bipush 117, 2) := dk_16 117 (dk_at dksX13_sureAtHand_0 3 rfl rfl)
theorem dX13_sureAtHand_5 : decode cX13_sureAtHand 5 = .ok (.bipush 114, 2) := dk_16 114 (dk_at dksX13_sureAtHand_0 5 rfl rfl)
theorem dX13_sureAtHand_7 : decode cX13_sureAtHand 7 = .ok (.bipush 101, 2) := dk_16 101 (dk_at dksX13_sureAtHand_0 7 rfl rfl)
theorem dX13_sureAtHand_9 : decode cX13_sureAtHand 9 = .ok (.iconst 0, 1) := dk_3 (dk_at dksX13_sureAtHand_0 9 rfl rfl)
theorem dX13_sureAtHand_10 : decode cX13_sureAtHand 10 = .ok (.invokestatic 125, 3) := dk_184 0 125 (dk_at dksX13_sureAtHand_0 10 rfl rfl)
theorem dX13_sureAtHand_13 : decode cX13_sureAtHand 13 = .ok (.invokevirtual 135, 3) := dk_182 0 135 (dk_at dksX13_sureAtHand_0 13 rfl rfl)
theorem dX13_sureAtHand_16 : decode cX13_sureAtHand 16 = .ok (.ifCond .eq 5, 3) := dk_153 0 5 (dk_at dksX13_sureAtHand_0 16 rfl rfl)
theorem dX13_sureAtHand_19 : decode cX13_sureAtHand 19 = .ok (.iconst 1, 1) := dk_4 (dk_at dksX13_sureAtHand_0 19 rfl rfl)
theorem dX13_sureAtHand_20 : decode cX13_sureAtHand 20 = .ok (.ireturn, 1) := dk_172 (dk_at dksX13_sureAtHand_0 20 rfl rfl)
theorem dX13_sureAtHand_21 : decode cX13_sureAtHand 21 = .ok (.aload_n 0, 1) := dk_42 (dk_at dksX13_sureAtHand_0 21 rfl rfl)
theorem dX13_sureAtHand_22 : decode cX13_sureAtHand 22 = .ok (.bipush 110, 2) := dk_16 110 (dk_at dksX13_sureAtHand_0 22 rfl rfl)
theorem dX13_sureAtHand_24 : decode cX13_sureAtHand 24 = .ok (.bipush 101, 2) := dk_16 101 (dk_at dksX13_sureAtHand_1 0 rfl rfl)
theorem dX13_sureAtHand_26 : decode cX13_sureAtHand 26 = .ok (.bipush 118, 2) := dk_16 118 (dk_at dksX13_sureAtHand_1 2 rfl rfl)
theorem dX13_sureAtHand_28 : decode cX13_sureAtHand 28 = .ok (.bipush 101, 2) := dk_16 101 (dk_at dksX13_sureAtHand_1 4 rfl rfl)
theorem dX13_sureAtHand_30 : decode cX13_sureAtHand 30 = .ok (.bipush 114, 2) := dk_16 114 (dk_at dksX13_sureAtHand_1 6 rfl rfl)
theorem dX13_sureAtHand_32 : decode cX13_sureAtHand 32 = .ok (.invokestatic 125, 3) := dk_184 0 125 (dk_at dksX13_sureAtHand_1 8 rfl rfl)
theorem dX13_sureAtHand_35 : decode cX13_sureAtHand 35 = .ok (.invokevirtual 135, 3) := dk_182 0 135 (dk_at dksX13_sureAtHand_1 11 rfl rfl)
theorem dX13_sureAtHand_38 : decode cX13_sureAtHand 38 = .ok (.ifCond .eq 5, 3) := dk_153 0 5 (dk_at dksX13_sureAtHand_1 14 rfl rfl)
theorem dX13_sureAtHand_41 : decode cX13_sureAtHand 41 = .ok (.iconst 0, 1) := dk_3 (dk_at dksX13_sureAtHand_1 17 rfl rfl)
theorem dX13_sureAtHand_42 : decode cX13_sureAtHand 42 = .ok (.ireturn, 1) := dk_172 (dk_at dksX13_sureAtHand_1 18 rfl rfl)
theorem dX13_sureAtHand_43 : decode cX13_sureAtHand 43 = .ok (.aload_n 0, 1) := dk_42 (dk_at dksX13_sureAtHand_1 19 rfl rfl)
theorem dX13_sureAtHand_44 : decode cX13_sureAtHand 44 = .ok (.bipush 109, 2) := dk_16 109 (dk_at dksX13_sureAtHand_1 20 rfl rfl)
theorem dX13_sureAtHand_46 : decode cX13_sureAtHand 46 = .ok (.bipush 97, 2) := dk_16 97 (dk_at dksX13_sureAtHand_1 22 rfl rfl)
theorem dX13_sureAtHand_48 : decode cX13_sureAtHand 48 = .ok (.bipush 121, 2) := dk_16 121 (dk_at dksX13_sureAtHand_2 0 rfl rfl)
theorem dX13_sureAtHand_50 : decode cX13_sureAtHand 50 = .ok (.bipush 98, 2) := dk_16 98 (dk_at dksX13_sureAtHand_2 2 rfl rfl)
theorem dX13_sureAtHand_52 : decode cX13_sureAtHand 52 = .ok (.bipush 101, 2) := dk_16 101 (dk_at dksX13_sureAtHand_2 4 rfl rfl)
theorem dX13_sureAtHand_54 : decode cX13_sureAtHand 54 = .ok (.invokestatic 125, 3) := dk_184 0 125 (dk_at dksX13_sureAtHand_2 6 rfl rfl)
theorem dX13_sureAtHand_57 : decode cX13_sureAtHand 57 = .ok (.invokevirtual 135, 3) := dk_182 0 135 (dk_at dksX13_sureAtHand_2 9 rfl rfl)
theorem dX13_sureAtHand_60 : decode cX13_sureAtHand 60 = .ok (.ifCond .eq 7, 3) := dk_153 0 7 (dk_at dksX13_sureAtHand_2 12 rfl rfl)
theorem dX13_sureAtHand_63 : decode cX13_sureAtHand 63 = .ok (.iconst 2, 1) := dk_5 (dk_at dksX13_sureAtHand_2 15 rfl rfl)
theorem dX13_sureAtHand_64 : decode cX13_sureAtHand 64 = .ok (.goto 4, 3) := dk_167 0 4 (dk_at dksX13_sureAtHand_2 16 rfl rfl)
theorem dX13_sureAtHand_67 : decode cX13_sureAtHand 67 = .ok (.iconst (-1), 1) := dk_2 (dk_at dksX13_sureAtHand_2 19 rfl rfl)
theorem dX13_sureAtHand_68 : decode cX13_sureAtHand 68 = .ok (.ireturn, 1) := dk_172 (dk_at dksX13_sureAtHand_2 20 rfl rfl)
abbrev cX13_countAtHand : ByteArray := prog_24_method_96_code
def yX13_countAtHand : MethodName := ⟨RX13, "countAtHand", "()I"⟩
def dkwX13_countAtHand_5 : List UInt8 := [182, 0, 135, 153, 0, 7, 6, 167, 0, 4, 2, 172]
abbrev dktX13_countAtHand_5 : List UInt8 := dkwX13_countAtHand_5 ++ []
def dkwX13_countAtHand_4 : List UInt8 := [16, 115, 16, 112, 16, 111, 16, 107, 16, 101, 184, 0, 125, 105, 20, 1, 102, 97, 20, 0, 107, 101]
abbrev dktX13_countAtHand_4 : List UInt8 := dkwX13_countAtHand_4 ++ dktX13_countAtHand_5
def dkwX13_countAtHand_3 : List UInt8 := [184, 0, 125, 105, 20, 1, 100, 97, 20, 0, 107, 101, 182, 0, 135, 153, 0, 5, 5, 172, 42, 20, 0, 105]
abbrev dktX13_countAtHand_3 : List UInt8 := dkwX13_countAtHand_3 ++ dktX13_countAtHand_4
def dkwX13_countAtHand_2 : List UInt8 := [101, 182, 0, 135, 153, 0, 5, 4, 172, 42, 20, 0, 105, 16, 115, 16, 105, 16, 108, 16, 101, 16, 110]
abbrev dktX13_countAtHand_2 : List UInt8 := dkwX13_countAtHand_2 ++ dktX13_countAtHand_3
def dkwX13_countAtHand_1 : List UInt8 := [20, 0, 105, 16, 119, 16, 111, 16, 114, 16, 108, 16, 100, 184, 0, 125, 105, 20, 1, 98, 97, 20, 0, 107]
abbrev dktX13_countAtHand_1 : List UInt8 := dkwX13_countAtHand_1 ++ dktX13_countAtHand_2
def dkwX13_countAtHand_0 : List UInt8 := [42, 16, 114, 16, 111, 16, 119, 16, 115, 3, 184, 0, 125, 182, 0, 135, 153, 0, 5, 3, 172, 42]
abbrev dktX13_countAtHand_0 : List UInt8 := dkwX13_countAtHand_0 ++ dktX13_countAtHand_1
theorem dksX13_countAtHand_0 : cX13_countAtHand.data.toList.drop 0 = dktX13_countAtHand_0 := by decide +kernel
theorem dksX13_countAtHand_1 : cX13_countAtHand.data.toList.drop 22 = dktX13_countAtHand_1 := dk_seg dksX13_countAtHand_0 22 rfl rfl
theorem dksX13_countAtHand_2 : cX13_countAtHand.data.toList.drop 46 = dktX13_countAtHand_2 := dk_seg dksX13_countAtHand_1 24 rfl rfl
theorem dksX13_countAtHand_3 : cX13_countAtHand.data.toList.drop 69 = dktX13_countAtHand_3 := dk_seg dksX13_countAtHand_2 23 rfl rfl
theorem dksX13_countAtHand_4 : cX13_countAtHand.data.toList.drop 93 = dktX13_countAtHand_4 := dk_seg dksX13_countAtHand_3 24 rfl rfl
theorem dksX13_countAtHand_5 : cX13_countAtHand.data.toList.drop 115 = dktX13_countAtHand_5 := dk_seg dksX13_countAtHand_4 22 rfl rfl
theorem dX13_countAtHand_0 : decode cX13_countAtHand 0 = .ok (.aload_n 0, 1) := dk_42 (dk_at dksX13_countAtHand_0 0 rfl rfl)
theorem dX13_countAtHand_1 : decode cX13_countAtHand 1 = .ok (.bipush 114, 2) := dk_16 114 (dk_at dksX13_countAtHand_0 1 rfl rfl)
theorem dX13_countAtHand_3 : decode cX13_countAtHand 3 = .ok (.bipush 111, 2) := dk_16 111 (dk_at dksX13_countAtHand_0 3 rfl rfl)
theorem dX13_countAtHand_5 : decode cX13_countAtHand 5 = .ok (.bipush 119, 2) := dk_16 119 (dk_at dksX13_countAtHand_0 5 rfl rfl)
theorem dX13_countAtHand_7 : decode cX13_countAtHand 7 = .ok (.bipush 115, 2) := dk_16 115 (dk_at dksX13_countAtHand_0 7 rfl rfl)
theorem dX13_countAtHand_9 : decode cX13_countAtHand 9 = .ok (.iconst 0, 1) := dk_3 (dk_at dksX13_countAtHand_0 9 rfl rfl)
theorem dX13_countAtHand_10 : decode cX13_countAtHand 10 = .ok (.invokestatic 125, 3) := dk_184 0 125 (dk_at dksX13_countAtHand_0 10 rfl rfl)
theorem dX13_countAtHand_13 : decode cX13_countAtHand 13 = .ok (.invokevirtual 135, 3) := dk_182 0 135 (dk_at dksX13_countAtHand_0 13 rfl rfl)
theorem dX13_countAtHand_16 : decode cX13_countAtHand 16 = .ok (.ifCond .eq 5, 3) := dk_153 0 5 (dk_at dksX13_countAtHand_0 16 rfl rfl)
theorem dX13_countAtHand_19 : decode cX13_countAtHand 19 = .ok (.iconst 0, 1) := dk_3 (dk_at dksX13_countAtHand_0 19 rfl rfl)
theorem dX13_countAtHand_20 : decode cX13_countAtHand 20 = .ok (.ireturn, 1) := dk_172 (dk_at dksX13_countAtHand_0 20 rfl rfl)
theorem dX13_countAtHand_21 : decode cX13_countAtHand 21 = .ok (.aload_n 0, 1) := dk_42 (dk_at dksX13_countAtHand_0 21 rfl rfl)
theorem dX13_countAtHand_22 : decode cX13_countAtHand 22 = .ok (.ldc2_w 105, 3) := dk_20 0 105 (dk_at dksX13_countAtHand_1 0 rfl rfl)
theorem dX13_countAtHand_25 : decode cX13_countAtHand 25 = .ok (.bipush 119, 2) := dk_16 119 (dk_at dksX13_countAtHand_1 3 rfl rfl)
theorem dX13_countAtHand_27 : decode cX13_countAtHand 27 = .ok (.bipush 111, 2) := dk_16 111 (dk_at dksX13_countAtHand_1 5 rfl rfl)
theorem dX13_countAtHand_29 : decode cX13_countAtHand 29 = .ok (.bipush 114, 2) := dk_16 114 (dk_at dksX13_countAtHand_1 7 rfl rfl)
theorem dX13_countAtHand_31 : decode cX13_countAtHand 31 = .ok (.bipush 108, 2) := dk_16 108 (dk_at dksX13_countAtHand_1 9 rfl rfl)
theorem dX13_countAtHand_33 : decode cX13_countAtHand 33 = .ok (.bipush 100, 2) := dk_16 100 (dk_at dksX13_countAtHand_1 11 rfl rfl)
theorem dX13_countAtHand_35 : decode cX13_countAtHand 35 = .ok (.invokestatic 125, 3) := dk_184 0 125 (dk_at dksX13_countAtHand_1 13 rfl rfl)
theorem dX13_countAtHand_38 : decode cX13_countAtHand 38 = .ok (.lmul, 1) := dk_105 (dk_at dksX13_countAtHand_1 16 rfl rfl)
theorem dX13_countAtHand_39 : decode cX13_countAtHand 39 = .ok (.ldc2_w 354, 3) := dk_20 1 98 (dk_at dksX13_countAtHand_1 17 rfl rfl)
theorem dX13_countAtHand_42 : decode cX13_countAtHand 42 = .ok (.ladd, 1) := dk_97 (dk_at dksX13_countAtHand_1 20 rfl rfl)
theorem dX13_countAtHand_43 : decode cX13_countAtHand 43 = .ok (.ldc2_w 107, 3) := dk_20 0 107 (dk_at dksX13_countAtHand_1 21 rfl rfl)
theorem dX13_countAtHand_46 : decode cX13_countAtHand 46 = .ok (.lsub, 1) := dk_101 (dk_at dksX13_countAtHand_2 0 rfl rfl)
theorem dX13_countAtHand_47 : decode cX13_countAtHand 47 = .ok (.invokevirtual 135, 3) := dk_182 0 135 (dk_at dksX13_countAtHand_2 1 rfl rfl)
theorem dX13_countAtHand_50 : decode cX13_countAtHand 50 = .ok (.ifCond .eq 5, 3) := dk_153 0 5 (dk_at dksX13_countAtHand_2 4 rfl rfl)
theorem dX13_countAtHand_53 : decode cX13_countAtHand 53 = .ok (.iconst 1, 1) := dk_4 (dk_at dksX13_countAtHand_2 7 rfl rfl)
theorem dX13_countAtHand_54 : decode cX13_countAtHand 54 = .ok (.ireturn, 1) := dk_172 (dk_at dksX13_countAtHand_2 8 rfl rfl)
theorem dX13_countAtHand_55 : decode cX13_countAtHand 55 = .ok (.aload_n 0, 1) := dk_42 (dk_at dksX13_countAtHand_2 9 rfl rfl)
theorem dX13_countAtHand_56 : decode cX13_countAtHand 56 = .ok (.ldc2_w 105, 3) := dk_20 0 105 (dk_at dksX13_countAtHand_2 10 rfl rfl)
theorem dX13_countAtHand_59 : decode cX13_countAtHand 59 = .ok (.bipush 115, 2) := dk_16 115 (dk_at dksX13_countAtHand_2 13 rfl rfl)
theorem dX13_countAtHand_61 : decode cX13_countAtHand 61 = .ok (.bipush 105, 2) := dk_16 105 (dk_at dksX13_countAtHand_2 15 rfl rfl)
theorem dX13_countAtHand_63 : decode cX13_countAtHand 63 = .ok (.bipush 108, 2) := dk_16 108 (dk_at dksX13_countAtHand_2 17 rfl rfl)
theorem dX13_countAtHand_65 : decode cX13_countAtHand 65 = .ok (.bipush 101, 2) := dk_16 101 (dk_at dksX13_countAtHand_2 19 rfl rfl)
theorem dX13_countAtHand_67 : decode cX13_countAtHand 67 = .ok (.bipush 110, 2) := dk_16 110 (dk_at dksX13_countAtHand_2 21 rfl rfl)
theorem dX13_countAtHand_69 : decode cX13_countAtHand 69 = .ok (.invokestatic 125, 3) := dk_184 0 125 (dk_at dksX13_countAtHand_3 0 rfl rfl)
theorem dX13_countAtHand_72 : decode cX13_countAtHand 72 = .ok (.lmul, 1) := dk_105 (dk_at dksX13_countAtHand_3 3 rfl rfl)
theorem dX13_countAtHand_73 : decode cX13_countAtHand 73 = .ok (.ldc2_w 356, 3) := dk_20 1 100 (dk_at dksX13_countAtHand_3 4 rfl rfl)
theorem dX13_countAtHand_76 : decode cX13_countAtHand 76 = .ok (.ladd, 1) := dk_97 (dk_at dksX13_countAtHand_3 7 rfl rfl)
theorem dX13_countAtHand_77 : decode cX13_countAtHand 77 = .ok (.ldc2_w 107, 3) := dk_20 0 107 (dk_at dksX13_countAtHand_3 8 rfl rfl)
theorem dX13_countAtHand_80 : decode cX13_countAtHand 80 = .ok (.lsub, 1) := dk_101 (dk_at dksX13_countAtHand_3 11 rfl rfl)
theorem dX13_countAtHand_81 : decode cX13_countAtHand 81 = .ok (.invokevirtual 135, 3) := dk_182 0 135 (dk_at dksX13_countAtHand_3 12 rfl rfl)
theorem dX13_countAtHand_84 : decode cX13_countAtHand 84 = .ok (.ifCond .eq 5, 3) := dk_153 0 5 (dk_at dksX13_countAtHand_3 15 rfl rfl)
theorem dX13_countAtHand_87 : decode cX13_countAtHand 87 = .ok (.iconst 2, 1) := dk_5 (dk_at dksX13_countAtHand_3 18 rfl rfl)
theorem dX13_countAtHand_88 : decode cX13_countAtHand 88 = .ok (.ireturn, 1) := dk_172 (dk_at dksX13_countAtHand_3 19 rfl rfl)
theorem dX13_countAtHand_89 : decode cX13_countAtHand 89 = .ok (.aload_n 0, 1) := dk_42 (dk_at dksX13_countAtHand_3 20 rfl rfl)
theorem dX13_countAtHand_90 : decode cX13_countAtHand 90 = .ok (.ldc2_w 105, 3) := dk_20 0 105 (dk_at dksX13_countAtHand_3 21 rfl rfl)
theorem dX13_countAtHand_93 : decode cX13_countAtHand 93 = .ok (.bipush 115, 2) := dk_16 115 (dk_at dksX13_countAtHand_4 0 rfl rfl)
theorem dX13_countAtHand_95 : decode cX13_countAtHand 95 = .ok (.bipush 112, 2) := dk_16 112 (dk_at dksX13_countAtHand_4 2 rfl rfl)
theorem dX13_countAtHand_97 : decode cX13_countAtHand 97 = .ok (.bipush 111, 2) := dk_16 111 (dk_at dksX13_countAtHand_4 4 rfl rfl)
theorem dX13_countAtHand_99 : decode cX13_countAtHand 99 = .ok (.bipush 107, 2) := dk_16 107 (dk_at dksX13_countAtHand_4 6 rfl rfl)
theorem dX13_countAtHand_101 : decode cX13_countAtHand 101 = .ok (.bipush 101, 2) := dk_16 101 (dk_at dksX13_countAtHand_4 8 rfl rfl)
theorem dX13_countAtHand_103 : decode cX13_countAtHand 103 = .ok (.invokestatic 125, 3) := dk_184 0 125 (dk_at dksX13_countAtHand_4 10 rfl rfl)
theorem dX13_countAtHand_106 : decode cX13_countAtHand 106 = .ok (.lmul, 1) := dk_105 (dk_at dksX13_countAtHand_4 13 rfl rfl)
theorem dX13_countAtHand_107 : decode cX13_countAtHand 107 = .ok (.ldc2_w 358, 3) := dk_20 1 102 (dk_at dksX13_countAtHand_4 14 rfl rfl)
theorem dX13_countAtHand_110 : decode cX13_countAtHand 110 = .ok (.ladd, 1) := dk_97 (dk_at dksX13_countAtHand_4 17 rfl rfl)
theorem dX13_countAtHand_111 : decode cX13_countAtHand 111 = .ok (.ldc2_w 107, 3) := dk_20 0 107 (dk_at dksX13_countAtHand_4 18 rfl rfl)
theorem dX13_countAtHand_114 : decode cX13_countAtHand 114 = .ok (.lsub, 1) := dk_101 (dk_at dksX13_countAtHand_4 21 rfl rfl)
theorem dX13_countAtHand_115 : decode cX13_countAtHand 115 = .ok (.invokevirtual 135, 3) := dk_182 0 135 (dk_at dksX13_countAtHand_5 0 rfl rfl)
theorem dX13_countAtHand_118 : decode cX13_countAtHand 118 = .ok (.ifCond .eq 7, 3) := dk_153 0 7 (dk_at dksX13_countAtHand_5 3 rfl rfl)
theorem dX13_countAtHand_121 : decode cX13_countAtHand 121 = .ok (.iconst 3, 1) := dk_6 (dk_at dksX13_countAtHand_5 6 rfl rfl)
theorem dX13_countAtHand_122 : decode cX13_countAtHand 122 = .ok (.goto 4, 3) := dk_167 0 4 (dk_at dksX13_countAtHand_5 7 rfl rfl)
theorem dX13_countAtHand_125 : decode cX13_countAtHand 125 = .ok (.iconst (-1), 1) := dk_2 (dk_at dksX13_countAtHand_5 10 rfl rfl)
theorem dX13_countAtHand_126 : decode cX13_countAtHand 126 = .ok (.ireturn, 1) := dk_172 (dk_at dksX13_countAtHand_5 11 rfl rfl)
abbrev cX13_readNot : ByteArray := prog_24_method_101_code
def yX13_readNot : MethodName := ⟨RX13, "readNot", "()Z"⟩
def dkwX13_readNot_1 : List UInt8 := [4, 172]
abbrev dktX13_readNot_1 : List UInt8 := dkwX13_readNot_1 ++ []
def dkwX13_readNot_0 : List UInt8 := [42, 182, 1, 114, 154, 0, 5, 3, 172, 42, 42, 4, 42, 180, 1, 107, 3, 3, 182, 1, 110, 181, 1, 107]
abbrev dktX13_readNot_0 : List UInt8 := dkwX13_readNot_0 ++ dktX13_readNot_1
theorem dksX13_readNot_0 : cX13_readNot.data.toList.drop 0 = dktX13_readNot_0 := by decide +kernel
theorem dksX13_readNot_1 : cX13_readNot.data.toList.drop 24 = dktX13_readNot_1 := dk_seg dksX13_readNot_0 24 rfl rfl
theorem dX13_readNot_0 : decode cX13_readNot 0 = .ok (.aload_n 0, 1) := dk_42 (dk_at dksX13_readNot_0 0 rfl rfl)
theorem dX13_readNot_1 : decode cX13_readNot 1 = .ok (.invokevirtual 370, 3) := dk_182 1 114 (dk_at dksX13_readNot_0 1 rfl rfl)
theorem dX13_readNot_4 : decode cX13_readNot 4 = .ok (.ifCond .ne 5, 3) := dk_154 0 5 (dk_at dksX13_readNot_0 4 rfl rfl)
theorem dX13_readNot_7 : decode cX13_readNot 7 = .ok (.iconst 0, 1) := dk_3 (dk_at dksX13_readNot_0 7 rfl rfl)
theorem dX13_readNot_8 : decode cX13_readNot 8 = .ok (.ireturn, 1) := dk_172 (dk_at dksX13_readNot_0 8 rfl rfl)
theorem dX13_readNot_9 : decode cX13_readNot 9 = .ok (.aload_n 0, 1) := dk_42 (dk_at dksX13_readNot_0 9 rfl rfl)
theorem dX13_readNot_10 : decode cX13_readNot 10 = .ok (.aload_n 0, 1) := dk_42 (dk_at dksX13_readNot_0 10 rfl rfl)
theorem dX13_readNot_11 : decode cX13_readNot 11 = .ok (.iconst 1, 1) := dk_4 (dk_at dksX13_readNot_0 11 rfl rfl)
theorem dX13_readNot_12 : decode cX13_readNot 12 = .ok (.aload_n 0, 1) := dk_42 (dk_at dksX13_readNot_0 12 rfl rfl)
theorem dX13_readNot_13 : decode cX13_readNot 13 = .ok (.getfield 363, 3) := dk_180 1 107 (dk_at dksX13_readNot_0 13 rfl rfl)
theorem dX13_readNot_16 : decode cX13_readNot 16 = .ok (.iconst 0, 1) := dk_3 (dk_at dksX13_readNot_0 16 rfl rfl)
theorem dX13_readNot_17 : decode cX13_readNot 17 = .ok (.iconst 0, 1) := dk_3 (dk_at dksX13_readNot_0 17 rfl rfl)
theorem dX13_readNot_18 : decode cX13_readNot 18 = .ok (.invokevirtual 366, 3) := dk_182 1 110 (dk_at dksX13_readNot_0 18 rfl rfl)
theorem dX13_readNot_21 : decode cX13_readNot 21 = .ok (.putfield 363, 3) := dk_181 1 107 (dk_at dksX13_readNot_0 21 rfl rfl)
theorem dX13_readNot_24 : decode cX13_readNot 24 = .ok (.iconst 1, 1) := dk_4 (dk_at dksX13_readNot_1 0 rfl rfl)
theorem dX13_readNot_25 : decode cX13_readNot 25 = .ok (.ireturn, 1) := dk_172 (dk_at dksX13_readNot_1 1 rfl rfl)
abbrev cX13_lays : ByteArray := prog_24_method_95_code
def yX13_lays : MethodName := ⟨RX13, "lays", "(IIII)I"⟩
def dkwX13_lays_2 : List UInt8 := [89, 180, 1, 95, 4, 96, 181, 1, 95, 42, 180, 1, 95, 4, 100, 172]
abbrev dktX13_lays_2 : List UInt8 := dkwX13_lays_2 ++ []
def dkwX13_lays_1 : List UInt8 := [28, 79, 42, 180, 0, 55, 21, 5, 5, 96, 29, 79, 42, 180, 0, 55, 21, 5, 6, 96, 21, 4, 79, 42]
abbrev dktX13_lays_1 : List UInt8 := dkwX13_lays_1 ++ dktX13_lays_2
def dkwX13_lays_0 : List UInt8 := [7, 42, 180, 1, 95, 104, 54, 5, 42, 180, 0, 55, 21, 5, 27, 79, 42, 180, 0, 55, 21, 5, 4, 96]
abbrev dktX13_lays_0 : List UInt8 := dkwX13_lays_0 ++ dktX13_lays_1
theorem dksX13_lays_0 : cX13_lays.data.toList.drop 0 = dktX13_lays_0 := by decide +kernel
theorem dksX13_lays_1 : cX13_lays.data.toList.drop 24 = dktX13_lays_1 := dk_seg dksX13_lays_0 24 rfl rfl
theorem dksX13_lays_2 : cX13_lays.data.toList.drop 48 = dktX13_lays_2 := dk_seg dksX13_lays_1 24 rfl rfl
theorem dX13_lays_0 : decode cX13_lays 0 = .ok (.iconst 4, 1) := dk_7 (dk_at dksX13_lays_0 0 rfl rfl)
theorem dX13_lays_1 : decode cX13_lays 1 = .ok (.aload_n 0, 1) := dk_42 (dk_at dksX13_lays_0 1 rfl rfl)
theorem dX13_lays_2 : decode cX13_lays 2 = .ok (.getfield 351, 3) := dk_180 1 95 (dk_at dksX13_lays_0 2 rfl rfl)
theorem dX13_lays_5 : decode cX13_lays 5 = .ok (.imul, 1) := dk_104 (dk_at dksX13_lays_0 5 rfl rfl)
theorem dX13_lays_6 : decode cX13_lays 6 = .ok (.istore 5, 2) := dk_54 5 (dk_at dksX13_lays_0 6 rfl rfl)
theorem dX13_lays_8 : decode cX13_lays 8 = .ok (.aload_n 0, 1) := dk_42 (dk_at dksX13_lays_0 8 rfl rfl)
theorem dX13_lays_9 : decode cX13_lays 9 = .ok (.getfield 55, 3) := dk_180 0 55 (dk_at dksX13_lays_0 9 rfl rfl)
theorem dX13_lays_12 : decode cX13_lays 12 = .ok (.iload 5, 2) := dk_21 5 (dk_at dksX13_lays_0 12 rfl rfl)
theorem dX13_lays_14 : decode cX13_lays 14 = .ok (.iload_n 1, 1) := dk_27 (dk_at dksX13_lays_0 14 rfl rfl)
theorem dX13_lays_15 : decode cX13_lays 15 = .ok (.iastore, 1) := dk_79 (dk_at dksX13_lays_0 15 rfl rfl)
theorem dX13_lays_16 : decode cX13_lays 16 = .ok (.aload_n 0, 1) := dk_42 (dk_at dksX13_lays_0 16 rfl rfl)
theorem dX13_lays_17 : decode cX13_lays 17 = .ok (.getfield 55, 3) := dk_180 0 55 (dk_at dksX13_lays_0 17 rfl rfl)
theorem dX13_lays_20 : decode cX13_lays 20 = .ok (.iload 5, 2) := dk_21 5 (dk_at dksX13_lays_0 20 rfl rfl)
theorem dX13_lays_22 : decode cX13_lays 22 = .ok (.iconst 1, 1) := dk_4 (dk_at dksX13_lays_0 22 rfl rfl)
theorem dX13_lays_23 : decode cX13_lays 23 = .ok (.iadd, 1) := dk_96 (dk_at dksX13_lays_0 23 rfl rfl)
theorem dX13_lays_24 : decode cX13_lays 24 = .ok (.iload_n 2, 1) := dk_28 (dk_at dksX13_lays_1 0 rfl rfl)
theorem dX13_lays_25 : decode cX13_lays 25 = .ok (.iastore, 1) := dk_79 (dk_at dksX13_lays_1 1 rfl rfl)
theorem dX13_lays_26 : decode cX13_lays 26 = .ok (.aload_n 0, 1) := dk_42 (dk_at dksX13_lays_1 2 rfl rfl)
theorem dX13_lays_27 : decode cX13_lays 27 = .ok (.getfield 55, 3) := dk_180 0 55 (dk_at dksX13_lays_1 3 rfl rfl)
theorem dX13_lays_30 : decode cX13_lays 30 = .ok (.iload 5, 2) := dk_21 5 (dk_at dksX13_lays_1 6 rfl rfl)
theorem dX13_lays_32 : decode cX13_lays 32 = .ok (.iconst 2, 1) := dk_5 (dk_at dksX13_lays_1 8 rfl rfl)
theorem dX13_lays_33 : decode cX13_lays 33 = .ok (.iadd, 1) := dk_96 (dk_at dksX13_lays_1 9 rfl rfl)
theorem dX13_lays_34 : decode cX13_lays 34 = .ok (.iload_n 3, 1) := dk_29 (dk_at dksX13_lays_1 10 rfl rfl)
theorem dX13_lays_35 : decode cX13_lays 35 = .ok (.iastore, 1) := dk_79 (dk_at dksX13_lays_1 11 rfl rfl)
theorem dX13_lays_36 : decode cX13_lays 36 = .ok (.aload_n 0, 1) := dk_42 (dk_at dksX13_lays_1 12 rfl rfl)
theorem dX13_lays_37 : decode cX13_lays 37 = .ok (.getfield 55, 3) := dk_180 0 55 (dk_at dksX13_lays_1 13 rfl rfl)
theorem dX13_lays_40 : decode cX13_lays 40 = .ok (.iload 5, 2) := dk_21 5 (dk_at dksX13_lays_1 16 rfl rfl)
theorem dX13_lays_42 : decode cX13_lays 42 = .ok (.iconst 3, 1) := dk_6 (dk_at dksX13_lays_1 18 rfl rfl)
theorem dX13_lays_43 : decode cX13_lays 43 = .ok (.iadd, 1) := dk_96 (dk_at dksX13_lays_1 19 rfl rfl)
theorem dX13_lays_44 : decode cX13_lays 44 = .ok (.iload 4, 2) := dk_21 4 (dk_at dksX13_lays_1 20 rfl rfl)
theorem dX13_lays_46 : decode cX13_lays 46 = .ok (.iastore, 1) := dk_79 (dk_at dksX13_lays_1 22 rfl rfl)
theorem dX13_lays_47 : decode cX13_lays 47 = .ok (.aload_n 0, 1) := dk_42 (dk_at dksX13_lays_1 23 rfl rfl)
theorem dX13_lays_48 : decode cX13_lays 48 = .ok (.dup, 1) := dk_89 (dk_at dksX13_lays_2 0 rfl rfl)
theorem dX13_lays_49 : decode cX13_lays 49 = .ok (.getfield 351, 3) := dk_180 1 95 (dk_at dksX13_lays_2 1 rfl rfl)
theorem dX13_lays_52 : decode cX13_lays 52 = .ok (.iconst 1, 1) := dk_4 (dk_at dksX13_lays_2 4 rfl rfl)
theorem dX13_lays_53 : decode cX13_lays 53 = .ok (.iadd, 1) := dk_96 (dk_at dksX13_lays_2 5 rfl rfl)
theorem dX13_lays_54 : decode cX13_lays 54 = .ok (.putfield 351, 3) := dk_181 1 95 (dk_at dksX13_lays_2 6 rfl rfl)
theorem dX13_lays_57 : decode cX13_lays 57 = .ok (.aload_n 0, 1) := dk_42 (dk_at dksX13_lays_2 9 rfl rfl)
theorem dX13_lays_58 : decode cX13_lays 58 = .ok (.getfield 351, 3) := dk_180 1 95 (dk_at dksX13_lays_2 10 rfl rfl)
theorem dX13_lays_61 : decode cX13_lays 61 = .ok (.iconst 1, 1) := dk_4 (dk_at dksX13_lays_2 13 rfl rfl)
theorem dX13_lays_62 : decode cX13_lays 62 = .ok (.isub, 1) := dk_100 (dk_at dksX13_lays_2 14 rfl rfl)
theorem dX13_lays_63 : decode cX13_lays 63 = .ok (.ireturn, 1) := dk_172 (dk_at dksX13_lays_2 15 rfl rfl)
abbrev cX13_readBracket : ByteArray := prog_24_method_102_code
def yX13_readBracket : MethodName := ⟨RX13, "readBracket", "()Z"⟩
def dkwX13_readBracket_1 : List UInt8 := [42, 182, 0, 122, 4, 172]
abbrev dktX13_readBracket_1 : List UInt8 := dkwX13_readBracket_1 ++ []
def dkwX13_readBracket_0 : List UInt8 := [42, 182, 1, 141, 154, 0, 5, 3, 172, 42, 16, 41, 182, 0, 209, 154, 0, 9, 42, 4, 182, 0, 112, 172]
abbrev dktX13_readBracket_0 : List UInt8 := dkwX13_readBracket_0 ++ dktX13_readBracket_1
theorem dksX13_readBracket_0 : cX13_readBracket.data.toList.drop 0 = dktX13_readBracket_0 := by decide +kernel
theorem dksX13_readBracket_1 : cX13_readBracket.data.toList.drop 24 = dktX13_readBracket_1 := dk_seg dksX13_readBracket_0 24 rfl rfl
theorem dX13_readBracket_0 : decode cX13_readBracket 0 = .ok (.aload_n 0, 1) := dk_42 (dk_at dksX13_readBracket_0 0 rfl rfl)
theorem dX13_readBracket_1 : decode cX13_readBracket 1 = .ok (.invokevirtual 397, 3) := dk_182 1 141 (dk_at dksX13_readBracket_0 1 rfl rfl)
theorem dX13_readBracket_4 : decode cX13_readBracket 4 = .ok (.ifCond .ne 5, 3) := dk_154 0 5 (dk_at dksX13_readBracket_0 4 rfl rfl)
theorem dX13_readBracket_7 : decode cX13_readBracket 7 = .ok (.iconst 0, 1) := dk_3 (dk_at dksX13_readBracket_0 7 rfl rfl)
theorem dX13_readBracket_8 : decode cX13_readBracket 8 = .ok (.ireturn, 1) := dk_172 (dk_at dksX13_readBracket_0 8 rfl rfl)
theorem dX13_readBracket_9 : decode cX13_readBracket 9 = .ok (.aload_n 0, 1) := dk_42 (dk_at dksX13_readBracket_0 9 rfl rfl)
theorem dX13_readBracket_10 : decode cX13_readBracket 10 = .ok (.bipush 41, 2) := dk_16 41 (dk_at dksX13_readBracket_0 10 rfl rfl)
theorem dX13_readBracket_12 : decode cX13_readBracket 12 = .ok (.invokevirtual 209, 3) := dk_182 0 209 (dk_at dksX13_readBracket_0 12 rfl rfl)
theorem dX13_readBracket_15 : decode cX13_readBracket 15 = .ok (.ifCond .ne 9, 3) := dk_154 0 9 (dk_at dksX13_readBracket_0 15 rfl rfl)
theorem dX13_readBracket_18 : decode cX13_readBracket 18 = .ok (.aload_n 0, 1) := dk_42 (dk_at dksX13_readBracket_0 18 rfl rfl)
theorem dX13_readBracket_19 : decode cX13_readBracket 19 = .ok (.iconst 1, 1) := dk_4 (dk_at dksX13_readBracket_0 19 rfl rfl)
theorem dX13_readBracket_20 : decode cX13_readBracket 20 = .ok (.invokevirtual 112, 3) := dk_182 0 112 (dk_at dksX13_readBracket_0 20 rfl rfl)
theorem dX13_readBracket_23 : decode cX13_readBracket 23 = .ok (.ireturn, 1) := dk_172 (dk_at dksX13_readBracket_0 23 rfl rfl)
theorem dX13_readBracket_24 : decode cX13_readBracket 24 = .ok (.aload_n 0, 1) := dk_42 (dk_at dksX13_readBracket_1 0 rfl rfl)
theorem dX13_readBracket_25 : decode cX13_readBracket 25 = .ok (.invokevirtual 122, 3) := dk_182 0 122 (dk_at dksX13_readBracket_1 1 rfl rfl)
theorem dX13_readBracket_28 : decode cX13_readBracket 28 = .ok (.iconst 1, 1) := dk_4 (dk_at dksX13_readBracket_1 4 rfl rfl)
theorem dX13_readBracket_29 : decode cX13_readBracket 29 = .ok (.ireturn, 1) := dk_172 (dk_at dksX13_readBracket_1 5 rfl rfl)
abbrev cX13_readSure : ByteArray := prog_24_method_103_code
def yX13_readSure : MethodName := ⟨RX13, "readSure", "(I)Z"⟩
def dkwX13_readSure_3 : List UInt8 := [27, 28, 3, 182, 1, 110, 181, 1, 107, 4, 172]
abbrev dktX13_readSure_3 : List UInt8 := dkwX13_readSure_3 ++ []
def dkwX13_readSure_2 : List UInt8 := [132, 3, 1, 167, 255, 226, 28, 2, 160, 0, 9, 42, 6, 182, 0, 112, 172, 42, 182, 0, 122, 42, 42, 7]
abbrev dktX13_readSure_2 : List UInt8 := dkwX13_readSure_2 ++ dktX13_readSure_3
def dkwX13_readSure_1 : List UInt8 := [162, 0, 28, 42, 180, 0, 22, 16, 16, 29, 96, 47, 42, 180, 0, 94, 148, 154, 0, 5, 29, 61]
abbrev dktX13_readSure_1 : List UInt8 := dkwX13_readSure_1 ++ dktX13_readSure_2
def dkwX13_readSure_0 : List UInt8 := [42, 182, 0, 172, 154, 0, 9, 42, 4, 182, 0, 112, 172, 2, 61, 3, 62, 29, 42, 182, 0, 224]
abbrev dktX13_readSure_0 : List UInt8 := dkwX13_readSure_0 ++ dktX13_readSure_1
theorem dksX13_readSure_0 : cX13_readSure.data.toList.drop 0 = dktX13_readSure_0 := by decide +kernel
theorem dksX13_readSure_1 : cX13_readSure.data.toList.drop 22 = dktX13_readSure_1 := dk_seg dksX13_readSure_0 22 rfl rfl
theorem dksX13_readSure_2 : cX13_readSure.data.toList.drop 44 = dktX13_readSure_2 := dk_seg dksX13_readSure_1 22 rfl rfl
theorem dksX13_readSure_3 : cX13_readSure.data.toList.drop 68 = dktX13_readSure_3 := dk_seg dksX13_readSure_2 24 rfl rfl
theorem dX13_readSure_0 : decode cX13_readSure 0 = .ok (.aload_n 0, 1) := dk_42 (dk_at dksX13_readSure_0 0 rfl rfl)
theorem dX13_readSure_1 : decode cX13_readSure 1 = .ok (.invokevirtual 172, 3) := dk_182 0 172 (dk_at dksX13_readSure_0 1 rfl rfl)
theorem dX13_readSure_4 : decode cX13_readSure 4 = .ok (.ifCond .ne 9, 3) := dk_154 0 9 (dk_at dksX13_readSure_0 4 rfl rfl)
theorem dX13_readSure_7 : decode cX13_readSure 7 = .ok (.aload_n 0, 1) := dk_42 (dk_at dksX13_readSure_0 7 rfl rfl)
theorem dX13_readSure_8 : decode cX13_readSure 8 = .ok (.iconst 1, 1) := dk_4 (dk_at dksX13_readSure_0 8 rfl rfl)
theorem dX13_readSure_9 : decode cX13_readSure 9 = .ok (.invokevirtual 112, 3) := dk_182 0 112 (dk_at dksX13_readSure_0 9 rfl rfl)
theorem dX13_readSure_12 : decode cX13_readSure 12 = .ok (.ireturn, 1) := dk_172 (dk_at dksX13_readSure_0 12 rfl rfl)
theorem dX13_readSure_13 : decode cX13_readSure 13 = .ok (.iconst (-1), 1) := dk_2 (dk_at dksX13_readSure_0 13 rfl rfl)
theorem dX13_readSure_14 : decode cX13_readSure 14 = .ok (.istore_n 2, 1) := dk_61 (dk_at dksX13_readSure_0 14 rfl rfl)
theorem dX13_readSure_15 : decode cX13_readSure 15 = .ok (.iconst 0, 1) := dk_3 (dk_at dksX13_readSure_0 15 rfl rfl)
theorem dX13_readSure_16 : decode cX13_readSure 16 = .ok (.istore_n 3, 1) := dk_62 (dk_at dksX13_readSure_0 16 rfl rfl)
theorem dX13_readSure_17 : decode cX13_readSure 17 = .ok (.iload_n 3, 1) := dk_29 (dk_at dksX13_readSure_0 17 rfl rfl)
theorem dX13_readSure_18 : decode cX13_readSure 18 = .ok (.aload_n 0, 1) := dk_42 (dk_at dksX13_readSure_0 18 rfl rfl)
theorem dX13_readSure_19 : decode cX13_readSure 19 = .ok (.invokevirtual 224, 3) := dk_182 0 224 (dk_at dksX13_readSure_0 19 rfl rfl)
theorem dX13_readSure_22 : decode cX13_readSure 22 = .ok (.if_icmp .ge 28, 3) := dk_162 0 28 (dk_at dksX13_readSure_1 0 rfl rfl)
theorem dX13_readSure_25 : decode cX13_readSure 25 = .ok (.aload_n 0, 1) := dk_42 (dk_at dksX13_readSure_1 3 rfl rfl)
theorem dX13_readSure_26 : decode cX13_readSure 26 = .ok (.getfield 22, 3) := dk_180 0 22 (dk_at dksX13_readSure_1 4 rfl rfl)
theorem dX13_readSure_29 : decode cX13_readSure 29 = .ok (.bipush 16, 2) := dk_16 16 (dk_at dksX13_readSure_1 7 rfl rfl)
theorem dX13_readSure_31 : decode cX13_readSure 31 = .ok (.iload_n 3, 1) := dk_29 (dk_at dksX13_readSure_1 9 rfl rfl)
theorem dX13_readSure_32 : decode cX13_readSure 32 = .ok (.iadd, 1) := dk_96 (dk_at dksX13_readSure_1 10 rfl rfl)
theorem dX13_readSure_33 : decode cX13_readSure 33 = .ok (.laload, 1) := dk_47 (dk_at dksX13_readSure_1 11 rfl rfl)
theorem dX13_readSure_34 : decode cX13_readSure 34 = .ok (.aload_n 0, 1) := dk_42 (dk_at dksX13_readSure_1 12 rfl rfl)
theorem dX13_readSure_35 : decode cX13_readSure 35 = .ok (.getfield 94, 3) := dk_180 0 94 (dk_at dksX13_readSure_1 13 rfl rfl)
theorem dX13_readSure_38 : decode cX13_readSure 38 = .ok (.lcmp, 1) := dk_148 (dk_at dksX13_readSure_1 16 rfl rfl)
theorem dX13_readSure_39 : decode cX13_readSure 39 = .ok (.ifCond .ne 5, 3) := dk_154 0 5 (dk_at dksX13_readSure_1 17 rfl rfl)
theorem dX13_readSure_42 : decode cX13_readSure 42 = .ok (.iload_n 3, 1) := dk_29 (dk_at dksX13_readSure_1 20 rfl rfl)
theorem dX13_readSure_43 : decode cX13_readSure 43 = .ok (.istore_n 2, 1) := dk_61 (dk_at dksX13_readSure_1 21 rfl rfl)
theorem dX13_readSure_44 : decode cX13_readSure 44 = .ok (.iinc 3 1, 3) := dk_132 3 1 (dk_at dksX13_readSure_2 0 rfl rfl)
theorem dX13_readSure_47 : decode cX13_readSure 47 = .ok (.goto (-30), 3) := dk_167 255 226 (dk_at dksX13_readSure_2 3 rfl rfl)
theorem dX13_readSure_50 : decode cX13_readSure 50 = .ok (.iload_n 2, 1) := dk_28 (dk_at dksX13_readSure_2 6 rfl rfl)
theorem dX13_readSure_51 : decode cX13_readSure 51 = .ok (.iconst (-1), 1) := dk_2 (dk_at dksX13_readSure_2 7 rfl rfl)
theorem dX13_readSure_52 : decode cX13_readSure 52 = .ok (.if_icmp .ne 9, 3) := dk_160 0 9 (dk_at dksX13_readSure_2 8 rfl rfl)
theorem dX13_readSure_55 : decode cX13_readSure 55 = .ok (.aload_n 0, 1) := dk_42 (dk_at dksX13_readSure_2 11 rfl rfl)
theorem dX13_readSure_56 : decode cX13_readSure 56 = .ok (.iconst 3, 1) := dk_6 (dk_at dksX13_readSure_2 12 rfl rfl)
theorem dX13_readSure_57 : decode cX13_readSure 57 = .ok (.invokevirtual 112, 3) := dk_182 0 112 (dk_at dksX13_readSure_2 13 rfl rfl)
theorem dX13_readSure_60 : decode cX13_readSure 60 = .ok (.ireturn, 1) := dk_172 (dk_at dksX13_readSure_2 16 rfl rfl)
theorem dX13_readSure_61 : decode cX13_readSure 61 = .ok (.aload_n 0, 1) := dk_42 (dk_at dksX13_readSure_2 17 rfl rfl)
theorem dX13_readSure_62 : decode cX13_readSure 62 = .ok (.invokevirtual 122, 3) := dk_182 0 122 (dk_at dksX13_readSure_2 18 rfl rfl)
theorem dX13_readSure_65 : decode cX13_readSure 65 = .ok (.aload_n 0, 1) := dk_42 (dk_at dksX13_readSure_2 21 rfl rfl)
theorem dX13_readSure_66 : decode cX13_readSure 66 = .ok (.aload_n 0, 1) := dk_42 (dk_at dksX13_readSure_2 22 rfl rfl)
theorem dX13_readSure_67 : decode cX13_readSure 67 = .ok (.iconst 4, 1) := dk_7 (dk_at dksX13_readSure_2 23 rfl rfl)
theorem dX13_readSure_68 : decode cX13_readSure 68 = .ok (.iload_n 1, 1) := dk_27 (dk_at dksX13_readSure_3 0 rfl rfl)
theorem dX13_readSure_69 : decode cX13_readSure 69 = .ok (.iload_n 2, 1) := dk_28 (dk_at dksX13_readSure_3 1 rfl rfl)
theorem dX13_readSure_70 : decode cX13_readSure 70 = .ok (.iconst 0, 1) := dk_3 (dk_at dksX13_readSure_3 2 rfl rfl)
theorem dX13_readSure_71 : decode cX13_readSure 71 = .ok (.invokevirtual 366, 3) := dk_182 1 110 (dk_at dksX13_readSure_3 3 rfl rfl)
theorem dX13_readSure_74 : decode cX13_readSure 74 = .ok (.putfield 363, 3) := dk_181 1 107 (dk_at dksX13_readSure_3 6 rfl rfl)
theorem dX13_readSure_77 : decode cX13_readSure 77 = .ok (.iconst 1, 1) := dk_4 (dk_at dksX13_readSure_3 9 rfl rfl)
theorem dX13_readSure_78 : decode cX13_readSure 78 = .ok (.ireturn, 1) := dk_172 (dk_at dksX13_readSure_3 10 rfl rfl)
abbrev cX13_readCount : ByteArray := prog_24_method_104_code
def yX13_readCount : MethodName := ⟨RX13, "readCount", "(I)Z"⟩
def dkwX13_readCount_3 : List UInt8 := [172]
abbrev dktX13_readCount_3 : List UInt8 := dkwX13_readCount_3 ++ []
def dkwX13_readCount_2 : List UInt8 := [182, 0, 184, 154, 0, 5, 3, 172, 42, 42, 8, 27, 42, 180, 0, 119, 28, 182, 1, 110, 181, 1, 107, 4]
abbrev dktX13_readCount_2 : List UInt8 := dkwX13_readCount_2 ++ dktX13_readCount_3
def dkwX13_readCount_1 : List UInt8 := [154, 0, 9, 42, 4, 182, 0, 112, 172, 42, 180, 0, 91, 61, 42, 182, 0, 122, 42, 3, 16, 99]
abbrev dktX13_readCount_1 : List UInt8 := dkwX13_readCount_1 ++ dktX13_readCount_2
def dkwX13_readCount_0 : List UInt8 := [42, 16, 60, 182, 0, 209, 154, 0, 27, 42, 16, 61, 182, 0, 209, 154, 0, 18, 42, 16, 62, 182, 0, 209]
abbrev dktX13_readCount_0 : List UInt8 := dkwX13_readCount_0 ++ dktX13_readCount_1
theorem dksX13_readCount_0 : cX13_readCount.data.toList.drop 0 = dktX13_readCount_0 := by decide +kernel
theorem dksX13_readCount_1 : cX13_readCount.data.toList.drop 24 = dktX13_readCount_1 := dk_seg dksX13_readCount_0 24 rfl rfl
theorem dksX13_readCount_2 : cX13_readCount.data.toList.drop 46 = dktX13_readCount_2 := dk_seg dksX13_readCount_1 22 rfl rfl
theorem dksX13_readCount_3 : cX13_readCount.data.toList.drop 70 = dktX13_readCount_3 := dk_seg dksX13_readCount_2 24 rfl rfl
theorem dX13_readCount_0 : decode cX13_readCount 0 = .ok (.aload_n 0, 1) := dk_42 (dk_at dksX13_readCount_0 0 rfl rfl)
theorem dX13_readCount_1 : decode cX13_readCount 1 = .ok (.bipush 60, 2) := dk_16 60 (dk_at dksX13_readCount_0 1 rfl rfl)
theorem dX13_readCount_3 : decode cX13_readCount 3 = .ok (.invokevirtual 209, 3) := dk_182 0 209 (dk_at dksX13_readCount_0 3 rfl rfl)
theorem dX13_readCount_6 : decode cX13_readCount 6 = .ok (.ifCond .ne 27, 3) := dk_154 0 27 (dk_at dksX13_readCount_0 6 rfl rfl)
theorem dX13_readCount_9 : decode cX13_readCount 9 = .ok (.aload_n 0, 1) := dk_42 (dk_at dksX13_readCount_0 9 rfl rfl)
theorem dX13_readCount_10 : decode cX13_readCount 10 = .ok (.bipush 61, 2) := dk_16 61 (dk_at dksX13_readCount_0 10 rfl rfl)
theorem dX13_readCount_12 : decode cX13_readCount 12 = .ok (.invokevirtual 209, 3) := dk_182 0 209 (dk_at dksX13_readCount_0 12 rfl rfl)
theorem dX13_readCount_15 : decode cX13_readCount 15 = .ok (.ifCond .ne 18, 3) := dk_154 0 18 (dk_at dksX13_readCount_0 15 rfl rfl)
theorem dX13_readCount_18 : decode cX13_readCount 18 = .ok (.aload_n 0, 1) := dk_42 (dk_at dksX13_readCount_0 18 rfl rfl)
theorem dX13_readCount_19 : decode cX13_readCount 19 = .ok (.bipush 62, 2) := dk_16 62 (dk_at dksX13_readCount_0 19 rfl rfl)
theorem dX13_readCount_21 : decode cX13_readCount 21 = .ok (.invokevirtual 209, 3) := dk_182 0 209 (dk_at dksX13_readCount_0 21 rfl rfl)
theorem dX13_readCount_24 : decode cX13_readCount 24 = .ok (.ifCond .ne 9, 3) := dk_154 0 9 (dk_at dksX13_readCount_1 0 rfl rfl)
theorem dX13_readCount_27 : decode cX13_readCount 27 = .ok (.aload_n 0, 1) := dk_42 (dk_at dksX13_readCount_1 3 rfl rfl)
theorem dX13_readCount_28 : decode cX13_readCount 28 = .ok (.iconst 1, 1) := dk_4 (dk_at dksX13_readCount_1 4 rfl rfl)
theorem dX13_readCount_29 : decode cX13_readCount 29 = .ok (.invokevirtual 112, 3) := dk_182 0 112 (dk_at dksX13_readCount_1 5 rfl rfl)
theorem dX13_readCount_32 : decode cX13_readCount 32 = .ok (.ireturn, 1) := dk_172 (dk_at dksX13_readCount_1 8 rfl rfl)
theorem dX13_readCount_33 : decode cX13_readCount 33 = .ok (.aload_n 0, 1) := dk_42 (dk_at dksX13_readCount_1 9 rfl rfl)
theorem dX13_readCount_34 : decode cX13_readCount 34 = .ok (.getfield 91, 3) := dk_180 0 91 (dk_at dksX13_readCount_1 10 rfl rfl)
theorem dX13_readCount_37 : decode cX13_readCount 37 = .ok (.istore_n 2, 1) := dk_61 (dk_at dksX13_readCount_1 13 rfl rfl)
theorem dX13_readCount_38 : decode cX13_readCount 38 = .ok (.aload_n 0, 1) := dk_42 (dk_at dksX13_readCount_1 14 rfl rfl)
theorem dX13_readCount_39 : decode cX13_readCount 39 = .ok (.invokevirtual 122, 3) := dk_182 0 122 (dk_at dksX13_readCount_1 15 rfl rfl)
theorem dX13_readCount_42 : decode cX13_readCount 42 = .ok (.aload_n 0, 1) := dk_42 (dk_at dksX13_readCount_1 18 rfl rfl)
theorem dX13_readCount_43 : decode cX13_readCount 43 = .ok (.iconst 0, 1) := dk_3 (dk_at dksX13_readCount_1 19 rfl rfl)
theorem dX13_readCount_44 : decode cX13_readCount 44 = .ok (.bipush 99, 2) := dk_16 99 (dk_at dksX13_readCount_1 20 rfl rfl)
theorem dX13_readCount_46 : decode cX13_readCount 46 = .ok (.invokevirtual 184, 3) := dk_182 0 184 (dk_at dksX13_readCount_2 0 rfl rfl)
theorem dX13_readCount_49 : decode cX13_readCount 49 = .ok (.ifCond .ne 5, 3) := dk_154 0 5 (dk_at dksX13_readCount_2 3 rfl rfl)
theorem dX13_readCount_52 : decode cX13_readCount 52 = .ok (.iconst 0, 1) := dk_3 (dk_at dksX13_readCount_2 6 rfl rfl)
theorem dX13_readCount_53 : decode cX13_readCount 53 = .ok (.ireturn, 1) := dk_172 (dk_at dksX13_readCount_2 7 rfl rfl)
theorem dX13_readCount_54 : decode cX13_readCount 54 = .ok (.aload_n 0, 1) := dk_42 (dk_at dksX13_readCount_2 8 rfl rfl)
theorem dX13_readCount_55 : decode cX13_readCount 55 = .ok (.aload_n 0, 1) := dk_42 (dk_at dksX13_readCount_2 9 rfl rfl)
theorem dX13_readCount_56 : decode cX13_readCount 56 = .ok (.iconst 5, 1) := dk_8 (dk_at dksX13_readCount_2 10 rfl rfl)
theorem dX13_readCount_57 : decode cX13_readCount 57 = .ok (.iload_n 1, 1) := dk_27 (dk_at dksX13_readCount_2 11 rfl rfl)
theorem dX13_readCount_58 : decode cX13_readCount 58 = .ok (.aload_n 0, 1) := dk_42 (dk_at dksX13_readCount_2 12 rfl rfl)
theorem dX13_readCount_59 : decode cX13_readCount 59 = .ok (.getfield 119, 3) := dk_180 0 119 (dk_at dksX13_readCount_2 13 rfl rfl)
theorem dX13_readCount_62 : decode cX13_readCount 62 = .ok (.iload_n 2, 1) := dk_28 (dk_at dksX13_readCount_2 16 rfl rfl)
theorem dX13_readCount_63 : decode cX13_readCount 63 = .ok (.invokevirtual 366, 3) := dk_182 1 110 (dk_at dksX13_readCount_2 17 rfl rfl)
theorem dX13_readCount_66 : decode cX13_readCount 66 = .ok (.putfield 363, 3) := dk_181 1 107 (dk_at dksX13_readCount_2 20 rfl rfl)
theorem dX13_readCount_69 : decode cX13_readCount 69 = .ok (.iconst 1, 1) := dk_4 (dk_at dksX13_readCount_2 23 rfl rfl)
theorem dX13_readCount_70 : decode cX13_readCount 70 = .ok (.ireturn, 1) := dk_172 (dk_at dksX13_readCount_3 0 rfl rfl)
abbrev cX13_whom : ByteArray := prog_24_method_108_code
def yX13_whom : MethodName := ⟨RX13, "whom", "()I"⟩
def dkwX13_whom_2 : List UInt8 := [182, 1, 144, 153, 0, 9, 27, 4, 28, 120, 128, 60, 132, 2, 1, 167, 255, 220, 27, 172]
abbrev dktX13_whom_2 : List UInt8 := dkwX13_whom_2 ++ []
def dkwX13_whom_1 : List UInt8 := [3, 61, 28, 16, 6, 162, 0, 36, 42, 28, 182, 1, 80, 42, 42, 180, 0, 13, 17, 0, 151, 46, 28]
abbrev dktX13_whom_1 : List UInt8 := dkwX13_whom_1 ++ dktX13_whom_2
def dkwX13_whom_0 : List UInt8 := [42, 3, 181, 0, 58, 42, 182, 0, 212, 42, 180, 0, 13, 17, 0, 150, 46, 154, 0, 5, 2, 172, 3, 60]
abbrev dktX13_whom_0 : List UInt8 := dkwX13_whom_0 ++ dktX13_whom_1
theorem dksX13_whom_0 : cX13_whom.data.toList.drop 0 = dktX13_whom_0 := by decide +kernel
theorem dksX13_whom_1 : cX13_whom.data.toList.drop 24 = dktX13_whom_1 := dk_seg dksX13_whom_0 24 rfl rfl
theorem dksX13_whom_2 : cX13_whom.data.toList.drop 47 = dktX13_whom_2 := dk_seg dksX13_whom_1 23 rfl rfl
theorem dX13_whom_0 : decode cX13_whom 0 = .ok (.aload_n 0, 1) := dk_42 (dk_at dksX13_whom_0 0 rfl rfl)
theorem dX13_whom_1 : decode cX13_whom 1 = .ok (.iconst 0, 1) := dk_3 (dk_at dksX13_whom_0 1 rfl rfl)
theorem dX13_whom_2 : decode cX13_whom 2 = .ok (.putfield 58, 3) := dk_181 0 58 (dk_at dksX13_whom_0 2 rfl rfl)
theorem dX13_whom_5 : decode cX13_whom 5 = .ok (.aload_n 0, 1) := dk_42 (dk_at dksX13_whom_0 5 rfl rfl)
theorem dX13_whom_6 : decode cX13_whom 6 = .ok (.invokevirtual 212, 3) := dk_182 0 212 (dk_at dksX13_whom_0 6 rfl rfl)
theorem dX13_whom_9 : decode cX13_whom 9 = .ok (.aload_n 0, 1) := dk_42 (dk_at dksX13_whom_0 9 rfl rfl)
theorem dX13_whom_10 : decode cX13_whom 10 = .ok (.getfield 13, 3) := dk_180 0 13 (dk_at dksX13_whom_0 10 rfl rfl)
theorem dX13_whom_13 : decode cX13_whom 13 = .ok (.sipush 150, 3) := dk_17 0 150 (dk_at dksX13_whom_0 13 rfl rfl)
theorem dX13_whom_16 : decode cX13_whom 16 = .ok (.iaload, 1) := dk_46 (dk_at dksX13_whom_0 16 rfl rfl)
theorem dX13_whom_17 : decode cX13_whom 17 = .ok (.ifCond .ne 5, 3) := dk_154 0 5 (dk_at dksX13_whom_0 17 rfl rfl)
theorem dX13_whom_20 : decode cX13_whom 20 = .ok (.iconst (-1), 1) := dk_2 (dk_at dksX13_whom_0 20 rfl rfl)
theorem dX13_whom_21 : decode cX13_whom 21 = .ok (.ireturn, 1) := dk_172 (dk_at dksX13_whom_0 21 rfl rfl)
theorem dX13_whom_22 : decode cX13_whom 22 = .ok (.iconst 0, 1) := dk_3 (dk_at dksX13_whom_0 22 rfl rfl)
theorem dX13_whom_23 : decode cX13_whom 23 = .ok (.istore_n 1, 1) := dk_60 (dk_at dksX13_whom_0 23 rfl rfl)
theorem dX13_whom_24 : decode cX13_whom 24 = .ok (.iconst 0, 1) := dk_3 (dk_at dksX13_whom_1 0 rfl rfl)
theorem dX13_whom_25 : decode cX13_whom 25 = .ok (.istore_n 2, 1) := dk_61 (dk_at dksX13_whom_1 1 rfl rfl)
theorem dX13_whom_26 : decode cX13_whom 26 = .ok (.iload_n 2, 1) := dk_28 (dk_at dksX13_whom_1 2 rfl rfl)
theorem dX13_whom_27 : decode cX13_whom 27 = .ok (.bipush 6, 2) := dk_16 6 (dk_at dksX13_whom_1 3 rfl rfl)
theorem dX13_whom_29 : decode cX13_whom 29 = .ok (.if_icmp .ge 36, 3) := dk_162 0 36 (dk_at dksX13_whom_1 5 rfl rfl)
theorem dX13_whom_32 : decode cX13_whom 32 = .ok (.aload_n 0, 1) := dk_42 (dk_at dksX13_whom_1 8 rfl rfl)
theorem dX13_whom_33 : decode cX13_whom 33 = .ok (.iload_n 2, 1) := dk_28 (dk_at dksX13_whom_1 9 rfl rfl)
theorem dX13_whom_34 : decode cX13_whom 34 = .ok (.invokevirtual 336, 3) := dk_182 1 80 (dk_at dksX13_whom_1 10 rfl rfl)
theorem dX13_whom_37 : decode cX13_whom 37 = .ok (.aload_n 0, 1) := dk_42 (dk_at dksX13_whom_1 13 rfl rfl)
theorem dX13_whom_38 : decode cX13_whom 38 = .ok (.aload_n 0, 1) := dk_42 (dk_at dksX13_whom_1 14 rfl rfl)
theorem dX13_whom_39 : decode cX13_whom 39 = .ok (.getfield 13, 3) := dk_180 0 13 (dk_at dksX13_whom_1 15 rfl rfl)
theorem dX13_whom_42 : decode cX13_whom 42 = .ok (.sipush 151, 3) := dk_17 0 151 (dk_at dksX13_whom_1 18 rfl rfl)
theorem dX13_whom_45 : decode cX13_whom 45 = .ok (.iaload, 1) := dk_46 (dk_at dksX13_whom_1 21 rfl rfl)
theorem dX13_whom_46 : decode cX13_whom 46 = .ok (.iload_n 2, 1) := dk_28 (dk_at dksX13_whom_1 22 rfl rfl)
theorem dX13_whom_47 : decode cX13_whom 47 = .ok (.invokevirtual 400, 3) := dk_182 1 144 (dk_at dksX13_whom_2 0 rfl rfl)
theorem dX13_whom_50 : decode cX13_whom 50 = .ok (.ifCond .eq 9, 3) := dk_153 0 9 (dk_at dksX13_whom_2 3 rfl rfl)
theorem dX13_whom_53 : decode cX13_whom 53 = .ok (.iload_n 1, 1) := dk_27 (dk_at dksX13_whom_2 6 rfl rfl)
theorem dX13_whom_54 : decode cX13_whom 54 = .ok (.iconst 1, 1) := dk_4 (dk_at dksX13_whom_2 7 rfl rfl)
theorem dX13_whom_55 : decode cX13_whom 55 = .ok (.iload_n 2, 1) := dk_28 (dk_at dksX13_whom_2 8 rfl rfl)
theorem dX13_whom_56 : decode cX13_whom 56 = .ok (.ishl, 1) := dk_120 (dk_at dksX13_whom_2 9 rfl rfl)
theorem dX13_whom_57 : decode cX13_whom 57 = .ok (.ior, 1) := dk_128 (dk_at dksX13_whom_2 10 rfl rfl)
theorem dX13_whom_58 : decode cX13_whom 58 = .ok (.istore_n 1, 1) := dk_60 (dk_at dksX13_whom_2 11 rfl rfl)
theorem dX13_whom_59 : decode cX13_whom 59 = .ok (.iinc 2 1, 3) := dk_132 2 1 (dk_at dksX13_whom_2 12 rfl rfl)
theorem dX13_whom_62 : decode cX13_whom 62 = .ok (.goto (-36), 3) := dk_167 255 220 (dk_at dksX13_whom_2 15 rfl rfl)
theorem dX13_whom_65 : decode cX13_whom 65 = .ok (.iload_n 1, 1) := dk_27 (dk_at dksX13_whom_2 18 rfl rfl)
theorem dX13_whom_66 : decode cX13_whom 66 = .ok (.ireturn, 1) := dk_172 (dk_at dksX13_whom_2 19 rfl rfl)
abbrev cX13_isSo : ByteArray := prog_24_method_107_code
def yX13_isSo : MethodName := ⟨RX13, "isSo", "(II)Z"⟩
def dkwX13_isSo_11 : List UInt8 := [21, 4, 42, 180, 0, 13, 29, 5, 96, 46, 164, 0, 7, 4, 167, 0, 4, 3, 172]
abbrev dktX13_isSo_11 : List UInt8 := dkwX13_isSo_11 ++ []
def dkwX13_isSo_10 : List UInt8 := [160, 0, 24, 21, 4, 42, 180, 0, 13, 29, 5, 96, 46, 160, 0, 7, 4, 167, 0, 25, 3, 167, 0, 21]
abbrev dktX13_isSo_10 : List UInt8 := dkwX13_isSo_10 ++ dktX13_isSo_11
def dkwX13_isSo_9 : List UInt8 := [46, 162, 0, 7, 4, 167, 0, 59, 3, 167, 0, 55, 42, 180, 0, 13, 29, 6, 96, 46, 16, 61]
abbrev dktX13_isSo_9 : List UInt8 := dkwX13_isSo_9 ++ dktX13_isSo_10
def dkwX13_isSo_8 : List UInt8 := [54, 4, 42, 180, 0, 13, 29, 6, 96, 46, 16, 60, 160, 0, 24, 21, 4, 42, 180, 0, 13, 29, 5, 96]
abbrev dktX13_isSo_8 : List UInt8 := dkwX13_isSo_8 ++ dktX13_isSo_9
def dkwX13_isSo_7 : List UInt8 := [46, 160, 0, 7, 4, 167, 0, 4, 3, 172, 42, 42, 180, 0, 13, 29, 4, 96, 46, 28, 182, 1, 147]
abbrev dktX13_isSo_7 : List UInt8 := dkwX13_isSo_7 ++ dktX13_isSo_8
def dkwX13_isSo_6 : List UInt8 := [167, 0, 4, 3, 172, 42, 42, 180, 0, 13, 29, 5, 96, 46, 182, 1, 83, 42, 180, 0, 13, 29, 4, 96]
abbrev dktX13_isSo_6 : List UInt8 := dkwX13_isSo_6 ++ dktX13_isSo_7
def dkwX13_isSo_5 : List UInt8 := [182, 1, 144, 154, 0, 19, 42, 42, 180, 0, 13, 29, 5, 96, 46, 28, 182, 1, 144, 153, 0, 7, 4]
abbrev dktX13_isSo_5 : List UInt8 := dkwX13_isSo_5 ++ dktX13_isSo_6
def dkwX13_isSo_4 : List UInt8 := [182, 1, 144, 153, 0, 7, 4, 167, 0, 4, 3, 172, 42, 42, 180, 0, 13, 29, 4, 96, 46, 28]
abbrev dktX13_isSo_4 : List UInt8 := dkwX13_isSo_4 ++ dktX13_isSo_5
def dkwX13_isSo_3 : List UInt8 := [180, 0, 13, 29, 4, 96, 46, 28, 182, 1, 144, 153, 0, 23, 42, 42, 180, 0, 13, 29, 5, 96, 46, 28]
abbrev dktX13_isSo_3 : List UInt8 := dkwX13_isSo_3 ++ dktX13_isSo_4
def dkwX13_isSo_2 : List UInt8 := [42, 42, 180, 0, 13, 29, 4, 96, 46, 28, 182, 1, 144, 154, 0, 7, 4, 167, 0, 4, 3, 172, 42, 42]
abbrev dktX13_isSo_2 : List UInt8 := dkwX13_isSo_2 ++ dktX13_isSo_3
def dkwX13_isSo_1 : List UInt8 := [170, 0, 0, 0, 0, 157, 0, 0, 0, 1, 0, 0, 0, 4, 0, 0, 0, 30, 0, 0, 0, 52, 0, 0, 0, 90, 0, 0, 0, 128]
abbrev dktX13_isSo_1 : List UInt8 := dkwX13_isSo_1 ++ dktX13_isSo_2
def dkwX13_isSo_0 : List UInt8 := [17, 16, 204, 7, 27, 104, 96, 62, 42, 180, 0, 13, 29, 46]
abbrev dktX13_isSo_0 : List UInt8 := dkwX13_isSo_0 ++ dktX13_isSo_1
theorem dksX13_isSo_0 : cX13_isSo.data.toList.drop 0 = dktX13_isSo_0 := by decide +kernel
theorem dksX13_isSo_1 : cX13_isSo.data.toList.drop 14 = dktX13_isSo_1 := dk_seg dksX13_isSo_0 14 rfl rfl
theorem dksX13_isSo_2 : cX13_isSo.data.toList.drop 44 = dktX13_isSo_2 := dk_seg dksX13_isSo_1 30 rfl rfl
theorem dksX13_isSo_3 : cX13_isSo.data.toList.drop 68 = dktX13_isSo_3 := dk_seg dksX13_isSo_2 24 rfl rfl
theorem dksX13_isSo_4 : cX13_isSo.data.toList.drop 92 = dktX13_isSo_4 := dk_seg dksX13_isSo_3 24 rfl rfl
theorem dksX13_isSo_5 : cX13_isSo.data.toList.drop 114 = dktX13_isSo_5 := dk_seg dksX13_isSo_4 22 rfl rfl
theorem dksX13_isSo_6 : cX13_isSo.data.toList.drop 137 = dktX13_isSo_6 := dk_seg dksX13_isSo_5 23 rfl rfl
theorem dksX13_isSo_7 : cX13_isSo.data.toList.drop 161 = dktX13_isSo_7 := dk_seg dksX13_isSo_6 24 rfl rfl
theorem dksX13_isSo_8 : cX13_isSo.data.toList.drop 184 = dktX13_isSo_8 := dk_seg dksX13_isSo_7 23 rfl rfl
theorem dksX13_isSo_9 : cX13_isSo.data.toList.drop 208 = dktX13_isSo_9 := dk_seg dksX13_isSo_8 24 rfl rfl
theorem dksX13_isSo_10 : cX13_isSo.data.toList.drop 230 = dktX13_isSo_10 := dk_seg dksX13_isSo_9 22 rfl rfl
theorem dksX13_isSo_11 : cX13_isSo.data.toList.drop 254 = dktX13_isSo_11 := dk_seg dksX13_isSo_10 24 rfl rfl
theorem dX13_isSo_0 : decode cX13_isSo 0 = .ok (.sipush 4300, 3) := dk_17 16 204 (dk_at dksX13_isSo_0 0 rfl rfl)
theorem dX13_isSo_3 : decode cX13_isSo 3 = .ok (.iconst 4, 1) := dk_7 (dk_at dksX13_isSo_0 3 rfl rfl)
theorem dX13_isSo_4 : decode cX13_isSo 4 = .ok (.iload_n 1, 1) := dk_27 (dk_at dksX13_isSo_0 4 rfl rfl)
theorem dX13_isSo_5 : decode cX13_isSo 5 = .ok (.imul, 1) := dk_104 (dk_at dksX13_isSo_0 5 rfl rfl)
theorem dX13_isSo_6 : decode cX13_isSo 6 = .ok (.iadd, 1) := dk_96 (dk_at dksX13_isSo_0 6 rfl rfl)
theorem dX13_isSo_7 : decode cX13_isSo 7 = .ok (.istore_n 3, 1) := dk_62 (dk_at dksX13_isSo_0 7 rfl rfl)
theorem dX13_isSo_8 : decode cX13_isSo 8 = .ok (.aload_n 0, 1) := dk_42 (dk_at dksX13_isSo_0 8 rfl rfl)
theorem dX13_isSo_9 : decode cX13_isSo 9 = .ok (.getfield 13, 3) := dk_180 0 13 (dk_at dksX13_isSo_0 9 rfl rfl)
theorem dX13_isSo_12 : decode cX13_isSo 12 = .ok (.iload_n 3, 1) := dk_29 (dk_at dksX13_isSo_0 12 rfl rfl)
theorem dX13_isSo_13 : decode cX13_isSo 13 = .ok (.iaload, 1) := dk_46 (dk_at dksX13_isSo_0 13 rfl rfl)
theorem dX13_isSo_14 : decode cX13_isSo 14 = .ok (.tableswitch 157 1 4 #[30, 52, 90, 128], 30) := by decide +kernel
theorem dX13_isSo_44 : decode cX13_isSo 44 = .ok (.aload_n 0, 1) := dk_42 (dk_at dksX13_isSo_2 0 rfl rfl)
theorem dX13_isSo_45 : decode cX13_isSo 45 = .ok (.aload_n 0, 1) := dk_42 (dk_at dksX13_isSo_2 1 rfl rfl)
theorem dX13_isSo_46 : decode cX13_isSo 46 = .ok (.getfield 13, 3) := dk_180 0 13 (dk_at dksX13_isSo_2 2 rfl rfl)
theorem dX13_isSo_49 : decode cX13_isSo 49 = .ok (.iload_n 3, 1) := dk_29 (dk_at dksX13_isSo_2 5 rfl rfl)
theorem dX13_isSo_50 : decode cX13_isSo 50 = .ok (.iconst 1, 1) := dk_4 (dk_at dksX13_isSo_2 6 rfl rfl)
theorem dX13_isSo_51 : decode cX13_isSo 51 = .ok (.iadd, 1) := dk_96 (dk_at dksX13_isSo_2 7 rfl rfl)
theorem dX13_isSo_52 : decode cX13_isSo 52 = .ok (.iaload, 1) := dk_46 (dk_at dksX13_isSo_2 8 rfl rfl)
theorem dX13_isSo_53 : decode cX13_isSo 53 = .ok (.iload_n 2, 1) := dk_28 (dk_at dksX13_isSo_2 9 rfl rfl)
theorem dX13_isSo_54 : decode cX13_isSo 54 = .ok (.invokevirtual 400, 3) := dk_182 1 144 (dk_at dksX13_isSo_2 10 rfl rfl)
theorem dX13_isSo_57 : decode cX13_isSo 57 = .ok (.ifCond .ne 7, 3) := dk_154 0 7 (dk_at dksX13_isSo_2 13 rfl rfl)
theorem dX13_isSo_60 : decode cX13_isSo 60 = .ok (.iconst 1, 1) := dk_4 (dk_at dksX13_isSo_2 16 rfl rfl)
theorem dX13_isSo_61 : decode cX13_isSo 61 = .ok (.goto 4, 3) := dk_167 0 4 (dk_at dksX13_isSo_2 17 rfl rfl)
theorem dX13_isSo_64 : decode cX13_isSo 64 = .ok (.iconst 0, 1) := dk_3 (dk_at dksX13_isSo_2 20 rfl rfl)
theorem dX13_isSo_65 : decode cX13_isSo 65 = .ok (.ireturn, 1) := dk_172 (dk_at dksX13_isSo_2 21 rfl rfl)
theorem dX13_isSo_66 : decode cX13_isSo 66 = .ok (.aload_n 0, 1) := dk_42 (dk_at dksX13_isSo_2 22 rfl rfl)
theorem dX13_isSo_67 : decode cX13_isSo 67 = .ok (.aload_n 0, 1) := dk_42 (dk_at dksX13_isSo_2 23 rfl rfl)
theorem dX13_isSo_68 : decode cX13_isSo 68 = .ok (.getfield 13, 3) := dk_180 0 13 (dk_at dksX13_isSo_3 0 rfl rfl)
theorem dX13_isSo_71 : decode cX13_isSo 71 = .ok (.iload_n 3, 1) := dk_29 (dk_at dksX13_isSo_3 3 rfl rfl)
theorem dX13_isSo_72 : decode cX13_isSo 72 = .ok (.iconst 1, 1) := dk_4 (dk_at dksX13_isSo_3 4 rfl rfl)
theorem dX13_isSo_73 : decode cX13_isSo 73 = .ok (.iadd, 1) := dk_96 (dk_at dksX13_isSo_3 5 rfl rfl)
theorem dX13_isSo_74 : decode cX13_isSo 74 = .ok (.iaload, 1) := dk_46 (dk_at dksX13_isSo_3 6 rfl rfl)
theorem dX13_isSo_75 : decode cX13_isSo 75 = .ok (.iload_n 2, 1) := dk_28 (dk_at dksX13_isSo_3 7 rfl rfl)
theorem dX13_isSo_76 : decode cX13_isSo 76 = .ok (.invokevirtual 400, 3) := dk_182 1 144 (dk_at dksX13_isSo_3 8 rfl rfl)
theorem dX13_isSo_79 : decode cX13_isSo 79 = .ok (.ifCond .eq 23, 3) := dk_153 0 23 (dk_at dksX13_isSo_3 11 rfl rfl)
theorem dX13_isSo_82 : decode cX13_isSo 82 = .ok (.aload_n 0, 1) := dk_42 (dk_at dksX13_isSo_3 14 rfl rfl)
theorem dX13_isSo_83 : decode cX13_isSo 83 = .ok (.aload_n 0, 1) := dk_42 (dk_at dksX13_isSo_3 15 rfl rfl)
theorem dX13_isSo_84 : decode cX13_isSo 84 = .ok (.getfield 13, 3) := dk_180 0 13 (dk_at dksX13_isSo_3 16 rfl rfl)
theorem dX13_isSo_87 : decode cX13_isSo 87 = .ok (.iload_n 3, 1) := dk_29 (dk_at dksX13_isSo_3 19 rfl rfl)
theorem dX13_isSo_88 : decode cX13_isSo 88 = .ok (.iconst 2, 1) := dk_5 (dk_at dksX13_isSo_3 20 rfl rfl)
theorem dX13_isSo_89 : decode cX13_isSo 89 = .ok (.iadd, 1) := dk_96 (dk_at dksX13_isSo_3 21 rfl rfl)
theorem dX13_isSo_90 : decode cX13_isSo 90 = .ok (.iaload, 1) := dk_46 (dk_at dksX13_isSo_3 22 rfl rfl)
theorem dX13_isSo_91 : decode cX13_isSo 91 = .ok (.iload_n 2, 1) := dk_28 (dk_at dksX13_isSo_3 23 rfl rfl)
theorem dX13_isSo_92 : decode cX13_isSo 92 = .ok (.invokevirtual 400, 3) := dk_182 1 144 (dk_at dksX13_isSo_4 0 rfl rfl)
theorem dX13_isSo_95 : decode cX13_isSo 95 = .ok (.ifCond .eq 7, 3) := dk_153 0 7 (dk_at dksX13_isSo_4 3 rfl rfl)
theorem dX13_isSo_98 : decode cX13_isSo 98 = .ok (.iconst 1, 1) := dk_4 (dk_at dksX13_isSo_4 6 rfl rfl)
theorem dX13_isSo_99 : decode cX13_isSo 99 = .ok (.goto 4, 3) := dk_167 0 4 (dk_at dksX13_isSo_4 7 rfl rfl)
theorem dX13_isSo_102 : decode cX13_isSo 102 = .ok (.iconst 0, 1) := dk_3 (dk_at dksX13_isSo_4 10 rfl rfl)
theorem dX13_isSo_103 : decode cX13_isSo 103 = .ok (.ireturn, 1) := dk_172 (dk_at dksX13_isSo_4 11 rfl rfl)
theorem dX13_isSo_104 : decode cX13_isSo 104 = .ok (.aload_n 0, 1) := dk_42 (dk_at dksX13_isSo_4 12 rfl rfl)
theorem dX13_isSo_105 : decode cX13_isSo 105 = .ok (.aload_n 0, 1) := dk_42 (dk_at dksX13_isSo_4 13 rfl rfl)
theorem dX13_isSo_106 : decode cX13_isSo 106 = .ok (.getfield 13, 3) := dk_180 0 13 (dk_at dksX13_isSo_4 14 rfl rfl)
theorem dX13_isSo_109 : decode cX13_isSo 109 = .ok (.iload_n 3, 1) := dk_29 (dk_at dksX13_isSo_4 17 rfl rfl)
theorem dX13_isSo_110 : decode cX13_isSo 110 = .ok (.iconst 1, 1) := dk_4 (dk_at dksX13_isSo_4 18 rfl rfl)
theorem dX13_isSo_111 : decode cX13_isSo 111 = .ok (.iadd, 1) := dk_96 (dk_at dksX13_isSo_4 19 rfl rfl)
theorem dX13_isSo_112 : decode cX13_isSo 112 = .ok (.iaload, 1) := dk_46 (dk_at dksX13_isSo_4 20 rfl rfl)
theorem dX13_isSo_113 : decode cX13_isSo 113 = .ok (.iload_n 2, 1) := dk_28 (dk_at dksX13_isSo_4 21 rfl rfl)
theorem dX13_isSo_114 : decode cX13_isSo 114 = .ok (.invokevirtual 400, 3) := dk_182 1 144 (dk_at dksX13_isSo_5 0 rfl rfl)
theorem dX13_isSo_117 : decode cX13_isSo 117 = .ok (.ifCond .ne 19, 3) := dk_154 0 19 (dk_at dksX13_isSo_5 3 rfl rfl)
theorem dX13_isSo_120 : decode cX13_isSo 120 = .ok (.aload_n 0, 1) := dk_42 (dk_at dksX13_isSo_5 6 rfl rfl)
theorem dX13_isSo_121 : decode cX13_isSo 121 = .ok (.aload_n 0, 1) := dk_42 (dk_at dksX13_isSo_5 7 rfl rfl)
theorem dX13_isSo_122 : decode cX13_isSo 122 = .ok (.getfield 13, 3) := dk_180 0 13 (dk_at dksX13_isSo_5 8 rfl rfl)
theorem dX13_isSo_125 : decode cX13_isSo 125 = .ok (.iload_n 3, 1) := dk_29 (dk_at dksX13_isSo_5 11 rfl rfl)
theorem dX13_isSo_126 : decode cX13_isSo 126 = .ok (.iconst 2, 1) := dk_5 (dk_at dksX13_isSo_5 12 rfl rfl)
theorem dX13_isSo_127 : decode cX13_isSo 127 = .ok (.iadd, 1) := dk_96 (dk_at dksX13_isSo_5 13 rfl rfl)
theorem dX13_isSo_128 : decode cX13_isSo 128 = .ok (.iaload, 1) := dk_46 (dk_at dksX13_isSo_5 14 rfl rfl)
theorem dX13_isSo_129 : decode cX13_isSo 129 = .ok (.iload_n 2, 1) := dk_28 (dk_at dksX13_isSo_5 15 rfl rfl)
theorem dX13_isSo_130 : decode cX13_isSo 130 = .ok (.invokevirtual 400, 3) := dk_182 1 144 (dk_at dksX13_isSo_5 16 rfl rfl)
theorem dX13_isSo_133 : decode cX13_isSo 133 = .ok (.ifCond .eq 7, 3) := dk_153 0 7 (dk_at dksX13_isSo_5 19 rfl rfl)
theorem dX13_isSo_136 : decode cX13_isSo 136 = .ok (.iconst 1, 1) := dk_4 (dk_at dksX13_isSo_5 22 rfl rfl)
theorem dX13_isSo_137 : decode cX13_isSo 137 = .ok (.goto 4, 3) := dk_167 0 4 (dk_at dksX13_isSo_6 0 rfl rfl)
theorem dX13_isSo_140 : decode cX13_isSo 140 = .ok (.iconst 0, 1) := dk_3 (dk_at dksX13_isSo_6 3 rfl rfl)
theorem dX13_isSo_141 : decode cX13_isSo 141 = .ok (.ireturn, 1) := dk_172 (dk_at dksX13_isSo_6 4 rfl rfl)
theorem dX13_isSo_142 : decode cX13_isSo 142 = .ok (.aload_n 0, 1) := dk_42 (dk_at dksX13_isSo_6 5 rfl rfl)
theorem dX13_isSo_143 : decode cX13_isSo 143 = .ok (.aload_n 0, 1) := dk_42 (dk_at dksX13_isSo_6 6 rfl rfl)
theorem dX13_isSo_144 : decode cX13_isSo 144 = .ok (.getfield 13, 3) := dk_180 0 13 (dk_at dksX13_isSo_6 7 rfl rfl)
theorem dX13_isSo_147 : decode cX13_isSo 147 = .ok (.iload_n 3, 1) := dk_29 (dk_at dksX13_isSo_6 10 rfl rfl)
theorem dX13_isSo_148 : decode cX13_isSo 148 = .ok (.iconst 2, 1) := dk_5 (dk_at dksX13_isSo_6 11 rfl rfl)
theorem dX13_isSo_149 : decode cX13_isSo 149 = .ok (.iadd, 1) := dk_96 (dk_at dksX13_isSo_6 12 rfl rfl)
theorem dX13_isSo_150 : decode cX13_isSo 150 = .ok (.iaload, 1) := dk_46 (dk_at dksX13_isSo_6 13 rfl rfl)
theorem dX13_isSo_151 : decode cX13_isSo 151 = .ok (.invokevirtual 339, 3) := dk_182 1 83 (dk_at dksX13_isSo_6 14 rfl rfl)
theorem dX13_isSo_154 : decode cX13_isSo 154 = .ok (.aload_n 0, 1) := dk_42 (dk_at dksX13_isSo_6 17 rfl rfl)
theorem dX13_isSo_155 : decode cX13_isSo 155 = .ok (.getfield 13, 3) := dk_180 0 13 (dk_at dksX13_isSo_6 18 rfl rfl)
theorem dX13_isSo_158 : decode cX13_isSo 158 = .ok (.iload_n 3, 1) := dk_29 (dk_at dksX13_isSo_6 21 rfl rfl)
theorem dX13_isSo_159 : decode cX13_isSo 159 = .ok (.iconst 1, 1) := dk_4 (dk_at dksX13_isSo_6 22 rfl rfl)
theorem dX13_isSo_160 : decode cX13_isSo 160 = .ok (.iadd, 1) := dk_96 (dk_at dksX13_isSo_6 23 rfl rfl)
theorem dX13_isSo_161 : decode cX13_isSo 161 = .ok (.iaload, 1) := dk_46 (dk_at dksX13_isSo_7 0 rfl rfl)
theorem dX13_isSo_162 : decode cX13_isSo 162 = .ok (.if_icmp .ne 7, 3) := dk_160 0 7 (dk_at dksX13_isSo_7 1 rfl rfl)
theorem dX13_isSo_165 : decode cX13_isSo 165 = .ok (.iconst 1, 1) := dk_4 (dk_at dksX13_isSo_7 4 rfl rfl)
theorem dX13_isSo_166 : decode cX13_isSo 166 = .ok (.goto 4, 3) := dk_167 0 4 (dk_at dksX13_isSo_7 5 rfl rfl)
theorem dX13_isSo_169 : decode cX13_isSo 169 = .ok (.iconst 0, 1) := dk_3 (dk_at dksX13_isSo_7 8 rfl rfl)
theorem dX13_isSo_170 : decode cX13_isSo 170 = .ok (.ireturn, 1) := dk_172 (dk_at dksX13_isSo_7 9 rfl rfl)
theorem dX13_isSo_171 : decode cX13_isSo 171 = .ok (.aload_n 0, 1) := dk_42 (dk_at dksX13_isSo_7 10 rfl rfl)
theorem dX13_isSo_172 : decode cX13_isSo 172 = .ok (.aload_n 0, 1) := dk_42 (dk_at dksX13_isSo_7 11 rfl rfl)
theorem dX13_isSo_173 : decode cX13_isSo 173 = .ok (.getfield 13, 3) := dk_180 0 13 (dk_at dksX13_isSo_7 12 rfl rfl)
theorem dX13_isSo_176 : decode cX13_isSo 176 = .ok (.iload_n 3, 1) := dk_29 (dk_at dksX13_isSo_7 15 rfl rfl)
theorem dX13_isSo_177 : decode cX13_isSo 177 = .ok (.iconst 1, 1) := dk_4 (dk_at dksX13_isSo_7 16 rfl rfl)
theorem dX13_isSo_178 : decode cX13_isSo 178 = .ok (.iadd, 1) := dk_96 (dk_at dksX13_isSo_7 17 rfl rfl)
theorem dX13_isSo_179 : decode cX13_isSo 179 = .ok (.iaload, 1) := dk_46 (dk_at dksX13_isSo_7 18 rfl rfl)
theorem dX13_isSo_180 : decode cX13_isSo 180 = .ok (.iload_n 2, 1) := dk_28 (dk_at dksX13_isSo_7 19 rfl rfl)
theorem dX13_isSo_181 : decode cX13_isSo 181 = .ok (.invokevirtual 403, 3) := dk_182 1 147 (dk_at dksX13_isSo_7 20 rfl rfl)
theorem dX13_isSo_184 : decode cX13_isSo 184 = .ok (.istore 4, 2) := dk_54 4 (dk_at dksX13_isSo_8 0 rfl rfl)
theorem dX13_isSo_186 : decode cX13_isSo 186 = .ok (.aload_n 0, 1) := dk_42 (dk_at dksX13_isSo_8 2 rfl rfl)
theorem dX13_isSo_187 : decode cX13_isSo 187 = .ok (.getfield 13, 3) := dk_180 0 13 (dk_at dksX13_isSo_8 3 rfl rfl)
theorem dX13_isSo_190 : decode cX13_isSo 190 = .ok (.iload_n 3, 1) := dk_29 (dk_at dksX13_isSo_8 6 rfl rfl)
theorem dX13_isSo_191 : decode cX13_isSo 191 = .ok (.iconst 3, 1) := dk_6 (dk_at dksX13_isSo_8 7 rfl rfl)
theorem dX13_isSo_192 : decode cX13_isSo 192 = .ok (.iadd, 1) := dk_96 (dk_at dksX13_isSo_8 8 rfl rfl)
theorem dX13_isSo_193 : decode cX13_isSo 193 = .ok (.iaload, 1) := dk_46 (dk_at dksX13_isSo_8 9 rfl rfl)
theorem dX13_isSo_194 : decode cX13_isSo 194 = .ok (.bipush 60, 2) := dk_16 60 (dk_at dksX13_isSo_8 10 rfl rfl)
theorem dX13_isSo_196 : decode cX13_isSo 196 = .ok (.if_icmp .ne 24, 3) := dk_160 0 24 (dk_at dksX13_isSo_8 12 rfl rfl)
theorem dX13_isSo_199 : decode cX13_isSo 199 = .ok (.iload 4, 2) := dk_21 4 (dk_at dksX13_isSo_8 15 rfl rfl)
theorem dX13_isSo_201 : decode cX13_isSo 201 = .ok (.aload_n 0, 1) := dk_42 (dk_at dksX13_isSo_8 17 rfl rfl)
theorem dX13_isSo_202 : decode cX13_isSo 202 = .ok (.getfield 13, 3) := dk_180 0 13 (dk_at dksX13_isSo_8 18 rfl rfl)
theorem dX13_isSo_205 : decode cX13_isSo 205 = .ok (.iload_n 3, 1) := dk_29 (dk_at dksX13_isSo_8 21 rfl rfl)
theorem dX13_isSo_206 : decode cX13_isSo 206 = .ok (.iconst 2, 1) := dk_5 (dk_at dksX13_isSo_8 22 rfl rfl)
theorem dX13_isSo_207 : decode cX13_isSo 207 = .ok (.iadd, 1) := dk_96 (dk_at dksX13_isSo_8 23 rfl rfl)
theorem dX13_isSo_208 : decode cX13_isSo 208 = .ok (.iaload, 1) := dk_46 (dk_at dksX13_isSo_9 0 rfl rfl)
theorem dX13_isSo_209 : decode cX13_isSo 209 = .ok (.if_icmp .ge 7, 3) := dk_162 0 7 (dk_at dksX13_isSo_9 1 rfl rfl)
theorem dX13_isSo_212 : decode cX13_isSo 212 = .ok (.iconst 1, 1) := dk_4 (dk_at dksX13_isSo_9 4 rfl rfl)
theorem dX13_isSo_213 : decode cX13_isSo 213 = .ok (.goto 59, 3) := dk_167 0 59 (dk_at dksX13_isSo_9 5 rfl rfl)
theorem dX13_isSo_216 : decode cX13_isSo 216 = .ok (.iconst 0, 1) := dk_3 (dk_at dksX13_isSo_9 8 rfl rfl)
theorem dX13_isSo_217 : decode cX13_isSo 217 = .ok (.goto 55, 3) := dk_167 0 55 (dk_at dksX13_isSo_9 9 rfl rfl)
theorem dX13_isSo_220 : decode cX13_isSo 220 = .ok (.aload_n 0, 1) := dk_42 (dk_at dksX13_isSo_9 12 rfl rfl)
theorem dX13_isSo_221 : decode cX13_isSo 221 = .ok (.getfield 13, 3) := dk_180 0 13 (dk_at dksX13_isSo_9 13 rfl rfl)
theorem dX13_isSo_224 : decode cX13_isSo 224 = .ok (.iload_n 3, 1) := dk_29 (dk_at dksX13_isSo_9 16 rfl rfl)
theorem dX13_isSo_225 : decode cX13_isSo 225 = .ok (.iconst 3, 1) := dk_6 (dk_at dksX13_isSo_9 17 rfl rfl)
theorem dX13_isSo_226 : decode cX13_isSo 226 = .ok (.iadd, 1) := dk_96 (dk_at dksX13_isSo_9 18 rfl rfl)
theorem dX13_isSo_227 : decode cX13_isSo 227 = .ok (.iaload, 1) := dk_46 (dk_at dksX13_isSo_9 19 rfl rfl)
theorem dX13_isSo_228 : decode cX13_isSo 228 = .ok (.bipush 61, 2) := dk_16 61 (dk_at dksX13_isSo_9 20 rfl rfl)
theorem dX13_isSo_230 : decode cX13_isSo 230 = .ok (.if_icmp .ne 24, 3) := dk_160 0 24 (dk_at dksX13_isSo_10 0 rfl rfl)
theorem dX13_isSo_233 : decode cX13_isSo 233 = .ok (.iload 4, 2) := dk_21 4 (dk_at dksX13_isSo_10 3 rfl rfl)
theorem dX13_isSo_235 : decode cX13_isSo 235 = .ok (.aload_n 0, 1) := dk_42 (dk_at dksX13_isSo_10 5 rfl rfl)
theorem dX13_isSo_236 : decode cX13_isSo 236 = .ok (.getfield 13, 3) := dk_180 0 13 (dk_at dksX13_isSo_10 6 rfl rfl)
theorem dX13_isSo_239 : decode cX13_isSo 239 = .ok (.iload_n 3, 1) := dk_29 (dk_at dksX13_isSo_10 9 rfl rfl)
theorem dX13_isSo_240 : decode cX13_isSo 240 = .ok (.iconst 2, 1) := dk_5 (dk_at dksX13_isSo_10 10 rfl rfl)
theorem dX13_isSo_241 : decode cX13_isSo 241 = .ok (.iadd, 1) := dk_96 (dk_at dksX13_isSo_10 11 rfl rfl)
theorem dX13_isSo_242 : decode cX13_isSo 242 = .ok (.iaload, 1) := dk_46 (dk_at dksX13_isSo_10 12 rfl rfl)
theorem dX13_isSo_243 : decode cX13_isSo 243 = .ok (.if_icmp .ne 7, 3) := dk_160 0 7 (dk_at dksX13_isSo_10 13 rfl rfl)
theorem dX13_isSo_246 : decode cX13_isSo 246 = .ok (.iconst 1, 1) := dk_4 (dk_at dksX13_isSo_10 16 rfl rfl)
theorem dX13_isSo_247 : decode cX13_isSo 247 = .ok (.goto 25, 3) := dk_167 0 25 (dk_at dksX13_isSo_10 17 rfl rfl)
theorem dX13_isSo_250 : decode cX13_isSo 250 = .ok (.iconst 0, 1) := dk_3 (dk_at dksX13_isSo_10 20 rfl rfl)
theorem dX13_isSo_251 : decode cX13_isSo 251 = .ok (.goto 21, 3) := dk_167 0 21 (dk_at dksX13_isSo_10 21 rfl rfl)
theorem dX13_isSo_254 : decode cX13_isSo 254 = .ok (.iload 4, 2) := dk_21 4 (dk_at dksX13_isSo_11 0 rfl rfl)
theorem dX13_isSo_256 : decode cX13_isSo 256 = .ok (.aload_n 0, 1) := dk_42 (dk_at dksX13_isSo_11 2 rfl rfl)
theorem dX13_isSo_257 : decode cX13_isSo 257 = .ok (.getfield 13, 3) := dk_180 0 13 (dk_at dksX13_isSo_11 3 rfl rfl)
theorem dX13_isSo_260 : decode cX13_isSo 260 = .ok (.iload_n 3, 1) := dk_29 (dk_at dksX13_isSo_11 6 rfl rfl)
theorem dX13_isSo_261 : decode cX13_isSo 261 = .ok (.iconst 2, 1) := dk_5 (dk_at dksX13_isSo_11 7 rfl rfl)
theorem dX13_isSo_262 : decode cX13_isSo 262 = .ok (.iadd, 1) := dk_96 (dk_at dksX13_isSo_11 8 rfl rfl)
theorem dX13_isSo_263 : decode cX13_isSo 263 = .ok (.iaload, 1) := dk_46 (dk_at dksX13_isSo_11 9 rfl rfl)
theorem dX13_isSo_264 : decode cX13_isSo 264 = .ok (.if_icmp .le 7, 3) := dk_164 0 7 (dk_at dksX13_isSo_11 10 rfl rfl)
theorem dX13_isSo_267 : decode cX13_isSo 267 = .ok (.iconst 1, 1) := dk_4 (dk_at dksX13_isSo_11 13 rfl rfl)
theorem dX13_isSo_268 : decode cX13_isSo 268 = .ok (.goto 4, 3) := dk_167 0 4 (dk_at dksX13_isSo_11 14 rfl rfl)
theorem dX13_isSo_271 : decode cX13_isSo 271 = .ok (.iconst 0, 1) := dk_3 (dk_at dksX13_isSo_11 17 rfl rfl)
theorem dX13_isSo_272 : decode cX13_isSo 272 = .ok (.ireturn, 1) := dk_172 (dk_at dksX13_isSo_11 18 rfl rfl)
abbrev cX13_countOf : ByteArray := prog_24_method_106_code
def yX13_countOf : MethodName := ⟨RX13, "countOf", "(II)I"⟩
def dkwX13_countOf_4 : List UInt8 := [132, 3, 1, 132, 4, 1, 167, 255, 186, 29, 172]
abbrev dktX13_countOf_4 : List UInt8 := dkwX13_countOf_4 ++ []
def dkwX13_countOf_3 : List UInt8 := [3, 96, 46, 2, 160, 0, 21, 167, 0, 15, 42, 180, 0, 13, 21, 5, 8, 96, 46, 154, 0, 6]
abbrev dktX13_countOf_3 : List UInt8 := dkwX13_countOf_3 ++ dktX13_countOf_4
def dkwX13_countOf_2 : List UInt8 := [16, 16, 16, 40, 28, 104, 21, 4, 96, 104, 96, 54, 5, 27, 5, 160, 0, 19, 42, 180, 0, 13, 21, 5]
abbrev dktX13_countOf_2 : List UInt8 := dkwX13_countOf_2 ++ dktX13_countOf_3
def dkwX13_countOf_1 : List UInt8 := [172, 3, 62, 3, 54, 4, 21, 4, 42, 180, 0, 13, 17, 0, 143, 28, 96, 46, 162, 0, 61, 17, 0, 160]
abbrev dktX13_countOf_1 : List UInt8 := dkwX13_countOf_1 ++ dktX13_countOf_2
def dkwX13_countOf_0 : List UInt8 := [27, 154, 0, 14, 42, 180, 0, 13, 17, 0, 143, 28, 96, 46, 172, 27, 4, 160, 0, 8, 42, 180, 1, 71]
abbrev dktX13_countOf_0 : List UInt8 := dkwX13_countOf_0 ++ dktX13_countOf_1
theorem dksX13_countOf_0 : cX13_countOf.data.toList.drop 0 = dktX13_countOf_0 := by decide +kernel
theorem dksX13_countOf_1 : cX13_countOf.data.toList.drop 24 = dktX13_countOf_1 := dk_seg dksX13_countOf_0 24 rfl rfl
theorem dksX13_countOf_2 : cX13_countOf.data.toList.drop 48 = dktX13_countOf_2 := dk_seg dksX13_countOf_1 24 rfl rfl
theorem dksX13_countOf_3 : cX13_countOf.data.toList.drop 72 = dktX13_countOf_3 := dk_seg dksX13_countOf_2 24 rfl rfl
theorem dksX13_countOf_4 : cX13_countOf.data.toList.drop 94 = dktX13_countOf_4 := dk_seg dksX13_countOf_3 22 rfl rfl
theorem dX13_countOf_0 : decode cX13_countOf 0 = .ok (.iload_n 1, 1) := dk_27 (dk_at dksX13_countOf_0 0 rfl rfl)
theorem dX13_countOf_1 : decode cX13_countOf 1 = .ok (.ifCond .ne 14, 3) := dk_154 0 14 (dk_at dksX13_countOf_0 1 rfl rfl)
theorem dX13_countOf_4 : decode cX13_countOf 4 = .ok (.aload_n 0, 1) := dk_42 (dk_at dksX13_countOf_0 4 rfl rfl)
theorem dX13_countOf_5 : decode cX13_countOf 5 = .ok (.getfield 13, 3) := dk_180 0 13 (dk_at dksX13_countOf_0 5 rfl rfl)
theorem dX13_countOf_8 : decode cX13_countOf 8 = .ok (.sipush 143, 3) := dk_17 0 143 (dk_at dksX13_countOf_0 8 rfl rfl)
theorem dX13_countOf_11 : decode cX13_countOf 11 = .ok (.iload_n 2, 1) := dk_28 (dk_at dksX13_countOf_0 11 rfl rfl)
theorem dX13_countOf_12 : decode cX13_countOf 12 = .ok (.iadd, 1) := dk_96 (dk_at dksX13_countOf_0 12 rfl rfl)
theorem dX13_countOf_13 : decode cX13_countOf 13 = .ok (.iaload, 1) := dk_46 (dk_at dksX13_countOf_0 13 rfl rfl)
theorem dX13_countOf_14 : decode cX13_countOf 14 = .ok (.ireturn, 1) := dk_172 (dk_at dksX13_countOf_0 14 rfl rfl)
theorem dX13_countOf_15 : decode cX13_countOf 15 = .ok (.iload_n 1, 1) := dk_27 (dk_at dksX13_countOf_0 15 rfl rfl)
theorem dX13_countOf_16 : decode cX13_countOf 16 = .ok (.iconst 1, 1) := dk_4 (dk_at dksX13_countOf_0 16 rfl rfl)
theorem dX13_countOf_17 : decode cX13_countOf 17 = .ok (.if_icmp .ne 8, 3) := dk_160 0 8 (dk_at dksX13_countOf_0 17 rfl rfl)
theorem dX13_countOf_20 : decode cX13_countOf 20 = .ok (.aload_n 0, 1) := dk_42 (dk_at dksX13_countOf_0 20 rfl rfl)
theorem dX13_countOf_21 : decode cX13_countOf 21 = .ok (.getfield 327, 3) := dk_180 1 71 (dk_at dksX13_countOf_0 21 rfl rfl)
theorem dX13_countOf_24 : decode cX13_countOf 24 = .ok (.ireturn, 1) := dk_172 (dk_at dksX13_countOf_1 0 rfl rfl)
theorem dX13_countOf_25 : decode cX13_countOf 25 = .ok (.iconst 0, 1) := dk_3 (dk_at dksX13_countOf_1 1 rfl rfl)
theorem dX13_countOf_26 : decode cX13_countOf 26 = .ok (.istore_n 3, 1) := dk_62 (dk_at dksX13_countOf_1 2 rfl rfl)
theorem dX13_countOf_27 : decode cX13_countOf 27 = .ok (.iconst 0, 1) := dk_3 (dk_at dksX13_countOf_1 3 rfl rfl)
theorem dX13_countOf_28 : decode cX13_countOf 28 = .ok (.istore 4, 2) := dk_54 4 (dk_at dksX13_countOf_1 4 rfl rfl)
theorem dX13_countOf_30 : decode cX13_countOf 30 = .ok (.iload 4, 2) := dk_21 4 (dk_at dksX13_countOf_1 6 rfl rfl)
theorem dX13_countOf_32 : decode cX13_countOf 32 = .ok (.aload_n 0, 1) := dk_42 (dk_at dksX13_countOf_1 8 rfl rfl)
theorem dX13_countOf_33 : decode cX13_countOf 33 = .ok (.getfield 13, 3) := dk_180 0 13 (dk_at dksX13_countOf_1 9 rfl rfl)
theorem dX13_countOf_36 : decode cX13_countOf 36 = .ok (.sipush 143, 3) := dk_17 0 143 (dk_at dksX13_countOf_1 12 rfl rfl)
theorem dX13_countOf_39 : decode cX13_countOf 39 = .ok (.iload_n 2, 1) := dk_28 (dk_at dksX13_countOf_1 15 rfl rfl)
theorem dX13_countOf_40 : decode cX13_countOf 40 = .ok (.iadd, 1) := dk_96 (dk_at dksX13_countOf_1 16 rfl rfl)
theorem dX13_countOf_41 : decode cX13_countOf 41 = .ok (.iaload, 1) := dk_46 (dk_at dksX13_countOf_1 17 rfl rfl)
theorem dX13_countOf_42 : decode cX13_countOf 42 = .ok (.if_icmp .ge 61, 3) := dk_162 0 61 (dk_at dksX13_countOf_1 18 rfl rfl)
theorem dX13_countOf_45 : decode cX13_countOf 45 = .ok (.sipush 160, 3) := dk_17 0 160 (dk_at dksX13_countOf_1 21 rfl rfl)
theorem dX13_countOf_48 : decode cX13_countOf 48 = .ok (.bipush 16, 2) := dk_16 16 (dk_at dksX13_countOf_2 0 rfl rfl)
theorem dX13_countOf_50 : decode cX13_countOf 50 = .ok (.bipush 40, 2) := dk_16 40 (dk_at dksX13_countOf_2 2 rfl rfl)
theorem dX13_countOf_52 : decode cX13_countOf 52 = .ok (.iload_n 2, 1) := dk_28 (dk_at dksX13_countOf_2 4 rfl rfl)
theorem dX13_countOf_53 : decode cX13_countOf 53 = .ok (.imul, 1) := dk_104 (dk_at dksX13_countOf_2 5 rfl rfl)
theorem dX13_countOf_54 : decode cX13_countOf 54 = .ok (.iload 4, 2) := dk_21 4 (dk_at dksX13_countOf_2 6 rfl rfl)
theorem dX13_countOf_56 : decode cX13_countOf 56 = .ok (.iadd, 1) := dk_96 (dk_at dksX13_countOf_2 8 rfl rfl)
theorem dX13_countOf_57 : decode cX13_countOf 57 = .ok (.imul, 1) := dk_104 (dk_at dksX13_countOf_2 9 rfl rfl)
theorem dX13_countOf_58 : decode cX13_countOf 58 = .ok (.iadd, 1) := dk_96 (dk_at dksX13_countOf_2 10 rfl rfl)
theorem dX13_countOf_59 : decode cX13_countOf 59 = .ok (.istore 5, 2) := dk_54 5 (dk_at dksX13_countOf_2 11 rfl rfl)
theorem dX13_countOf_61 : decode cX13_countOf 61 = .ok (.iload_n 1, 1) := dk_27 (dk_at dksX13_countOf_2 13 rfl rfl)
theorem dX13_countOf_62 : decode cX13_countOf 62 = .ok (.iconst 2, 1) := dk_5 (dk_at dksX13_countOf_2 14 rfl rfl)
theorem dX13_countOf_63 : decode cX13_countOf 63 = .ok (.if_icmp .ne 19, 3) := dk_160 0 19 (dk_at dksX13_countOf_2 15 rfl rfl)
theorem dX13_countOf_66 : decode cX13_countOf 66 = .ok (.aload_n 0, 1) := dk_42 (dk_at dksX13_countOf_2 18 rfl rfl)
theorem dX13_countOf_67 : decode cX13_countOf 67 = .ok (.getfield 13, 3) := dk_180 0 13 (dk_at dksX13_countOf_2 19 rfl rfl)
theorem dX13_countOf_70 : decode cX13_countOf 70 = .ok (.iload 5, 2) := dk_21 5 (dk_at dksX13_countOf_2 22 rfl rfl)
theorem dX13_countOf_72 : decode cX13_countOf 72 = .ok (.iconst 0, 1) := dk_3 (dk_at dksX13_countOf_3 0 rfl rfl)
theorem dX13_countOf_73 : decode cX13_countOf 73 = .ok (.iadd, 1) := dk_96 (dk_at dksX13_countOf_3 1 rfl rfl)
theorem dX13_countOf_74 : decode cX13_countOf 74 = .ok (.iaload, 1) := dk_46 (dk_at dksX13_countOf_3 2 rfl rfl)
theorem dX13_countOf_75 : decode cX13_countOf 75 = .ok (.iconst (-1), 1) := dk_2 (dk_at dksX13_countOf_3 3 rfl rfl)
theorem dX13_countOf_76 : decode cX13_countOf 76 = .ok (.if_icmp .ne 21, 3) := dk_160 0 21 (dk_at dksX13_countOf_3 4 rfl rfl)
theorem dX13_countOf_79 : decode cX13_countOf 79 = .ok (.goto 15, 3) := dk_167 0 15 (dk_at dksX13_countOf_3 7 rfl rfl)
theorem dX13_countOf_82 : decode cX13_countOf 82 = .ok (.aload_n 0, 1) := dk_42 (dk_at dksX13_countOf_3 10 rfl rfl)
theorem dX13_countOf_83 : decode cX13_countOf 83 = .ok (.getfield 13, 3) := dk_180 0 13 (dk_at dksX13_countOf_3 11 rfl rfl)
theorem dX13_countOf_86 : decode cX13_countOf 86 = .ok (.iload 5, 2) := dk_21 5 (dk_at dksX13_countOf_3 14 rfl rfl)
theorem dX13_countOf_88 : decode cX13_countOf 88 = .ok (.iconst 5, 1) := dk_8 (dk_at dksX13_countOf_3 16 rfl rfl)
theorem dX13_countOf_89 : decode cX13_countOf 89 = .ok (.iadd, 1) := dk_96 (dk_at dksX13_countOf_3 17 rfl rfl)
theorem dX13_countOf_90 : decode cX13_countOf 90 = .ok (.iaload, 1) := dk_46 (dk_at dksX13_countOf_3 18 rfl rfl)
theorem dX13_countOf_91 : decode cX13_countOf 91 = .ok (.ifCond .ne 6, 3) := dk_154 0 6 (dk_at dksX13_countOf_3 19 rfl rfl)
theorem dX13_countOf_94 : decode cX13_countOf 94 = .ok (.iinc 3 1, 3) := dk_132 3 1 (dk_at dksX13_countOf_4 0 rfl rfl)
theorem dX13_countOf_97 : decode cX13_countOf 97 = .ok (.iinc 4 1, 3) := dk_132 4 1 (dk_at dksX13_countOf_4 3 rfl rfl)
theorem dX13_countOf_100 : decode cX13_countOf 100 = .ok (.goto (-70), 3) := dk_167 255 186 (dk_at dksX13_countOf_4 6 rfl rfl)
theorem dX13_countOf_103 : decode cX13_countOf 103 = .ok (.iload_n 3, 1) := dk_29 (dk_at dksX13_countOf_4 9 rfl rfl)
theorem dX13_countOf_104 : decode cX13_countOf 104 = .ok (.ireturn, 1) := dk_172 (dk_at dksX13_countOf_4 10 rfl rfl)
abbrev cX13_image : ByteArray := prog_24_method_109_code
def yX13_image : MethodName := ⟨RX13, "image", "(I)Z"⟩
def dkwX13_image_3 : List UInt8 := [42, 180, 0, 22, 28, 47, 80, 132, 2, 1, 167, 255, 230, 42, 180, 0, 32, 27, 4, 84, 4, 172]
abbrev dktX13_image_3 : List UInt8 := dkwX13_image_3 ++ []
def dkwX13_image_2 : List UInt8 := [132, 2, 1, 167, 255, 228, 3, 61, 28, 16, 28, 162, 0, 26, 42, 180, 0, 29, 16, 28, 27, 104, 28, 96]
abbrev dktX13_image_2 : List UInt8 := dkwX13_image_2 ++ dktX13_image_3
def dkwX13_image_1 : List UInt8 := [17, 18, 212, 162, 0, 27, 42, 180, 0, 19, 17, 18, 212, 27, 104, 28, 96, 42, 180, 0, 13, 28, 46, 79]
abbrev dktX13_image_1 : List UInt8 := dkwX13_image_1 ++ dktX13_image_2
def dkwX13_image_0 : List UInt8 := [42, 3, 181, 0, 58, 42, 182, 0, 212, 27, 3, 5, 184, 0, 115, 154, 0, 5, 3, 172, 3, 61, 28]
abbrev dktX13_image_0 : List UInt8 := dkwX13_image_0 ++ dktX13_image_1
theorem dksX13_image_0 : cX13_image.data.toList.drop 0 = dktX13_image_0 := by decide +kernel
theorem dksX13_image_1 : cX13_image.data.toList.drop 23 = dktX13_image_1 := dk_seg dksX13_image_0 23 rfl rfl
theorem dksX13_image_2 : cX13_image.data.toList.drop 47 = dktX13_image_2 := dk_seg dksX13_image_1 24 rfl rfl
theorem dksX13_image_3 : cX13_image.data.toList.drop 71 = dktX13_image_3 := dk_seg dksX13_image_2 24 rfl rfl
theorem dX13_image_0 : decode cX13_image 0 = .ok (.aload_n 0, 1) := dk_42 (dk_at dksX13_image_0 0 rfl rfl)
theorem dX13_image_1 : decode cX13_image 1 = .ok (.iconst 0, 1) := dk_3 (dk_at dksX13_image_0 1 rfl rfl)
theorem dX13_image_2 : decode cX13_image 2 = .ok (.putfield 58, 3) := dk_181 0 58 (dk_at dksX13_image_0 2 rfl rfl)
theorem dX13_image_5 : decode cX13_image 5 = .ok (.aload_n 0, 1) := dk_42 (dk_at dksX13_image_0 5 rfl rfl)
theorem dX13_image_6 : decode cX13_image 6 = .ok (.invokevirtual 212, 3) := dk_182 0 212 (dk_at dksX13_image_0 6 rfl rfl)
theorem dX13_image_9 : decode cX13_image 9 = .ok (.iload_n 1, 1) := dk_27 (dk_at dksX13_image_0 9 rfl rfl)
theorem dX13_image_10 : decode cX13_image 10 = .ok (.iconst 0, 1) := dk_3 (dk_at dksX13_image_0 10 rfl rfl)
theorem dX13_image_11 : decode cX13_image 11 = .ok (.iconst 2, 1) := dk_5 (dk_at dksX13_image_0 11 rfl rfl)
theorem dX13_image_12 : decode cX13_image 12 = .ok (.invokestatic 115, 3) := dk_184 0 115 (dk_at dksX13_image_0 12 rfl rfl)
theorem dX13_image_15 : decode cX13_image 15 = .ok (.ifCond .ne 5, 3) := dk_154 0 5 (dk_at dksX13_image_0 15 rfl rfl)
theorem dX13_image_18 : decode cX13_image 18 = .ok (.iconst 0, 1) := dk_3 (dk_at dksX13_image_0 18 rfl rfl)
theorem dX13_image_19 : decode cX13_image 19 = .ok (.ireturn, 1) := dk_172 (dk_at dksX13_image_0 19 rfl rfl)
theorem dX13_image_20 : decode cX13_image 20 = .ok (.iconst 0, 1) := dk_3 (dk_at dksX13_image_0 20 rfl rfl)
theorem dX13_image_21 : decode cX13_image 21 = .ok (.istore_n 2, 1) := dk_61 (dk_at dksX13_image_0 21 rfl rfl)
theorem dX13_image_22 : decode cX13_image 22 = .ok (.iload_n 2, 1) := dk_28 (dk_at dksX13_image_0 22 rfl rfl)
theorem dX13_image_23 : decode cX13_image 23 = .ok (.sipush 4820, 3) := dk_17 18 212 (dk_at dksX13_image_1 0 rfl rfl)
theorem dX13_image_26 : decode cX13_image 26 = .ok (.if_icmp .ge 27, 3) := dk_162 0 27 (dk_at dksX13_image_1 3 rfl rfl)
theorem dX13_image_29 : decode cX13_image 29 = .ok (.aload_n 0, 1) := dk_42 (dk_at dksX13_image_1 6 rfl rfl)
theorem dX13_image_30 : decode cX13_image 30 = .ok (.getfield 19, 3) := dk_180 0 19 (dk_at dksX13_image_1 7 rfl rfl)
theorem dX13_image_33 : decode cX13_image 33 = .ok (.sipush 4820, 3) := dk_17 18 212 (dk_at dksX13_image_1 10 rfl rfl)
theorem dX13_image_36 : decode cX13_image 36 = .ok (.iload_n 1, 1) := dk_27 (dk_at dksX13_image_1 13 rfl rfl)
theorem dX13_image_37 : decode cX13_image 37 = .ok (.imul, 1) := dk_104 (dk_at dksX13_image_1 14 rfl rfl)
theorem dX13_image_38 : decode cX13_image 38 = .ok (.iload_n 2, 1) := dk_28 (dk_at dksX13_image_1 15 rfl rfl)
theorem dX13_image_39 : decode cX13_image 39 = .ok (.iadd, 1) := dk_96 (dk_at dksX13_image_1 16 rfl rfl)
theorem dX13_image_40 : decode cX13_image 40 = .ok (.aload_n 0, 1) := dk_42 (dk_at dksX13_image_1 17 rfl rfl)
theorem dX13_image_41 : decode cX13_image 41 = .ok (.getfield 13, 3) := dk_180 0 13 (dk_at dksX13_image_1 18 rfl rfl)
theorem dX13_image_44 : decode cX13_image 44 = .ok (.iload_n 2, 1) := dk_28 (dk_at dksX13_image_1 21 rfl rfl)
theorem dX13_image_45 : decode cX13_image 45 = .ok (.iaload, 1) := dk_46 (dk_at dksX13_image_1 22 rfl rfl)
theorem dX13_image_46 : decode cX13_image 46 = .ok (.iastore, 1) := dk_79 (dk_at dksX13_image_1 23 rfl rfl)
theorem dX13_image_47 : decode cX13_image 47 = .ok (.iinc 2 1, 3) := dk_132 2 1 (dk_at dksX13_image_2 0 rfl rfl)
theorem dX13_image_50 : decode cX13_image 50 = .ok (.goto (-28), 3) := dk_167 255 228 (dk_at dksX13_image_2 3 rfl rfl)
theorem dX13_image_53 : decode cX13_image 53 = .ok (.iconst 0, 1) := dk_3 (dk_at dksX13_image_2 6 rfl rfl)
theorem dX13_image_54 : decode cX13_image 54 = .ok (.istore_n 2, 1) := dk_61 (dk_at dksX13_image_2 7 rfl rfl)
theorem dX13_image_55 : decode cX13_image 55 = .ok (.iload_n 2, 1) := dk_28 (dk_at dksX13_image_2 8 rfl rfl)
theorem dX13_image_56 : decode cX13_image 56 = .ok (.bipush 28, 2) := dk_16 28 (dk_at dksX13_image_2 9 rfl rfl)
theorem dX13_image_58 : decode cX13_image 58 = .ok (.if_icmp .ge 26, 3) := dk_162 0 26 (dk_at dksX13_image_2 11 rfl rfl)
theorem dX13_image_61 : decode cX13_image 61 = .ok (.aload_n 0, 1) := dk_42 (dk_at dksX13_image_2 14 rfl rfl)
theorem dX13_image_62 : decode cX13_image 62 = .ok (.getfield 29, 3) := dk_180 0 29 (dk_at dksX13_image_2 15 rfl rfl)
theorem dX13_image_65 : decode cX13_image 65 = .ok (.bipush 28, 2) := dk_16 28 (dk_at dksX13_image_2 18 rfl rfl)
theorem dX13_image_67 : decode cX13_image 67 = .ok (.iload_n 1, 1) := dk_27 (dk_at dksX13_image_2 20 rfl rfl)
theorem dX13_image_68 : decode cX13_image 68 = .ok (.imul, 1) := dk_104 (dk_at dksX13_image_2 21 rfl rfl)
theorem dX13_image_69 : decode cX13_image 69 = .ok (.iload_n 2, 1) := dk_28 (dk_at dksX13_image_2 22 rfl rfl)
theorem dX13_image_70 : decode cX13_image 70 = .ok (.iadd, 1) := dk_96 (dk_at dksX13_image_2 23 rfl rfl)
theorem dX13_image_71 : decode cX13_image 71 = .ok (.aload_n 0, 1) := dk_42 (dk_at dksX13_image_3 0 rfl rfl)
theorem dX13_image_72 : decode cX13_image 72 = .ok (.getfield 22, 3) := dk_180 0 22 (dk_at dksX13_image_3 1 rfl rfl)
theorem dX13_image_75 : decode cX13_image 75 = .ok (.iload_n 2, 1) := dk_28 (dk_at dksX13_image_3 4 rfl rfl)
theorem dX13_image_76 : decode cX13_image 76 = .ok (.laload, 1) := dk_47 (dk_at dksX13_image_3 5 rfl rfl)
theorem dX13_image_77 : decode cX13_image 77 = .ok (.lastore, 1) := dk_80 (dk_at dksX13_image_3 6 rfl rfl)
theorem dX13_image_78 : decode cX13_image 78 = .ok (.iinc 2 1, 3) := dk_132 2 1 (dk_at dksX13_image_3 7 rfl rfl)
theorem dX13_image_81 : decode cX13_image 81 = .ok (.goto (-26), 3) := dk_167 255 230 (dk_at dksX13_image_3 10 rfl rfl)
theorem dX13_image_84 : decode cX13_image 84 = .ok (.aload_n 0, 1) := dk_42 (dk_at dksX13_image_3 13 rfl rfl)
theorem dX13_image_85 : decode cX13_image 85 = .ok (.getfield 32, 3) := dk_180 0 32 (dk_at dksX13_image_3 14 rfl rfl)
theorem dX13_image_88 : decode cX13_image 88 = .ok (.iload_n 1, 1) := dk_27 (dk_at dksX13_image_3 17 rfl rfl)
theorem dX13_image_89 : decode cX13_image 89 = .ok (.iconst 1, 1) := dk_4 (dk_at dksX13_image_3 18 rfl rfl)
theorem dX13_image_90 : decode cX13_image 90 = .ok (.bastore, 1) := dk_84 (dk_at dksX13_image_3 19 rfl rfl)
theorem dX13_image_91 : decode cX13_image 91 = .ok (.iconst 1, 1) := dk_4 (dk_at dksX13_image_3 20 rfl rfl)
theorem dX13_image_92 : decode cX13_image 92 = .ok (.ireturn, 1) := dk_172 (dk_at dksX13_image_3 21 rfl rfl)
abbrev cX13_restore : ByteArray := prog_24_method_110_code
def yX13_restore : MethodName := ⟨RX13, "restore", "(I)Z"⟩
def dkwX13_restore_4 : List UInt8 := [180, 0, 22, 28, 42, 180, 0, 29, 16, 28, 27, 104, 28, 96, 47, 80, 132, 2, 1, 167, 255, 230, 4, 172]
abbrev dktX13_restore_4 : List UInt8 := dkwX13_restore_4 ++ []
def dkwX13_restore_3 : List UInt8 := [17, 18, 212, 27, 104, 28, 96, 46, 79, 132, 2, 1, 167, 255, 207, 3, 61, 28, 16, 28, 162, 0, 26, 42]
abbrev dktX13_restore_3 : List UInt8 := dkwX13_restore_3 ++ dktX13_restore_4
def dkwX13_restore_2 : List UInt8 := [17, 0, 152, 161, 0, 10, 28, 17, 0, 155, 164, 0, 21, 42, 180, 0, 13, 28, 42, 180, 0, 19]
abbrev dktX13_restore_2 : List UInt8 := dkwX13_restore_2 ++ dktX13_restore_3
def dkwX13_restore_1 : List UInt8 := [154, 0, 5, 3, 172, 3, 61, 28, 17, 17, 208, 162, 0, 48, 28, 17, 0, 149, 159, 0, 35, 28]
abbrev dktX13_restore_1 : List UInt8 := dkwX13_restore_1 ++ dktX13_restore_2
def dkwX13_restore_0 : List UInt8 := [42, 3, 181, 0, 58, 42, 182, 0, 212, 27, 3, 5, 184, 0, 115, 153, 0, 12, 42, 180, 0, 32, 27, 51]
abbrev dktX13_restore_0 : List UInt8 := dkwX13_restore_0 ++ dktX13_restore_1
theorem dksX13_restore_0 : cX13_restore.data.toList.drop 0 = dktX13_restore_0 := by decide +kernel
theorem dksX13_restore_1 : cX13_restore.data.toList.drop 24 = dktX13_restore_1 := dk_seg dksX13_restore_0 24 rfl rfl
theorem dksX13_restore_2 : cX13_restore.data.toList.drop 46 = dktX13_restore_2 := dk_seg dksX13_restore_1 22 rfl rfl
theorem dksX13_restore_3 : cX13_restore.data.toList.drop 68 = dktX13_restore_3 := dk_seg dksX13_restore_2 22 rfl rfl
theorem dksX13_restore_4 : cX13_restore.data.toList.drop 92 = dktX13_restore_4 := dk_seg dksX13_restore_3 24 rfl rfl
theorem dX13_restore_0 : decode cX13_restore 0 = .ok (.aload_n 0, 1) := dk_42 (dk_at dksX13_restore_0 0 rfl rfl)
theorem dX13_restore_1 : decode cX13_restore 1 = .ok (.iconst 0, 1) := dk_3 (dk_at dksX13_restore_0 1 rfl rfl)
theorem dX13_restore_2 : decode cX13_restore 2 = .ok (.putfield 58, 3) := dk_181 0 58 (dk_at dksX13_restore_0 2 rfl rfl)
theorem dX13_restore_5 : decode cX13_restore 5 = .ok (.aload_n 0, 1) := dk_42 (dk_at dksX13_restore_0 5 rfl rfl)
theorem dX13_restore_6 : decode cX13_restore 6 = .ok (.invokevirtual 212, 3) := dk_182 0 212 (dk_at dksX13_restore_0 6 rfl rfl)
theorem dX13_restore_9 : decode cX13_restore 9 = .ok (.iload_n 1, 1) := dk_27 (dk_at dksX13_restore_0 9 rfl rfl)
theorem dX13_restore_10 : decode cX13_restore 10 = .ok (.iconst 0, 1) := dk_3 (dk_at dksX13_restore_0 10 rfl rfl)
theorem dX13_restore_11 : decode cX13_restore 11 = .ok (.iconst 2, 1) := dk_5 (dk_at dksX13_restore_0 11 rfl rfl)
theorem dX13_restore_12 : decode cX13_restore 12 = .ok (.invokestatic 115, 3) := dk_184 0 115 (dk_at dksX13_restore_0 12 rfl rfl)
theorem dX13_restore_15 : decode cX13_restore 15 = .ok (.ifCond .eq 12, 3) := dk_153 0 12 (dk_at dksX13_restore_0 15 rfl rfl)
theorem dX13_restore_18 : decode cX13_restore 18 = .ok (.aload_n 0, 1) := dk_42 (dk_at dksX13_restore_0 18 rfl rfl)
theorem dX13_restore_19 : decode cX13_restore 19 = .ok (.getfield 32, 3) := dk_180 0 32 (dk_at dksX13_restore_0 19 rfl rfl)
theorem dX13_restore_22 : decode cX13_restore 22 = .ok (.iload_n 1, 1) := dk_27 (dk_at dksX13_restore_0 22 rfl rfl)
theorem dX13_restore_23 : decode cX13_restore 23 = .ok (.baload, 1) := dk_51 (dk_at dksX13_restore_0 23 rfl rfl)
theorem dX13_restore_24 : decode cX13_restore 24 = .ok (.ifCond .ne 5, 3) := dk_154 0 5 (dk_at dksX13_restore_1 0 rfl rfl)
theorem dX13_restore_27 : decode cX13_restore 27 = .ok (.iconst 0, 1) := dk_3 (dk_at dksX13_restore_1 3 rfl rfl)
theorem dX13_restore_28 : decode cX13_restore 28 = .ok (.ireturn, 1) := dk_172 (dk_at dksX13_restore_1 4 rfl rfl)
theorem dX13_restore_29 : decode cX13_restore 29 = .ok (.iconst 0, 1) := dk_3 (dk_at dksX13_restore_1 5 rfl rfl)
theorem dX13_restore_30 : decode cX13_restore 30 = .ok (.istore_n 2, 1) := dk_61 (dk_at dksX13_restore_1 6 rfl rfl)
theorem dX13_restore_31 : decode cX13_restore 31 = .ok (.iload_n 2, 1) := dk_28 (dk_at dksX13_restore_1 7 rfl rfl)
theorem dX13_restore_32 : decode cX13_restore 32 = .ok (.sipush 4560, 3) := dk_17 17 208 (dk_at dksX13_restore_1 8 rfl rfl)
theorem dX13_restore_35 : decode cX13_restore 35 = .ok (.if_icmp .ge 48, 3) := dk_162 0 48 (dk_at dksX13_restore_1 11 rfl rfl)
theorem dX13_restore_38 : decode cX13_restore 38 = .ok (.iload_n 2, 1) := dk_28 (dk_at dksX13_restore_1 14 rfl rfl)
theorem dX13_restore_39 : decode cX13_restore 39 = .ok (.sipush 149, 3) := dk_17 0 149 (dk_at dksX13_restore_1 15 rfl rfl)
theorem dX13_restore_42 : decode cX13_restore 42 = .ok (.if_icmp .eq 35, 3) := dk_159 0 35 (dk_at dksX13_restore_1 18 rfl rfl)
theorem dX13_restore_45 : decode cX13_restore 45 = .ok (.iload_n 2, 1) := dk_28 (dk_at dksX13_restore_1 21 rfl rfl)
theorem dX13_restore_46 : decode cX13_restore 46 = .ok (.sipush 152, 3) := dk_17 0 152 (dk_at dksX13_restore_2 0 rfl rfl)
theorem dX13_restore_49 : decode cX13_restore 49 = .ok (.if_icmp .lt 10, 3) := dk_161 0 10 (dk_at dksX13_restore_2 3 rfl rfl)
theorem dX13_restore_52 : decode cX13_restore 52 = .ok (.iload_n 2, 1) := dk_28 (dk_at dksX13_restore_2 6 rfl rfl)
theorem dX13_restore_53 : decode cX13_restore 53 = .ok (.sipush 155, 3) := dk_17 0 155 (dk_at dksX13_restore_2 7 rfl rfl)
theorem dX13_restore_56 : decode cX13_restore 56 = .ok (.if_icmp .le 21, 3) := dk_164 0 21 (dk_at dksX13_restore_2 10 rfl rfl)
theorem dX13_restore_59 : decode cX13_restore 59 = .ok (.aload_n 0, 1) := dk_42 (dk_at dksX13_restore_2 13 rfl rfl)
theorem dX13_restore_60 : decode cX13_restore 60 = .ok (.getfield 13, 3) := dk_180 0 13 (dk_at dksX13_restore_2 14 rfl rfl)
theorem dX13_restore_63 : decode cX13_restore 63 = .ok (.iload_n 2, 1) := dk_28 (dk_at dksX13_restore_2 17 rfl rfl)
theorem dX13_restore_64 : decode cX13_restore 64 = .ok (.aload_n 0, 1) := dk_42 (dk_at dksX13_restore_2 18 rfl rfl)
theorem dX13_restore_65 : decode cX13_restore 65 = .ok (.getfield 19, 3) := dk_180 0 19 (dk_at dksX13_restore_2 19 rfl rfl)
theorem dX13_restore_68 : decode cX13_restore 68 = .ok (.sipush 4820, 3) := dk_17 18 212 (dk_at dksX13_restore_3 0 rfl rfl)
theorem dX13_restore_71 : decode cX13_restore 71 = .ok (.iload_n 1, 1) := dk_27 (dk_at dksX13_restore_3 3 rfl rfl)
theorem dX13_restore_72 : decode cX13_restore 72 = .ok (.imul, 1) := dk_104 (dk_at dksX13_restore_3 4 rfl rfl)
theorem dX13_restore_73 : decode cX13_restore 73 = .ok (.iload_n 2, 1) := dk_28 (dk_at dksX13_restore_3 5 rfl rfl)
theorem dX13_restore_74 : decode cX13_restore 74 = .ok (.iadd, 1) := dk_96 (dk_at dksX13_restore_3 6 rfl rfl)
theorem dX13_restore_75 : decode cX13_restore 75 = .ok (.iaload, 1) := dk_46 (dk_at dksX13_restore_3 7 rfl rfl)
theorem dX13_restore_76 : decode cX13_restore 76 = .ok (.iastore, 1) := dk_79 (dk_at dksX13_restore_3 8 rfl rfl)
theorem dX13_restore_77 : decode cX13_restore 77 = .ok (.iinc 2 1, 3) := dk_132 2 1 (dk_at dksX13_restore_3 9 rfl rfl)
theorem dX13_restore_80 : decode cX13_restore 80 = .ok (.goto (-49), 3) := dk_167 255 207 (dk_at dksX13_restore_3 12 rfl rfl)
theorem dX13_restore_83 : decode cX13_restore 83 = .ok (.iconst 0, 1) := dk_3 (dk_at dksX13_restore_3 15 rfl rfl)
theorem dX13_restore_84 : decode cX13_restore 84 = .ok (.istore_n 2, 1) := dk_61 (dk_at dksX13_restore_3 16 rfl rfl)
theorem dX13_restore_85 : decode cX13_restore 85 = .ok (.iload_n 2, 1) := dk_28 (dk_at dksX13_restore_3 17 rfl rfl)
theorem dX13_restore_86 : decode cX13_restore 86 = .ok (.bipush 28, 2) := dk_16 28 (dk_at dksX13_restore_3 18 rfl rfl)
theorem dX13_restore_88 : decode cX13_restore 88 = .ok (.if_icmp .ge 26, 3) := dk_162 0 26 (dk_at dksX13_restore_3 20 rfl rfl)
theorem dX13_restore_91 : decode cX13_restore 91 = .ok (.aload_n 0, 1) := dk_42 (dk_at dksX13_restore_3 23 rfl rfl)
theorem dX13_restore_92 : decode cX13_restore 92 = .ok (.getfield 22, 3) := dk_180 0 22 (dk_at dksX13_restore_4 0 rfl rfl)
theorem dX13_restore_95 : decode cX13_restore 95 = .ok (.iload_n 2, 1) := dk_28 (dk_at dksX13_restore_4 3 rfl rfl)
theorem dX13_restore_96 : decode cX13_restore 96 = .ok (.aload_n 0, 1) := dk_42 (dk_at dksX13_restore_4 4 rfl rfl)
theorem dX13_restore_97 : decode cX13_restore 97 = .ok (.getfield 29, 3) := dk_180 0 29 (dk_at dksX13_restore_4 5 rfl rfl)
theorem dX13_restore_100 : decode cX13_restore 100 = .ok (.bipush 28, 2) := dk_16 28 (dk_at dksX13_restore_4 8 rfl rfl)
theorem dX13_restore_102 : decode cX13_restore 102 = .ok (.iload_n 1, 1) := dk_27 (dk_at dksX13_restore_4 10 rfl rfl)
theorem dX13_restore_103 : decode cX13_restore 103 = .ok (.imul, 1) := dk_104 (dk_at dksX13_restore_4 11 rfl rfl)
theorem dX13_restore_104 : decode cX13_restore 104 = .ok (.iload_n 2, 1) := dk_28 (dk_at dksX13_restore_4 12 rfl rfl)
theorem dX13_restore_105 : decode cX13_restore 105 = .ok (.iadd, 1) := dk_96 (dk_at dksX13_restore_4 13 rfl rfl)
theorem dX13_restore_106 : decode cX13_restore 106 = .ok (.laload, 1) := dk_47 (dk_at dksX13_restore_4 14 rfl rfl)
theorem dX13_restore_107 : decode cX13_restore 107 = .ok (.lastore, 1) := dk_80 (dk_at dksX13_restore_4 15 rfl rfl)
theorem dX13_restore_108 : decode cX13_restore 108 = .ok (.iinc 2 1, 3) := dk_132 2 1 (dk_at dksX13_restore_4 16 rfl rfl)
theorem dX13_restore_111 : decode cX13_restore 111 = .ok (.goto (-26), 3) := dk_167 255 230 (dk_at dksX13_restore_4 19 rfl rfl)
theorem dX13_restore_114 : decode cX13_restore 114 = .ok (.iconst 1, 1) := dk_4 (dk_at dksX13_restore_4 22 rfl rfl)
theorem dX13_restore_115 : decode cX13_restore 115 = .ok (.ireturn, 1) := dk_172 (dk_at dksX13_restore_4 23 rfl rfl)
abbrev cX13_count : ByteArray := prog_24_method_111_code
def yX13_count : MethodName := ⟨RX13, "count", "(I)I"⟩
def dkwX13_count_5 : List UInt8 := [180, 0, 62, 172, 2, 172]
abbrev dktX13_count_5 : List UInt8 := dkwX13_count_5 ++ []
def dkwX13_count_4 : List UInt8 := [17, 0, 142, 46, 172, 42, 180, 0, 13, 17, 0, 140, 46, 172, 42, 180, 0, 13, 17, 0, 141, 46, 172, 42]
abbrev dktX13_count_4 : List UInt8 := dkwX13_count_4 ++ dktX13_count_5
def dkwX13_count_3 : List UInt8 := [42, 182, 0, 237, 172, 42, 182, 0, 224, 172, 42, 180, 0, 13, 17, 0, 130, 46, 172, 42, 180, 0, 13]
abbrev dktX13_count_3 : List UInt8 := dkwX13_count_3 ++ dktX13_count_4
def dkwX13_count_2 : List UInt8 := [170, 0, 0, 0, 92, 0, 0, 0, 0, 0, 0, 0, 6, 0, 0, 0, 41, 0, 0, 0, 46, 0, 0, 0, 51, 0, 0, 0, 60, 0, 0, 0, 69, 0, 0, 0, 78, 0, 0, 0, 87]
abbrev dktX13_count_2 : List UInt8 := dkwX13_count_2 ++ dktX13_count_3
def dkwX13_count_1 : List UInt8 := [17, 0, 143, 27, 96, 16, 10, 100, 46, 172, 27]
abbrev dktX13_count_1 : List UInt8 := dkwX13_count_1 ++ dktX13_count_2
def dkwX13_count_0 : List UInt8 := [42, 3, 181, 0, 58, 42, 182, 0, 212, 27, 16, 10, 16, 15, 184, 0, 115, 153, 0, 17, 42, 180, 0, 13]
abbrev dktX13_count_0 : List UInt8 := dkwX13_count_0 ++ dktX13_count_1
theorem dksX13_count_0 : cX13_count.data.toList.drop 0 = dktX13_count_0 := by decide +kernel
theorem dksX13_count_1 : cX13_count.data.toList.drop 24 = dktX13_count_1 := dk_seg dksX13_count_0 24 rfl rfl
theorem dksX13_count_2 : cX13_count.data.toList.drop 35 = dktX13_count_2 := dk_seg dksX13_count_1 11 rfl rfl
theorem dksX13_count_3 : cX13_count.data.toList.drop 76 = dktX13_count_3 := dk_seg dksX13_count_2 41 rfl rfl
theorem dksX13_count_4 : cX13_count.data.toList.drop 99 = dktX13_count_4 := dk_seg dksX13_count_3 23 rfl rfl
theorem dksX13_count_5 : cX13_count.data.toList.drop 123 = dktX13_count_5 := dk_seg dksX13_count_4 24 rfl rfl
theorem dX13_count_0 : decode cX13_count 0 = .ok (.aload_n 0, 1) := dk_42 (dk_at dksX13_count_0 0 rfl rfl)
theorem dX13_count_1 : decode cX13_count 1 = .ok (.iconst 0, 1) := dk_3 (dk_at dksX13_count_0 1 rfl rfl)
theorem dX13_count_2 : decode cX13_count 2 = .ok (.putfield 58, 3) := dk_181 0 58 (dk_at dksX13_count_0 2 rfl rfl)
theorem dX13_count_5 : decode cX13_count 5 = .ok (.aload_n 0, 1) := dk_42 (dk_at dksX13_count_0 5 rfl rfl)
theorem dX13_count_6 : decode cX13_count 6 = .ok (.invokevirtual 212, 3) := dk_182 0 212 (dk_at dksX13_count_0 6 rfl rfl)
theorem dX13_count_9 : decode cX13_count 9 = .ok (.iload_n 1, 1) := dk_27 (dk_at dksX13_count_0 9 rfl rfl)
theorem dX13_count_10 : decode cX13_count 10 = .ok (.bipush 10, 2) := dk_16 10 (dk_at dksX13_count_0 10 rfl rfl)
theorem dX13_count_12 : decode cX13_count 12 = .ok (.bipush 15, 2) := dk_16 15 (dk_at dksX13_count_0 12 rfl rfl)
theorem dX13_count_14 : decode cX13_count 14 = .ok (.invokestatic 115, 3) := dk_184 0 115 (dk_at dksX13_count_0 14 rfl rfl)
theorem dX13_count_17 : decode cX13_count 17 = .ok (.ifCond .eq 17, 3) := dk_153 0 17 (dk_at dksX13_count_0 17 rfl rfl)
theorem dX13_count_20 : decode cX13_count 20 = .ok (.aload_n 0, 1) := dk_42 (dk_at dksX13_count_0 20 rfl rfl)
theorem dX13_count_21 : decode cX13_count 21 = .ok (.getfield 13, 3) := dk_180 0 13 (dk_at dksX13_count_0 21 rfl rfl)
theorem dX13_count_24 : decode cX13_count 24 = .ok (.sipush 143, 3) := dk_17 0 143 (dk_at dksX13_count_1 0 rfl rfl)
theorem dX13_count_27 : decode cX13_count 27 = .ok (.iload_n 1, 1) := dk_27 (dk_at dksX13_count_1 3 rfl rfl)
theorem dX13_count_28 : decode cX13_count 28 = .ok (.iadd, 1) := dk_96 (dk_at dksX13_count_1 4 rfl rfl)
theorem dX13_count_29 : decode cX13_count 29 = .ok (.bipush 10, 2) := dk_16 10 (dk_at dksX13_count_1 5 rfl rfl)
theorem dX13_count_31 : decode cX13_count 31 = .ok (.isub, 1) := dk_100 (dk_at dksX13_count_1 7 rfl rfl)
theorem dX13_count_32 : decode cX13_count 32 = .ok (.iaload, 1) := dk_46 (dk_at dksX13_count_1 8 rfl rfl)
theorem dX13_count_33 : decode cX13_count 33 = .ok (.ireturn, 1) := dk_172 (dk_at dksX13_count_1 9 rfl rfl)
theorem dX13_count_34 : decode cX13_count 34 = .ok (.iload_n 1, 1) := dk_27 (dk_at dksX13_count_1 10 rfl rfl)
theorem dX13_count_35 : decode cX13_count 35 = .ok (.tableswitch 92 0 6 #[41, 46, 51, 60, 69, 78, 87], 41) := by decide +kernel
theorem dX13_count_76 : decode cX13_count 76 = .ok (.aload_n 0, 1) := dk_42 (dk_at dksX13_count_3 0 rfl rfl)
theorem dX13_count_77 : decode cX13_count 77 = .ok (.invokevirtual 237, 3) := dk_182 0 237 (dk_at dksX13_count_3 1 rfl rfl)
theorem dX13_count_80 : decode cX13_count 80 = .ok (.ireturn, 1) := dk_172 (dk_at dksX13_count_3 4 rfl rfl)
theorem dX13_count_81 : decode cX13_count 81 = .ok (.aload_n 0, 1) := dk_42 (dk_at dksX13_count_3 5 rfl rfl)
theorem dX13_count_82 : decode cX13_count 82 = .ok (.invokevirtual 224, 3) := dk_182 0 224 (dk_at dksX13_count_3 6 rfl rfl)
theorem dX13_count_85 : decode cX13_count 85 = .ok (.ireturn, 1) := dk_172 (dk_at dksX13_count_3 9 rfl rfl)
theorem dX13_count_86 : decode cX13_count 86 = .ok (.aload_n 0, 1) := dk_42 (dk_at dksX13_count_3 10 rfl rfl)
theorem dX13_count_87 : decode cX13_count 87 = .ok (.getfield 13, 3) := dk_180 0 13 (dk_at dksX13_count_3 11 rfl rfl)
theorem dX13_count_90 : decode cX13_count 90 = .ok (.sipush 130, 3) := dk_17 0 130 (dk_at dksX13_count_3 14 rfl rfl)
theorem dX13_count_93 : decode cX13_count 93 = .ok (.iaload, 1) := dk_46 (dk_at dksX13_count_3 17 rfl rfl)
theorem dX13_count_94 : decode cX13_count 94 = .ok (.ireturn, 1) := dk_172 (dk_at dksX13_count_3 18 rfl rfl)
theorem dX13_count_95 : decode cX13_count 95 = .ok (.aload_n 0, 1) := dk_42 (dk_at dksX13_count_3 19 rfl rfl)
theorem dX13_count_96 : decode cX13_count 96 = .ok (.getfield 13, 3) := dk_180 0 13 (dk_at dksX13_count_3 20 rfl rfl)
theorem dX13_count_99 : decode cX13_count 99 = .ok (.sipush 142, 3) := dk_17 0 142 (dk_at dksX13_count_4 0 rfl rfl)
theorem dX13_count_102 : decode cX13_count 102 = .ok (.iaload, 1) := dk_46 (dk_at dksX13_count_4 3 rfl rfl)
theorem dX13_count_103 : decode cX13_count 103 = .ok (.ireturn, 1) := dk_172 (dk_at dksX13_count_4 4 rfl rfl)
theorem dX13_count_104 : decode cX13_count 104 = .ok (.aload_n 0, 1) := dk_42 (dk_at dksX13_count_4 5 rfl rfl)
theorem dX13_count_105 : decode cX13_count 105 = .ok (.getfield 13, 3) := dk_180 0 13 (dk_at dksX13_count_4 6 rfl rfl)
theorem dX13_count_108 : decode cX13_count 108 = .ok (.sipush 140, 3) := dk_17 0 140 (dk_at dksX13_count_4 9 rfl rfl)
theorem dX13_count_111 : decode cX13_count 111 = .ok (.iaload, 1) := dk_46 (dk_at dksX13_count_4 12 rfl rfl)
theorem dX13_count_112 : decode cX13_count 112 = .ok (.ireturn, 1) := dk_172 (dk_at dksX13_count_4 13 rfl rfl)
theorem dX13_count_113 : decode cX13_count 113 = .ok (.aload_n 0, 1) := dk_42 (dk_at dksX13_count_4 14 rfl rfl)
theorem dX13_count_114 : decode cX13_count 114 = .ok (.getfield 13, 3) := dk_180 0 13 (dk_at dksX13_count_4 15 rfl rfl)
theorem dX13_count_117 : decode cX13_count 117 = .ok (.sipush 141, 3) := dk_17 0 141 (dk_at dksX13_count_4 18 rfl rfl)
theorem dX13_count_120 : decode cX13_count 120 = .ok (.iaload, 1) := dk_46 (dk_at dksX13_count_4 21 rfl rfl)
theorem dX13_count_121 : decode cX13_count 121 = .ok (.ireturn, 1) := dk_172 (dk_at dksX13_count_4 22 rfl rfl)
theorem dX13_count_122 : decode cX13_count 122 = .ok (.aload_n 0, 1) := dk_42 (dk_at dksX13_count_4 23 rfl rfl)
theorem dX13_count_123 : decode cX13_count 123 = .ok (.getfield 62, 3) := dk_180 0 62 (dk_at dksX13_count_5 0 rfl rfl)
theorem dX13_count_126 : decode cX13_count 126 = .ok (.ireturn, 1) := dk_172 (dk_at dksX13_count_5 3 rfl rfl)
theorem dX13_count_127 : decode cX13_count 127 = .ok (.iconst (-1), 1) := dk_2 (dk_at dksX13_count_5 4 rfl rfl)
theorem dX13_count_128 : decode cX13_count 128 = .ok (.ireturn, 1) := dk_172 (dk_at dksX13_count_5 5 rfl rfl)
theorem q123 : (Jvm.Cond.initialized "TwoHalvesModel") ∈ lw_all := lw_g (lw_at lw_m1 15 rfl) rfl
theorem q1380 : (Jvm.Cond.instantiable "TwoHalvesModel" (42 : Nat)) ∈ lw_all := lw_g (lw_at lw_m6 72 rfl) rfl
theorem q1382 : (Jvm.Cond.instanceMethod ({ cls := "TwoHalvesModel", name := "<init>", desc := "()V" } : Jvm.MethodName)) ∈ lw_all := lw_g (lw_at lw_m6 74 rfl) rfl
theorem q1383 : (Jvm.Cond.code ({ cls := "TwoHalvesModel", name := "<init>", desc := "()V" } : Jvm.MethodName) prog_24_method_1_code (1 : Nat) (Option.none : Option Jvm.ClassFile.FieldType)) ∈ lw_all := lw_g (lw_at lw_m6 75 rfl) rfl
theorem q1384 : (Jvm.Cond.methodLink "TwoHalvesModel" (1 : Nat) ({ cls := "java/lang/Object", name := "<init>", desc := "()V" } : Jvm.MethodName)) ∈ lw_all := lw_g (lw_at lw_m6 76 rfl) rfl
theorem q1385 : (Jvm.Cond.constant "TwoHalvesModel" (51 : Nat) (65536 : Int32)) ∈ lw_all := lw_g (lw_at lw_m6 77 rfl) rfl
theorem q1386 : (Jvm.Cond.fieldLink "TwoHalvesModel" (58 : Nat) "TwoHalvesModel" "thrown" "I") ∈ lw_all := lw_g (lw_at lw_m6 78 rfl) rfl
theorem q1387 : (Jvm.Cond.fieldLink "TwoHalvesModel" (7 : Nat) "TwoHalvesModel" "tape" "[I") ∈ lw_all := lw_g (lw_at lw_m6 79 rfl) rfl
theorem q1388 : (Jvm.Cond.fieldLink "TwoHalvesModel" (62 : Nat) "TwoHalvesModel" "taped" "I") ∈ lw_all := lw_g (lw_at lw_m6 80 rfl) rfl
theorem q1389 : (Jvm.Cond.fieldLink "TwoHalvesModel" (69 : Nat) "TwoHalvesModel" "size" "I") ∈ lw_all := lw_g (lw_at lw_m6 81 rfl) rfl
theorem q1390 : (Jvm.Cond.fieldLink "TwoHalvesModel" (78 : Nat) "TwoHalvesModel" "limit" "I") ∈ lw_all := lw_g (lw_at lw_m6 82 rfl) rfl
theorem q1391 : (Jvm.Cond.fieldLink "TwoHalvesModel" (72 : Nat) "TwoHalvesModel" "to" "I") ∈ lw_all := lw_g (lw_at lw_m6 83 rfl) rfl
theorem q1392 : (Jvm.Cond.fieldLink "TwoHalvesModel" (75 : Nat) "TwoHalvesModel" "from" "I") ∈ lw_all := lw_g (lw_at lw_m6 84 rfl) rfl
theorem q1393 : (Jvm.Cond.fieldLink "TwoHalvesModel" (81 : Nat) "TwoHalvesModel" "kind" "I") ∈ lw_all := lw_g (lw_at lw_m6 85 rfl) rfl
theorem q1394 : (Jvm.Cond.fieldLink "TwoHalvesModel" (98 : Nat) "TwoHalvesModel" "number" "I") ∈ lw_all := lw_g (lw_at lw_m6 86 rfl) rfl
theorem q1395 : (Jvm.Cond.fieldLink "TwoHalvesModel" (91 : Nat) "TwoHalvesModel" "sign" "I") ∈ lw_all := lw_g (lw_at lw_m6 87 rfl) rfl
theorem q1396 : (Jvm.Cond.fieldLink "TwoHalvesModel" (109 : Nat) "TwoHalvesModel" "place" "I") ∈ lw_all := lw_g (lw_at lw_m6 88 rfl) rfl
theorem q1397 : (Jvm.Cond.fieldLink "TwoHalvesModel" (94 : Nat) "TwoHalvesModel" "word" "J") ∈ lw_all := lw_g (lw_at lw_m6 89 rfl) rfl
theorem q1398 : (Jvm.Cond.fieldLink "TwoHalvesModel" (119 : Nat) "TwoHalvesModel" "told" "I") ∈ lw_all := lw_g (lw_at lw_m6 90 rfl) rfl
theorem q1399 : (Jvm.Cond.fieldLink "TwoHalvesModel" (13 : Nat) "TwoHalvesModel" "now" "[I") ∈ lw_all := lw_g (lw_at lw_m6 91 rfl) rfl
theorem q1400 : (Jvm.Cond.fieldLink "TwoHalvesModel" (16 : Nat) "TwoHalvesModel" "read" "[I") ∈ lw_all := lw_g (lw_at lw_m6 92 rfl) rfl
theorem q1401 : (Jvm.Cond.fieldLink "TwoHalvesModel" (19 : Nat) "TwoHalvesModel" "kept" "[I") ∈ lw_all := lw_g (lw_at lw_m6 93 rfl) rfl
theorem q1402 : (Jvm.Cond.fieldLink "TwoHalvesModel" (22 : Nat) "TwoHalvesModel" "name" "[J") ∈ lw_all := lw_g (lw_at lw_m6 94 rfl) rfl
theorem q1403 : (Jvm.Cond.fieldLink "TwoHalvesModel" (26 : Nat) "TwoHalvesModel" "readName" "[J") ∈ lw_all := lw_g (lw_at lw_m6 95 rfl) rfl
theorem q1404 : (Jvm.Cond.fieldLink "TwoHalvesModel" (29 : Nat) "TwoHalvesModel" "keptName" "[J") ∈ lw_all := lw_g (lw_at lw_m6 96 rfl) rfl
theorem q1405 : (Jvm.Cond.fieldLink "TwoHalvesModel" (32 : Nat) "TwoHalvesModel" "isKept" "[Z") ∈ lw_all := lw_g (lw_at lw_m6 97 rfl) rfl
theorem q1406 : (Jvm.Cond.fieldLink "TwoHalvesModel" (168 : Nat) "TwoHalvesModel" "isBegun" "Z") ∈ lw_all := lw_g (lw_at lw_m6 98 rfl) rfl
theorem q1407 : (Jvm.Cond.fieldLink "TwoHalvesModel" (191 : Nat) "TwoHalvesModel" "maybes" "I") ∈ lw_all := lw_g (lw_at lw_m6 99 rfl) rfl
theorem q1408 : (Jvm.Cond.fieldLink "TwoHalvesModel" (194 : Nat) "TwoHalvesModel" "weaks" "I") ∈ lw_all := lw_g (lw_at lw_m6 100 rfl) rfl
theorem q1409 : (Jvm.Cond.fieldLink "TwoHalvesModel" (36 : Nat) "TwoHalvesModel" "saidBy" "[I") ∈ lw_all := lw_g (lw_at lw_m6 101 rfl) rfl
theorem q1410 : (Jvm.Cond.fieldLink "TwoHalvesModel" (243 : Nat) "TwoHalvesModel" "left" "I") ∈ lw_all := lw_g (lw_at lw_m6 102 rfl) rfl
theorem q1411 : (Jvm.Cond.fieldLink "TwoHalvesModel" (246 : Nat) "TwoHalvesModel" "right" "I") ∈ lw_all := lw_g (lw_at lw_m6 103 rfl) rfl
theorem q1412 : (Jvm.Cond.fieldLink "TwoHalvesModel" (249 : Nat) "TwoHalvesModel" "ticks" "I") ∈ lw_all := lw_g (lw_at lw_m6 104 rfl) rfl
theorem q1413 : (Jvm.Cond.fieldLink "TwoHalvesModel" (252 : Nat) "TwoHalvesModel" "flags" "I") ∈ lw_all := lw_g (lw_at lw_m6 105 rfl) rfl
theorem q1414 : (Jvm.Cond.fieldLink "TwoHalvesModel" (255 : Nat) "TwoHalvesModel" "asked" "I") ∈ lw_all := lw_g (lw_at lw_m6 106 rfl) rfl
theorem q1415 : (Jvm.Cond.fieldLink "TwoHalvesModel" (258 : Nat) "TwoHalvesModel" "years" "I") ∈ lw_all := lw_g (lw_at lw_m6 107 rfl) rfl
theorem q1416 : (Jvm.Cond.fieldLink "TwoHalvesModel" (261 : Nat) "TwoHalvesModel" "offers" "I") ∈ lw_all := lw_g (lw_at lw_m6 108 rfl) rfl
theorem q1417 : (Jvm.Cond.fieldLink "TwoHalvesModel" (39 : Nat) "TwoHalvesModel" "offer" "[I") ∈ lw_all := lw_g (lw_at lw_m6 109 rfl) rfl
theorem q1418 : (Jvm.Cond.fieldLink "TwoHalvesModel" (42 : Nat) "TwoHalvesModel" "since" "[I") ∈ lw_all := lw_g (lw_at lw_m6 110 rfl) rfl
theorem q1419 : (Jvm.Cond.fieldLink "TwoHalvesModel" (45 : Nat) "TwoHalvesModel" "fit" "[I") ∈ lw_all := lw_g (lw_at lw_m6 111 rfl) rfl
theorem q1420 : (Jvm.Cond.fieldLink "TwoHalvesModel" (327 : Nat) "TwoHalvesModel" "fitMany" "I") ∈ lw_all := lw_g (lw_at lw_m6 112 rfl) rfl
theorem q1421 : (Jvm.Cond.fieldLink "TwoHalvesModel" (48 : Nat) "TwoHalvesModel" "reply" "[I") ∈ lw_all := lw_g (lw_at lw_m6 113 rfl) rfl
theorem q1422 : (Jvm.Cond.fieldLink "TwoHalvesModel" (52 : Nat) "TwoHalvesModel" "needed" "[Z") ∈ lw_all := lw_g (lw_at lw_m6 114 rfl) rfl
theorem q1423 : (Jvm.Cond.fieldLink "TwoHalvesModel" (55 : Nat) "TwoHalvesModel" "node" "[I") ∈ lw_all := lw_g (lw_at lw_m6 115 rfl) rfl
theorem q1424 : (Jvm.Cond.fieldLink "TwoHalvesModel" (351 : Nat) "TwoHalvesModel" "nodes" "I") ∈ lw_all := lw_g (lw_at lw_m6 116 rfl) rfl
theorem q1425 : (Jvm.Cond.fieldLink "TwoHalvesModel" (379 : Nat) "TwoHalvesModel" "ones" "I") ∈ lw_all := lw_g (lw_at lw_m6 117 rfl) rfl
theorem q1426 : (Jvm.Cond.fieldLink "TwoHalvesModel" (382 : Nat) "TwoHalvesModel" "within" "I") ∈ lw_all := lw_g (lw_at lw_m6 118 rfl) rfl
theorem q1427 : (Jvm.Cond.fieldLink "TwoHalvesModel" (363 : Nat) "TwoHalvesModel" "top" "I") ∈ lw_all := lw_g (lw_at lw_m6 119 rfl) rfl
theorem q1428 : (Jvm.Cond.lays "TwoHalvesModel" "TwoHalvesModel" "thrown" "I") ∈ lw_all := lw_g (lw_at lw_m6 120 rfl) rfl
theorem q1429 : (Jvm.Cond.soleField "TwoHalvesModel" "thrown") ∈ lw_all := lw_g (lw_at lw_m6 121 rfl) rfl
theorem q1430 : (Jvm.Cond.laysFinal "TwoHalvesModel" "TwoHalvesModel" "tape" "[I") ∈ lw_all := lw_g (lw_at lw_m6 122 rfl) rfl
theorem q1431 : (Jvm.Cond.soleField "TwoHalvesModel" "tape") ∈ lw_all := lw_g (lw_at lw_m6 123 rfl) rfl
theorem q1432 : (Jvm.Cond.lays "TwoHalvesModel" "TwoHalvesModel" "taped" "I") ∈ lw_all := lw_g (lw_at lw_m6 124 rfl) rfl
theorem q1433 : (Jvm.Cond.soleField "TwoHalvesModel" "taped") ∈ lw_all := lw_g (lw_at lw_m6 125 rfl) rfl
theorem q1434 : (Jvm.Cond.lays "TwoHalvesModel" "TwoHalvesModel" "size" "I") ∈ lw_all := lw_g (lw_at lw_m6 126 rfl) rfl
theorem q1435 : (Jvm.Cond.soleField "TwoHalvesModel" "size") ∈ lw_all := lw_g (lw_at lw_m6 127 rfl) rfl
theorem q1436 : (Jvm.Cond.lays "TwoHalvesModel" "TwoHalvesModel" "limit" "I") ∈ lw_all := lw_g (lw_at lw_m6 128 rfl) rfl
theorem q1437 : (Jvm.Cond.soleField "TwoHalvesModel" "limit") ∈ lw_all := lw_g (lw_at lw_m6 129 rfl) rfl
theorem q1438 : (Jvm.Cond.lays "TwoHalvesModel" "TwoHalvesModel" "to" "I") ∈ lw_all := lw_g (lw_at lw_m6 130 rfl) rfl
theorem q1439 : (Jvm.Cond.soleField "TwoHalvesModel" "to") ∈ lw_all := lw_g (lw_at lw_m6 131 rfl) rfl
theorem q1440 : (Jvm.Cond.lays "TwoHalvesModel" "TwoHalvesModel" "from" "I") ∈ lw_all := lw_g (lw_at lw_m6 132 rfl) rfl
theorem q1441 : (Jvm.Cond.soleField "TwoHalvesModel" "from") ∈ lw_all := lw_g (lw_at lw_m6 133 rfl) rfl
theorem q1442 : (Jvm.Cond.lays "TwoHalvesModel" "TwoHalvesModel" "kind" "I") ∈ lw_all := lw_g (lw_at lw_m6 134 rfl) rfl
theorem q1443 : (Jvm.Cond.soleField "TwoHalvesModel" "kind") ∈ lw_all := lw_g (lw_at lw_m6 135 rfl) rfl
theorem q1444 : (Jvm.Cond.lays "TwoHalvesModel" "TwoHalvesModel" "number" "I") ∈ lw_all := lw_g (lw_at lw_m6 136 rfl) rfl
theorem q1445 : (Jvm.Cond.soleField "TwoHalvesModel" "number") ∈ lw_all := lw_g (lw_at lw_m6 137 rfl) rfl
theorem q1446 : (Jvm.Cond.lays "TwoHalvesModel" "TwoHalvesModel" "sign" "I") ∈ lw_all := lw_g (lw_at lw_m6 138 rfl) rfl
theorem q1447 : (Jvm.Cond.soleField "TwoHalvesModel" "sign") ∈ lw_all := lw_g (lw_at lw_m6 139 rfl) rfl
theorem q1448 : (Jvm.Cond.lays "TwoHalvesModel" "TwoHalvesModel" "place" "I") ∈ lw_all := lw_g (lw_at lw_m6 140 rfl) rfl
theorem q1449 : (Jvm.Cond.soleField "TwoHalvesModel" "place") ∈ lw_all := lw_g (lw_at lw_m6 141 rfl) rfl
theorem q1450 : (Jvm.Cond.lays "TwoHalvesModel" "TwoHalvesModel" "word" "J") ∈ lw_all := lw_g (lw_at lw_m6 142 rfl) rfl
theorem q1451 : (Jvm.Cond.soleField "TwoHalvesModel" "word") ∈ lw_all := lw_g (lw_at lw_m6 143 rfl) rfl
theorem q1452 : (Jvm.Cond.lays "TwoHalvesModel" "TwoHalvesModel" "told" "I") ∈ lw_all := lw_g (lw_at lw_m6 144 rfl) rfl
theorem q1453 : (Jvm.Cond.soleField "TwoHalvesModel" "told") ∈ lw_all := lw_g (lw_at lw_m6 145 rfl) rfl
theorem q1454 : (Jvm.Cond.laysFinal "TwoHalvesModel" "TwoHalvesModel" "now" "[I") ∈ lw_all := lw_g (lw_at lw_m6 146 rfl) rfl
theorem q1455 : (Jvm.Cond.soleField "TwoHalvesModel" "now") ∈ lw_all := lw_g (lw_at lw_m6 147 rfl) rfl
theorem q1456 : (Jvm.Cond.laysFinal "TwoHalvesModel" "TwoHalvesModel" "read" "[I") ∈ lw_all := lw_g (lw_at lw_m6 148 rfl) rfl
theorem q1457 : (Jvm.Cond.soleField "TwoHalvesModel" "read") ∈ lw_all := lw_g (lw_at lw_m6 149 rfl) rfl
theorem q1458 : (Jvm.Cond.laysFinal "TwoHalvesModel" "TwoHalvesModel" "kept" "[I") ∈ lw_all := lw_g (lw_at lw_m6 150 rfl) rfl
theorem q1459 : (Jvm.Cond.soleField "TwoHalvesModel" "kept") ∈ lw_all := lw_g (lw_at lw_m6 151 rfl) rfl
theorem q1460 : (Jvm.Cond.laysFinal "TwoHalvesModel" "TwoHalvesModel" "name" "[J") ∈ lw_all := lw_g (lw_at lw_m6 152 rfl) rfl
theorem q1461 : (Jvm.Cond.soleField "TwoHalvesModel" "name") ∈ lw_all := lw_g (lw_at lw_m6 153 rfl) rfl
theorem q1462 : (Jvm.Cond.laysFinal "TwoHalvesModel" "TwoHalvesModel" "readName" "[J") ∈ lw_all := lw_g (lw_at lw_m6 154 rfl) rfl
theorem q1463 : (Jvm.Cond.soleField "TwoHalvesModel" "readName") ∈ lw_all := lw_g (lw_at lw_m6 155 rfl) rfl
theorem q1464 : (Jvm.Cond.laysFinal "TwoHalvesModel" "TwoHalvesModel" "keptName" "[J") ∈ lw_all := lw_g (lw_at lw_m6 156 rfl) rfl
theorem q1465 : (Jvm.Cond.soleField "TwoHalvesModel" "keptName") ∈ lw_all := lw_g (lw_at lw_m6 157 rfl) rfl
theorem q1466 : (Jvm.Cond.laysFinal "TwoHalvesModel" "TwoHalvesModel" "isKept" "[Z") ∈ lw_all := lw_g (lw_at lw_m6 158 rfl) rfl
theorem q1467 : (Jvm.Cond.soleField "TwoHalvesModel" "isKept") ∈ lw_all := lw_g (lw_at lw_m6 159 rfl) rfl
theorem q1468 : (Jvm.Cond.lays "TwoHalvesModel" "TwoHalvesModel" "isBegun" "Z") ∈ lw_all := lw_g (lw_at lw_m6 160 rfl) rfl
theorem q1469 : (Jvm.Cond.soleField "TwoHalvesModel" "isBegun") ∈ lw_all := lw_g (lw_at lw_m6 161 rfl) rfl
theorem q1470 : (Jvm.Cond.lays "TwoHalvesModel" "TwoHalvesModel" "maybes" "I") ∈ lw_all := lw_g (lw_at lw_m6 162 rfl) rfl
theorem q1471 : (Jvm.Cond.soleField "TwoHalvesModel" "maybes") ∈ lw_all := lw_g (lw_at lw_m6 163 rfl) rfl
theorem q1472 : (Jvm.Cond.lays "TwoHalvesModel" "TwoHalvesModel" "weaks" "I") ∈ lw_all := lw_g (lw_at lw_m6 164 rfl) rfl
theorem q1473 : (Jvm.Cond.soleField "TwoHalvesModel" "weaks") ∈ lw_all := lw_g (lw_at lw_m6 165 rfl) rfl
theorem q1474 : (Jvm.Cond.laysFinal "TwoHalvesModel" "TwoHalvesModel" "saidBy" "[I") ∈ lw_all := lw_g (lw_at lw_m6 166 rfl) rfl
theorem q1475 : (Jvm.Cond.soleField "TwoHalvesModel" "saidBy") ∈ lw_all := lw_g (lw_at lw_m6 167 rfl) rfl
theorem q1476 : (Jvm.Cond.lays "TwoHalvesModel" "TwoHalvesModel" "left" "I") ∈ lw_all := lw_g (lw_at lw_m6 168 rfl) rfl
theorem q1477 : (Jvm.Cond.soleField "TwoHalvesModel" "left") ∈ lw_all := lw_g (lw_at lw_m6 169 rfl) rfl
theorem q1478 : (Jvm.Cond.lays "TwoHalvesModel" "TwoHalvesModel" "right" "I") ∈ lw_all := lw_g (lw_at lw_m6 170 rfl) rfl
theorem q1479 : (Jvm.Cond.soleField "TwoHalvesModel" "right") ∈ lw_all := lw_g (lw_at lw_m6 171 rfl) rfl
theorem q1480 : (Jvm.Cond.lays "TwoHalvesModel" "TwoHalvesModel" "ticks" "I") ∈ lw_all := lw_g (lw_at lw_m6 172 rfl) rfl
theorem q1481 : (Jvm.Cond.soleField "TwoHalvesModel" "ticks") ∈ lw_all := lw_g (lw_at lw_m6 173 rfl) rfl
theorem q1482 : (Jvm.Cond.lays "TwoHalvesModel" "TwoHalvesModel" "flags" "I") ∈ lw_all := lw_g (lw_at lw_m6 174 rfl) rfl
theorem q1483 : (Jvm.Cond.soleField "TwoHalvesModel" "flags") ∈ lw_all := lw_g (lw_at lw_m6 175 rfl) rfl
theorem q1484 : (Jvm.Cond.lays "TwoHalvesModel" "TwoHalvesModel" "asked" "I") ∈ lw_all := lw_g (lw_at lw_m6 176 rfl) rfl
theorem q1485 : (Jvm.Cond.soleField "TwoHalvesModel" "asked") ∈ lw_all := lw_g (lw_at lw_m6 177 rfl) rfl
theorem q1486 : (Jvm.Cond.lays "TwoHalvesModel" "TwoHalvesModel" "years" "I") ∈ lw_all := lw_g (lw_at lw_m6 178 rfl) rfl
theorem q1487 : (Jvm.Cond.soleField "TwoHalvesModel" "years") ∈ lw_all := lw_g (lw_at lw_m6 179 rfl) rfl
theorem q1488 : (Jvm.Cond.lays "TwoHalvesModel" "TwoHalvesModel" "offers" "I") ∈ lw_all := lw_g (lw_at lw_m6 180 rfl) rfl
theorem q1489 : (Jvm.Cond.soleField "TwoHalvesModel" "offers") ∈ lw_all := lw_g (lw_at lw_m6 181 rfl) rfl
theorem q1490 : (Jvm.Cond.laysFinal "TwoHalvesModel" "TwoHalvesModel" "offer" "[I") ∈ lw_all := lw_g (lw_at lw_m6 182 rfl) rfl
theorem q1491 : (Jvm.Cond.soleField "TwoHalvesModel" "offer") ∈ lw_all := lw_g (lw_at lw_m6 183 rfl) rfl
theorem q1492 : (Jvm.Cond.laysFinal "TwoHalvesModel" "TwoHalvesModel" "since" "[I") ∈ lw_all := lw_g (lw_at lw_m6 184 rfl) rfl
theorem q1493 : (Jvm.Cond.soleField "TwoHalvesModel" "since") ∈ lw_all := lw_g (lw_at lw_m6 185 rfl) rfl
theorem q1494 : (Jvm.Cond.laysFinal "TwoHalvesModel" "TwoHalvesModel" "fit" "[I") ∈ lw_all := lw_g (lw_at lw_m6 186 rfl) rfl
theorem q1495 : (Jvm.Cond.soleField "TwoHalvesModel" "fit") ∈ lw_all := lw_g (lw_at lw_m6 187 rfl) rfl
theorem q1496 : (Jvm.Cond.lays "TwoHalvesModel" "TwoHalvesModel" "fitMany" "I") ∈ lw_all := lw_g (lw_at lw_m6 188 rfl) rfl
theorem q1497 : (Jvm.Cond.soleField "TwoHalvesModel" "fitMany") ∈ lw_all := lw_g (lw_at lw_m6 189 rfl) rfl
theorem q1498 : (Jvm.Cond.laysFinal "TwoHalvesModel" "TwoHalvesModel" "reply" "[I") ∈ lw_all := lw_g (lw_at lw_m6 190 rfl) rfl
theorem q1499 : (Jvm.Cond.soleField "TwoHalvesModel" "reply") ∈ lw_all := lw_g (lw_at lw_m6 191 rfl) rfl
theorem q1500 : (Jvm.Cond.laysFinal "TwoHalvesModel" "TwoHalvesModel" "needed" "[Z") ∈ lw_all := lw_g (lw_at lw_m6 192 rfl) rfl
theorem q1501 : (Jvm.Cond.soleField "TwoHalvesModel" "needed") ∈ lw_all := lw_g (lw_at lw_m6 193 rfl) rfl
theorem q1502 : (Jvm.Cond.laysFinal "TwoHalvesModel" "TwoHalvesModel" "node" "[I") ∈ lw_all := lw_g (lw_at lw_m6 194 rfl) rfl
theorem q1503 : (Jvm.Cond.soleField "TwoHalvesModel" "node") ∈ lw_all := lw_g (lw_at lw_m6 195 rfl) rfl
theorem q1504 : (Jvm.Cond.lays "TwoHalvesModel" "TwoHalvesModel" "nodes" "I") ∈ lw_all := lw_g (lw_at lw_m6 196 rfl) rfl
theorem q1505 : (Jvm.Cond.soleField "TwoHalvesModel" "nodes") ∈ lw_all := lw_g (lw_at lw_m6 197 rfl) rfl
theorem q1506 : (Jvm.Cond.lays "TwoHalvesModel" "TwoHalvesModel" "ones" "I") ∈ lw_all := lw_g (lw_at lw_m6 198 rfl) rfl
theorem q1507 : (Jvm.Cond.soleField "TwoHalvesModel" "ones") ∈ lw_all := lw_g (lw_at lw_m6 199 rfl) rfl
theorem q1508 : (Jvm.Cond.lays "TwoHalvesModel" "TwoHalvesModel" "within" "I") ∈ lw_all := lw_g (lw_at lw_m6 200 rfl) rfl
theorem q1509 : (Jvm.Cond.soleField "TwoHalvesModel" "within") ∈ lw_all := lw_g (lw_at lw_m6 201 rfl) rfl
theorem q1510 : (Jvm.Cond.lays "TwoHalvesModel" "TwoHalvesModel" "top" "I") ∈ lw_all := lw_g (lw_at lw_m6 202 rfl) rfl
theorem q1511 : (Jvm.Cond.soleField "TwoHalvesModel" "top") ∈ lw_all := lw_g (lw_at lw_m6 203 rfl) rfl
theorem q1512 : (Jvm.Cond.superclass "TwoHalvesModel" "java/lang/Object") ∈ lw_all := lw_g (lw_at lw_m6 204 rfl) rfl
theorem q1515 : (Jvm.Cond.instanceMethod ({ cls := "TwoHalvesModel", name := "thrown", desc := "()I" } : Jvm.MethodName)) ∈ lw_all := lw_g (lw_at lw_m6 207 rfl) rfl
theorem q1516 : (Jvm.Cond.selects "TwoHalvesModel" ({ cls := "TwoHalvesModel", name := "thrown", desc := "()I" } : Jvm.MethodName) ({ cls := "TwoHalvesModel", name := "thrown", desc := "()I" } : Jvm.MethodName)) ∈ lw_all := lw_g (lw_at lw_m6 208 rfl) rfl
theorem q1517 : (Jvm.Cond.code ({ cls := "TwoHalvesModel", name := "thrown", desc := "()I" } : Jvm.MethodName) prog_24_method_2_code (1 : Nat) (Option.some Jvm.ClassFile.FieldType.int)) ∈ lw_all := lw_g (lw_at lw_m6 209 rfl) rfl
theorem q1519 : (Jvm.Cond.instanceMethod ({ cls := "TwoHalvesModel", name := "feed", desc := "(IIIII)I" } : Jvm.MethodName)) ∈ lw_all := lw_g (lw_at lw_m6 211 rfl) rfl
theorem q1520 : (Jvm.Cond.selects "TwoHalvesModel" ({ cls := "TwoHalvesModel", name := "feed", desc := "(IIIII)I" } : Jvm.MethodName) ({ cls := "TwoHalvesModel", name := "feed", desc := "(IIIII)I" } : Jvm.MethodName)) ∈ lw_all := lw_g (lw_at lw_m6 212 rfl) rfl
theorem q1521 : (Jvm.Cond.code ({ cls := "TwoHalvesModel", name := "feed", desc := "(IIIII)I" } : Jvm.MethodName) prog_24_method_5_code (6 : Nat) (Option.some Jvm.ClassFile.FieldType.int)) ∈ lw_all := lw_g (lw_at lw_m6 213 rfl) rfl
theorem q1522 : (Jvm.Cond.methodLink "TwoHalvesModel" (65 : Nat) ({ cls := "TwoHalvesModel", name := "come", desc := "(I)V" } : Jvm.MethodName)) ∈ lw_all := lw_g (lw_at lw_m6 214 rfl) rfl
theorem q1523 : (Jvm.Cond.privateMethod ({ cls := "TwoHalvesModel", name := "come", desc := "(I)V" } : Jvm.MethodName)) ∈ lw_tbl := lw_at lw_m6 215 rfl
theorem q1524 : (Jvm.Cond.instanceMethod ({ cls := "TwoHalvesModel", name := "come", desc := "(I)V" } : Jvm.MethodName)) ∈ lw_all := lw_g (lw_at lw_m6 216 rfl) rfl
theorem q1525 : (Jvm.Cond.code ({ cls := "TwoHalvesModel", name := "come", desc := "(I)V" } : Jvm.MethodName) prog_24_method_4_code (3 : Nat) (Option.none : Option Jvm.ClassFile.FieldType)) ∈ lw_all := lw_g (lw_at lw_m6 217 rfl) rfl
theorem q1527 : (Jvm.Cond.instanceMethod ({ cls := "TwoHalvesModel", name := "end", desc := "(I)Z" } : Jvm.MethodName)) ∈ lw_all := lw_g (lw_at lw_m6 219 rfl) rfl
theorem q1528 : (Jvm.Cond.selects "TwoHalvesModel" ({ cls := "TwoHalvesModel", name := "end", desc := "(I)Z" } : Jvm.MethodName) ({ cls := "TwoHalvesModel", name := "end", desc := "(I)Z" } : Jvm.MethodName)) ∈ lw_all := lw_g (lw_at lw_m6 220 rfl) rfl
theorem q1529 : (Jvm.Cond.code ({ cls := "TwoHalvesModel", name := "end", desc := "(I)Z" } : Jvm.MethodName) prog_24_method_6_code (2 : Nat) (Option.some Jvm.ClassFile.FieldType.boolean)) ∈ lw_all := lw_g (lw_at lw_m6 221 rfl) rfl
theorem q1531 : (Jvm.Cond.instanceMethod ({ cls := "TwoHalvesModel", name := "head", desc := "()I" } : Jvm.MethodName)) ∈ lw_all := lw_g (lw_at lw_m6 223 rfl) rfl
theorem q1532 : (Jvm.Cond.selects "TwoHalvesModel" ({ cls := "TwoHalvesModel", name := "head", desc := "()I" } : Jvm.MethodName) ({ cls := "TwoHalvesModel", name := "head", desc := "()I" } : Jvm.MethodName)) ∈ lw_all := lw_g (lw_at lw_m6 224 rfl) rfl
theorem q1533 : (Jvm.Cond.code ({ cls := "TwoHalvesModel", name := "head", desc := "()I" } : Jvm.MethodName) prog_24_method_43_code (3 : Nat) (Option.some Jvm.ClassFile.FieldType.int)) ∈ lw_all := lw_g (lw_at lw_m6 225 rfl) rfl
theorem q1534 : (Jvm.Cond.methodLink "TwoHalvesModel" (218 : Nat) ({ cls := "TwoHalvesModel", name := "begin", desc := "(I)V" } : Jvm.MethodName)) ∈ lw_all := lw_g (lw_at lw_m6 226 rfl) rfl
theorem q1535 : (Jvm.Cond.privateMethod ({ cls := "TwoHalvesModel", name := "begin", desc := "(I)V" } : Jvm.MethodName)) ∈ lw_tbl := lw_at lw_m6 227 rfl
theorem q1536 : (Jvm.Cond.instanceMethod ({ cls := "TwoHalvesModel", name := "begin", desc := "(I)V" } : Jvm.MethodName)) ∈ lw_all := lw_g (lw_at lw_m6 228 rfl) rfl
theorem q1537 : (Jvm.Cond.code ({ cls := "TwoHalvesModel", name := "begin", desc := "(I)V" } : Jvm.MethodName) prog_24_method_42_code (2 : Nat) (Option.none : Option Jvm.ClassFile.FieldType)) ∈ lw_all := lw_g (lw_at lw_m6 229 rfl) rfl
theorem q1538 : (Jvm.Cond.methodLink "TwoHalvesModel" (212 : Nat) ({ cls := "TwoHalvesModel", name := "lay", desc := "()V" } : Jvm.MethodName)) ∈ lw_all := lw_g (lw_at lw_m6 230 rfl) rfl
theorem q1539 : (Jvm.Cond.privateMethod ({ cls := "TwoHalvesModel", name := "lay", desc := "()V" } : Jvm.MethodName)) ∈ lw_tbl := lw_at lw_m6 231 rfl
theorem q1540 : (Jvm.Cond.instanceMethod ({ cls := "TwoHalvesModel", name := "lay", desc := "()V" } : Jvm.MethodName)) ∈ lw_all := lw_g (lw_at lw_m6 232 rfl) rfl
theorem q1541 : (Jvm.Cond.code ({ cls := "TwoHalvesModel", name := "lay", desc := "()V" } : Jvm.MethodName) prog_24_method_29_code (2 : Nat) (Option.none : Option Jvm.ClassFile.FieldType)) ∈ lw_all := lw_g (lw_at lw_m6 233 rfl) rfl
theorem q1542 : (Jvm.Cond.methodLink "TwoHalvesModel" (215 : Nat) ({ cls := "TwoHalvesModel", name := "take", desc := "()I" } : Jvm.MethodName)) ∈ lw_all := lw_g (lw_at lw_m6 234 rfl) rfl
theorem q1543 : (Jvm.Cond.privateMethod ({ cls := "TwoHalvesModel", name := "take", desc := "()I" } : Jvm.MethodName)) ∈ lw_tbl := lw_at lw_m6 235 rfl
theorem q1544 : (Jvm.Cond.instanceMethod ({ cls := "TwoHalvesModel", name := "take", desc := "()I" } : Jvm.MethodName)) ∈ lw_all := lw_g (lw_at lw_m6 236 rfl) rfl
theorem q1545 : (Jvm.Cond.code ({ cls := "TwoHalvesModel", name := "take", desc := "()I" } : Jvm.MethodName) prog_24_method_7_code (2 : Nat) (Option.some Jvm.ClassFile.FieldType.int)) ∈ lw_all := lw_g (lw_at lw_m6 237 rfl) rfl
theorem q1546 : (Jvm.Cond.methodLink "TwoHalvesModel" (122 : Nat) ({ cls := "TwoHalvesModel", name := "go", desc := "()V" } : Jvm.MethodName)) ∈ lw_all := lw_g (lw_at lw_m6 238 rfl) rfl
theorem q1547 : (Jvm.Cond.privateMethod ({ cls := "TwoHalvesModel", name := "go", desc := "()V" } : Jvm.MethodName)) ∈ lw_tbl := lw_at lw_m6 239 rfl
theorem q1548 : (Jvm.Cond.instanceMethod ({ cls := "TwoHalvesModel", name := "go", desc := "()V" } : Jvm.MethodName)) ∈ lw_all := lw_g (lw_at lw_m7 0 rfl) rfl
theorem q1549 : (Jvm.Cond.code ({ cls := "TwoHalvesModel", name := "go", desc := "()V" } : Jvm.MethodName) prog_24_method_12_code (5 : Nat) (Option.none : Option Jvm.ClassFile.FieldType)) ∈ lw_all := lw_g (lw_at lw_m7 1 rfl) rfl
theorem q1550 : (Jvm.Cond.methodLink "TwoHalvesModel" (84 : Nat) ({ cls := "TwoHalvesModel", name := "isLetter", desc := "(I)Z" } : Jvm.MethodName)) ∈ lw_all := lw_g (lw_at lw_m7 2 rfl) rfl
theorem q1551 : (Jvm.Cond.static ({ cls := "TwoHalvesModel", name := "isLetter", desc := "(I)Z" } : Jvm.MethodName)) ∈ lw_all := lw_g (lw_at lw_m7 3 rfl) rfl
theorem q1552 : (Jvm.Cond.code ({ cls := "TwoHalvesModel", name := "isLetter", desc := "(I)Z" } : Jvm.MethodName) prog_24_method_11_code (1 : Nat) (Option.some Jvm.ClassFile.FieldType.boolean)) ∈ lw_all := lw_g (lw_at lw_m7 4 rfl) rfl
theorem q1553 : (Jvm.Cond.methodLink "TwoHalvesModel" (88 : Nat) ({ cls := "TwoHalvesModel", name := "isDigit", desc := "(I)Z" } : Jvm.MethodName)) ∈ lw_all := lw_g (lw_at lw_m7 5 rfl) rfl
theorem q1554 : (Jvm.Cond.static ({ cls := "TwoHalvesModel", name := "isDigit", desc := "(I)Z" } : Jvm.MethodName)) ∈ lw_all := lw_g (lw_at lw_m7 6 rfl) rfl
theorem q1555 : (Jvm.Cond.code ({ cls := "TwoHalvesModel", name := "isDigit", desc := "(I)Z" } : Jvm.MethodName) prog_24_method_10_code (1 : Nat) (Option.some Jvm.ClassFile.FieldType.boolean)) ∈ lw_all := lw_g (lw_at lw_m7 7 rfl) rfl
theorem q1556 : (Jvm.Cond.methodLink "TwoHalvesModel" (101 : Nat) ({ cls := "TwoHalvesModel", name := "byteAt", desc := "(I)I" } : Jvm.MethodName)) ∈ lw_all := lw_g (lw_at lw_m7 8 rfl) rfl
theorem q1557 : (Jvm.Cond.privateMethod ({ cls := "TwoHalvesModel", name := "byteAt", desc := "(I)I" } : Jvm.MethodName)) ∈ lw_tbl := lw_at lw_m7 9 rfl
theorem q1558 : (Jvm.Cond.instanceMethod ({ cls := "TwoHalvesModel", name := "byteAt", desc := "(I)I" } : Jvm.MethodName)) ∈ lw_all := lw_g (lw_at lw_m7 10 rfl) rfl
theorem q1559 : (Jvm.Cond.code ({ cls := "TwoHalvesModel", name := "byteAt", desc := "(I)I" } : Jvm.MethodName) prog_24_method_9_code (2 : Nat) (Option.some Jvm.ClassFile.FieldType.int)) ∈ lw_all := lw_g (lw_at lw_m7 11 rfl) rfl
theorem q1560 : (Jvm.Cond.constantLong "TwoHalvesModel" (105 : Nat) (27 : Int64)) ∈ lw_all := lw_g (lw_at lw_m7 12 rfl) rfl
theorem q1561 : (Jvm.Cond.constantLong "TwoHalvesModel" (107 : Nat) (96 : Int64)) ∈ lw_all := lw_g (lw_at lw_m7 13 rfl) rfl
theorem q1562 : (Jvm.Cond.methodLink "TwoHalvesModel" (221 : Nat) ({ cls := "TwoHalvesModel", name := "readLine", desc := "()Z" } : Jvm.MethodName)) ∈ lw_all := lw_g (lw_at lw_m7 14 rfl) rfl
theorem q1563 : (Jvm.Cond.privateMethod ({ cls := "TwoHalvesModel", name := "readLine", desc := "()Z" } : Jvm.MethodName)) ∈ lw_tbl := lw_at lw_m7 15 rfl
theorem q1564 : (Jvm.Cond.instanceMethod ({ cls := "TwoHalvesModel", name := "readLine", desc := "()Z" } : Jvm.MethodName)) ∈ lw_all := lw_g (lw_at lw_m7 16 rfl) rfl
theorem q1565 : (Jvm.Cond.code ({ cls := "TwoHalvesModel", name := "readLine", desc := "()Z" } : Jvm.MethodName) prog_24_method_41_code (3 : Nat) (Option.some Jvm.ClassFile.FieldType.boolean)) ∈ lw_all := lw_g (lw_at lw_m7 17 rfl) rfl
theorem q1566 : (Jvm.Cond.methodLink "TwoHalvesModel" (152 : Nat) ({ cls := "TwoHalvesModel", name := "lineAtHand", desc := "()I" } : Jvm.MethodName)) ∈ lw_all := lw_g (lw_at lw_m7 18 rfl) rfl
theorem q1567 : (Jvm.Cond.privateMethod ({ cls := "TwoHalvesModel", name := "lineAtHand", desc := "()I" } : Jvm.MethodName)) ∈ lw_tbl := lw_at lw_m7 19 rfl
theorem q1568 : (Jvm.Cond.instanceMethod ({ cls := "TwoHalvesModel", name := "lineAtHand", desc := "()I" } : Jvm.MethodName)) ∈ lw_all := lw_g (lw_at lw_m7 20 rfl) rfl
theorem q1569 : (Jvm.Cond.code ({ cls := "TwoHalvesModel", name := "lineAtHand", desc := "()I" } : Jvm.MethodName) prog_24_method_23_code (1 : Nat) (Option.some Jvm.ClassFile.FieldType.int)) ∈ lw_all := lw_g (lw_at lw_m7 21 rfl) rfl
theorem q1570 : (Jvm.Cond.methodLink "TwoHalvesModel" (125 : Nat) ({ cls := "TwoHalvesModel", name := "spelt", desc := "(IIIII)J" } : Jvm.MethodName)) ∈ lw_all := lw_g (lw_at lw_m7 22 rfl) rfl
theorem q1571 : (Jvm.Cond.static ({ cls := "TwoHalvesModel", name := "spelt", desc := "(IIIII)J" } : Jvm.MethodName)) ∈ lw_all := lw_g (lw_at lw_m7 23 rfl) rfl
theorem q1572 : (Jvm.Cond.code ({ cls := "TwoHalvesModel", name := "spelt", desc := "(IIIII)J" } : Jvm.MethodName) prog_24_method_13_code (7 : Nat) (Option.some Jvm.ClassFile.FieldType.long)) ∈ lw_all := lw_g (lw_at lw_m7 24 rfl) rfl
theorem q1573 : (Jvm.Cond.methodLink "TwoHalvesModel" (129 : Nat) ({ cls := "TwoHalvesModel", name := "among", desc := "(JJJJJ)I" } : Jvm.MethodName)) ∈ lw_all := lw_g (lw_at lw_m7 25 rfl) rfl
theorem q1574 : (Jvm.Cond.static ({ cls := "TwoHalvesModel", name := "among", desc := "(JJJJJ)I" } : Jvm.MethodName)) ∈ lw_all := lw_g (lw_at lw_m7 26 rfl) rfl
theorem q1575 : (Jvm.Cond.code ({ cls := "TwoHalvesModel", name := "among", desc := "(JJJJJ)I" } : Jvm.MethodName) prog_24_method_18_code (10 : Nat) (Option.some Jvm.ClassFile.FieldType.int)) ∈ lw_all := lw_g (lw_at lw_m7 27 rfl) rfl
theorem q1576 : (Jvm.Cond.methodLink "TwoHalvesModel" (112 : Nat) ({ cls := "TwoHalvesModel", name := "bad", desc := "(I)Z" } : Jvm.MethodName)) ∈ lw_all := lw_g (lw_at lw_m7 28 rfl) rfl
theorem q1577 : (Jvm.Cond.privateMethod ({ cls := "TwoHalvesModel", name := "bad", desc := "(I)Z" } : Jvm.MethodName)) ∈ lw_tbl := lw_at lw_m7 29 rfl
theorem q1578 : (Jvm.Cond.instanceMethod ({ cls := "TwoHalvesModel", name := "bad", desc := "(I)Z" } : Jvm.MethodName)) ∈ lw_all := lw_g (lw_at lw_m7 30 rfl) rfl
theorem q1579 : (Jvm.Cond.code ({ cls := "TwoHalvesModel", name := "bad", desc := "(I)Z" } : Jvm.MethodName) prog_24_method_16_code (2 : Nat) (Option.some Jvm.ClassFile.FieldType.boolean)) ∈ lw_all := lw_g (lw_at lw_m7 31 rfl) rfl
theorem q1580 : (Jvm.Cond.methodLink "TwoHalvesModel" (197 : Nat) ({ cls := "TwoHalvesModel", name := "readThingLine", desc := "()Z" } : Jvm.MethodName)) ∈ lw_all := lw_g (lw_at lw_m7 32 rfl) rfl
theorem q1581 : (Jvm.Cond.privateMethod ({ cls := "TwoHalvesModel", name := "readThingLine", desc := "()Z" } : Jvm.MethodName)) ∈ lw_tbl := lw_at lw_m7 33 rfl
theorem q1582 : (Jvm.Cond.instanceMethod ({ cls := "TwoHalvesModel", name := "readThingLine", desc := "()Z" } : Jvm.MethodName)) ∈ lw_all := lw_g (lw_at lw_m7 34 rfl) rfl
theorem q1583 : (Jvm.Cond.code ({ cls := "TwoHalvesModel", name := "readThingLine", desc := "()Z" } : Jvm.MethodName) prog_24_method_36_code (3 : Nat) (Option.some Jvm.ClassFile.FieldType.boolean)) ∈ lw_all := lw_g (lw_at lw_m7 35 rfl) rfl
theorem q1584 : (Jvm.Cond.methodLink "TwoHalvesModel" (178 : Nat) ({ cls := "TwoHalvesModel", name := "readNew", desc := "(I)Z" } : Jvm.MethodName)) ∈ lw_all := lw_g (lw_at lw_m7 36 rfl) rfl
theorem q1585 : (Jvm.Cond.privateMethod ({ cls := "TwoHalvesModel", name := "readNew", desc := "(I)Z" } : Jvm.MethodName)) ∈ lw_tbl := lw_at lw_m7 37 rfl
theorem q1586 : (Jvm.Cond.instanceMethod ({ cls := "TwoHalvesModel", name := "readNew", desc := "(I)Z" } : Jvm.MethodName)) ∈ lw_all := lw_g (lw_at lw_m7 38 rfl) rfl
theorem q1587 : (Jvm.Cond.code ({ cls := "TwoHalvesModel", name := "readNew", desc := "(I)Z" } : Jvm.MethodName) prog_24_method_34_code (2 : Nat) (Option.some Jvm.ClassFile.FieldType.boolean)) ∈ lw_all := lw_g (lw_at lw_m7 39 rfl) rfl
theorem q1588 : (Jvm.Cond.methodLink "TwoHalvesModel" (172 : Nat) ({ cls := "TwoHalvesModel", name := "isName", desc := "()Z" } : Jvm.MethodName)) ∈ lw_all := lw_g (lw_at lw_m7 40 rfl) rfl
theorem q1589 : (Jvm.Cond.privateMethod ({ cls := "TwoHalvesModel", name := "isName", desc := "()Z" } : Jvm.MethodName)) ∈ lw_tbl := lw_at lw_m7 41 rfl
theorem q1590 : (Jvm.Cond.instanceMethod ({ cls := "TwoHalvesModel", name := "isName", desc := "()Z" } : Jvm.MethodName)) ∈ lw_all := lw_g (lw_at lw_m7 42 rfl) rfl
theorem q1591 : (Jvm.Cond.code ({ cls := "TwoHalvesModel", name := "isName", desc := "()Z" } : Jvm.MethodName) prog_24_method_28_code (1 : Nat) (Option.some Jvm.ClassFile.FieldType.boolean)) ∈ lw_all := lw_g (lw_at lw_m7 43 rfl) rfl
theorem q1592 : (Jvm.Cond.methodLink "TwoHalvesModel" (139 : Nat) ({ cls := "TwoHalvesModel", name := "kindAtHand", desc := "()I" } : Jvm.MethodName)) ∈ lw_all := lw_g (lw_at lw_m7 44 rfl) rfl
theorem q1593 : (Jvm.Cond.privateMethod ({ cls := "TwoHalvesModel", name := "kindAtHand", desc := "()I" } : Jvm.MethodName)) ∈ lw_tbl := lw_at lw_m7 45 rfl
theorem q1594 : (Jvm.Cond.instanceMethod ({ cls := "TwoHalvesModel", name := "kindAtHand", desc := "()I" } : Jvm.MethodName)) ∈ lw_all := lw_g (lw_at lw_m7 46 rfl) rfl
theorem q1595 : (Jvm.Cond.code ({ cls := "TwoHalvesModel", name := "kindAtHand", desc := "()I" } : Jvm.MethodName) prog_24_method_19_code (1 : Nat) (Option.some Jvm.ClassFile.FieldType.int)) ∈ lw_all := lw_g (lw_at lw_m7 47 rfl) rfl
theorem q1596 : (Jvm.Cond.methodLink "TwoHalvesModel" (143 : Nat) ({ cls := "TwoHalvesModel", name := "halfAtHand", desc := "()I" } : Jvm.MethodName)) ∈ lw_all := lw_g (lw_at lw_m7 48 rfl) rfl
theorem q1597 : (Jvm.Cond.privateMethod ({ cls := "TwoHalvesModel", name := "halfAtHand", desc := "()I" } : Jvm.MethodName)) ∈ lw_tbl := lw_at lw_m7 49 rfl
theorem q1598 : (Jvm.Cond.instanceMethod ({ cls := "TwoHalvesModel", name := "halfAtHand", desc := "()I" } : Jvm.MethodName)) ∈ lw_all := lw_g (lw_at lw_m7 50 rfl) rfl
theorem q1599 : (Jvm.Cond.code ({ cls := "TwoHalvesModel", name := "halfAtHand", desc := "()I" } : Jvm.MethodName) prog_24_method_20_code (1 : Nat) (Option.some Jvm.ClassFile.FieldType.int)) ∈ lw_all := lw_g (lw_at lw_m7 51 rfl) rfl
theorem q1600 : (Jvm.Cond.constantLong "TwoHalvesModel" (133 : Nat) (-1 : Int64)) ∈ lw_all := lw_g (lw_at lw_m7 52 rfl) rfl
theorem q1601 : (Jvm.Cond.methodLink "TwoHalvesModel" (146 : Nat) ({ cls := "TwoHalvesModel", name := "flagAtHand", desc := "()I" } : Jvm.MethodName)) ∈ lw_all := lw_g (lw_at lw_m7 53 rfl) rfl
theorem q1602 : (Jvm.Cond.privateMethod ({ cls := "TwoHalvesModel", name := "flagAtHand", desc := "()I" } : Jvm.MethodName)) ∈ lw_tbl := lw_at lw_m7 54 rfl
theorem q1603 : (Jvm.Cond.instanceMethod ({ cls := "TwoHalvesModel", name := "flagAtHand", desc := "()I" } : Jvm.MethodName)) ∈ lw_all := lw_g (lw_at lw_m7 55 rfl) rfl
theorem q1604 : (Jvm.Cond.code ({ cls := "TwoHalvesModel", name := "flagAtHand", desc := "()I" } : Jvm.MethodName) prog_24_method_21_code (2 : Nat) (Option.some Jvm.ClassFile.FieldType.int)) ∈ lw_all := lw_g (lw_at lw_m7 56 rfl) rfl
theorem q1605 : (Jvm.Cond.methodLink "TwoHalvesModel" (149 : Nat) ({ cls := "TwoHalvesModel", name := "stateAtHand", desc := "()I" } : Jvm.MethodName)) ∈ lw_all := lw_g (lw_at lw_m7 57 rfl) rfl
theorem q1606 : (Jvm.Cond.privateMethod ({ cls := "TwoHalvesModel", name := "stateAtHand", desc := "()I" } : Jvm.MethodName)) ∈ lw_tbl := lw_at lw_m7 58 rfl
theorem q1607 : (Jvm.Cond.instanceMethod ({ cls := "TwoHalvesModel", name := "stateAtHand", desc := "()I" } : Jvm.MethodName)) ∈ lw_all := lw_g (lw_at lw_m7 59 rfl) rfl
theorem q1608 : (Jvm.Cond.code ({ cls := "TwoHalvesModel", name := "stateAtHand", desc := "()I" } : Jvm.MethodName) prog_24_method_22_code (1 : Nat) (Option.some Jvm.ClassFile.FieldType.int)) ∈ lw_all := lw_g (lw_at lw_m7 60 rfl) rfl
theorem q1609 : (Jvm.Cond.methodLink "TwoHalvesModel" (155 : Nat) ({ cls := "TwoHalvesModel", name := "isInWord", desc := "()Z" } : Jvm.MethodName)) ∈ lw_all := lw_g (lw_at lw_m7 61 rfl) rfl
theorem q1610 : (Jvm.Cond.privateMethod ({ cls := "TwoHalvesModel", name := "isInWord", desc := "()Z" } : Jvm.MethodName)) ∈ lw_tbl := lw_at lw_m7 62 rfl
theorem q1611 : (Jvm.Cond.instanceMethod ({ cls := "TwoHalvesModel", name := "isInWord", desc := "()Z" } : Jvm.MethodName)) ∈ lw_all := lw_g (lw_at lw_m7 63 rfl) rfl
theorem q1612 : (Jvm.Cond.code ({ cls := "TwoHalvesModel", name := "isInWord", desc := "()Z" } : Jvm.MethodName) prog_24_method_24_code (1 : Nat) (Option.some Jvm.ClassFile.FieldType.boolean)) ∈ lw_all := lw_g (lw_at lw_m7 64 rfl) rfl
theorem q1613 : (Jvm.Cond.methodLink "TwoHalvesModel" (135 : Nat) ({ cls := "TwoHalvesModel", name := "isKey", desc := "(J)Z" } : Jvm.MethodName)) ∈ lw_all := lw_g (lw_at lw_m7 65 rfl) rfl
theorem q1614 : (Jvm.Cond.privateMethod ({ cls := "TwoHalvesModel", name := "isKey", desc := "(J)Z" } : Jvm.MethodName)) ∈ lw_tbl := lw_at lw_m7 66 rfl
theorem q1615 : (Jvm.Cond.instanceMethod ({ cls := "TwoHalvesModel", name := "isKey", desc := "(J)Z" } : Jvm.MethodName)) ∈ lw_all := lw_g (lw_at lw_m7 67 rfl) rfl
theorem q1616 : (Jvm.Cond.code ({ cls := "TwoHalvesModel", name := "isKey", desc := "(J)Z" } : Jvm.MethodName) prog_24_method_14_code (3 : Nat) (Option.some Jvm.ClassFile.FieldType.boolean)) ∈ lw_all := lw_g (lw_at lw_m7 68 rfl) rfl
theorem q1617 : (Jvm.Cond.methodLink "TwoHalvesModel" (159 : Nat) ({ cls := "TwoHalvesModel", name := "isOuter", desc := "()Z" } : Jvm.MethodName)) ∈ lw_all := lw_g (lw_at lw_m7 69 rfl) rfl
theorem q1618 : (Jvm.Cond.privateMethod ({ cls := "TwoHalvesModel", name := "isOuter", desc := "()Z" } : Jvm.MethodName)) ∈ lw_tbl := lw_at lw_m7 70 rfl
theorem q1619 : (Jvm.Cond.instanceMethod ({ cls := "TwoHalvesModel", name := "isOuter", desc := "()Z" } : Jvm.MethodName)) ∈ lw_all := lw_g (lw_at lw_m7 71 rfl) rfl
theorem q1620 : (Jvm.Cond.code ({ cls := "TwoHalvesModel", name := "isOuter", desc := "()Z" } : Jvm.MethodName) prog_24_method_25_code (1 : Nat) (Option.some Jvm.ClassFile.FieldType.boolean)) ∈ lw_all := lw_g (lw_at lw_m7 72 rfl) rfl
theorem q1621 : (Jvm.Cond.methodLink "TwoHalvesModel" (162 : Nat) ({ cls := "TwoHalvesModel", name := "isAfter", desc := "()Z" } : Jvm.MethodName)) ∈ lw_all := lw_g (lw_at lw_m7 73 rfl) rfl
theorem q1622 : (Jvm.Cond.privateMethod ({ cls := "TwoHalvesModel", name := "isAfter", desc := "()Z" } : Jvm.MethodName)) ∈ lw_tbl := lw_at lw_m7 74 rfl
theorem q1623 : (Jvm.Cond.instanceMethod ({ cls := "TwoHalvesModel", name := "isAfter", desc := "()Z" } : Jvm.MethodName)) ∈ lw_all := lw_g (lw_at lw_m7 75 rfl) rfl
theorem q1624 : (Jvm.Cond.code ({ cls := "TwoHalvesModel", name := "isAfter", desc := "()Z" } : Jvm.MethodName) prog_24_method_26_code (1 : Nat) (Option.some Jvm.ClassFile.FieldType.boolean)) ∈ lw_all := lw_g (lw_at lw_m7 76 rfl) rfl
theorem q1625 : (Jvm.Cond.methodLink "TwoHalvesModel" (165 : Nat) ({ cls := "TwoHalvesModel", name := "isShut", desc := "()Z" } : Jvm.MethodName)) ∈ lw_all := lw_g (lw_at lw_m7 77 rfl) rfl
theorem q1626 : (Jvm.Cond.privateMethod ({ cls := "TwoHalvesModel", name := "isShut", desc := "()Z" } : Jvm.MethodName)) ∈ lw_tbl := lw_at lw_m7 78 rfl
theorem q1627 : (Jvm.Cond.instanceMethod ({ cls := "TwoHalvesModel", name := "isShut", desc := "()Z" } : Jvm.MethodName)) ∈ lw_all := lw_g (lw_at lw_m7 79 rfl) rfl
theorem q1628 : (Jvm.Cond.code ({ cls := "TwoHalvesModel", name := "isShut", desc := "()Z" } : Jvm.MethodName) prog_24_method_27_code (1 : Nat) (Option.some Jvm.ClassFile.FieldType.boolean)) ∈ lw_all := lw_g (lw_at lw_m7 80 rfl) rfl
theorem q1629 : (Jvm.Cond.methodLink "TwoHalvesModel" (175 : Nat) ({ cls := "TwoHalvesModel", name := "findRead", desc := "()I" } : Jvm.MethodName)) ∈ lw_all := lw_g (lw_at lw_m7 81 rfl) rfl
theorem q1630 : (Jvm.Cond.privateMethod ({ cls := "TwoHalvesModel", name := "findRead", desc := "()I" } : Jvm.MethodName)) ∈ lw_tbl := lw_at lw_m7 82 rfl
theorem q1631 : (Jvm.Cond.instanceMethod ({ cls := "TwoHalvesModel", name := "findRead", desc := "()I" } : Jvm.MethodName)) ∈ lw_all := lw_g (lw_at lw_m7 83 rfl) rfl
theorem q1632 : (Jvm.Cond.code ({ cls := "TwoHalvesModel", name := "findRead", desc := "()I" } : Jvm.MethodName) prog_24_method_33_code (2 : Nat) (Option.some Jvm.ClassFile.FieldType.int)) ∈ lw_all := lw_g (lw_at lw_m7 84 rfl) rfl
theorem q1633 : (Jvm.Cond.methodLink "TwoHalvesModel" (200 : Nat) ({ cls := "TwoHalvesModel", name := "readSuits", desc := "()Z" } : Jvm.MethodName)) ∈ lw_all := lw_g (lw_at lw_m7 85 rfl) rfl
theorem q1634 : (Jvm.Cond.privateMethod ({ cls := "TwoHalvesModel", name := "readSuits", desc := "()Z" } : Jvm.MethodName)) ∈ lw_tbl := lw_at lw_m7 86 rfl
theorem q1635 : (Jvm.Cond.instanceMethod ({ cls := "TwoHalvesModel", name := "readSuits", desc := "()Z" } : Jvm.MethodName)) ∈ lw_all := lw_g (lw_at lw_m7 87 rfl) rfl
theorem q1636 : (Jvm.Cond.code ({ cls := "TwoHalvesModel", name := "readSuits", desc := "()Z" } : Jvm.MethodName) prog_24_method_37_code (2 : Nat) (Option.some Jvm.ClassFile.FieldType.boolean)) ∈ lw_all := lw_g (lw_at lw_m7 88 rfl) rfl
theorem q1637 : (Jvm.Cond.methodLink "TwoHalvesModel" (181 : Nat) ({ cls := "TwoHalvesModel", name := "readThing", desc := "()Z" } : Jvm.MethodName)) ∈ lw_all := lw_g (lw_at lw_m7 89 rfl) rfl
theorem q1638 : (Jvm.Cond.privateMethod ({ cls := "TwoHalvesModel", name := "readThing", desc := "()Z" } : Jvm.MethodName)) ∈ lw_tbl := lw_at lw_m7 90 rfl
theorem q1639 : (Jvm.Cond.instanceMethod ({ cls := "TwoHalvesModel", name := "readThing", desc := "()Z" } : Jvm.MethodName)) ∈ lw_all := lw_g (lw_at lw_m7 91 rfl) rfl
theorem q1640 : (Jvm.Cond.code ({ cls := "TwoHalvesModel", name := "readThing", desc := "()Z" } : Jvm.MethodName) prog_24_method_35_code (1 : Nat) (Option.some Jvm.ClassFile.FieldType.boolean)) ∈ lw_all := lw_g (lw_at lw_m7 92 rfl) rfl
theorem q1641 : (Jvm.Cond.methodLink "TwoHalvesModel" (203 : Nat) ({ cls := "TwoHalvesModel", name := "readSays", desc := "()Z" } : Jvm.MethodName)) ∈ lw_all := lw_g (lw_at lw_m7 93 rfl) rfl
theorem q1642 : (Jvm.Cond.privateMethod ({ cls := "TwoHalvesModel", name := "readSays", desc := "()Z" } : Jvm.MethodName)) ∈ lw_tbl := lw_at lw_m7 94 rfl
theorem q1643 : (Jvm.Cond.instanceMethod ({ cls := "TwoHalvesModel", name := "readSays", desc := "()Z" } : Jvm.MethodName)) ∈ lw_all := lw_g (lw_at lw_m7 95 rfl) rfl
theorem q1644 : (Jvm.Cond.code ({ cls := "TwoHalvesModel", name := "readSays", desc := "()Z" } : Jvm.MethodName) prog_24_method_38_code (3 : Nat) (Option.some Jvm.ClassFile.FieldType.boolean)) ∈ lw_all := lw_g (lw_at lw_m7 96 rfl) rfl
theorem q1645 : (Jvm.Cond.methodLink "TwoHalvesModel" (206 : Nat) ({ cls := "TwoHalvesModel", name := "readWay", desc := "()Z" } : Jvm.MethodName)) ∈ lw_all := lw_g (lw_at lw_m7 97 rfl) rfl
theorem q1646 : (Jvm.Cond.privateMethod ({ cls := "TwoHalvesModel", name := "readWay", desc := "()Z" } : Jvm.MethodName)) ∈ lw_tbl := lw_at lw_m7 98 rfl
theorem q1647 : (Jvm.Cond.instanceMethod ({ cls := "TwoHalvesModel", name := "readWay", desc := "()Z" } : Jvm.MethodName)) ∈ lw_all := lw_g (lw_at lw_m7 99 rfl) rfl
theorem q1648 : (Jvm.Cond.code ({ cls := "TwoHalvesModel", name := "readWay", desc := "()Z" } : Jvm.MethodName) prog_24_method_39_code (5 : Nat) (Option.some Jvm.ClassFile.FieldType.boolean)) ∈ lw_all := lw_g (lw_at lw_m7 100 rfl) rfl
theorem q1649 : (Jvm.Cond.methodLink "TwoHalvesModel" (184 : Nat) ({ cls := "TwoHalvesModel", name := "readNumber", desc := "(II)Z" } : Jvm.MethodName)) ∈ lw_all := lw_g (lw_at lw_m7 101 rfl) rfl
theorem q1650 : (Jvm.Cond.privateMethod ({ cls := "TwoHalvesModel", name := "readNumber", desc := "(II)Z" } : Jvm.MethodName)) ∈ lw_tbl := lw_at lw_m7 102 rfl
theorem q1651 : (Jvm.Cond.instanceMethod ({ cls := "TwoHalvesModel", name := "readNumber", desc := "(II)Z" } : Jvm.MethodName)) ∈ lw_all := lw_g (lw_at lw_m7 103 rfl) rfl
theorem q1652 : (Jvm.Cond.code ({ cls := "TwoHalvesModel", name := "readNumber", desc := "(II)Z" } : Jvm.MethodName) prog_24_method_17_code (3 : Nat) (Option.some Jvm.ClassFile.FieldType.boolean)) ∈ lw_all := lw_g (lw_at lw_m7 104 rfl) rfl
theorem q1653 : (Jvm.Cond.methodLink "TwoHalvesModel" (115 : Nat) ({ cls := "TwoHalvesModel", name := "isIn", desc := "(III)Z" } : Jvm.MethodName)) ∈ lw_all := lw_g (lw_at lw_m7 105 rfl) rfl
theorem q1654 : (Jvm.Cond.static ({ cls := "TwoHalvesModel", name := "isIn", desc := "(III)Z" } : Jvm.MethodName)) ∈ lw_all := lw_g (lw_at lw_m7 106 rfl) rfl
theorem q1655 : (Jvm.Cond.code ({ cls := "TwoHalvesModel", name := "isIn", desc := "(III)Z" } : Jvm.MethodName) prog_24_method_8_code (3 : Nat) (Option.some Jvm.ClassFile.FieldType.boolean)) ∈ lw_all := lw_g (lw_at lw_m7 107 rfl) rfl
theorem q1656 : (Jvm.Cond.methodLink "TwoHalvesModel" (188 : Nat) ({ cls := "TwoHalvesModel", name := "readState", desc := "(I)Z" } : Jvm.MethodName)) ∈ lw_all := lw_g (lw_at lw_m7 108 rfl) rfl
theorem q1657 : (Jvm.Cond.privateMethod ({ cls := "TwoHalvesModel", name := "readState", desc := "(I)Z" } : Jvm.MethodName)) ∈ lw_tbl := lw_at lw_m7 109 rfl
theorem q1658 : (Jvm.Cond.instanceMethod ({ cls := "TwoHalvesModel", name := "readState", desc := "(I)Z" } : Jvm.MethodName)) ∈ lw_all := lw_g (lw_at lw_m7 110 rfl) rfl
theorem q1659 : (Jvm.Cond.code ({ cls := "TwoHalvesModel", name := "readState", desc := "(I)Z" } : Jvm.MethodName) prog_24_method_40_code (3 : Nat) (Option.some Jvm.ClassFile.FieldType.boolean)) ∈ lw_all := lw_g (lw_at lw_m7 111 rfl) rfl
theorem q1660 : (Jvm.Cond.methodLink "TwoHalvesModel" (209 : Nat) ({ cls := "TwoHalvesModel", name := "isSign", desc := "(I)Z" } : Jvm.MethodName)) ∈ lw_all := lw_g (lw_at lw_m7 112 rfl) rfl
theorem q1661 : (Jvm.Cond.privateMethod ({ cls := "TwoHalvesModel", name := "isSign", desc := "(I)Z" } : Jvm.MethodName)) ∈ lw_tbl := lw_at lw_m7 113 rfl
theorem q1662 : (Jvm.Cond.instanceMethod ({ cls := "TwoHalvesModel", name := "isSign", desc := "(I)Z" } : Jvm.MethodName)) ∈ lw_all := lw_g (lw_at lw_m7 114 rfl) rfl
theorem q1663 : (Jvm.Cond.code ({ cls := "TwoHalvesModel", name := "isSign", desc := "(I)Z" } : Jvm.MethodName) prog_24_method_15_code (2 : Nat) (Option.some Jvm.ClassFile.FieldType.boolean)) ∈ lw_all := lw_g (lw_at lw_m7 115 rfl) rfl
theorem q1665 : (Jvm.Cond.instanceMethod ({ cls := "TwoHalvesModel", name := "fault", desc := "()I" } : Jvm.MethodName)) ∈ lw_all := lw_g (lw_at lw_m7 117 rfl) rfl
theorem q1666 : (Jvm.Cond.selects "TwoHalvesModel" ({ cls := "TwoHalvesModel", name := "fault", desc := "()I" } : Jvm.MethodName) ({ cls := "TwoHalvesModel", name := "fault", desc := "()I" } : Jvm.MethodName)) ∈ lw_all := lw_g (lw_at lw_m7 118 rfl) rfl
theorem q1667 : (Jvm.Cond.code ({ cls := "TwoHalvesModel", name := "fault", desc := "()I" } : Jvm.MethodName) prog_24_method_44_code (1 : Nat) (Option.some Jvm.ClassFile.FieldType.int)) ∈ lw_all := lw_g (lw_at lw_m7 119 rfl) rfl
theorem q1669 : (Jvm.Cond.instanceMethod ({ cls := "TwoHalvesModel", name := "world", desc := "(I)Z" } : Jvm.MethodName)) ∈ lw_all := lw_g (lw_at lw_m7 121 rfl) rfl
theorem q1670 : (Jvm.Cond.selects "TwoHalvesModel" ({ cls := "TwoHalvesModel", name := "world", desc := "(I)Z" } : Jvm.MethodName) ({ cls := "TwoHalvesModel", name := "world", desc := "(I)Z" } : Jvm.MethodName)) ∈ lw_all := lw_g (lw_at lw_m7 122 rfl) rfl
theorem q1671 : (Jvm.Cond.code ({ cls := "TwoHalvesModel", name := "world", desc := "(I)Z" } : Jvm.MethodName) prog_24_method_46_code (2 : Nat) (Option.some Jvm.ClassFile.FieldType.boolean)) ∈ lw_all := lw_g (lw_at lw_m7 123 rfl) rfl
theorem q1672 : (Jvm.Cond.methodLink "TwoHalvesModel" (231 : Nat) ({ cls := "TwoHalvesModel", name := "ofState", desc := "(I)I" } : Jvm.MethodName)) ∈ lw_all := lw_g (lw_at lw_m7 124 rfl) rfl
theorem q1673 : (Jvm.Cond.privateMethod ({ cls := "TwoHalvesModel", name := "ofState", desc := "(I)I" } : Jvm.MethodName)) ∈ lw_tbl := lw_at lw_m7 125 rfl
theorem q1674 : (Jvm.Cond.instanceMethod ({ cls := "TwoHalvesModel", name := "ofState", desc := "(I)I" } : Jvm.MethodName)) ∈ lw_all := lw_g (lw_at lw_m7 126 rfl) rfl
theorem q1675 : (Jvm.Cond.code ({ cls := "TwoHalvesModel", name := "ofState", desc := "(I)I" } : Jvm.MethodName) prog_24_method_45_code (4 : Nat) (Option.some Jvm.ClassFile.FieldType.int)) ∈ lw_all := lw_g (lw_at lw_m7 127 rfl) rfl
theorem q1676 : (Jvm.Cond.methodLink "TwoHalvesModel" (224 : Nat) ({ cls := "TwoHalvesModel", name := "ways", desc := "()I" } : Jvm.MethodName)) ∈ lw_all := lw_g (lw_at lw_m7 128 rfl) rfl
theorem q1677 : (Jvm.Cond.privateMethod ({ cls := "TwoHalvesModel", name := "ways", desc := "()I" } : Jvm.MethodName)) ∈ lw_tbl := lw_at lw_m7 129 rfl
theorem q1678 : (Jvm.Cond.instanceMethod ({ cls := "TwoHalvesModel", name := "ways", desc := "()I" } : Jvm.MethodName)) ∈ lw_all := lw_g (lw_at lw_m7 130 rfl) rfl
theorem q1679 : (Jvm.Cond.code ({ cls := "TwoHalvesModel", name := "ways", desc := "()I" } : Jvm.MethodName) prog_24_method_31_code (1 : Nat) (Option.some Jvm.ClassFile.FieldType.int)) ∈ lw_all := lw_g (lw_at lw_m7 131 rfl) rfl
theorem q1680 : (Jvm.Cond.methodLink "TwoHalvesModel" (227 : Nat) ({ cls := "TwoHalvesModel", name := "wayOf", desc := "(II)I" } : Jvm.MethodName)) ∈ lw_all := lw_g (lw_at lw_m7 132 rfl) rfl
theorem q1681 : (Jvm.Cond.privateMethod ({ cls := "TwoHalvesModel", name := "wayOf", desc := "(II)I" } : Jvm.MethodName)) ∈ lw_tbl := lw_at lw_m7 133 rfl
theorem q1682 : (Jvm.Cond.instanceMethod ({ cls := "TwoHalvesModel", name := "wayOf", desc := "(II)I" } : Jvm.MethodName)) ∈ lw_all := lw_g (lw_at lw_m7 134 rfl) rfl
theorem q1683 : (Jvm.Cond.code ({ cls := "TwoHalvesModel", name := "wayOf", desc := "(II)I" } : Jvm.MethodName) prog_24_method_32_code (3 : Nat) (Option.some Jvm.ClassFile.FieldType.int)) ∈ lw_all := lw_g (lw_at lw_m7 135 rfl) rfl
theorem q1685 : (Jvm.Cond.instanceMethod ({ cls := "TwoHalvesModel", name := "years", desc := "(I)Z" } : Jvm.MethodName)) ∈ lw_all := lw_g (lw_at lw_m7 137 rfl) rfl
theorem q1686 : (Jvm.Cond.selects "TwoHalvesModel" ({ cls := "TwoHalvesModel", name := "years", desc := "(I)Z" } : Jvm.MethodName) ({ cls := "TwoHalvesModel", name := "years", desc := "(I)Z" } : Jvm.MethodName)) ∈ lw_all := lw_g (lw_at lw_m7 138 rfl) rfl
theorem q1687 : (Jvm.Cond.code ({ cls := "TwoHalvesModel", name := "years", desc := "(I)Z" } : Jvm.MethodName) prog_24_method_47_code (2 : Nat) (Option.some Jvm.ClassFile.FieldType.boolean)) ∈ lw_all := lw_g (lw_at lw_m7 139 rfl) rfl
theorem q1689 : (Jvm.Cond.instanceMethod ({ cls := "TwoHalvesModel", name := "way", desc := "(II)I" } : Jvm.MethodName)) ∈ lw_all := lw_g (lw_at lw_m7 141 rfl) rfl
theorem q1690 : (Jvm.Cond.selects "TwoHalvesModel" ({ cls := "TwoHalvesModel", name := "way", desc := "(II)I" } : Jvm.MethodName) ({ cls := "TwoHalvesModel", name := "way", desc := "(II)I" } : Jvm.MethodName)) ∈ lw_all := lw_g (lw_at lw_m7 142 rfl) rfl
theorem q1691 : (Jvm.Cond.code ({ cls := "TwoHalvesModel", name := "way", desc := "(II)I" } : Jvm.MethodName) prog_24_method_48_code (3 : Nat) (Option.some Jvm.ClassFile.FieldType.int)) ∈ lw_all := lw_g (lw_at lw_m7 143 rfl) rfl
theorem q1692 : (Jvm.Cond.methodLink "TwoHalvesModel" (234 : Nat) ({ cls := "TwoHalvesModel", name := "refuse", desc := "()I" } : Jvm.MethodName)) ∈ lw_all := lw_g (lw_at lw_m7 144 rfl) rfl
theorem q1693 : (Jvm.Cond.privateMethod ({ cls := "TwoHalvesModel", name := "refuse", desc := "()I" } : Jvm.MethodName)) ∈ lw_tbl := lw_at lw_m7 145 rfl
theorem q1694 : (Jvm.Cond.instanceMethod ({ cls := "TwoHalvesModel", name := "refuse", desc := "()I" } : Jvm.MethodName)) ∈ lw_all := lw_g (lw_at lw_m7 146 rfl) rfl
theorem q1695 : (Jvm.Cond.code ({ cls := "TwoHalvesModel", name := "refuse", desc := "()I" } : Jvm.MethodName) prog_24_method_3_code (1 : Nat) (Option.some Jvm.ClassFile.FieldType.int)) ∈ lw_all := lw_g (lw_at lw_m7 147 rfl) rfl
theorem q1697 : (Jvm.Cond.instanceMethod ({ cls := "TwoHalvesModel", name := "thing", desc := "(II)I" } : Jvm.MethodName)) ∈ lw_all := lw_g (lw_at lw_m7 149 rfl) rfl
theorem q1698 : (Jvm.Cond.selects "TwoHalvesModel" ({ cls := "TwoHalvesModel", name := "thing", desc := "(II)I" } : Jvm.MethodName) ({ cls := "TwoHalvesModel", name := "thing", desc := "(II)I" } : Jvm.MethodName)) ∈ lw_all := lw_g (lw_at lw_m7 150 rfl) rfl
theorem q1699 : (Jvm.Cond.code ({ cls := "TwoHalvesModel", name := "thing", desc := "(II)I" } : Jvm.MethodName) prog_24_method_50_code (3 : Nat) (Option.some Jvm.ClassFile.FieldType.int)) ∈ lw_all := lw_g (lw_at lw_m7 151 rfl) rfl
theorem q1700 : (Jvm.Cond.methodLink "TwoHalvesModel" (240 : Nat) ({ cls := "TwoHalvesModel", name := "isThing", desc := "(I)Z" } : Jvm.MethodName)) ∈ lw_all := lw_g (lw_at lw_m7 152 rfl) rfl
theorem q1701 : (Jvm.Cond.privateMethod ({ cls := "TwoHalvesModel", name := "isThing", desc := "(I)Z" } : Jvm.MethodName)) ∈ lw_tbl := lw_at lw_m7 153 rfl
theorem q1702 : (Jvm.Cond.instanceMethod ({ cls := "TwoHalvesModel", name := "isThing", desc := "(I)Z" } : Jvm.MethodName)) ∈ lw_all := lw_g (lw_at lw_m7 154 rfl) rfl
theorem q1703 : (Jvm.Cond.code ({ cls := "TwoHalvesModel", name := "isThing", desc := "(I)Z" } : Jvm.MethodName) prog_24_method_49_code (2 : Nat) (Option.some Jvm.ClassFile.FieldType.boolean)) ∈ lw_all := lw_g (lw_at lw_m7 155 rfl) rfl
theorem q1704 : (Jvm.Cond.methodLink "TwoHalvesModel" (237 : Nat) ({ cls := "TwoHalvesModel", name := "things", desc := "()I" } : Jvm.MethodName)) ∈ lw_all := lw_g (lw_at lw_m7 156 rfl) rfl
theorem q1705 : (Jvm.Cond.privateMethod ({ cls := "TwoHalvesModel", name := "things", desc := "()I" } : Jvm.MethodName)) ∈ lw_tbl := lw_at lw_m7 157 rfl
theorem q1706 : (Jvm.Cond.instanceMethod ({ cls := "TwoHalvesModel", name := "things", desc := "()I" } : Jvm.MethodName)) ∈ lw_all := lw_g (lw_at lw_m7 158 rfl) rfl
theorem q1707 : (Jvm.Cond.code ({ cls := "TwoHalvesModel", name := "things", desc := "()I" } : Jvm.MethodName) prog_24_method_30_code (1 : Nat) (Option.some Jvm.ClassFile.FieldType.int)) ∈ lw_all := lw_g (lw_at lw_m7 159 rfl) rfl
theorem q1709 : (Jvm.Cond.instanceMethod ({ cls := "TwoHalvesModel", name := "knows", desc := "(IIIIII)I" } : Jvm.MethodName)) ∈ lw_all := lw_g (lw_at lw_m7 161 rfl) rfl
theorem q1710 : (Jvm.Cond.selects "TwoHalvesModel" ({ cls := "TwoHalvesModel", name := "knows", desc := "(IIIIII)I" } : Jvm.MethodName) ({ cls := "TwoHalvesModel", name := "knows", desc := "(IIIIII)I" } : Jvm.MethodName)) ∈ lw_all := lw_g (lw_at lw_m7 162 rfl) rfl
theorem q1711 : (Jvm.Cond.code ({ cls := "TwoHalvesModel", name := "knows", desc := "(IIIIII)I" } : Jvm.MethodName) prog_24_method_69_code (7 : Nat) (Option.some Jvm.ClassFile.FieldType.int)) ∈ lw_all := lw_g (lw_at lw_m7 163 rfl) rfl
theorem q1712 : (Jvm.Cond.methodLink "TwoHalvesModel" (291 : Nat) ({ cls := "TwoHalvesModel", name := "isShown", desc := "(IIII)Z" } : Jvm.MethodName)) ∈ lw_all := lw_g (lw_at lw_m7 164 rfl) rfl
theorem q1713 : (Jvm.Cond.privateMethod ({ cls := "TwoHalvesModel", name := "isShown", desc := "(IIII)Z" } : Jvm.MethodName)) ∈ lw_tbl := lw_at lw_m7 165 rfl
theorem q1714 : (Jvm.Cond.instanceMethod ({ cls := "TwoHalvesModel", name := "isShown", desc := "(IIII)Z" } : Jvm.MethodName)) ∈ lw_all := lw_g (lw_at lw_m7 166 rfl) rfl
theorem q1715 : (Jvm.Cond.code ({ cls := "TwoHalvesModel", name := "isShown", desc := "(IIII)Z" } : Jvm.MethodName) prog_24_method_51_code (5 : Nat) (Option.some Jvm.ClassFile.FieldType.boolean)) ∈ lw_all := lw_g (lw_at lw_m7 167 rfl) rfl
theorem q1716 : (Jvm.Cond.methodLink "TwoHalvesModel" (301 : Nat) ({ cls := "TwoHalvesModel", name := "show", desc := "(IIIII)V" } : Jvm.MethodName)) ∈ lw_all := lw_g (lw_at lw_m7 168 rfl) rfl
theorem q1717 : (Jvm.Cond.privateMethod ({ cls := "TwoHalvesModel", name := "show", desc := "(IIIII)V" } : Jvm.MethodName)) ∈ lw_tbl := lw_at lw_m7 169 rfl
theorem q1718 : (Jvm.Cond.instanceMethod ({ cls := "TwoHalvesModel", name := "show", desc := "(IIIII)V" } : Jvm.MethodName)) ∈ lw_all := lw_g (lw_at lw_m7 170 rfl) rfl
theorem q1719 : (Jvm.Cond.code ({ cls := "TwoHalvesModel", name := "show", desc := "(IIIII)V" } : Jvm.MethodName) prog_24_method_52_code (6 : Nat) (Option.none : Option Jvm.ClassFile.FieldType)) ∈ lw_all := lw_g (lw_at lw_m7 171 rfl) rfl
theorem q1720 : (Jvm.Cond.methodLink "TwoHalvesModel" (305 : Nat) ({ cls := "TwoHalvesModel", name := "going", desc := "(II)I" } : Jvm.MethodName)) ∈ lw_all := lw_g (lw_at lw_m7 172 rfl) rfl
theorem q1721 : (Jvm.Cond.privateMethod ({ cls := "TwoHalvesModel", name := "going", desc := "(II)I" } : Jvm.MethodName)) ∈ lw_tbl := lw_at lw_m7 173 rfl
theorem q1722 : (Jvm.Cond.instanceMethod ({ cls := "TwoHalvesModel", name := "going", desc := "(II)I" } : Jvm.MethodName)) ∈ lw_all := lw_g (lw_at lw_m7 174 rfl) rfl
theorem q1723 : (Jvm.Cond.code ({ cls := "TwoHalvesModel", name := "going", desc := "(II)I" } : Jvm.MethodName) prog_24_method_56_code (7 : Nat) (Option.some Jvm.ClassFile.FieldType.int)) ∈ lw_all := lw_g (lw_at lw_m7 175 rfl) rfl
theorem q1724 : (Jvm.Cond.methodLink "TwoHalvesModel" (285 : Nat) ({ cls := "TwoHalvesModel", name := "learn", desc := "(I)V" } : Jvm.MethodName)) ∈ lw_all := lw_g (lw_at lw_m7 176 rfl) rfl
theorem q1725 : (Jvm.Cond.privateMethod ({ cls := "TwoHalvesModel", name := "learn", desc := "(I)V" } : Jvm.MethodName)) ∈ lw_tbl := lw_at lw_m7 177 rfl
theorem q1726 : (Jvm.Cond.instanceMethod ({ cls := "TwoHalvesModel", name := "learn", desc := "(I)V" } : Jvm.MethodName)) ∈ lw_all := lw_g (lw_at lw_m7 178 rfl) rfl
theorem q1727 : (Jvm.Cond.code ({ cls := "TwoHalvesModel", name := "learn", desc := "(I)V" } : Jvm.MethodName) prog_24_method_58_code (5 : Nat) (Option.none : Option Jvm.ClassFile.FieldType)) ∈ lw_all := lw_g (lw_at lw_m7 179 rfl) rfl
theorem q1728 : (Jvm.Cond.methodLink "TwoHalvesModel" (264 : Nat) ({ cls := "TwoHalvesModel", name := "shown", desc := "(I)I" } : Jvm.MethodName)) ∈ lw_all := lw_g (lw_at lw_m7 180 rfl) rfl
theorem q1729 : (Jvm.Cond.privateMethod ({ cls := "TwoHalvesModel", name := "shown", desc := "(I)I" } : Jvm.MethodName)) ∈ lw_tbl := lw_at lw_m7 181 rfl
theorem q1730 : (Jvm.Cond.instanceMethod ({ cls := "TwoHalvesModel", name := "shown", desc := "(I)I" } : Jvm.MethodName)) ∈ lw_all := lw_g (lw_at lw_m7 182 rfl) rfl
theorem q1731 : (Jvm.Cond.code ({ cls := "TwoHalvesModel", name := "shown", desc := "(I)I" } : Jvm.MethodName) prog_24_method_55_code (2 : Nat) (Option.some Jvm.ClassFile.FieldType.int)) ∈ lw_all := lw_g (lw_at lw_m7 183 rfl) rfl
theorem q1732 : (Jvm.Cond.methodLink "TwoHalvesModel" (267 : Nat) ({ cls := "TwoHalvesModel", name := "sinceOf", desc := "(II)I" } : Jvm.MethodName)) ∈ lw_all := lw_g (lw_at lw_m7 184 rfl) rfl
theorem q1733 : (Jvm.Cond.privateMethod ({ cls := "TwoHalvesModel", name := "sinceOf", desc := "(II)I" } : Jvm.MethodName)) ∈ lw_tbl := lw_at lw_m7 185 rfl
theorem q1734 : (Jvm.Cond.instanceMethod ({ cls := "TwoHalvesModel", name := "sinceOf", desc := "(II)I" } : Jvm.MethodName)) ∈ lw_all := lw_g (lw_at lw_m7 186 rfl) rfl
theorem q1735 : (Jvm.Cond.code ({ cls := "TwoHalvesModel", name := "sinceOf", desc := "(II)I" } : Jvm.MethodName) prog_24_method_60_code (4 : Nat) (Option.some Jvm.ClassFile.FieldType.int)) ∈ lw_all := lw_g (lw_at lw_m7 187 rfl) rfl
theorem q1737 : (Jvm.Cond.instanceMethod ({ cls := "TwoHalvesModel", name := "answer", desc := "(IIIII)I" } : Jvm.MethodName)) ∈ lw_all := lw_g (lw_at lw_m7 189 rfl) rfl
theorem q1738 : (Jvm.Cond.selects "TwoHalvesModel" ({ cls := "TwoHalvesModel", name := "answer", desc := "(IIIII)I" } : Jvm.MethodName) ({ cls := "TwoHalvesModel", name := "answer", desc := "(IIIII)I" } : Jvm.MethodName)) ∈ lw_all := lw_g (lw_at lw_m7 190 rfl) rfl
theorem q1739 : (Jvm.Cond.code ({ cls := "TwoHalvesModel", name := "answer", desc := "(IIIII)I" } : Jvm.MethodName) prog_24_method_70_code (6 : Nat) (Option.some Jvm.ClassFile.FieldType.int)) ∈ lw_all := lw_g (lw_at lw_m7 191 rfl) rfl
theorem q1740 : (Jvm.Cond.methodLink "TwoHalvesModel" (308 : Nat) ({ cls := "TwoHalvesModel", name := "takes", desc := "(IIIII)Z" } : Jvm.MethodName)) ∈ lw_all := lw_g (lw_at lw_m7 192 rfl) rfl
theorem q1741 : (Jvm.Cond.privateMethod ({ cls := "TwoHalvesModel", name := "takes", desc := "(IIIII)Z" } : Jvm.MethodName)) ∈ lw_tbl := lw_at lw_m7 193 rfl
theorem q1742 : (Jvm.Cond.instanceMethod ({ cls := "TwoHalvesModel", name := "takes", desc := "(IIIII)Z" } : Jvm.MethodName)) ∈ lw_all := lw_g (lw_at lw_m7 194 rfl) rfl
theorem q1743 : (Jvm.Cond.code ({ cls := "TwoHalvesModel", name := "takes", desc := "(IIIII)Z" } : Jvm.MethodName) prog_24_method_68_code (7 : Nat) (Option.some Jvm.ClassFile.FieldType.boolean)) ∈ lw_all := lw_g (lw_at lw_m7 195 rfl) rfl
theorem q1744 : (Jvm.Cond.methodLink "TwoHalvesModel" (295 : Nat) ({ cls := "TwoHalvesModel", name := "isOffer", desc := "(I)Z" } : Jvm.MethodName)) ∈ lw_all := lw_g (lw_at lw_m7 196 rfl) rfl
theorem q1745 : (Jvm.Cond.privateMethod ({ cls := "TwoHalvesModel", name := "isOffer", desc := "(I)Z" } : Jvm.MethodName)) ∈ lw_tbl := lw_at lw_m7 197 rfl
theorem q1746 : (Jvm.Cond.instanceMethod ({ cls := "TwoHalvesModel", name := "isOffer", desc := "(I)Z" } : Jvm.MethodName)) ∈ lw_all := lw_g (lw_at lw_m7 198 rfl) rfl
theorem q1747 : (Jvm.Cond.code ({ cls := "TwoHalvesModel", name := "isOffer", desc := "(I)Z" } : Jvm.MethodName) prog_24_method_53_code (4 : Nat) (Option.some Jvm.ClassFile.FieldType.boolean)) ∈ lw_all := lw_g (lw_at lw_m7 199 rfl) rfl
theorem q1748 : (Jvm.Cond.methodLink "TwoHalvesModel" (298 : Nat) ({ cls := "TwoHalvesModel", name := "takeOffer", desc := "(I)V" } : Jvm.MethodName)) ∈ lw_all := lw_g (lw_at lw_m7 200 rfl) rfl
theorem q1749 : (Jvm.Cond.privateMethod ({ cls := "TwoHalvesModel", name := "takeOffer", desc := "(I)V" } : Jvm.MethodName)) ∈ lw_tbl := lw_at lw_m7 201 rfl
theorem q1750 : (Jvm.Cond.instanceMethod ({ cls := "TwoHalvesModel", name := "takeOffer", desc := "(I)V" } : Jvm.MethodName)) ∈ lw_all := lw_g (lw_at lw_m7 202 rfl) rfl
theorem q1751 : (Jvm.Cond.code ({ cls := "TwoHalvesModel", name := "takeOffer", desc := "(I)V" } : Jvm.MethodName) prog_24_method_54_code (3 : Nat) (Option.none : Option Jvm.ClassFile.FieldType)) ∈ lw_all := lw_g (lw_at lw_m7 203 rfl) rfl
theorem q1752 : (Jvm.Cond.methodLink "TwoHalvesModel" (312 : Nat) ({ cls := "TwoHalvesModel", name := "answerBy", desc := "(I)I" } : Jvm.MethodName)) ∈ lw_all := lw_g (lw_at lw_m7 204 rfl) rfl
theorem q1753 : (Jvm.Cond.privateMethod ({ cls := "TwoHalvesModel", name := "answerBy", desc := "(I)I" } : Jvm.MethodName)) ∈ lw_tbl := lw_at lw_m7 205 rfl
theorem q1754 : (Jvm.Cond.instanceMethod ({ cls := "TwoHalvesModel", name := "answerBy", desc := "(I)I" } : Jvm.MethodName)) ∈ lw_all := lw_g (lw_at lw_m7 206 rfl) rfl
theorem q1755 : (Jvm.Cond.code ({ cls := "TwoHalvesModel", name := "answerBy", desc := "(I)I" } : Jvm.MethodName) prog_24_method_67_code (2 : Nat) (Option.some Jvm.ClassFile.FieldType.int)) ∈ lw_all := lw_g (lw_at lw_m7 207 rfl) rfl
theorem q1756 : (Jvm.Cond.methodLink "TwoHalvesModel" (288 : Nat) ({ cls := "TwoHalvesModel", name := "answered", desc := "(I)I" } : Jvm.MethodName)) ∈ lw_all := lw_g (lw_at lw_m7 208 rfl) rfl
theorem q1757 : (Jvm.Cond.privateMethod ({ cls := "TwoHalvesModel", name := "answered", desc := "(I)I" } : Jvm.MethodName)) ∈ lw_tbl := lw_at lw_m7 209 rfl
theorem q1758 : (Jvm.Cond.instanceMethod ({ cls := "TwoHalvesModel", name := "answered", desc := "(I)I" } : Jvm.MethodName)) ∈ lw_all := lw_g (lw_at lw_m7 210 rfl) rfl
theorem q1759 : (Jvm.Cond.code ({ cls := "TwoHalvesModel", name := "answered", desc := "(I)I" } : Jvm.MethodName) prog_24_method_66_code (2 : Nat) (Option.some Jvm.ClassFile.FieldType.int)) ∈ lw_all := lw_g (lw_at lw_m7 211 rfl) rfl
theorem q1760 : (Jvm.Cond.methodLink "TwoHalvesModel" (279 : Nat) ({ cls := "TwoHalvesModel", name := "said", desc := "()I" } : Jvm.MethodName)) ∈ lw_all := lw_g (lw_at lw_m7 212 rfl) rfl
theorem q1761 : (Jvm.Cond.privateMethod ({ cls := "TwoHalvesModel", name := "said", desc := "()I" } : Jvm.MethodName)) ∈ lw_tbl := lw_at lw_m7 213 rfl
theorem q1762 : (Jvm.Cond.instanceMethod ({ cls := "TwoHalvesModel", name := "said", desc := "()I" } : Jvm.MethodName)) ∈ lw_all := lw_g (lw_at lw_m7 214 rfl) rfl
theorem q1763 : (Jvm.Cond.code ({ cls := "TwoHalvesModel", name := "said", desc := "()I" } : Jvm.MethodName) prog_24_method_62_code (3 : Nat) (Option.some Jvm.ClassFile.FieldType.int)) ∈ lw_all := lw_g (lw_at lw_m7 215 rfl) rfl
theorem q1764 : (Jvm.Cond.methodLink "TwoHalvesModel" (270 : Nat) ({ cls := "TwoHalvesModel", name := "sayable", desc := "(I)I" } : Jvm.MethodName)) ∈ lw_all := lw_g (lw_at lw_m7 216 rfl) rfl
theorem q1765 : (Jvm.Cond.privateMethod ({ cls := "TwoHalvesModel", name := "sayable", desc := "(I)I" } : Jvm.MethodName)) ∈ lw_tbl := lw_at lw_m7 217 rfl
theorem q1766 : (Jvm.Cond.instanceMethod ({ cls := "TwoHalvesModel", name := "sayable", desc := "(I)I" } : Jvm.MethodName)) ∈ lw_all := lw_g (lw_at lw_m7 218 rfl) rfl
theorem q1767 : (Jvm.Cond.code ({ cls := "TwoHalvesModel", name := "sayable", desc := "(I)I" } : Jvm.MethodName) prog_24_method_61_code (4 : Nat) (Option.some Jvm.ClassFile.FieldType.int)) ∈ lw_all := lw_g (lw_at lw_m7 219 rfl) rfl
theorem q1768 : (Jvm.Cond.methodLink "TwoHalvesModel" (282 : Nat) ({ cls := "TwoHalvesModel", name := "taken", desc := "(I)I" } : Jvm.MethodName)) ∈ lw_all := lw_g (lw_at lw_m7 220 rfl) rfl
theorem q1769 : (Jvm.Cond.privateMethod ({ cls := "TwoHalvesModel", name := "taken", desc := "(I)I" } : Jvm.MethodName)) ∈ lw_tbl := lw_at lw_m7 221 rfl
theorem q1770 : (Jvm.Cond.instanceMethod ({ cls := "TwoHalvesModel", name := "taken", desc := "(I)I" } : Jvm.MethodName)) ∈ lw_all := lw_g (lw_at lw_m7 222 rfl) rfl
theorem q1771 : (Jvm.Cond.code ({ cls := "TwoHalvesModel", name := "taken", desc := "(I)I" } : Jvm.MethodName) prog_24_method_64_code (5 : Nat) (Option.some Jvm.ClassFile.FieldType.int)) ∈ lw_all := lw_g (lw_at lw_m7 223 rfl) rfl
theorem q1772 : (Jvm.Cond.methodLink "TwoHalvesModel" (273 : Nat) ({ cls := "TwoHalvesModel", name := "cause", desc := "(II)I" } : Jvm.MethodName)) ∈ lw_all := lw_g (lw_at lw_m7 224 rfl) rfl
theorem q1773 : (Jvm.Cond.privateMethod ({ cls := "TwoHalvesModel", name := "cause", desc := "(II)I" } : Jvm.MethodName)) ∈ lw_tbl := lw_at lw_m7 225 rfl
theorem q1774 : (Jvm.Cond.instanceMethod ({ cls := "TwoHalvesModel", name := "cause", desc := "(II)I" } : Jvm.MethodName)) ∈ lw_all := lw_g (lw_at lw_m7 226 rfl) rfl
theorem q1775 : (Jvm.Cond.code ({ cls := "TwoHalvesModel", name := "cause", desc := "(II)I" } : Jvm.MethodName) prog_24_method_65_code (5 : Nat) (Option.some Jvm.ClassFile.FieldType.int)) ∈ lw_all := lw_g (lw_at lw_m7 227 rfl) rfl
theorem q1776 : (Jvm.Cond.methodLink "TwoHalvesModel" (276 : Nat) ({ cls := "TwoHalvesModel", name := "suits", desc := "(II)Z" } : Jvm.MethodName)) ∈ lw_all := lw_g (lw_at lw_m7 228 rfl) rfl
theorem q1777 : (Jvm.Cond.privateMethod ({ cls := "TwoHalvesModel", name := "suits", desc := "(II)Z" } : Jvm.MethodName)) ∈ lw_tbl := lw_at lw_m7 229 rfl
theorem q1778 : (Jvm.Cond.instanceMethod ({ cls := "TwoHalvesModel", name := "suits", desc := "(II)Z" } : Jvm.MethodName)) ∈ lw_all := lw_g (lw_at lw_m7 230 rfl) rfl
theorem q1779 : (Jvm.Cond.code ({ cls := "TwoHalvesModel", name := "suits", desc := "(II)Z" } : Jvm.MethodName) prog_24_method_63_code (3 : Nat) (Option.some Jvm.ClassFile.FieldType.boolean)) ∈ lw_all := lw_g (lw_at lw_m7 231 rfl) rfl
theorem q1781 : (Jvm.Cond.instanceMethod ({ cls := "TwoHalvesModel", name := "why", desc := "(IIIII)I" } : Jvm.MethodName)) ∈ lw_all := lw_g (lw_at lw_m7 233 rfl) rfl
theorem q1782 : (Jvm.Cond.selects "TwoHalvesModel" ({ cls := "TwoHalvesModel", name := "why", desc := "(IIIII)I" } : Jvm.MethodName) ({ cls := "TwoHalvesModel", name := "why", desc := "(IIIII)I" } : Jvm.MethodName)) ∈ lw_all := lw_g (lw_at lw_m7 234 rfl) rfl
theorem q1783 : (Jvm.Cond.code ({ cls := "TwoHalvesModel", name := "why", desc := "(IIIII)I" } : Jvm.MethodName) prog_24_method_71_code (13 : Nat) (Option.some Jvm.ClassFile.FieldType.int)) ∈ lw_all := lw_g (lw_at lw_m7 235 rfl) rfl
theorem q1785 : (Jvm.Cond.instanceMethod ({ cls := "TwoHalvesModel", name := "filled", desc := "(I)I" } : Jvm.MethodName)) ∈ lw_all := lw_g (lw_at lw_m7 237 rfl) rfl
theorem q1786 : (Jvm.Cond.selects "TwoHalvesModel" ({ cls := "TwoHalvesModel", name := "filled", desc := "(I)I" } : Jvm.MethodName) ({ cls := "TwoHalvesModel", name := "filled", desc := "(I)I" } : Jvm.MethodName)) ∈ lw_all := lw_g (lw_at lw_m7 238 rfl) rfl
theorem q1787 : (Jvm.Cond.code ({ cls := "TwoHalvesModel", name := "filled", desc := "(I)I" } : Jvm.MethodName) prog_24_method_72_code (2 : Nat) (Option.some Jvm.ClassFile.FieldType.int)) ∈ lw_all := lw_g (lw_at lw_m7 239 rfl) rfl
theorem q1789 : (Jvm.Cond.instanceMethod ({ cls := "TwoHalvesModel", name := "fight", desc := "(IIII)I" } : Jvm.MethodName)) ∈ lw_all := lw_g (lw_at lw_m8 1 rfl) rfl
theorem q1790 : (Jvm.Cond.selects "TwoHalvesModel" ({ cls := "TwoHalvesModel", name := "fight", desc := "(IIII)I" } : Jvm.MethodName) ({ cls := "TwoHalvesModel", name := "fight", desc := "(IIII)I" } : Jvm.MethodName)) ∈ lw_all := lw_g (lw_at lw_m8 2 rfl) rfl
theorem q1791 : (Jvm.Cond.code ({ cls := "TwoHalvesModel", name := "fight", desc := "(IIII)I" } : Jvm.MethodName) prog_24_method_73_code (7 : Nat) (Option.some Jvm.ClassFile.FieldType.int)) ∈ lw_all := lw_g (lw_at lw_m8 3 rfl) rfl
theorem q1793 : (Jvm.Cond.instanceMethod ({ cls := "TwoHalvesModel", name := "helped", desc := "(IIIII)I" } : Jvm.MethodName)) ∈ lw_all := lw_g (lw_at lw_m8 5 rfl) rfl
theorem q1794 : (Jvm.Cond.selects "TwoHalvesModel" ({ cls := "TwoHalvesModel", name := "helped", desc := "(IIIII)I" } : Jvm.MethodName) ({ cls := "TwoHalvesModel", name := "helped", desc := "(IIIII)I" } : Jvm.MethodName)) ∈ lw_all := lw_g (lw_at lw_m8 6 rfl) rfl
theorem q1795 : (Jvm.Cond.code ({ cls := "TwoHalvesModel", name := "helped", desc := "(IIIII)I" } : Jvm.MethodName) prog_24_method_74_code (7 : Nat) (Option.some Jvm.ClassFile.FieldType.int)) ∈ lw_all := lw_g (lw_at lw_m8 7 rfl) rfl
theorem q1796 : (Jvm.Cond.methodLink "TwoHalvesModel" (315 : Nat) ({ cls := "TwoHalvesModel", name := "outers", desc := "()I" } : Jvm.MethodName)) ∈ lw_all := lw_g (lw_at lw_m8 8 rfl) rfl
theorem q1797 : (Jvm.Cond.privateMethod ({ cls := "TwoHalvesModel", name := "outers", desc := "()I" } : Jvm.MethodName)) ∈ lw_tbl := lw_at lw_m8 9 rfl
theorem q1798 : (Jvm.Cond.instanceMethod ({ cls := "TwoHalvesModel", name := "outers", desc := "()I" } : Jvm.MethodName)) ∈ lw_all := lw_g (lw_at lw_m8 10 rfl) rfl
theorem q1799 : (Jvm.Cond.code ({ cls := "TwoHalvesModel", name := "outers", desc := "()I" } : Jvm.MethodName) prog_24_method_57_code (3 : Nat) (Option.some Jvm.ClassFile.FieldType.int)) ∈ lw_all := lw_g (lw_at lw_m8 11 rfl) rfl
theorem q1801 : (Jvm.Cond.instanceMethod ({ cls := "TwoHalvesModel", name := "foretell", desc := "(IIII)I" } : Jvm.MethodName)) ∈ lw_all := lw_g (lw_at lw_m8 13 rfl) rfl
theorem q1802 : (Jvm.Cond.selects "TwoHalvesModel" ({ cls := "TwoHalvesModel", name := "foretell", desc := "(IIII)I" } : Jvm.MethodName) ({ cls := "TwoHalvesModel", name := "foretell", desc := "(IIII)I" } : Jvm.MethodName)) ∈ lw_all := lw_g (lw_at lw_m8 14 rfl) rfl
theorem q1803 : (Jvm.Cond.code ({ cls := "TwoHalvesModel", name := "foretell", desc := "(IIII)I" } : Jvm.MethodName) prog_24_method_75_code (6 : Nat) (Option.some Jvm.ClassFile.FieldType.int)) ∈ lw_all := lw_g (lw_at lw_m8 15 rfl) rfl
theorem q1804 : (Jvm.Cond.methodLink "TwoHalvesModel" (318 : Nat) ({ cls := "TwoHalvesModel", name := "know", desc := "()V" } : Jvm.MethodName)) ∈ lw_all := lw_g (lw_at lw_m8 16 rfl) rfl
theorem q1805 : (Jvm.Cond.privateMethod ({ cls := "TwoHalvesModel", name := "know", desc := "()V" } : Jvm.MethodName)) ∈ lw_tbl := lw_at lw_m8 17 rfl
theorem q1806 : (Jvm.Cond.instanceMethod ({ cls := "TwoHalvesModel", name := "know", desc := "()V" } : Jvm.MethodName)) ∈ lw_all := lw_g (lw_at lw_m8 18 rfl) rfl
theorem q1807 : (Jvm.Cond.code ({ cls := "TwoHalvesModel", name := "know", desc := "()V" } : Jvm.MethodName) prog_24_method_59_code (2 : Nat) (Option.none : Option Jvm.ClassFile.FieldType)) ∈ lw_all := lw_g (lw_at lw_m8 19 rfl) rfl
theorem q1809 : (Jvm.Cond.instanceMethod ({ cls := "TwoHalvesModel", name := "odds", desc := "(IIIIII)J" } : Jvm.MethodName)) ∈ lw_all := lw_g (lw_at lw_m8 21 rfl) rfl
theorem q1810 : (Jvm.Cond.selects "TwoHalvesModel" ({ cls := "TwoHalvesModel", name := "odds", desc := "(IIIIII)J" } : Jvm.MethodName) ({ cls := "TwoHalvesModel", name := "odds", desc := "(IIIIII)J" } : Jvm.MethodName)) ∈ lw_all := lw_g (lw_at lw_m8 22 rfl) rfl
theorem q1811 : (Jvm.Cond.code ({ cls := "TwoHalvesModel", name := "odds", desc := "(IIIIII)J" } : Jvm.MethodName) prog_24_method_76_code (16 : Nat) (Option.some Jvm.ClassFile.FieldType.long)) ∈ lw_all := lw_g (lw_at lw_m8 23 rfl) rfl
theorem q1813 : (Jvm.Cond.instanceMethod ({ cls := "TwoHalvesModel", name := "all", desc := "()J" } : Jvm.MethodName)) ∈ lw_all := lw_g (lw_at lw_m8 25 rfl) rfl
theorem q1814 : (Jvm.Cond.selects "TwoHalvesModel" ({ cls := "TwoHalvesModel", name := "all", desc := "()J" } : Jvm.MethodName) ({ cls := "TwoHalvesModel", name := "all", desc := "()J" } : Jvm.MethodName)) ∈ lw_all := lw_g (lw_at lw_m8 26 rfl) rfl
theorem q1815 : (Jvm.Cond.code ({ cls := "TwoHalvesModel", name := "all", desc := "()J" } : Jvm.MethodName) prog_24_method_77_code (4 : Nat) (Option.some Jvm.ClassFile.FieldType.long)) ∈ lw_all := lw_g (lw_at lw_m8 27 rfl) rfl
theorem q1816 : (Jvm.Cond.constantLong "TwoHalvesModel" (321 : Nat) (20 : Int64)) ∈ lw_all := lw_g (lw_at lw_m8 28 rfl) rfl
theorem q1818 : (Jvm.Cond.instanceMethod ({ cls := "TwoHalvesModel", name := "row", desc := "(IIIIII)I" } : Jvm.MethodName)) ∈ lw_all := lw_g (lw_at lw_m8 30 rfl) rfl
theorem q1819 : (Jvm.Cond.selects "TwoHalvesModel" ({ cls := "TwoHalvesModel", name := "row", desc := "(IIIIII)I" } : Jvm.MethodName) ({ cls := "TwoHalvesModel", name := "row", desc := "(IIIIII)I" } : Jvm.MethodName)) ∈ lw_all := lw_g (lw_at lw_m8 31 rfl) rfl
theorem q1820 : (Jvm.Cond.code ({ cls := "TwoHalvesModel", name := "row", desc := "(IIIIII)I" } : Jvm.MethodName) prog_24_method_80_code (9 : Nat) (Option.some Jvm.ClassFile.FieldType.int)) ∈ lw_all := lw_g (lw_at lw_m8 32 rfl) rfl
theorem q1821 : (Jvm.Cond.methodLink "TwoHalvesModel" (323 : Nat) ({ cls := "TwoHalvesModel", name := "store", desc := "(II)V" } : Jvm.MethodName)) ∈ lw_all := lw_g (lw_at lw_m8 33 rfl) rfl
theorem q1822 : (Jvm.Cond.privateMethod ({ cls := "TwoHalvesModel", name := "store", desc := "(II)V" } : Jvm.MethodName)) ∈ lw_tbl := lw_at lw_m8 34 rfl
theorem q1823 : (Jvm.Cond.instanceMethod ({ cls := "TwoHalvesModel", name := "store", desc := "(II)V" } : Jvm.MethodName)) ∈ lw_all := lw_g (lw_at lw_m8 35 rfl) rfl
theorem q1824 : (Jvm.Cond.code ({ cls := "TwoHalvesModel", name := "store", desc := "(II)V" } : Jvm.MethodName) prog_24_method_78_code (5 : Nat) (Option.none : Option Jvm.ClassFile.FieldType)) ∈ lw_all := lw_g (lw_at lw_m8 36 rfl) rfl
theorem q1826 : (Jvm.Cond.instanceMethod ({ cls := "TwoHalvesModel", name := "worlds", desc := "(I)I" } : Jvm.MethodName)) ∈ lw_all := lw_g (lw_at lw_m8 38 rfl) rfl
theorem q1827 : (Jvm.Cond.selects "TwoHalvesModel" ({ cls := "TwoHalvesModel", name := "worlds", desc := "(I)I" } : Jvm.MethodName) ({ cls := "TwoHalvesModel", name := "worlds", desc := "(I)I" } : Jvm.MethodName)) ∈ lw_all := lw_g (lw_at lw_m8 39 rfl) rfl
theorem q1828 : (Jvm.Cond.code ({ cls := "TwoHalvesModel", name := "worlds", desc := "(I)I" } : Jvm.MethodName) prog_24_method_83_code (3 : Nat) (Option.some Jvm.ClassFile.FieldType.int)) ∈ lw_all := lw_g (lw_at lw_m8 40 rfl) rfl
theorem q1829 : (Jvm.Cond.methodLink "TwoHalvesModel" (333 : Nat) ({ cls := "TwoHalvesModel", name := "isPerson", desc := "(I)Z" } : Jvm.MethodName)) ∈ lw_all := lw_g (lw_at lw_m8 41 rfl) rfl
theorem q1830 : (Jvm.Cond.privateMethod ({ cls := "TwoHalvesModel", name := "isPerson", desc := "(I)Z" } : Jvm.MethodName)) ∈ lw_tbl := lw_at lw_m8 42 rfl
theorem q1831 : (Jvm.Cond.instanceMethod ({ cls := "TwoHalvesModel", name := "isPerson", desc := "(I)Z" } : Jvm.MethodName)) ∈ lw_all := lw_g (lw_at lw_m8 43 rfl) rfl
theorem q1832 : (Jvm.Cond.code ({ cls := "TwoHalvesModel", name := "isPerson", desc := "(I)Z" } : Jvm.MethodName) prog_24_method_81_code (2 : Nat) (Option.some Jvm.ClassFile.FieldType.boolean)) ∈ lw_all := lw_g (lw_at lw_m8 44 rfl) rfl
theorem q1833 : (Jvm.Cond.methodLink "TwoHalvesModel" (336 : Nat) ({ cls := "TwoHalvesModel", name := "layFits", desc := "(I)V" } : Jvm.MethodName)) ∈ lw_all := lw_g (lw_at lw_m8 45 rfl) rfl
theorem q1834 : (Jvm.Cond.privateMethod ({ cls := "TwoHalvesModel", name := "layFits", desc := "(I)V" } : Jvm.MethodName)) ∈ lw_tbl := lw_at lw_m8 46 rfl
theorem q1835 : (Jvm.Cond.instanceMethod ({ cls := "TwoHalvesModel", name := "layFits", desc := "(I)V" } : Jvm.MethodName)) ∈ lw_all := lw_g (lw_at lw_m8 47 rfl) rfl
theorem q1836 : (Jvm.Cond.code ({ cls := "TwoHalvesModel", name := "layFits", desc := "(I)V" } : Jvm.MethodName) prog_24_method_82_code (7 : Nat) (Option.none : Option Jvm.ClassFile.FieldType)) ∈ lw_all := lw_g (lw_at lw_m8 48 rfl) rfl
theorem q1837 : (Jvm.Cond.methodLink "TwoHalvesModel" (330 : Nat) ({ cls := "TwoHalvesModel", name := "recall", desc := "(I)V" } : Jvm.MethodName)) ∈ lw_all := lw_g (lw_at lw_m8 49 rfl) rfl
theorem q1838 : (Jvm.Cond.privateMethod ({ cls := "TwoHalvesModel", name := "recall", desc := "(I)V" } : Jvm.MethodName)) ∈ lw_tbl := lw_at lw_m8 50 rfl
theorem q1839 : (Jvm.Cond.instanceMethod ({ cls := "TwoHalvesModel", name := "recall", desc := "(I)V" } : Jvm.MethodName)) ∈ lw_all := lw_g (lw_at lw_m8 51 rfl) rfl
theorem q1840 : (Jvm.Cond.code ({ cls := "TwoHalvesModel", name := "recall", desc := "(I)V" } : Jvm.MethodName) prog_24_method_79_code (4 : Nat) (Option.none : Option Jvm.ClassFile.FieldType)) ∈ lw_all := lw_g (lw_at lw_m8 52 rfl) rfl
theorem q1842 : (Jvm.Cond.instanceMethod ({ cls := "TwoHalvesModel", name := "worldAt", desc := "(I)I" } : Jvm.MethodName)) ∈ lw_all := lw_g (lw_at lw_m8 54 rfl) rfl
theorem q1843 : (Jvm.Cond.selects "TwoHalvesModel" ({ cls := "TwoHalvesModel", name := "worldAt", desc := "(I)I" } : Jvm.MethodName) ({ cls := "TwoHalvesModel", name := "worldAt", desc := "(I)I" } : Jvm.MethodName)) ∈ lw_all := lw_g (lw_at lw_m8 55 rfl) rfl
theorem q1844 : (Jvm.Cond.code ({ cls := "TwoHalvesModel", name := "worldAt", desc := "(I)I" } : Jvm.MethodName) prog_24_method_84_code (2 : Nat) (Option.some Jvm.ClassFile.FieldType.int)) ∈ lw_all := lw_g (lw_at lw_m8 56 rfl) rfl
theorem q1846 : (Jvm.Cond.instanceMethod ({ cls := "TwoHalvesModel", name := "sure", desc := "(II)I" } : Jvm.MethodName)) ∈ lw_all := lw_g (lw_at lw_m8 58 rfl) rfl
theorem q1847 : (Jvm.Cond.selects "TwoHalvesModel" ({ cls := "TwoHalvesModel", name := "sure", desc := "(II)I" } : Jvm.MethodName) ({ cls := "TwoHalvesModel", name := "sure", desc := "(II)I" } : Jvm.MethodName)) ∈ lw_all := lw_g (lw_at lw_m8 59 rfl) rfl
theorem q1848 : (Jvm.Cond.code ({ cls := "TwoHalvesModel", name := "sure", desc := "(II)I" } : Jvm.MethodName) prog_24_method_86_code (3 : Nat) (Option.some Jvm.ClassFile.FieldType.int)) ∈ lw_all := lw_g (lw_at lw_m8 60 rfl) rfl
theorem q1849 : (Jvm.Cond.methodLink "TwoHalvesModel" (339 : Nat) ({ cls := "TwoHalvesModel", name := "sureOf", desc := "(I)I" } : Jvm.MethodName)) ∈ lw_all := lw_g (lw_at lw_m8 61 rfl) rfl
theorem q1850 : (Jvm.Cond.privateMethod ({ cls := "TwoHalvesModel", name := "sureOf", desc := "(I)I" } : Jvm.MethodName)) ∈ lw_tbl := lw_at lw_m8 62 rfl
theorem q1851 : (Jvm.Cond.instanceMethod ({ cls := "TwoHalvesModel", name := "sureOf", desc := "(I)I" } : Jvm.MethodName)) ∈ lw_all := lw_g (lw_at lw_m8 63 rfl) rfl
theorem q1852 : (Jvm.Cond.code ({ cls := "TwoHalvesModel", name := "sureOf", desc := "(I)I" } : Jvm.MethodName) prog_24_method_85_code (4 : Nat) (Option.some Jvm.ClassFile.FieldType.int)) ∈ lw_all := lw_g (lw_at lw_m8 64 rfl) rfl
theorem q1854 : (Jvm.Cond.instanceMethod ({ cls := "TwoHalvesModel", name := "probe", desc := "(IIIII)I" } : Jvm.MethodName)) ∈ lw_all := lw_g (lw_at lw_m8 66 rfl) rfl
theorem q1855 : (Jvm.Cond.selects "TwoHalvesModel" ({ cls := "TwoHalvesModel", name := "probe", desc := "(IIIII)I" } : Jvm.MethodName) ({ cls := "TwoHalvesModel", name := "probe", desc := "(IIIII)I" } : Jvm.MethodName)) ∈ lw_all := lw_g (lw_at lw_m8 67 rfl) rfl
theorem q1856 : (Jvm.Cond.code ({ cls := "TwoHalvesModel", name := "probe", desc := "(IIIII)I" } : Jvm.MethodName) prog_24_method_87_code (7 : Nat) (Option.some Jvm.ClassFile.FieldType.int)) ∈ lw_all := lw_g (lw_at lw_m8 68 rfl) rfl
theorem q1858 : (Jvm.Cond.instanceMethod ({ cls := "TwoHalvesModel", name := "parts", desc := "(II)I" } : Jvm.MethodName)) ∈ lw_all := lw_g (lw_at lw_m8 70 rfl) rfl
theorem q1859 : (Jvm.Cond.selects "TwoHalvesModel" ({ cls := "TwoHalvesModel", name := "parts", desc := "(II)I" } : Jvm.MethodName) ({ cls := "TwoHalvesModel", name := "parts", desc := "(II)I" } : Jvm.MethodName)) ∈ lw_all := lw_g (lw_at lw_m8 71 rfl) rfl
theorem q1860 : (Jvm.Cond.code ({ cls := "TwoHalvesModel", name := "parts", desc := "(II)I" } : Jvm.MethodName) prog_24_method_90_code (3 : Nat) (Option.some Jvm.ClassFile.FieldType.int)) ∈ lw_all := lw_g (lw_at lw_m8 72 rfl) rfl
theorem q1861 : (Jvm.Cond.methodLink "TwoHalvesModel" (345 : Nat) ({ cls := "TwoHalvesModel", name := "partsOf", desc := "(I)I" } : Jvm.MethodName)) ∈ lw_all := lw_g (lw_at lw_m8 73 rfl) rfl
theorem q1862 : (Jvm.Cond.privateMethod ({ cls := "TwoHalvesModel", name := "partsOf", desc := "(I)I" } : Jvm.MethodName)) ∈ lw_tbl := lw_at lw_m8 74 rfl
theorem q1863 : (Jvm.Cond.instanceMethod ({ cls := "TwoHalvesModel", name := "partsOf", desc := "(I)I" } : Jvm.MethodName)) ∈ lw_all := lw_g (lw_at lw_m8 75 rfl) rfl
theorem q1864 : (Jvm.Cond.code ({ cls := "TwoHalvesModel", name := "partsOf", desc := "(I)I" } : Jvm.MethodName) prog_24_method_89_code (6 : Nat) (Option.some Jvm.ClassFile.FieldType.int)) ∈ lw_all := lw_g (lw_at lw_m8 76 rfl) rfl
theorem q1865 : (Jvm.Cond.methodLink "TwoHalvesModel" (342 : Nat) ({ cls := "TwoHalvesModel", name := "layReplies", desc := "(I)V" } : Jvm.MethodName)) ∈ lw_all := lw_g (lw_at lw_m8 77 rfl) rfl
theorem q1866 : (Jvm.Cond.privateMethod ({ cls := "TwoHalvesModel", name := "layReplies", desc := "(I)V" } : Jvm.MethodName)) ∈ lw_tbl := lw_at lw_m8 78 rfl
theorem q1867 : (Jvm.Cond.instanceMethod ({ cls := "TwoHalvesModel", name := "layReplies", desc := "(I)V" } : Jvm.MethodName)) ∈ lw_all := lw_g (lw_at lw_m8 79 rfl) rfl
theorem q1868 : (Jvm.Cond.code ({ cls := "TwoHalvesModel", name := "layReplies", desc := "(I)V" } : Jvm.MethodName) prog_24_method_88_code (3 : Nat) (Option.none : Option Jvm.ClassFile.FieldType)) ∈ lw_all := lw_g (lw_at lw_m8 80 rfl) rfl
theorem q1870 : (Jvm.Cond.instanceMethod ({ cls := "TwoHalvesModel", name := "best", desc := "(I)I" } : Jvm.MethodName)) ∈ lw_all := lw_g (lw_at lw_m8 82 rfl) rfl
theorem q1871 : (Jvm.Cond.selects "TwoHalvesModel" ({ cls := "TwoHalvesModel", name := "best", desc := "(I)I" } : Jvm.MethodName) ({ cls := "TwoHalvesModel", name := "best", desc := "(I)I" } : Jvm.MethodName)) ∈ lw_all := lw_g (lw_at lw_m8 83 rfl) rfl
theorem q1872 : (Jvm.Cond.code ({ cls := "TwoHalvesModel", name := "best", desc := "(I)I" } : Jvm.MethodName) prog_24_method_91_code (6 : Nat) (Option.some Jvm.ClassFile.FieldType.int)) ∈ lw_all := lw_g (lw_at lw_m8 84 rfl) rfl
theorem q1874 : (Jvm.Cond.instanceMethod ({ cls := "TwoHalvesModel", name := "fewest", desc := "(I)I" } : Jvm.MethodName)) ∈ lw_all := lw_g (lw_at lw_m8 86 rfl) rfl
theorem q1875 : (Jvm.Cond.selects "TwoHalvesModel" ({ cls := "TwoHalvesModel", name := "fewest", desc := "(I)I" } : Jvm.MethodName) ({ cls := "TwoHalvesModel", name := "fewest", desc := "(I)I" } : Jvm.MethodName)) ∈ lw_all := lw_g (lw_at lw_m8 87 rfl) rfl
theorem q1876 : (Jvm.Cond.code ({ cls := "TwoHalvesModel", name := "fewest", desc := "(I)I" } : Jvm.MethodName) prog_24_method_93_code (7 : Nat) (Option.some Jvm.ClassFile.FieldType.int)) ∈ lw_all := lw_g (lw_at lw_m8 88 rfl) rfl
theorem q1877 : (Jvm.Cond.methodLink "TwoHalvesModel" (348 : Nat) ({ cls := "TwoHalvesModel", name := "bits", desc := "(I)I" } : Jvm.MethodName)) ∈ lw_all := lw_g (lw_at lw_m8 89 rfl) rfl
theorem q1878 : (Jvm.Cond.static ({ cls := "TwoHalvesModel", name := "bits", desc := "(I)I" } : Jvm.MethodName)) ∈ lw_all := lw_g (lw_at lw_m8 90 rfl) rfl
theorem q1879 : (Jvm.Cond.code ({ cls := "TwoHalvesModel", name := "bits", desc := "(I)I" } : Jvm.MethodName) prog_24_method_92_code (3 : Nat) (Option.some Jvm.ClassFile.FieldType.int)) ∈ lw_all := lw_g (lw_at lw_m8 91 rfl) rfl
theorem q1881 : (Jvm.Cond.instanceMethod ({ cls := "TwoHalvesModel", name := "shutting", desc := "(I)I" } : Jvm.MethodName)) ∈ lw_all := lw_g (lw_at lw_m8 93 rfl) rfl
theorem q1882 : (Jvm.Cond.selects "TwoHalvesModel" ({ cls := "TwoHalvesModel", name := "shutting", desc := "(I)I" } : Jvm.MethodName) ({ cls := "TwoHalvesModel", name := "shutting", desc := "(I)I" } : Jvm.MethodName)) ∈ lw_all := lw_g (lw_at lw_m8 94 rfl) rfl
theorem q1883 : (Jvm.Cond.code ({ cls := "TwoHalvesModel", name := "shutting", desc := "(I)I" } : Jvm.MethodName) prog_24_method_94_code (7 : Nat) (Option.some Jvm.ClassFile.FieldType.int)) ∈ lw_all := lw_g (lw_at lw_m8 95 rfl) rfl
theorem q1885 : (Jvm.Cond.instanceMethod ({ cls := "TwoHalvesModel", name := "sentence", desc := "()I" } : Jvm.MethodName)) ∈ lw_all := lw_g (lw_at lw_m8 97 rfl) rfl
theorem q1886 : (Jvm.Cond.selects "TwoHalvesModel" ({ cls := "TwoHalvesModel", name := "sentence", desc := "()I" } : Jvm.MethodName) ({ cls := "TwoHalvesModel", name := "sentence", desc := "()I" } : Jvm.MethodName)) ∈ lw_all := lw_g (lw_at lw_m8 98 rfl) rfl
theorem q1887 : (Jvm.Cond.code ({ cls := "TwoHalvesModel", name := "sentence", desc := "()I" } : Jvm.MethodName) prog_24_method_105_code (2 : Nat) (Option.some Jvm.ClassFile.FieldType.int)) ∈ lw_all := lw_g (lw_at lw_m8 99 rfl) rfl
theorem q1888 : (Jvm.Cond.methodLink "TwoHalvesModel" (397 : Nat) ({ cls := "TwoHalvesModel", name := "readOr", desc := "()Z" } : Jvm.MethodName)) ∈ lw_all := lw_g (lw_at lw_m8 100 rfl) rfl
theorem q1889 : (Jvm.Cond.privateMethod ({ cls := "TwoHalvesModel", name := "readOr", desc := "()Z" } : Jvm.MethodName)) ∈ lw_tbl := lw_at lw_m8 101 rfl
theorem q1890 : (Jvm.Cond.instanceMethod ({ cls := "TwoHalvesModel", name := "readOr", desc := "()Z" } : Jvm.MethodName)) ∈ lw_all := lw_g (lw_at lw_m8 102 rfl) rfl
theorem q1891 : (Jvm.Cond.code ({ cls := "TwoHalvesModel", name := "readOr", desc := "()Z" } : Jvm.MethodName) prog_24_method_98_code (2 : Nat) (Option.some Jvm.ClassFile.FieldType.boolean)) ∈ lw_all := lw_g (lw_at lw_m8 103 rfl) rfl
theorem q1892 : (Jvm.Cond.methodLink "TwoHalvesModel" (360 : Nat) ({ cls := "TwoHalvesModel", name := "readAnd", desc := "()Z" } : Jvm.MethodName)) ∈ lw_all := lw_g (lw_at lw_m8 104 rfl) rfl
theorem q1893 : (Jvm.Cond.privateMethod ({ cls := "TwoHalvesModel", name := "readAnd", desc := "()Z" } : Jvm.MethodName)) ∈ lw_tbl := lw_at lw_m8 105 rfl
theorem q1894 : (Jvm.Cond.instanceMethod ({ cls := "TwoHalvesModel", name := "readAnd", desc := "()Z" } : Jvm.MethodName)) ∈ lw_all := lw_g (lw_at lw_m8 106 rfl) rfl
theorem q1895 : (Jvm.Cond.code ({ cls := "TwoHalvesModel", name := "readAnd", desc := "()Z" } : Jvm.MethodName) prog_24_method_99_code (2 : Nat) (Option.some Jvm.ClassFile.FieldType.boolean)) ∈ lw_all := lw_g (lw_at lw_m8 107 rfl) rfl
theorem q1896 : (Jvm.Cond.methodLink "TwoHalvesModel" (370 : Nat) ({ cls := "TwoHalvesModel", name := "readOne", desc := "()Z" } : Jvm.MethodName)) ∈ lw_all := lw_g (lw_at lw_m8 108 rfl) rfl
theorem q1897 : (Jvm.Cond.privateMethod ({ cls := "TwoHalvesModel", name := "readOne", desc := "()Z" } : Jvm.MethodName)) ∈ lw_tbl := lw_at lw_m8 109 rfl
theorem q1898 : (Jvm.Cond.instanceMethod ({ cls := "TwoHalvesModel", name := "readOne", desc := "()Z" } : Jvm.MethodName)) ∈ lw_all := lw_g (lw_at lw_m8 110 rfl) rfl
theorem q1899 : (Jvm.Cond.code ({ cls := "TwoHalvesModel", name := "readOne", desc := "()Z" } : Jvm.MethodName) prog_24_method_100_code (6 : Nat) (Option.some Jvm.ClassFile.FieldType.boolean)) ∈ lw_all := lw_g (lw_at lw_m8 111 rfl) rfl
theorem q1900 : (Jvm.Cond.methodLink "TwoHalvesModel" (373 : Nat) ({ cls := "TwoHalvesModel", name := "sureAtHand", desc := "()I" } : Jvm.MethodName)) ∈ lw_all := lw_g (lw_at lw_m8 112 rfl) rfl
theorem q1901 : (Jvm.Cond.privateMethod ({ cls := "TwoHalvesModel", name := "sureAtHand", desc := "()I" } : Jvm.MethodName)) ∈ lw_tbl := lw_at lw_m8 113 rfl
theorem q1902 : (Jvm.Cond.instanceMethod ({ cls := "TwoHalvesModel", name := "sureAtHand", desc := "()I" } : Jvm.MethodName)) ∈ lw_all := lw_g (lw_at lw_m8 114 rfl) rfl
theorem q1903 : (Jvm.Cond.code ({ cls := "TwoHalvesModel", name := "sureAtHand", desc := "()I" } : Jvm.MethodName) prog_24_method_97_code (1 : Nat) (Option.some Jvm.ClassFile.FieldType.int)) ∈ lw_all := lw_g (lw_at lw_m8 115 rfl) rfl
theorem q1904 : (Jvm.Cond.methodLink "TwoHalvesModel" (376 : Nat) ({ cls := "TwoHalvesModel", name := "countAtHand", desc := "()I" } : Jvm.MethodName)) ∈ lw_all := lw_g (lw_at lw_m8 116 rfl) rfl
theorem q1905 : (Jvm.Cond.privateMethod ({ cls := "TwoHalvesModel", name := "countAtHand", desc := "()I" } : Jvm.MethodName)) ∈ lw_tbl := lw_at lw_m8 117 rfl
theorem q1906 : (Jvm.Cond.instanceMethod ({ cls := "TwoHalvesModel", name := "countAtHand", desc := "()I" } : Jvm.MethodName)) ∈ lw_all := lw_g (lw_at lw_m8 118 rfl) rfl
theorem q1907 : (Jvm.Cond.code ({ cls := "TwoHalvesModel", name := "countAtHand", desc := "()I" } : Jvm.MethodName) prog_24_method_96_code (1 : Nat) (Option.some Jvm.ClassFile.FieldType.int)) ∈ lw_all := lw_g (lw_at lw_m8 119 rfl) rfl
theorem q1908 : (Jvm.Cond.constantLong "TwoHalvesModel" (354 : Nat) (115 : Int64)) ∈ lw_all := lw_g (lw_at lw_m8 120 rfl) rfl
theorem q1909 : (Jvm.Cond.constantLong "TwoHalvesModel" (356 : Nat) (116 : Int64)) ∈ lw_all := lw_g (lw_at lw_m8 121 rfl) rfl
theorem q1910 : (Jvm.Cond.constantLong "TwoHalvesModel" (358 : Nat) (110 : Int64)) ∈ lw_all := lw_g (lw_at lw_m8 122 rfl) rfl
theorem q1911 : (Jvm.Cond.methodLink "TwoHalvesModel" (385 : Nat) ({ cls := "TwoHalvesModel", name := "readNot", desc := "()Z" } : Jvm.MethodName)) ∈ lw_all := lw_g (lw_at lw_m8 123 rfl) rfl
theorem q1912 : (Jvm.Cond.privateMethod ({ cls := "TwoHalvesModel", name := "readNot", desc := "()Z" } : Jvm.MethodName)) ∈ lw_tbl := lw_at lw_m8 124 rfl
theorem q1913 : (Jvm.Cond.instanceMethod ({ cls := "TwoHalvesModel", name := "readNot", desc := "()Z" } : Jvm.MethodName)) ∈ lw_all := lw_g (lw_at lw_m8 125 rfl) rfl
theorem q1914 : (Jvm.Cond.code ({ cls := "TwoHalvesModel", name := "readNot", desc := "()Z" } : Jvm.MethodName) prog_24_method_101_code (1 : Nat) (Option.some Jvm.ClassFile.FieldType.boolean)) ∈ lw_all := lw_g (lw_at lw_m8 126 rfl) rfl
theorem q1915 : (Jvm.Cond.methodLink "TwoHalvesModel" (366 : Nat) ({ cls := "TwoHalvesModel", name := "lays", desc := "(IIII)I" } : Jvm.MethodName)) ∈ lw_all := lw_g (lw_at lw_m8 127 rfl) rfl
theorem q1916 : (Jvm.Cond.privateMethod ({ cls := "TwoHalvesModel", name := "lays", desc := "(IIII)I" } : Jvm.MethodName)) ∈ lw_tbl := lw_at lw_m8 128 rfl
theorem q1917 : (Jvm.Cond.instanceMethod ({ cls := "TwoHalvesModel", name := "lays", desc := "(IIII)I" } : Jvm.MethodName)) ∈ lw_all := lw_g (lw_at lw_m8 129 rfl) rfl
theorem q1918 : (Jvm.Cond.code ({ cls := "TwoHalvesModel", name := "lays", desc := "(IIII)I" } : Jvm.MethodName) prog_24_method_95_code (6 : Nat) (Option.some Jvm.ClassFile.FieldType.int)) ∈ lw_all := lw_g (lw_at lw_m8 130 rfl) rfl
theorem q1919 : (Jvm.Cond.methodLink "TwoHalvesModel" (388 : Nat) ({ cls := "TwoHalvesModel", name := "readBracket", desc := "()Z" } : Jvm.MethodName)) ∈ lw_all := lw_g (lw_at lw_m8 131 rfl) rfl
theorem q1920 : (Jvm.Cond.privateMethod ({ cls := "TwoHalvesModel", name := "readBracket", desc := "()Z" } : Jvm.MethodName)) ∈ lw_tbl := lw_at lw_m8 132 rfl
theorem q1921 : (Jvm.Cond.instanceMethod ({ cls := "TwoHalvesModel", name := "readBracket", desc := "()Z" } : Jvm.MethodName)) ∈ lw_all := lw_g (lw_at lw_m8 133 rfl) rfl
theorem q1922 : (Jvm.Cond.code ({ cls := "TwoHalvesModel", name := "readBracket", desc := "()Z" } : Jvm.MethodName) prog_24_method_102_code (1 : Nat) (Option.some Jvm.ClassFile.FieldType.boolean)) ∈ lw_all := lw_g (lw_at lw_m8 134 rfl) rfl
theorem q1923 : (Jvm.Cond.methodLink "TwoHalvesModel" (391 : Nat) ({ cls := "TwoHalvesModel", name := "readSure", desc := "(I)Z" } : Jvm.MethodName)) ∈ lw_all := lw_g (lw_at lw_m8 135 rfl) rfl
theorem q1924 : (Jvm.Cond.privateMethod ({ cls := "TwoHalvesModel", name := "readSure", desc := "(I)Z" } : Jvm.MethodName)) ∈ lw_tbl := lw_at lw_m8 136 rfl
theorem q1925 : (Jvm.Cond.instanceMethod ({ cls := "TwoHalvesModel", name := "readSure", desc := "(I)Z" } : Jvm.MethodName)) ∈ lw_all := lw_g (lw_at lw_m8 137 rfl) rfl
theorem q1926 : (Jvm.Cond.code ({ cls := "TwoHalvesModel", name := "readSure", desc := "(I)Z" } : Jvm.MethodName) prog_24_method_103_code (4 : Nat) (Option.some Jvm.ClassFile.FieldType.boolean)) ∈ lw_all := lw_g (lw_at lw_m8 138 rfl) rfl
theorem q1927 : (Jvm.Cond.methodLink "TwoHalvesModel" (394 : Nat) ({ cls := "TwoHalvesModel", name := "readCount", desc := "(I)Z" } : Jvm.MethodName)) ∈ lw_all := lw_g (lw_at lw_m8 139 rfl) rfl
theorem q1928 : (Jvm.Cond.privateMethod ({ cls := "TwoHalvesModel", name := "readCount", desc := "(I)Z" } : Jvm.MethodName)) ∈ lw_tbl := lw_at lw_m8 140 rfl
theorem q1929 : (Jvm.Cond.instanceMethod ({ cls := "TwoHalvesModel", name := "readCount", desc := "(I)Z" } : Jvm.MethodName)) ∈ lw_all := lw_g (lw_at lw_m8 141 rfl) rfl
theorem q1930 : (Jvm.Cond.code ({ cls := "TwoHalvesModel", name := "readCount", desc := "(I)Z" } : Jvm.MethodName) prog_24_method_104_code (3 : Nat) (Option.some Jvm.ClassFile.FieldType.boolean)) ∈ lw_all := lw_g (lw_at lw_m8 142 rfl) rfl
theorem q1932 : (Jvm.Cond.instanceMethod ({ cls := "TwoHalvesModel", name := "whom", desc := "()I" } : Jvm.MethodName)) ∈ lw_all := lw_g (lw_at lw_m8 144 rfl) rfl
theorem q1933 : (Jvm.Cond.selects "TwoHalvesModel" ({ cls := "TwoHalvesModel", name := "whom", desc := "()I" } : Jvm.MethodName) ({ cls := "TwoHalvesModel", name := "whom", desc := "()I" } : Jvm.MethodName)) ∈ lw_all := lw_g (lw_at lw_m8 145 rfl) rfl
theorem q1934 : (Jvm.Cond.code ({ cls := "TwoHalvesModel", name := "whom", desc := "()I" } : Jvm.MethodName) prog_24_method_108_code (3 : Nat) (Option.some Jvm.ClassFile.FieldType.int)) ∈ lw_all := lw_g (lw_at lw_m8 146 rfl) rfl
theorem q1935 : (Jvm.Cond.methodLink "TwoHalvesModel" (400 : Nat) ({ cls := "TwoHalvesModel", name := "isSo", desc := "(II)Z" } : Jvm.MethodName)) ∈ lw_all := lw_g (lw_at lw_m8 147 rfl) rfl
theorem q1936 : (Jvm.Cond.privateMethod ({ cls := "TwoHalvesModel", name := "isSo", desc := "(II)Z" } : Jvm.MethodName)) ∈ lw_tbl := lw_at lw_m8 148 rfl
theorem q1937 : (Jvm.Cond.instanceMethod ({ cls := "TwoHalvesModel", name := "isSo", desc := "(II)Z" } : Jvm.MethodName)) ∈ lw_all := lw_g (lw_at lw_m8 149 rfl) rfl
theorem q1938 : (Jvm.Cond.code ({ cls := "TwoHalvesModel", name := "isSo", desc := "(II)Z" } : Jvm.MethodName) prog_24_method_107_code (5 : Nat) (Option.some Jvm.ClassFile.FieldType.boolean)) ∈ lw_all := lw_g (lw_at lw_m8 150 rfl) rfl
theorem q1939 : (Jvm.Cond.methodLink "TwoHalvesModel" (403 : Nat) ({ cls := "TwoHalvesModel", name := "countOf", desc := "(II)I" } : Jvm.MethodName)) ∈ lw_all := lw_g (lw_at lw_m8 151 rfl) rfl
theorem q1940 : (Jvm.Cond.privateMethod ({ cls := "TwoHalvesModel", name := "countOf", desc := "(II)I" } : Jvm.MethodName)) ∈ lw_tbl := lw_at lw_m8 152 rfl
theorem q1941 : (Jvm.Cond.instanceMethod ({ cls := "TwoHalvesModel", name := "countOf", desc := "(II)I" } : Jvm.MethodName)) ∈ lw_all := lw_g (lw_at lw_m8 153 rfl) rfl
theorem q1942 : (Jvm.Cond.code ({ cls := "TwoHalvesModel", name := "countOf", desc := "(II)I" } : Jvm.MethodName) prog_24_method_106_code (6 : Nat) (Option.some Jvm.ClassFile.FieldType.int)) ∈ lw_all := lw_g (lw_at lw_m8 154 rfl) rfl
theorem q1944 : (Jvm.Cond.instanceMethod ({ cls := "TwoHalvesModel", name := "image", desc := "(I)Z" } : Jvm.MethodName)) ∈ lw_all := lw_g (lw_at lw_m8 156 rfl) rfl
theorem q1945 : (Jvm.Cond.selects "TwoHalvesModel" ({ cls := "TwoHalvesModel", name := "image", desc := "(I)Z" } : Jvm.MethodName) ({ cls := "TwoHalvesModel", name := "image", desc := "(I)Z" } : Jvm.MethodName)) ∈ lw_all := lw_g (lw_at lw_m8 157 rfl) rfl
theorem q1946 : (Jvm.Cond.code ({ cls := "TwoHalvesModel", name := "image", desc := "(I)Z" } : Jvm.MethodName) prog_24_method_109_code (3 : Nat) (Option.some Jvm.ClassFile.FieldType.boolean)) ∈ lw_all := lw_g (lw_at lw_m8 158 rfl) rfl
theorem q1948 : (Jvm.Cond.instanceMethod ({ cls := "TwoHalvesModel", name := "restore", desc := "(I)Z" } : Jvm.MethodName)) ∈ lw_all := lw_g (lw_at lw_m8 160 rfl) rfl
theorem q1949 : (Jvm.Cond.selects "TwoHalvesModel" ({ cls := "TwoHalvesModel", name := "restore", desc := "(I)Z" } : Jvm.MethodName) ({ cls := "TwoHalvesModel", name := "restore", desc := "(I)Z" } : Jvm.MethodName)) ∈ lw_all := lw_g (lw_at lw_m8 161 rfl) rfl
theorem q1950 : (Jvm.Cond.code ({ cls := "TwoHalvesModel", name := "restore", desc := "(I)Z" } : Jvm.MethodName) prog_24_method_110_code (3 : Nat) (Option.some Jvm.ClassFile.FieldType.boolean)) ∈ lw_all := lw_g (lw_at lw_m8 162 rfl) rfl
theorem q1952 : (Jvm.Cond.instanceMethod ({ cls := "TwoHalvesModel", name := "count", desc := "(I)I" } : Jvm.MethodName)) ∈ lw_all := lw_g (lw_at lw_m8 164 rfl) rfl
theorem q1953 : (Jvm.Cond.selects "TwoHalvesModel" ({ cls := "TwoHalvesModel", name := "count", desc := "(I)I" } : Jvm.MethodName) ({ cls := "TwoHalvesModel", name := "count", desc := "(I)I" } : Jvm.MethodName)) ∈ lw_all := lw_g (lw_at lw_m8 165 rfl) rfl
theorem q1954 : (Jvm.Cond.code ({ cls := "TwoHalvesModel", name := "count", desc := "(I)I" } : Jvm.MethodName) prog_24_method_111_code (2 : Nat) (Option.some Jvm.ClassFile.FieldType.int)) ∈ lw_all := lw_g (lw_at lw_m8 166 rfl) rfl
theorem q1980 : (Jvm.Cond.castable "TwoHalvesModel" "java/lang/Object") ∈ lw_tbl := lw_at lw_m8 192 rfl
theorem in_X13 : ∀ w ∈ wsX130, w ∈ lw_all := lw_in wsX130 [1428, 1430, 1432, 1434, 1436, 1438, 1440, 1442, 1444, 1446, 1448, 1450, 1452, 1454, 1456, 1458, 1460, 1462, 1464, 1466, 1468, 1470, 1472, 1474, 1476, 1478, 1480, 1482, 1484, 1486, 1488, 1490, 1492, 1494, 1496, 1498, 1500, 1502, 1504, 1506, 1508, 1510] (by decide +kernel) (by decide +kernel)
