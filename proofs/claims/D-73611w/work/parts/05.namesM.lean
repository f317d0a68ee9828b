/-! VersionSearchModel -/
set_option maxRecDepth 100000
def RX2 : String := "VersionSearchModel"
def TX2 : u_T := fun k => match k with
  | 0 => ("VersionSearchModel", "code", "I", false)
  | 1 => ("VersionSearchModel", "tape", "[B", true)
  | 2 => ("VersionSearchModel", "size", "[I", true)
  | 3 => ("VersionSearchModel", "fault", "[I", true)
  | 4 => ("VersionSearchModel", "faultPlace", "[I", true)
  | 5 => ("VersionSearchModel", "many", "[I", true)
  | 6 => ("VersionSearchModel", "archives", "[I", true)
  | 7 => ("VersionSearchModel", "askings", "[I", true)
  | 8 => ("VersionSearchModel", "hunts", "[I", true)
  | 9 => ("VersionSearchModel", "reached", "I", false)
  | 10 => ("VersionSearchModel", "length", "I", false)
  | 11 => ("VersionSearchModel", "begins", "I", false)
  | 12 => ("VersionSearchModel", "sort", "I", false)
  | 13 => ("VersionSearchModel", "value", "I", false)
  | 14 => ("VersionSearchModel", "word", "J", false)
  | 15 => ("VersionSearchModel", "wrongAt", "I", false)
  | 16 => ("VersionSearchModel", "laterFault", "I", false)
  | 17 => ("VersionSearchModel", "laterPlace", "I", false)
  | 18 => ("VersionSearchModel", "told", "[I", true)
  | 19 => ("VersionSearchModel", "read", "[I", true)
  | 20 => ("VersionSearchModel", "readWords", "[I", true)
  | 21 => ("VersionSearchModel", "wordsRead", "I", false)
  | 22 => ("VersionSearchModel", "good", "Z", false)
  | 23 => ("VersionSearchModel", "line", "I", false)
  | 24 => ("VersionSearchModel", "tokens", "I", false)
  | 25 => ("VersionSearchModel", "wordsAll", "I", false)
  | 26 => ("VersionSearchModel", "words", "[I", true)
  | 27 => ("VersionSearchModel", "same", "[I", true)
  | 28 => ("VersionSearchModel", "asking", "I", false)
  | 29 => ("VersionSearchModel", "held", "[I", true)
  | 30 => ("VersionSearchModel", "hunt", "I", false)
  | 31 => ("VersionSearchModel", "fit", "I", false)
  | 32 => ("VersionSearchModel", "asked", "I", false)
  | 33 => ("VersionSearchModel", "firsts", "I", false)
  | 34 => ("VersionSearchModel", "seen", "[I", true)
  | 35 => ("VersionSearchModel", "seed", "I", false)
  | _ => ("VersionSearchModel", "saved", "[Z", true)
def tyX2 : Nat → FieldType := fun k => match k with
  | 0 => .int
  | 1 => .array .byte
  | 2 => .array .int
  | 3 => .array .int
  | 4 => .array .int
  | 5 => .array .int
  | 6 => .array .int
  | 7 => .array .int
  | 8 => .array .int
  | 9 => .int
  | 10 => .int
  | 11 => .int
  | 12 => .int
  | 13 => .int
  | 14 => .long
  | 15 => .int
  | 16 => .int
  | 17 => .int
  | 18 => .array .int
  | 19 => .array .int
  | 20 => .array .int
  | 21 => .int
  | 22 => .boolean
  | 23 => .int
  | 24 => .int
  | 25 => .int
  | 26 => .array .int
  | 27 => .array .int
  | 28 => .int
  | 29 => .array .int
  | 30 => .int
  | 31 => .int
  | 32 => .int
  | 33 => .int
  | 34 => .array .int
  | 35 => .int
  | _ => .array .boolean
abbrev wsX20 : List Cond := u_ws RX2 TX2 37
set_option maxRecDepth 100000 in
theorem nmX2 : ∀ a, a < 37 → ∀ b, b < 37 → a ≠ b → (TX2 a).2.1 ≠ (TX2 b).2.1 := by decide +kernel
set_option maxRecDepth 100000 in
theorem tyX2_ok : ∀ k, k < 37 → parseFieldDescriptor (TX2 k).2.2.1 = some (tyX2 k) := by decide +kernel
abbrev cX2_init : ByteArray := prog_25_method_1_code
def yX2_init : MethodName := ⟨RX2, "<init>", "()V"⟩
def dkwX2_init_6 : List UInt8 := [79, 177]
abbrev dktX2_init_6 : List UInt8 := dkwX2_init_6 ++ []
def dkwX2_init_5 : List UInt8 := [181, 0, 50, 42, 16, 40, 188, 10, 181, 0, 53, 42, 6, 188, 4, 181, 0, 56, 42, 180, 0, 20, 3, 2]
abbrev dktX2_init_5 : List UInt8 := dkwX2_init_5 ++ dktX2_init_6
def dkwX2_init_4 : List UInt8 := [42, 17, 1, 64, 188, 10, 181, 0, 44, 42, 17, 1, 185, 188, 10, 181, 0, 47, 42, 16, 32, 188, 10]
abbrev dktX2_init_4 : List UInt8 := dkwX2_init_4 ++ dktX2_init_5
def dkwX2_init_3 : List UInt8 := [17, 5, 246, 188, 10, 181, 0, 35, 42, 7, 188, 10, 181, 0, 38, 42, 17, 1, 44, 188, 10, 181, 0, 41]
abbrev dktX2_init_3 : List UInt8 := dkwX2_init_3 ++ dktX2_init_4
def dkwX2_init_2 : List UInt8 := [181, 0, 26, 42, 17, 1, 200, 188, 10, 181, 0, 29, 42, 17, 0, 200, 188, 10, 181, 0, 32, 42]
abbrev dktX2_init_2 : List UInt8 := dkwX2_init_2 ++ dktX2_init_3
def dkwX2_init_1 : List UInt8 := [181, 0, 17, 42, 7, 188, 10, 181, 0, 20, 42, 16, 12, 188, 10, 181, 0, 23, 42, 17, 47, 176, 188, 10]
abbrev dktX2_init_1 : List UInt8 := dkwX2_init_1 ++ dktX2_init_2
def dkwX2_init_0 : List UInt8 := [42, 183, 0, 1, 42, 17, 9, 96, 188, 8, 181, 0, 7, 42, 7, 188, 10, 181, 0, 13, 42, 7, 188, 10]
abbrev dktX2_init_0 : List UInt8 := dkwX2_init_0 ++ dktX2_init_1
theorem dksX2_init_0 : cX2_init.data.toList.drop 0 = dktX2_init_0 := by decide +kernel
theorem dksX2_init_1 : cX2_init.data.toList.drop 24 = dktX2_init_1 := dk_seg dksX2_init_0 24 rfl rfl
theorem dksX2_init_2 : cX2_init.data.toList.drop 48 = dktX2_init_2 := dk_seg dksX2_init_1 24 rfl rfl
theorem dksX2_init_3 : cX2_init.data.toList.drop 70 = dktX2_init_3 := dk_seg dksX2_init_2 22 rfl rfl
theorem dksX2_init_4 : cX2_init.data.toList.drop 94 = dktX2_init_4 := dk_seg dksX2_init_3 24 rfl rfl
theorem dksX2_init_5 : cX2_init.data.toList.drop 117 = dktX2_init_5 := dk_seg dksX2_init_4 23 rfl rfl
theorem dksX2_init_6 : cX2_init.data.toList.drop 141 = dktX2_init_6 := dk_seg dksX2_init_5 24 rfl rfl
theorem dX2_init_0 : decode cX2_init 0 = .ok (.aload_n 0, 1) := dk_42 (dk_at dksX2_init_0 0 rfl rfl)
theorem dX2_init_1 : decode cX2_init 1 = .ok (.invokespecial 1, 3) := dk_183 0 1 (dk_at dksX2_init_0 1 rfl rfl)
theorem dX2_init_4 : decode cX2_init 4 = .ok (.aload_n 0, 1) := dk_42 (dk_at dksX2_init_0 4 rfl rfl)
theorem dX2_init_5 : decode cX2_init 5 = .ok (.sipush 2400, 3) := dk_17 9 96 (dk_at dksX2_init_0 5 rfl rfl)
theorem dX2_init_8 : decode cX2_init 8 = .ok (.newarray .byte, 2) := dk_188_8 (dk_at dksX2_init_0 8 rfl rfl)
theorem dX2_init_10 : decode cX2_init 10 = .ok (.putfield 7, 3) := dk_181 0 7 (dk_at dksX2_init_0 10 rfl rfl)
theorem dX2_init_13 : decode cX2_init 13 = .ok (.aload_n 0, 1) := dk_42 (dk_at dksX2_init_0 13 rfl rfl)
theorem dX2_init_14 : decode cX2_init 14 = .ok (.iconst 4, 1) := dk_7 (dk_at dksX2_init_0 14 rfl rfl)
theorem dX2_init_15 : decode cX2_init 15 = .ok (.newarray .int, 2) := dk_188_10 (dk_at dksX2_init_0 15 rfl rfl)
theorem dX2_init_17 : decode cX2_init 17 = .ok (.putfield 13, 3) := dk_181 0 13 (dk_at dksX2_init_0 17 rfl rfl)
theorem dX2_init_20 : decode cX2_init 20 = .ok (.aload_n 0, 1) := dk_42 (dk_at dksX2_init_0 20 rfl rfl)
theorem dX2_init_21 : decode cX2_init 21 = .ok (.iconst 4, 1) := dk_7 (dk_at dksX2_init_0 21 rfl rfl)
theorem dX2_init_22 : decode cX2_init 22 = .ok (.newarray .int, 2) := dk_188_10 (dk_at dksX2_init_0 22 rfl rfl)
theorem dX2_init_24 : decode cX2_init 24 = .ok (.putfield 17, 3) := dk_181 0 17 (dk_at dksX2_init_1 0 rfl rfl)
theorem dX2_init_27 : decode cX2_init 27 = .ok (.aload_n 0, 1) := dk_42 (dk_at dksX2_init_1 3 rfl rfl)
theorem dX2_init_28 : decode cX2_init 28 = .ok (.iconst 4, 1) := dk_7 (dk_at dksX2_init_1 4 rfl rfl)
theorem dX2_init_29 : decode cX2_init 29 = .ok (.newarray .int, 2) := dk_188_10 (dk_at dksX2_init_1 5 rfl rfl)
theorem dX2_init_31 : decode cX2_init 31 = .ok (.putfield 20, 3) := dk_181 0 20 (dk_at dksX2_init_1 7 rfl rfl)
theorem dX2_init_34 : decode cX2_init 34 = .ok (.aload_n 0, 1) := dk_42 (dk_at dksX2_init_1 10 rfl rfl)
theorem dX2_init_35 : decode cX2_init 35 = .ok (.bipush 12, 2) := dk_16 12 (dk_at dksX2_init_1 11 rfl rfl)
theorem dX2_init_37 : decode cX2_init 37 = .ok (.newarray .int, 2) := dk_188_10 (dk_at dksX2_init_1 13 rfl rfl)
theorem dX2_init_39 : decode cX2_init 39 = .ok (.putfield 23, 3) := dk_181 0 23 (dk_at dksX2_init_1 15 rfl rfl)
theorem dX2_init_42 : decode cX2_init 42 = .ok (.aload_n 0, 1) := dk_42 (dk_at dksX2_init_1 18 rfl rfl)
theorem dX2_init_43 : decode cX2_init 43 = .ok (.sipush 12208, 3) := dk_17 47 176 (dk_at dksX2_init_1 19 rfl rfl)
theorem dX2_init_46 : decode cX2_init 46 = .ok (.newarray .int, 2) := dk_188_10 (dk_at dksX2_init_1 22 rfl rfl)
theorem dX2_init_48 : decode cX2_init 48 = .ok (.putfield 26, 3) := dk_181 0 26 (dk_at dksX2_init_2 0 rfl rfl)
theorem dX2_init_51 : decode cX2_init 51 = .ok (.aload_n 0, 1) := dk_42 (dk_at dksX2_init_2 3 rfl rfl)
theorem dX2_init_52 : decode cX2_init 52 = .ok (.sipush 456, 3) := dk_17 1 200 (dk_at dksX2_init_2 4 rfl rfl)
theorem dX2_init_55 : decode cX2_init 55 = .ok (.newarray .int, 2) := dk_188_10 (dk_at dksX2_init_2 7 rfl rfl)
theorem dX2_init_57 : decode cX2_init 57 = .ok (.putfield 29, 3) := dk_181 0 29 (dk_at dksX2_init_2 9 rfl rfl)
theorem dX2_init_60 : decode cX2_init 60 = .ok (.aload_n 0, 1) := dk_42 (dk_at dksX2_init_2 12 rfl rfl)
theorem dX2_init_61 : decode cX2_init 61 = .ok (.sipush 200, 3) := dk_17 0 200 (dk_at dksX2_init_2 13 rfl rfl)
theorem dX2_init_64 : decode cX2_init 64 = .ok (.newarray .int, 2) := dk_188_10 (dk_at dksX2_init_2 16 rfl rfl)
theorem dX2_init_66 : decode cX2_init 66 = .ok (.putfield 32, 3) := dk_181 0 32 (dk_at dksX2_init_2 18 rfl rfl)
theorem dX2_init_69 : decode cX2_init 69 = .ok (.aload_n 0, 1) := dk_42 (dk_at dksX2_init_2 21 rfl rfl)
theorem dX2_init_70 : decode cX2_init 70 = .ok (.sipush 1526, 3) := dk_17 5 246 (dk_at dksX2_init_3 0 rfl rfl)
theorem dX2_init_73 : decode cX2_init 73 = .ok (.newarray .int, 2) := dk_188_10 (dk_at dksX2_init_3 3 rfl rfl)
theorem dX2_init_75 : decode cX2_init 75 = .ok (.putfield 35, 3) := dk_181 0 35 (dk_at dksX2_init_3 5 rfl rfl)
theorem dX2_init_78 : decode cX2_init 78 = .ok (.aload_n 0, 1) := dk_42 (dk_at dksX2_init_3 8 rfl rfl)
theorem dX2_init_79 : decode cX2_init 79 = .ok (.iconst 4, 1) := dk_7 (dk_at dksX2_init_3 9 rfl rfl)
theorem dX2_init_80 : decode cX2_init 80 = .ok (.newarray .int, 2) := dk_188_10 (dk_at dksX2_init_3 10 rfl rfl)
theorem dX2_init_82 : decode cX2_init 82 = .ok (.putfield 38, 3) := dk_181 0 38 (dk_at dksX2_init_3 12 rfl rfl)
theorem dX2_init_85 : decode cX2_init 85 = .ok (.aload_n 0, 1) := dk_42 (dk_at dksX2_init_3 15 rfl rfl)
theorem dX2_init_86 : decode cX2_init 86 = .ok (.sipush 300, 3) := dk_17 1 44 (dk_at dksX2_init_3 16 rfl rfl)
theorem dX2_init_89 : decode cX2_init 89 = .ok (.newarray .int, 2) := dk_188_10 (dk_at dksX2_init_3 19 rfl rfl)
theorem dX2_init_91 : decode cX2_init 91 = .ok (.putfield 41, 3) := dk_181 0 41 (dk_at dksX2_init_3 21 rfl rfl)
theorem dX2_init_94 : decode cX2_init 94 = .ok (.aload_n 0, 1) := dk_42 (dk_at dksX2_init_4 0 rfl rfl)
theorem dX2_init_95 : decode cX2_init 95 = .ok (.sipush 320, 3) := dk_17 1 64 (dk_at dksX2_init_4 1 rfl rfl)
theorem dX2_init_98 : decode cX2_init 98 = .ok (.newarray .int, 2) := dk_188_10 (dk_at dksX2_init_4 4 rfl rfl)
theorem dX2_init_100 : decode cX2_init 100 = .ok (.putfield 44, 3) := dk_181 0 44 (dk_at dksX2_init_4 6 rfl rfl)
theorem dX2_init_103 : decode cX2_init 103 = .ok (.aload_n 0, 1) := dk_42 (dk_at dksX2_init_4 9 rfl rfl)
theorem dX2_init_104 : decode cX2_init 104 = .ok (.sipush 441, 3) := dk_17 1 185 (dk_at dksX2_init_4 10 rfl rfl)
theorem dX2_init_107 : decode cX2_init 107 = .ok (.newarray .int, 2) := dk_188_10 (dk_at dksX2_init_4 13 rfl rfl)
theorem dX2_init_109 : decode cX2_init 109 = .ok (.putfield 47, 3) := dk_181 0 47 (dk_at dksX2_init_4 15 rfl rfl)
theorem dX2_init_112 : decode cX2_init 112 = .ok (.aload_n 0, 1) := dk_42 (dk_at dksX2_init_4 18 rfl rfl)
theorem dX2_init_113 : decode cX2_init 113 = .ok (.bipush 32, 2) := dk_16 32 (dk_at dksX2_init_4 19 rfl rfl)
theorem dX2_init_115 : decode cX2_init 115 = .ok (.newarray .int, 2) := dk_188_10 (dk_at dksX2_init_4 21 rfl rfl)
theorem dX2_init_117 : decode cX2_init 117 = .ok (.putfield 50, 3) := dk_181 0 50 (dk_at dksX2_init_5 0 rfl rfl)
theorem dX2_init_120 : decode cX2_init 120 = .ok (.aload_n 0, 1) := dk_42 (dk_at dksX2_init_5 3 rfl rfl)
theorem dX2_init_121 : decode cX2_init 121 = .ok (.bipush 40, 2) := dk_16 40 (dk_at dksX2_init_5 4 rfl rfl)
theorem dX2_init_123 : decode cX2_init 123 = .ok (.newarray .int, 2) := dk_188_10 (dk_at dksX2_init_5 6 rfl rfl)
theorem dX2_init_125 : decode cX2_init 125 = .ok (.putfield 53, 3) := dk_181 0 53 (dk_at dksX2_init_5 8 rfl rfl)
theorem dX2_init_128 : decode cX2_init 128 = .ok (.aload_n 0, 1) := dk_42 (dk_at dksX2_init_5 11 rfl rfl)
theorem dX2_init_129 : decode cX2_init 129 = .ok (.iconst 3, 1) := dk_6 (dk_at dksX2_init_5 12 rfl rfl)
theorem dX2_init_130 : decode cX2_init 130 = .ok (.newarray .boolean, 2) := dk_188_4 (dk_at dksX2_init_5 13 rfl rfl)
theorem dX2_init_132 : decode cX2_init 132 = .ok (.putfield 56, 3) := dk_181 0 56 (dk_at dksX2_init_5 15 rfl rfl)
theorem dX2_init_135 : decode cX2_init 135 = .ok (.aload_n 0, 1) := dk_42 (dk_at dksX2_init_5 18 rfl rfl)
theorem dX2_init_136 : decode cX2_init 136 = .ok (.getfield 20, 3) := dk_180 0 20 (dk_at dksX2_init_5 19 rfl rfl)
theorem dX2_init_139 : decode cX2_init 139 = .ok (.iconst 0, 1) := dk_3 (dk_at dksX2_init_5 22 rfl rfl)
theorem dX2_init_140 : decode cX2_init 140 = .ok (.iconst (-1), 1) := dk_2 (dk_at dksX2_init_5 23 rfl rfl)
theorem dX2_init_141 : decode cX2_init 141 = .ok (.iastore, 1) := dk_79 (dk_at dksX2_init_6 0 rfl rfl)
theorem dX2_init_142 : decode cX2_init 142 = .ok (.return_, 1) := dk_177 (dk_at dksX2_init_6 1 rfl rfl)
abbrev cX2_feed : ByteArray := prog_25_method_11_code
def yX2_feed : MethodName := ⟨RX2, "feed", "(IIIII)I"⟩
def dkwX2_feed_2 : List UInt8 := [182, 0, 76, 42, 180, 0, 13, 3, 46, 172]
abbrev dktX2_feed_2 : List UInt8 := dkwX2_feed_2 ++ []
def dkwX2_feed_1 : List UInt8 := [182, 0, 76, 42, 28, 182, 0, 76, 42, 29, 182, 0, 76, 42, 21, 4, 182, 0, 76, 42, 21, 5]
abbrev dktX2_feed_1 : List UInt8 := dkwX2_feed_1 ++ dktX2_feed_2
def dkwX2_feed_0 : List UInt8 := [42, 3, 181, 0, 60, 42, 180, 0, 13, 3, 46, 16, 20, 96, 17, 2, 88, 164, 0, 5, 2, 172, 42, 27]
abbrev dktX2_feed_0 : List UInt8 := dkwX2_feed_0 ++ dktX2_feed_1
theorem dksX2_feed_0 : cX2_feed.data.toList.drop 0 = dktX2_feed_0 := by decide +kernel
theorem dksX2_feed_1 : cX2_feed.data.toList.drop 24 = dktX2_feed_1 := dk_seg dksX2_feed_0 24 rfl rfl
theorem dksX2_feed_2 : cX2_feed.data.toList.drop 46 = dktX2_feed_2 := dk_seg dksX2_feed_1 22 rfl rfl
theorem dX2_feed_0 : decode cX2_feed 0 = .ok (.aload_n 0, 1) := dk_42 (dk_at dksX2_feed_0 0 rfl rfl)
theorem dX2_feed_1 : decode cX2_feed 1 = .ok (.iconst 0, 1) := dk_3 (dk_at dksX2_feed_0 1 rfl rfl)
theorem dX2_feed_2 : decode cX2_feed 2 = .ok (.putfield 60, 3) := dk_181 0 60 (dk_at dksX2_feed_0 2 rfl rfl)
theorem dX2_feed_5 : decode cX2_feed 5 = .ok (.aload_n 0, 1) := dk_42 (dk_at dksX2_feed_0 5 rfl rfl)
theorem dX2_feed_6 : decode cX2_feed 6 = .ok (.getfield 13, 3) := dk_180 0 13 (dk_at dksX2_feed_0 6 rfl rfl)
theorem dX2_feed_9 : decode cX2_feed 9 = .ok (.iconst 0, 1) := dk_3 (dk_at dksX2_feed_0 9 rfl rfl)
theorem dX2_feed_10 : decode cX2_feed 10 = .ok (.iaload, 1) := dk_46 (dk_at dksX2_feed_0 10 rfl rfl)
theorem dX2_feed_11 : decode cX2_feed 11 = .ok (.bipush 20, 2) := dk_16 20 (dk_at dksX2_feed_0 11 rfl rfl)
theorem dX2_feed_13 : decode cX2_feed 13 = .ok (.iadd, 1) := dk_96 (dk_at dksX2_feed_0 13 rfl rfl)
theorem dX2_feed_14 : decode cX2_feed 14 = .ok (.sipush 600, 3) := dk_17 2 88 (dk_at dksX2_feed_0 14 rfl rfl)
theorem dX2_feed_17 : decode cX2_feed 17 = .ok (.if_icmp .le 5, 3) := dk_164 0 5 (dk_at dksX2_feed_0 17 rfl rfl)
theorem dX2_feed_20 : decode cX2_feed 20 = .ok (.iconst (-1), 1) := dk_2 (dk_at dksX2_feed_0 20 rfl rfl)
theorem dX2_feed_21 : decode cX2_feed 21 = .ok (.ireturn, 1) := dk_172 (dk_at dksX2_feed_0 21 rfl rfl)
theorem dX2_feed_22 : decode cX2_feed 22 = .ok (.aload_n 0, 1) := dk_42 (dk_at dksX2_feed_0 22 rfl rfl)
theorem dX2_feed_23 : decode cX2_feed 23 = .ok (.iload_n 1, 1) := dk_27 (dk_at dksX2_feed_0 23 rfl rfl)
theorem dX2_feed_24 : decode cX2_feed 24 = .ok (.invokevirtual 76, 3) := dk_182 0 76 (dk_at dksX2_feed_1 0 rfl rfl)
theorem dX2_feed_27 : decode cX2_feed 27 = .ok (.aload_n 0, 1) := dk_42 (dk_at dksX2_feed_1 3 rfl rfl)
theorem dX2_feed_28 : decode cX2_feed 28 = .ok (.iload_n 2, 1) := dk_28 (dk_at dksX2_feed_1 4 rfl rfl)
theorem dX2_feed_29 : decode cX2_feed 29 = .ok (.invokevirtual 76, 3) := dk_182 0 76 (dk_at dksX2_feed_1 5 rfl rfl)
theorem dX2_feed_32 : decode cX2_feed 32 = .ok (.aload_n 0, 1) := dk_42 (dk_at dksX2_feed_1 8 rfl rfl)
theorem dX2_feed_33 : decode cX2_feed 33 = .ok (.iload_n 3, 1) := dk_29 (dk_at dksX2_feed_1 9 rfl rfl)
theorem dX2_feed_34 : decode cX2_feed 34 = .ok (.invokevirtual 76, 3) := dk_182 0 76 (dk_at dksX2_feed_1 10 rfl rfl)
theorem dX2_feed_37 : decode cX2_feed 37 = .ok (.aload_n 0, 1) := dk_42 (dk_at dksX2_feed_1 13 rfl rfl)
theorem dX2_feed_38 : decode cX2_feed 38 = .ok (.iload 4, 2) := dk_21 4 (dk_at dksX2_feed_1 14 rfl rfl)
theorem dX2_feed_40 : decode cX2_feed 40 = .ok (.invokevirtual 76, 3) := dk_182 0 76 (dk_at dksX2_feed_1 16 rfl rfl)
theorem dX2_feed_43 : decode cX2_feed 43 = .ok (.aload_n 0, 1) := dk_42 (dk_at dksX2_feed_1 19 rfl rfl)
theorem dX2_feed_44 : decode cX2_feed 44 = .ok (.iload 5, 2) := dk_21 5 (dk_at dksX2_feed_1 20 rfl rfl)
theorem dX2_feed_46 : decode cX2_feed 46 = .ok (.invokevirtual 76, 3) := dk_182 0 76 (dk_at dksX2_feed_2 0 rfl rfl)
theorem dX2_feed_49 : decode cX2_feed 49 = .ok (.aload_n 0, 1) := dk_42 (dk_at dksX2_feed_2 3 rfl rfl)
theorem dX2_feed_50 : decode cX2_feed 50 = .ok (.getfield 13, 3) := dk_180 0 13 (dk_at dksX2_feed_2 4 rfl rfl)
theorem dX2_feed_53 : decode cX2_feed 53 = .ok (.iconst 0, 1) := dk_3 (dk_at dksX2_feed_2 7 rfl rfl)
theorem dX2_feed_54 : decode cX2_feed 54 = .ok (.iaload, 1) := dk_46 (dk_at dksX2_feed_2 8 rfl rfl)
theorem dX2_feed_55 : decode cX2_feed 55 = .ok (.ireturn, 1) := dk_172 (dk_at dksX2_feed_2 9 rfl rfl)
abbrev cX2_four : ByteArray := prog_25_method_12_code
def yX2_four : MethodName := ⟨RX2, "four", "(I)V"⟩
def dkwX2_four_1 : List UInt8 := [180, 0, 13, 3, 92, 46, 4, 96, 79, 132, 2, 248, 167, 255, 224, 177]
abbrev dktX2_four_1 : List UInt8 := dkwX2_four_1 ++ []
def dkwX2_four_0 : List UInt8 := [16, 24, 61, 28, 155, 0, 34, 42, 180, 0, 7, 42, 180, 0, 13, 3, 46, 27, 28, 122, 145, 84, 42]
abbrev dktX2_four_0 : List UInt8 := dkwX2_four_0 ++ dktX2_four_1
theorem dksX2_four_0 : cX2_four.data.toList.drop 0 = dktX2_four_0 := by decide +kernel
theorem dksX2_four_1 : cX2_four.data.toList.drop 23 = dktX2_four_1 := dk_seg dksX2_four_0 23 rfl rfl
theorem dX2_four_0 : decode cX2_four 0 = .ok (.bipush 24, 2) := dk_16 24 (dk_at dksX2_four_0 0 rfl rfl)
theorem dX2_four_2 : decode cX2_four 2 = .ok (.istore_n 2, 1) := dk_61 (dk_at dksX2_four_0 2 rfl rfl)
theorem dX2_four_3 : decode cX2_four 3 = .ok (.iload_n 2, 1) := dk_28 (dk_at dksX2_four_0 3 rfl rfl)
theorem dX2_four_4 : decode cX2_four 4 = .ok (.ifCond .lt 34, 3) := dk_155 0 34 (dk_at dksX2_four_0 4 rfl rfl)
theorem dX2_four_7 : decode cX2_four 7 = .ok (.aload_n 0, 1) := dk_42 (dk_at dksX2_four_0 7 rfl rfl)
theorem dX2_four_8 : decode cX2_four 8 = .ok (.getfield 7, 3) := dk_180 0 7 (dk_at dksX2_four_0 8 rfl rfl)
theorem dX2_four_11 : decode cX2_four 11 = .ok (.aload_n 0, 1) := dk_42 (dk_at dksX2_four_0 11 rfl rfl)
theorem dX2_four_12 : decode cX2_four 12 = .ok (.getfield 13, 3) := dk_180 0 13 (dk_at dksX2_four_0 12 rfl rfl)
theorem dX2_four_15 : decode cX2_four 15 = .ok (.iconst 0, 1) := dk_3 (dk_at dksX2_four_0 15 rfl rfl)
theorem dX2_four_16 : decode cX2_four 16 = .ok (.iaload, 1) := dk_46 (dk_at dksX2_four_0 16 rfl rfl)
theorem dX2_four_17 : decode cX2_four 17 = .ok (.iload_n 1, 1) := dk_27 (dk_at dksX2_four_0 17 rfl rfl)
theorem dX2_four_18 : decode cX2_four 18 = .ok (.iload_n 2, 1) := dk_28 (dk_at dksX2_four_0 18 rfl rfl)
theorem dX2_four_19 : decode cX2_four 19 = .ok (.ishr, 1) := dk_122 (dk_at dksX2_four_0 19 rfl rfl)
theorem dX2_four_20 : decode cX2_four 20 = .ok (.i2b, 1) := dk_145 (dk_at dksX2_four_0 20 rfl rfl)
theorem dX2_four_21 : decode cX2_four 21 = .ok (.bastore, 1) := dk_84 (dk_at dksX2_four_0 21 rfl rfl)
theorem dX2_four_22 : decode cX2_four 22 = .ok (.aload_n 0, 1) := dk_42 (dk_at dksX2_four_0 22 rfl rfl)
theorem dX2_four_23 : decode cX2_four 23 = .ok (.getfield 13, 3) := dk_180 0 13 (dk_at dksX2_four_1 0 rfl rfl)
theorem dX2_four_26 : decode cX2_four 26 = .ok (.iconst 0, 1) := dk_3 (dk_at dksX2_four_1 3 rfl rfl)
theorem dX2_four_27 : decode cX2_four 27 = .ok (.dup2, 1) := dk_92 (dk_at dksX2_four_1 4 rfl rfl)
theorem dX2_four_28 : decode cX2_four 28 = .ok (.iaload, 1) := dk_46 (dk_at dksX2_four_1 5 rfl rfl)
theorem dX2_four_29 : decode cX2_four 29 = .ok (.iconst 1, 1) := dk_4 (dk_at dksX2_four_1 6 rfl rfl)
theorem dX2_four_30 : decode cX2_four 30 = .ok (.iadd, 1) := dk_96 (dk_at dksX2_four_1 7 rfl rfl)
theorem dX2_four_31 : decode cX2_four 31 = .ok (.iastore, 1) := dk_79 (dk_at dksX2_four_1 8 rfl rfl)
theorem dX2_four_32 : decode cX2_four 32 = .ok (.iinc 2 (-8), 3) := dk_132 2 248 (dk_at dksX2_four_1 9 rfl rfl)
theorem dX2_four_35 : decode cX2_four 35 = .ok (.goto (-32), 3) := dk_167 255 224 (dk_at dksX2_four_1 12 rfl rfl)
theorem dX2_four_38 : decode cX2_four 38 = .ok (.return_, 1) := dk_177 (dk_at dksX2_four_1 15 rfl rfl)
abbrev cX2_end : ByteArray := prog_25_method_13_code
def yX2_end : MethodName := ⟨RX2, "end", "(I)I"⟩
def dkwX2_end_1 : List UInt8 := [180, 0, 13, 3, 27, 79, 27, 172]
abbrev dktX2_end_1 : List UInt8 := dkwX2_end_1 ++ []
def dkwX2_end_0 : List UInt8 := [42, 3, 181, 0, 60, 27, 3, 42, 180, 0, 13, 3, 46, 184, 0, 72, 154, 0, 5, 2, 172, 42]
abbrev dktX2_end_0 : List UInt8 := dkwX2_end_0 ++ dktX2_end_1
theorem dksX2_end_0 : cX2_end.data.toList.drop 0 = dktX2_end_0 := by decide +kernel
theorem dksX2_end_1 : cX2_end.data.toList.drop 22 = dktX2_end_1 := dk_seg dksX2_end_0 22 rfl rfl
theorem dX2_end_0 : decode cX2_end 0 = .ok (.aload_n 0, 1) := dk_42 (dk_at dksX2_end_0 0 rfl rfl)
theorem dX2_end_1 : decode cX2_end 1 = .ok (.iconst 0, 1) := dk_3 (dk_at dksX2_end_0 1 rfl rfl)
theorem dX2_end_2 : decode cX2_end 2 = .ok (.putfield 60, 3) := dk_181 0 60 (dk_at dksX2_end_0 2 rfl rfl)
theorem dX2_end_5 : decode cX2_end 5 = .ok (.iload_n 1, 1) := dk_27 (dk_at dksX2_end_0 5 rfl rfl)
theorem dX2_end_6 : decode cX2_end 6 = .ok (.iconst 0, 1) := dk_3 (dk_at dksX2_end_0 6 rfl rfl)
theorem dX2_end_7 : decode cX2_end 7 = .ok (.aload_n 0, 1) := dk_42 (dk_at dksX2_end_0 7 rfl rfl)
theorem dX2_end_8 : decode cX2_end 8 = .ok (.getfield 13, 3) := dk_180 0 13 (dk_at dksX2_end_0 8 rfl rfl)
theorem dX2_end_11 : decode cX2_end 11 = .ok (.iconst 0, 1) := dk_3 (dk_at dksX2_end_0 11 rfl rfl)
theorem dX2_end_12 : decode cX2_end 12 = .ok (.iaload, 1) := dk_46 (dk_at dksX2_end_0 12 rfl rfl)
theorem dX2_end_13 : decode cX2_end 13 = .ok (.invokestatic 72, 3) := dk_184 0 72 (dk_at dksX2_end_0 13 rfl rfl)
theorem dX2_end_16 : decode cX2_end 16 = .ok (.ifCond .ne 5, 3) := dk_154 0 5 (dk_at dksX2_end_0 16 rfl rfl)
theorem dX2_end_19 : decode cX2_end 19 = .ok (.iconst (-1), 1) := dk_2 (dk_at dksX2_end_0 19 rfl rfl)
theorem dX2_end_20 : decode cX2_end 20 = .ok (.ireturn, 1) := dk_172 (dk_at dksX2_end_0 20 rfl rfl)
theorem dX2_end_21 : decode cX2_end 21 = .ok (.aload_n 0, 1) := dk_42 (dk_at dksX2_end_0 21 rfl rfl)
theorem dX2_end_22 : decode cX2_end 22 = .ok (.getfield 13, 3) := dk_180 0 13 (dk_at dksX2_end_1 0 rfl rfl)
theorem dX2_end_25 : decode cX2_end 25 = .ok (.iconst 0, 1) := dk_3 (dk_at dksX2_end_1 3 rfl rfl)
theorem dX2_end_26 : decode cX2_end 26 = .ok (.iload_n 1, 1) := dk_27 (dk_at dksX2_end_1 4 rfl rfl)
theorem dX2_end_27 : decode cX2_end 27 = .ok (.iastore, 1) := dk_79 (dk_at dksX2_end_1 5 rfl rfl)
theorem dX2_end_28 : decode cX2_end 28 = .ok (.iload_n 1, 1) := dk_27 (dk_at dksX2_end_1 6 rfl rfl)
theorem dX2_end_29 : decode cX2_end 29 = .ok (.ireturn, 1) := dk_172 (dk_at dksX2_end_1 7 rfl rfl)
abbrev cX2_in : ByteArray := prog_25_method_3_code
def yX2_in : MethodName := ⟨RX2, "in", "(III)Z"⟩
def dkwX2_in_0 : List UInt8 := [26, 27, 161, 0, 12, 26, 28, 163, 0, 7, 4, 167, 0, 4, 3, 172]
abbrev dktX2_in_0 : List UInt8 := dkwX2_in_0 ++ []
theorem dksX2_in_0 : cX2_in.data.toList.drop 0 = dktX2_in_0 := by decide +kernel
theorem dX2_in_0 : decode cX2_in 0 = .ok (.iload_n 0, 1) := dk_26 (dk_at dksX2_in_0 0 rfl rfl)
theorem dX2_in_1 : decode cX2_in 1 = .ok (.iload_n 1, 1) := dk_27 (dk_at dksX2_in_0 1 rfl rfl)
theorem dX2_in_2 : decode cX2_in 2 = .ok (.if_icmp .lt 12, 3) := dk_161 0 12 (dk_at dksX2_in_0 2 rfl rfl)
theorem dX2_in_5 : decode cX2_in 5 = .ok (.iload_n 0, 1) := dk_26 (dk_at dksX2_in_0 5 rfl rfl)
theorem dX2_in_6 : decode cX2_in 6 = .ok (.iload_n 2, 1) := dk_28 (dk_at dksX2_in_0 6 rfl rfl)
theorem dX2_in_7 : decode cX2_in 7 = .ok (.if_icmp .gt 7, 3) := dk_163 0 7 (dk_at dksX2_in_0 7 rfl rfl)
theorem dX2_in_10 : decode cX2_in 10 = .ok (.iconst 1, 1) := dk_4 (dk_at dksX2_in_0 10 rfl rfl)
theorem dX2_in_11 : decode cX2_in 11 = .ok (.goto 4, 3) := dk_167 0 4 (dk_at dksX2_in_0 11 rfl rfl)
theorem dX2_in_14 : decode cX2_in 14 = .ok (.iconst 0, 1) := dk_3 (dk_at dksX2_in_0 14 rfl rfl)
theorem dX2_in_15 : decode cX2_in 15 = .ok (.ireturn, 1) := dk_172 (dk_at dksX2_in_0 15 rfl rfl)
abbrev cX2_text : ByteArray := prog_25_method_43_code
def yX2_text : MethodName := ⟨RX2, "text", "(II)I"⟩
def dkwX2_text_7 : List UInt8 := [180, 0, 32, 16, 25, 29, 182, 0, 249, 29, 172]
abbrev dktX2_text_7 : List UInt8 := dkwX2_text_7 ++ []
def dkwX2_text_6 : List UInt8 := [167, 0, 33, 27, 4, 160, 0, 17, 42, 42, 180, 0, 29, 16, 57, 29, 182, 0, 249, 167, 0, 14, 42, 42]
abbrev dktX2_text_6 : List UInt8 := dkwX2_text_6 ++ dktX2_text_7
def dkwX2_text_5 : List UInt8 := [167, 0, 4, 3, 96, 79, 27, 154, 0, 18, 42, 42, 180, 0, 26, 17, 5, 246, 29, 182, 0, 249]
abbrev dktX2_text_5 : List UInt8 := dkwX2_text_5 ++ dktX2_text_6
def dkwX2_text_4 : List UInt8 := [180, 0, 23, 27, 46, 167, 0, 4, 28, 62, 42, 180, 0, 23, 27, 92, 46, 28, 2, 160, 0, 7, 4]
abbrev dktX2_text_4 : List UInt8 := dkwX2_text_4 ++ dktX2_text_5
def dkwX2_text_3 : List UInt8 := [154, 0, 6, 16, 254, 172, 42, 27, 182, 0, 246, 154, 0, 5, 2, 172, 28, 2, 160, 0, 12, 42]
abbrev dktX2_text_3 : List UInt8 := dkwX2_text_3 ++ dktX2_text_4
def dkwX2_text_2 : List UInt8 := [160, 0, 16, 42, 180, 0, 23, 27, 46, 5, 160, 0, 18, 167, 0, 12, 42, 27, 28, 182, 0, 243]
abbrev dktX2_text_2 : List UInt8 := dkwX2_text_2 ++ dktX2_text_3
def dkwX2_text_1 : List UInt8 := [180, 0, 17, 3, 3, 79, 42, 180, 0, 20, 3, 2, 79, 27, 3, 5, 184, 0, 72, 153, 0, 30, 28, 2]
abbrev dktX2_text_1 : List UInt8 := dkwX2_text_1 ++ dktX2_text_2
def dkwX2_text_0 : List UInt8 := [42, 3, 181, 0, 60, 42, 42, 180, 0, 13, 3, 46, 181, 0, 83, 42, 180, 0, 13, 3, 3, 79, 42]
abbrev dktX2_text_0 : List UInt8 := dkwX2_text_0 ++ dktX2_text_1
theorem dksX2_text_0 : cX2_text.data.toList.drop 0 = dktX2_text_0 := by decide +kernel
theorem dksX2_text_1 : cX2_text.data.toList.drop 23 = dktX2_text_1 := dk_seg dksX2_text_0 23 rfl rfl
theorem dksX2_text_2 : cX2_text.data.toList.drop 47 = dktX2_text_2 := dk_seg dksX2_text_1 24 rfl rfl
theorem dksX2_text_3 : cX2_text.data.toList.drop 69 = dktX2_text_3 := dk_seg dksX2_text_2 22 rfl rfl
theorem dksX2_text_4 : cX2_text.data.toList.drop 91 = dktX2_text_4 := dk_seg dksX2_text_3 22 rfl rfl
theorem dksX2_text_5 : cX2_text.data.toList.drop 114 = dktX2_text_5 := dk_seg dksX2_text_4 23 rfl rfl
theorem dksX2_text_6 : cX2_text.data.toList.drop 136 = dktX2_text_6 := dk_seg dksX2_text_5 22 rfl rfl
theorem dksX2_text_7 : cX2_text.data.toList.drop 160 = dktX2_text_7 := dk_seg dksX2_text_6 24 rfl rfl
theorem dX2_text_0 : decode cX2_text 0 = .ok (.aload_n 0, 1) := dk_42 (dk_at dksX2_text_0 0 rfl rfl)
theorem dX2_text_1 : decode cX2_text 1 = .ok (.iconst 0, 1) := dk_3 (dk_at dksX2_text_0 1 rfl rfl)
theorem dX2_text_2 : decode cX2_text 2 = .ok (.putfield 60, 3) := dk_181 0 60 (dk_at dksX2_text_0 2 rfl rfl)
theorem dX2_text_5 : decode cX2_text 5 = .ok (.aload_n 0, 1) := dk_42 (dk_at dksX2_text_0 5 rfl rfl)
theorem dX2_text_6 : decode cX2_text 6 = .ok (.aload_n 0, 1) := dk_42 (dk_at dksX2_text_0 6 rfl rfl)
theorem dX2_text_7 : decode cX2_text 7 = .ok (.getfield 13, 3) := dk_180 0 13 (dk_at dksX2_text_0 7 rfl rfl)
theorem dX2_text_10 : decode cX2_text 10 = .ok (.iconst 0, 1) := dk_3 (dk_at dksX2_text_0 10 rfl rfl)
theorem dX2_text_11 : decode cX2_text 11 = .ok (.iaload, 1) := dk_46 (dk_at dksX2_text_0 11 rfl rfl)
theorem dX2_text_12 : decode cX2_text 12 = .ok (.putfield 83, 3) := dk_181 0 83 (dk_at dksX2_text_0 12 rfl rfl)
theorem dX2_text_15 : decode cX2_text 15 = .ok (.aload_n 0, 1) := dk_42 (dk_at dksX2_text_0 15 rfl rfl)
theorem dX2_text_16 : decode cX2_text 16 = .ok (.getfield 13, 3) := dk_180 0 13 (dk_at dksX2_text_0 16 rfl rfl)
theorem dX2_text_19 : decode cX2_text 19 = .ok (.iconst 0, 1) := dk_3 (dk_at dksX2_text_0 19 rfl rfl)
theorem dX2_text_20 : decode cX2_text 20 = .ok (.iconst 0, 1) := dk_3 (dk_at dksX2_text_0 20 rfl rfl)
theorem dX2_text_21 : decode cX2_text 21 = .ok (.iastore, 1) := dk_79 (dk_at dksX2_text_0 21 rfl rfl)
theorem dX2_text_22 : decode cX2_text 22 = .ok (.aload_n 0, 1) := dk_42 (dk_at dksX2_text_0 22 rfl rfl)
theorem dX2_text_23 : decode cX2_text 23 = .ok (.getfield 17, 3) := dk_180 0 17 (dk_at dksX2_text_1 0 rfl rfl)
theorem dX2_text_26 : decode cX2_text 26 = .ok (.iconst 0, 1) := dk_3 (dk_at dksX2_text_1 3 rfl rfl)
theorem dX2_text_27 : decode cX2_text 27 = .ok (.iconst 0, 1) := dk_3 (dk_at dksX2_text_1 4 rfl rfl)
theorem dX2_text_28 : decode cX2_text 28 = .ok (.iastore, 1) := dk_79 (dk_at dksX2_text_1 5 rfl rfl)
theorem dX2_text_29 : decode cX2_text 29 = .ok (.aload_n 0, 1) := dk_42 (dk_at dksX2_text_1 6 rfl rfl)
theorem dX2_text_30 : decode cX2_text 30 = .ok (.getfield 20, 3) := dk_180 0 20 (dk_at dksX2_text_1 7 rfl rfl)
theorem dX2_text_33 : decode cX2_text 33 = .ok (.iconst 0, 1) := dk_3 (dk_at dksX2_text_1 10 rfl rfl)
theorem dX2_text_34 : decode cX2_text 34 = .ok (.iconst (-1), 1) := dk_2 (dk_at dksX2_text_1 11 rfl rfl)
theorem dX2_text_35 : decode cX2_text 35 = .ok (.iastore, 1) := dk_79 (dk_at dksX2_text_1 12 rfl rfl)
theorem dX2_text_36 : decode cX2_text 36 = .ok (.iload_n 1, 1) := dk_27 (dk_at dksX2_text_1 13 rfl rfl)
theorem dX2_text_37 : decode cX2_text 37 = .ok (.iconst 0, 1) := dk_3 (dk_at dksX2_text_1 14 rfl rfl)
theorem dX2_text_38 : decode cX2_text 38 = .ok (.iconst 2, 1) := dk_5 (dk_at dksX2_text_1 15 rfl rfl)
theorem dX2_text_39 : decode cX2_text 39 = .ok (.invokestatic 72, 3) := dk_184 0 72 (dk_at dksX2_text_1 16 rfl rfl)
theorem dX2_text_42 : decode cX2_text 42 = .ok (.ifCond .eq 30, 3) := dk_153 0 30 (dk_at dksX2_text_1 19 rfl rfl)
theorem dX2_text_45 : decode cX2_text 45 = .ok (.iload_n 2, 1) := dk_28 (dk_at dksX2_text_1 22 rfl rfl)
theorem dX2_text_46 : decode cX2_text 46 = .ok (.iconst (-1), 1) := dk_2 (dk_at dksX2_text_1 23 rfl rfl)
theorem dX2_text_47 : decode cX2_text 47 = .ok (.if_icmp .ne 16, 3) := dk_160 0 16 (dk_at dksX2_text_2 0 rfl rfl)
theorem dX2_text_50 : decode cX2_text 50 = .ok (.aload_n 0, 1) := dk_42 (dk_at dksX2_text_2 3 rfl rfl)
theorem dX2_text_51 : decode cX2_text 51 = .ok (.getfield 23, 3) := dk_180 0 23 (dk_at dksX2_text_2 4 rfl rfl)
theorem dX2_text_54 : decode cX2_text 54 = .ok (.iload_n 1, 1) := dk_27 (dk_at dksX2_text_2 7 rfl rfl)
theorem dX2_text_55 : decode cX2_text 55 = .ok (.iaload, 1) := dk_46 (dk_at dksX2_text_2 8 rfl rfl)
theorem dX2_text_56 : decode cX2_text 56 = .ok (.iconst 2, 1) := dk_5 (dk_at dksX2_text_2 9 rfl rfl)
theorem dX2_text_57 : decode cX2_text 57 = .ok (.if_icmp .ne 18, 3) := dk_160 0 18 (dk_at dksX2_text_2 10 rfl rfl)
theorem dX2_text_60 : decode cX2_text 60 = .ok (.goto 12, 3) := dk_167 0 12 (dk_at dksX2_text_2 13 rfl rfl)
theorem dX2_text_63 : decode cX2_text 63 = .ok (.aload_n 0, 1) := dk_42 (dk_at dksX2_text_2 16 rfl rfl)
theorem dX2_text_64 : decode cX2_text 64 = .ok (.iload_n 1, 1) := dk_27 (dk_at dksX2_text_2 17 rfl rfl)
theorem dX2_text_65 : decode cX2_text 65 = .ok (.iload_n 2, 1) := dk_28 (dk_at dksX2_text_2 18 rfl rfl)
theorem dX2_text_66 : decode cX2_text 66 = .ok (.invokevirtual 243, 3) := dk_182 0 243 (dk_at dksX2_text_2 19 rfl rfl)
theorem dX2_text_69 : decode cX2_text 69 = .ok (.ifCond .ne 6, 3) := dk_154 0 6 (dk_at dksX2_text_3 0 rfl rfl)
theorem dX2_text_72 : decode cX2_text 72 = .ok (.bipush (-2), 2) := dk_16 254 (dk_at dksX2_text_3 3 rfl rfl)
theorem dX2_text_74 : decode cX2_text 74 = .ok (.ireturn, 1) := dk_172 (dk_at dksX2_text_3 5 rfl rfl)
theorem dX2_text_75 : decode cX2_text 75 = .ok (.aload_n 0, 1) := dk_42 (dk_at dksX2_text_3 6 rfl rfl)
theorem dX2_text_76 : decode cX2_text 76 = .ok (.iload_n 1, 1) := dk_27 (dk_at dksX2_text_3 7 rfl rfl)
theorem dX2_text_77 : decode cX2_text 77 = .ok (.invokevirtual 246, 3) := dk_182 0 246 (dk_at dksX2_text_3 8 rfl rfl)
theorem dX2_text_80 : decode cX2_text 80 = .ok (.ifCond .ne 5, 3) := dk_154 0 5 (dk_at dksX2_text_3 11 rfl rfl)
theorem dX2_text_83 : decode cX2_text 83 = .ok (.iconst (-1), 1) := dk_2 (dk_at dksX2_text_3 14 rfl rfl)
theorem dX2_text_84 : decode cX2_text 84 = .ok (.ireturn, 1) := dk_172 (dk_at dksX2_text_3 15 rfl rfl)
theorem dX2_text_85 : decode cX2_text 85 = .ok (.iload_n 2, 1) := dk_28 (dk_at dksX2_text_3 16 rfl rfl)
theorem dX2_text_86 : decode cX2_text 86 = .ok (.iconst (-1), 1) := dk_2 (dk_at dksX2_text_3 17 rfl rfl)
theorem dX2_text_87 : decode cX2_text 87 = .ok (.if_icmp .ne 12, 3) := dk_160 0 12 (dk_at dksX2_text_3 18 rfl rfl)
theorem dX2_text_90 : decode cX2_text 90 = .ok (.aload_n 0, 1) := dk_42 (dk_at dksX2_text_3 21 rfl rfl)
theorem dX2_text_91 : decode cX2_text 91 = .ok (.getfield 23, 3) := dk_180 0 23 (dk_at dksX2_text_4 0 rfl rfl)
theorem dX2_text_94 : decode cX2_text 94 = .ok (.iload_n 1, 1) := dk_27 (dk_at dksX2_text_4 3 rfl rfl)
theorem dX2_text_95 : decode cX2_text 95 = .ok (.iaload, 1) := dk_46 (dk_at dksX2_text_4 4 rfl rfl)
theorem dX2_text_96 : decode cX2_text 96 = .ok (.goto 4, 3) := dk_167 0 4 (dk_at dksX2_text_4 5 rfl rfl)
theorem dX2_text_99 : decode cX2_text 99 = .ok (.iload_n 2, 1) := dk_28 (dk_at dksX2_text_4 8 rfl rfl)
theorem dX2_text_100 : decode cX2_text 100 = .ok (.istore_n 3, 1) := dk_62 (dk_at dksX2_text_4 9 rfl rfl)
theorem dX2_text_101 : decode cX2_text 101 = .ok (.aload_n 0, 1) := dk_42 (dk_at dksX2_text_4 10 rfl rfl)
theorem dX2_text_102 : decode cX2_text 102 = .ok (.getfield 23, 3) := dk_180 0 23 (dk_at dksX2_text_4 11 rfl rfl)
theorem dX2_text_105 : decode cX2_text 105 = .ok (.iload_n 1, 1) := dk_27 (dk_at dksX2_text_4 14 rfl rfl)
theorem dX2_text_106 : decode cX2_text 106 = .ok (.dup2, 1) := dk_92 (dk_at dksX2_text_4 15 rfl rfl)
theorem dX2_text_107 : decode cX2_text 107 = .ok (.iaload, 1) := dk_46 (dk_at dksX2_text_4 16 rfl rfl)
theorem dX2_text_108 : decode cX2_text 108 = .ok (.iload_n 2, 1) := dk_28 (dk_at dksX2_text_4 17 rfl rfl)
theorem dX2_text_109 : decode cX2_text 109 = .ok (.iconst (-1), 1) := dk_2 (dk_at dksX2_text_4 18 rfl rfl)
theorem dX2_text_110 : decode cX2_text 110 = .ok (.if_icmp .ne 7, 3) := dk_160 0 7 (dk_at dksX2_text_4 19 rfl rfl)
theorem dX2_text_113 : decode cX2_text 113 = .ok (.iconst 1, 1) := dk_4 (dk_at dksX2_text_4 22 rfl rfl)
theorem dX2_text_114 : decode cX2_text 114 = .ok (.goto 4, 3) := dk_167 0 4 (dk_at dksX2_text_5 0 rfl rfl)
theorem dX2_text_117 : decode cX2_text 117 = .ok (.iconst 0, 1) := dk_3 (dk_at dksX2_text_5 3 rfl rfl)
theorem dX2_text_118 : decode cX2_text 118 = .ok (.iadd, 1) := dk_96 (dk_at dksX2_text_5 4 rfl rfl)
theorem dX2_text_119 : decode cX2_text 119 = .ok (.iastore, 1) := dk_79 (dk_at dksX2_text_5 5 rfl rfl)
theorem dX2_text_120 : decode cX2_text 120 = .ok (.iload_n 1, 1) := dk_27 (dk_at dksX2_text_5 6 rfl rfl)
theorem dX2_text_121 : decode cX2_text 121 = .ok (.ifCond .ne 18, 3) := dk_154 0 18 (dk_at dksX2_text_5 7 rfl rfl)
theorem dX2_text_124 : decode cX2_text 124 = .ok (.aload_n 0, 1) := dk_42 (dk_at dksX2_text_5 10 rfl rfl)
theorem dX2_text_125 : decode cX2_text 125 = .ok (.aload_n 0, 1) := dk_42 (dk_at dksX2_text_5 11 rfl rfl)
theorem dX2_text_126 : decode cX2_text 126 = .ok (.getfield 26, 3) := dk_180 0 26 (dk_at dksX2_text_5 12 rfl rfl)
theorem dX2_text_129 : decode cX2_text 129 = .ok (.sipush 1526, 3) := dk_17 5 246 (dk_at dksX2_text_5 15 rfl rfl)
theorem dX2_text_132 : decode cX2_text 132 = .ok (.iload_n 3, 1) := dk_29 (dk_at dksX2_text_5 18 rfl rfl)
theorem dX2_text_133 : decode cX2_text 133 = .ok (.invokevirtual 249, 3) := dk_182 0 249 (dk_at dksX2_text_5 19 rfl rfl)
theorem dX2_text_136 : decode cX2_text 136 = .ok (.goto 33, 3) := dk_167 0 33 (dk_at dksX2_text_6 0 rfl rfl)
theorem dX2_text_139 : decode cX2_text 139 = .ok (.iload_n 1, 1) := dk_27 (dk_at dksX2_text_6 3 rfl rfl)
theorem dX2_text_140 : decode cX2_text 140 = .ok (.iconst 1, 1) := dk_4 (dk_at dksX2_text_6 4 rfl rfl)
theorem dX2_text_141 : decode cX2_text 141 = .ok (.if_icmp .ne 17, 3) := dk_160 0 17 (dk_at dksX2_text_6 5 rfl rfl)
theorem dX2_text_144 : decode cX2_text 144 = .ok (.aload_n 0, 1) := dk_42 (dk_at dksX2_text_6 8 rfl rfl)
theorem dX2_text_145 : decode cX2_text 145 = .ok (.aload_n 0, 1) := dk_42 (dk_at dksX2_text_6 9 rfl rfl)
theorem dX2_text_146 : decode cX2_text 146 = .ok (.getfield 29, 3) := dk_180 0 29 (dk_at dksX2_text_6 10 rfl rfl)
theorem dX2_text_149 : decode cX2_text 149 = .ok (.bipush 57, 2) := dk_16 57 (dk_at dksX2_text_6 13 rfl rfl)
theorem dX2_text_151 : decode cX2_text 151 = .ok (.iload_n 3, 1) := dk_29 (dk_at dksX2_text_6 15 rfl rfl)
theorem dX2_text_152 : decode cX2_text 152 = .ok (.invokevirtual 249, 3) := dk_182 0 249 (dk_at dksX2_text_6 16 rfl rfl)
theorem dX2_text_155 : decode cX2_text 155 = .ok (.goto 14, 3) := dk_167 0 14 (dk_at dksX2_text_6 19 rfl rfl)
theorem dX2_text_158 : decode cX2_text 158 = .ok (.aload_n 0, 1) := dk_42 (dk_at dksX2_text_6 22 rfl rfl)
theorem dX2_text_159 : decode cX2_text 159 = .ok (.aload_n 0, 1) := dk_42 (dk_at dksX2_text_6 23 rfl rfl)
theorem dX2_text_160 : decode cX2_text 160 = .ok (.getfield 32, 3) := dk_180 0 32 (dk_at dksX2_text_7 0 rfl rfl)
theorem dX2_text_163 : decode cX2_text 163 = .ok (.bipush 25, 2) := dk_16 25 (dk_at dksX2_text_7 3 rfl rfl)
theorem dX2_text_165 : decode cX2_text 165 = .ok (.iload_n 3, 1) := dk_29 (dk_at dksX2_text_7 5 rfl rfl)
theorem dX2_text_166 : decode cX2_text 166 = .ok (.invokevirtual 249, 3) := dk_182 0 249 (dk_at dksX2_text_7 6 rfl rfl)
theorem dX2_text_169 : decode cX2_text 169 = .ok (.iload_n 3, 1) := dk_29 (dk_at dksX2_text_7 9 rfl rfl)
theorem dX2_text_170 : decode cX2_text 170 = .ok (.ireturn, 1) := dk_172 (dk_at dksX2_text_7 10 rfl rfl)
abbrev cX2_is : ByteArray := prog_25_method_10_code
def yX2_is : MethodName := ⟨RX2, "is", "(II)Z"⟩
def dkwX2_is_0 : List UInt8 := [28, 3, 42, 180, 0, 23, 27, 46, 4, 100, 184, 0, 72, 172]
abbrev dktX2_is_0 : List UInt8 := dkwX2_is_0 ++ []
theorem dksX2_is_0 : cX2_is.data.toList.drop 0 = dktX2_is_0 := by decide +kernel
theorem dX2_is_0 : decode cX2_is 0 = .ok (.iload_n 2, 1) := dk_28 (dk_at dksX2_is_0 0 rfl rfl)
theorem dX2_is_1 : decode cX2_is 1 = .ok (.iconst 0, 1) := dk_3 (dk_at dksX2_is_0 1 rfl rfl)
theorem dX2_is_2 : decode cX2_is 2 = .ok (.aload_n 0, 1) := dk_42 (dk_at dksX2_is_0 2 rfl rfl)
theorem dX2_is_3 : decode cX2_is 3 = .ok (.getfield 23, 3) := dk_180 0 23 (dk_at dksX2_is_0 3 rfl rfl)
theorem dX2_is_6 : decode cX2_is 6 = .ok (.iload_n 1, 1) := dk_27 (dk_at dksX2_is_0 6 rfl rfl)
theorem dX2_is_7 : decode cX2_is 7 = .ok (.iaload, 1) := dk_46 (dk_at dksX2_is_0 7 rfl rfl)
theorem dX2_is_8 : decode cX2_is 8 = .ok (.iconst 1, 1) := dk_4 (dk_at dksX2_is_0 8 rfl rfl)
theorem dX2_is_9 : decode cX2_is 9 = .ok (.isub, 1) := dk_100 (dk_at dksX2_is_0 9 rfl rfl)
theorem dX2_is_10 : decode cX2_is 10 = .ok (.invokestatic 72, 3) := dk_184 0 72 (dk_at dksX2_is_0 10 rfl rfl)
theorem dX2_is_13 : decode cX2_is 13 = .ok (.ireturn, 1) := dk_172 (dk_at dksX2_is_0 13 rfl rfl)
abbrev cX2_readText : ByteArray := prog_25_method_41_code
def yX2_readText : MethodName := ⟨RX2, "readText", "(I)Z"⟩
def dkwX2_readText_4 : List UInt8 := [180, 0, 17, 3, 46, 154, 0, 7, 4, 167, 0, 4, 3, 172]
abbrev dktX2_readText_4 : List UInt8 := dkwX2_readText_4 ++ []
def dkwX2_readText_3 : List UInt8 := [180, 0, 103, 167, 0, 18, 42, 180, 0, 106, 158, 0, 10, 42, 180, 0, 109, 167, 0, 4, 2, 79, 42]
abbrev dktX2_readText_3 : List UInt8 := dkwX2_readText_3 ++ dktX2_readText_4
def dkwX2_readText_2 : List UInt8 := [153, 0, 10, 42, 180, 0, 106, 167, 0, 4, 4, 79, 42, 180, 0, 20, 3, 28, 154, 0, 10, 42]
abbrev dktX2_readText_2 : List UInt8 := dkwX2_readText_2 ++ dktX2_readText_3
def dkwX2_readText_1 : List UInt8 := [181, 0, 80, 42, 3, 181, 0, 106, 42, 182, 0, 124, 42, 27, 182, 0, 240, 61, 42, 180, 0, 17, 3, 28]
abbrev dktX2_readText_1 : List UInt8 := dkwX2_readText_1 ++ dktX2_readText_2
def dkwX2_readText_0 : List UInt8 := [3, 61, 28, 17, 5, 246, 162, 0, 16, 42, 180, 0, 35, 28, 3, 79, 132, 2, 1, 167, 255, 239, 42, 3]
abbrev dktX2_readText_0 : List UInt8 := dkwX2_readText_0 ++ dktX2_readText_1
theorem dksX2_readText_0 : cX2_readText.data.toList.drop 0 = dktX2_readText_0 := by decide +kernel
theorem dksX2_readText_1 : cX2_readText.data.toList.drop 24 = dktX2_readText_1 := dk_seg dksX2_readText_0 24 rfl rfl
theorem dksX2_readText_2 : cX2_readText.data.toList.drop 48 = dktX2_readText_2 := dk_seg dksX2_readText_1 24 rfl rfl
theorem dksX2_readText_3 : cX2_readText.data.toList.drop 70 = dktX2_readText_3 := dk_seg dksX2_readText_2 22 rfl rfl
theorem dksX2_readText_4 : cX2_readText.data.toList.drop 93 = dktX2_readText_4 := dk_seg dksX2_readText_3 23 rfl rfl
theorem dX2_readText_0 : decode cX2_readText 0 = .ok (.iconst 0, 1) := dk_3 (dk_at dksX2_readText_0 0 rfl rfl)
theorem dX2_readText_1 : decode cX2_readText 1 = .ok (.istore_n 2, 1) := dk_61 (dk_at dksX2_readText_0 1 rfl rfl)
theorem dX2_readText_2 : decode cX2_readText 2 = .ok (.iload_n 2, 1) := dk_28 (dk_at dksX2_readText_0 2 rfl rfl)
theorem dX2_readText_3 : decode cX2_readText 3 = .ok (.sipush 1526, 3) := dk_17 5 246 (dk_at dksX2_readText_0 3 rfl rfl)
theorem dX2_readText_6 : decode cX2_readText 6 = .ok (.if_icmp .ge 16, 3) := dk_162 0 16 (dk_at dksX2_readText_0 6 rfl rfl)
theorem dX2_readText_9 : decode cX2_readText 9 = .ok (.aload_n 0, 1) := dk_42 (dk_at dksX2_readText_0 9 rfl rfl)
theorem dX2_readText_10 : decode cX2_readText 10 = .ok (.getfield 35, 3) := dk_180 0 35 (dk_at dksX2_readText_0 10 rfl rfl)
theorem dX2_readText_13 : decode cX2_readText 13 = .ok (.iload_n 2, 1) := dk_28 (dk_at dksX2_readText_0 13 rfl rfl)
theorem dX2_readText_14 : decode cX2_readText 14 = .ok (.iconst 0, 1) := dk_3 (dk_at dksX2_readText_0 14 rfl rfl)
theorem dX2_readText_15 : decode cX2_readText 15 = .ok (.iastore, 1) := dk_79 (dk_at dksX2_readText_0 15 rfl rfl)
theorem dX2_readText_16 : decode cX2_readText 16 = .ok (.iinc 2 1, 3) := dk_132 2 1 (dk_at dksX2_readText_0 16 rfl rfl)
theorem dX2_readText_19 : decode cX2_readText 19 = .ok (.goto (-17), 3) := dk_167 255 239 (dk_at dksX2_readText_0 19 rfl rfl)
theorem dX2_readText_22 : decode cX2_readText 22 = .ok (.aload_n 0, 1) := dk_42 (dk_at dksX2_readText_0 22 rfl rfl)
theorem dX2_readText_23 : decode cX2_readText 23 = .ok (.iconst 0, 1) := dk_3 (dk_at dksX2_readText_0 23 rfl rfl)
theorem dX2_readText_24 : decode cX2_readText 24 = .ok (.putfield 80, 3) := dk_181 0 80 (dk_at dksX2_readText_1 0 rfl rfl)
theorem dX2_readText_27 : decode cX2_readText 27 = .ok (.aload_n 0, 1) := dk_42 (dk_at dksX2_readText_1 3 rfl rfl)
theorem dX2_readText_28 : decode cX2_readText 28 = .ok (.iconst 0, 1) := dk_3 (dk_at dksX2_readText_1 4 rfl rfl)
theorem dX2_readText_29 : decode cX2_readText 29 = .ok (.putfield 106, 3) := dk_181 0 106 (dk_at dksX2_readText_1 5 rfl rfl)
theorem dX2_readText_32 : decode cX2_readText 32 = .ok (.aload_n 0, 1) := dk_42 (dk_at dksX2_readText_1 8 rfl rfl)
theorem dX2_readText_33 : decode cX2_readText 33 = .ok (.invokevirtual 124, 3) := dk_182 0 124 (dk_at dksX2_readText_1 9 rfl rfl)
theorem dX2_readText_36 : decode cX2_readText 36 = .ok (.aload_n 0, 1) := dk_42 (dk_at dksX2_readText_1 12 rfl rfl)
theorem dX2_readText_37 : decode cX2_readText 37 = .ok (.iload_n 1, 1) := dk_27 (dk_at dksX2_readText_1 13 rfl rfl)
theorem dX2_readText_38 : decode cX2_readText 38 = .ok (.invokevirtual 240, 3) := dk_182 0 240 (dk_at dksX2_readText_1 14 rfl rfl)
theorem dX2_readText_41 : decode cX2_readText 41 = .ok (.istore_n 2, 1) := dk_61 (dk_at dksX2_readText_1 17 rfl rfl)
theorem dX2_readText_42 : decode cX2_readText 42 = .ok (.aload_n 0, 1) := dk_42 (dk_at dksX2_readText_1 18 rfl rfl)
theorem dX2_readText_43 : decode cX2_readText 43 = .ok (.getfield 17, 3) := dk_180 0 17 (dk_at dksX2_readText_1 19 rfl rfl)
theorem dX2_readText_46 : decode cX2_readText 46 = .ok (.iconst 0, 1) := dk_3 (dk_at dksX2_readText_1 22 rfl rfl)
theorem dX2_readText_47 : decode cX2_readText 47 = .ok (.iload_n 2, 1) := dk_28 (dk_at dksX2_readText_1 23 rfl rfl)
theorem dX2_readText_48 : decode cX2_readText 48 = .ok (.ifCond .eq 10, 3) := dk_153 0 10 (dk_at dksX2_readText_2 0 rfl rfl)
theorem dX2_readText_51 : decode cX2_readText 51 = .ok (.aload_n 0, 1) := dk_42 (dk_at dksX2_readText_2 3 rfl rfl)
theorem dX2_readText_52 : decode cX2_readText 52 = .ok (.getfield 106, 3) := dk_180 0 106 (dk_at dksX2_readText_2 4 rfl rfl)
theorem dX2_readText_55 : decode cX2_readText 55 = .ok (.goto 4, 3) := dk_167 0 4 (dk_at dksX2_readText_2 7 rfl rfl)
theorem dX2_readText_58 : decode cX2_readText 58 = .ok (.iconst 1, 1) := dk_4 (dk_at dksX2_readText_2 10 rfl rfl)
theorem dX2_readText_59 : decode cX2_readText 59 = .ok (.iastore, 1) := dk_79 (dk_at dksX2_readText_2 11 rfl rfl)
theorem dX2_readText_60 : decode cX2_readText 60 = .ok (.aload_n 0, 1) := dk_42 (dk_at dksX2_readText_2 12 rfl rfl)
theorem dX2_readText_61 : decode cX2_readText 61 = .ok (.getfield 20, 3) := dk_180 0 20 (dk_at dksX2_readText_2 13 rfl rfl)
theorem dX2_readText_64 : decode cX2_readText 64 = .ok (.iconst 0, 1) := dk_3 (dk_at dksX2_readText_2 16 rfl rfl)
theorem dX2_readText_65 : decode cX2_readText 65 = .ok (.iload_n 2, 1) := dk_28 (dk_at dksX2_readText_2 17 rfl rfl)
theorem dX2_readText_66 : decode cX2_readText 66 = .ok (.ifCond .ne 10, 3) := dk_154 0 10 (dk_at dksX2_readText_2 18 rfl rfl)
theorem dX2_readText_69 : decode cX2_readText 69 = .ok (.aload_n 0, 1) := dk_42 (dk_at dksX2_readText_2 21 rfl rfl)
theorem dX2_readText_70 : decode cX2_readText 70 = .ok (.getfield 103, 3) := dk_180 0 103 (dk_at dksX2_readText_3 0 rfl rfl)
theorem dX2_readText_73 : decode cX2_readText 73 = .ok (.goto 18, 3) := dk_167 0 18 (dk_at dksX2_readText_3 3 rfl rfl)
theorem dX2_readText_76 : decode cX2_readText 76 = .ok (.aload_n 0, 1) := dk_42 (dk_at dksX2_readText_3 6 rfl rfl)
theorem dX2_readText_77 : decode cX2_readText 77 = .ok (.getfield 106, 3) := dk_180 0 106 (dk_at dksX2_readText_3 7 rfl rfl)
theorem dX2_readText_80 : decode cX2_readText 80 = .ok (.ifCond .le 10, 3) := dk_158 0 10 (dk_at dksX2_readText_3 10 rfl rfl)
theorem dX2_readText_83 : decode cX2_readText 83 = .ok (.aload_n 0, 1) := dk_42 (dk_at dksX2_readText_3 13 rfl rfl)
theorem dX2_readText_84 : decode cX2_readText 84 = .ok (.getfield 109, 3) := dk_180 0 109 (dk_at dksX2_readText_3 14 rfl rfl)
theorem dX2_readText_87 : decode cX2_readText 87 = .ok (.goto 4, 3) := dk_167 0 4 (dk_at dksX2_readText_3 17 rfl rfl)
theorem dX2_readText_90 : decode cX2_readText 90 = .ok (.iconst (-1), 1) := dk_2 (dk_at dksX2_readText_3 20 rfl rfl)
theorem dX2_readText_91 : decode cX2_readText 91 = .ok (.iastore, 1) := dk_79 (dk_at dksX2_readText_3 21 rfl rfl)
theorem dX2_readText_92 : decode cX2_readText 92 = .ok (.aload_n 0, 1) := dk_42 (dk_at dksX2_readText_3 22 rfl rfl)
theorem dX2_readText_93 : decode cX2_readText 93 = .ok (.getfield 17, 3) := dk_180 0 17 (dk_at dksX2_readText_4 0 rfl rfl)
theorem dX2_readText_96 : decode cX2_readText 96 = .ok (.iconst 0, 1) := dk_3 (dk_at dksX2_readText_4 3 rfl rfl)
theorem dX2_readText_97 : decode cX2_readText 97 = .ok (.iaload, 1) := dk_46 (dk_at dksX2_readText_4 4 rfl rfl)
theorem dX2_readText_98 : decode cX2_readText 98 = .ok (.ifCond .ne 7, 3) := dk_154 0 7 (dk_at dksX2_readText_4 5 rfl rfl)
theorem dX2_readText_101 : decode cX2_readText 101 = .ok (.iconst 1, 1) := dk_4 (dk_at dksX2_readText_4 8 rfl rfl)
theorem dX2_readText_102 : decode cX2_readText 102 = .ok (.goto 4, 3) := dk_167 0 4 (dk_at dksX2_readText_4 9 rfl rfl)
theorem dX2_readText_105 : decode cX2_readText 105 = .ok (.iconst 0, 1) := dk_3 (dk_at dksX2_readText_4 12 rfl rfl)
theorem dX2_readText_106 : decode cX2_readText 106 = .ok (.ireturn, 1) := dk_172 (dk_at dksX2_readText_4 13 rfl rfl)
abbrev cX2_token : ByteArray := prog_25_method_15_code
def yX2_token : MethodName := ⟨RX2, "token", "()V"⟩
def dkwX2_token_11 : List UInt8 := [42, 27, 16, 59, 160, 0, 7, 7, 167, 0, 4, 4, 181, 0, 97, 177]
abbrev dktX2_token_11 : List UInt8 := dkwX2_token_11 ++ []
def dkwX2_token_10 : List UInt8 := [164, 0, 7, 4, 167, 0, 4, 6, 181, 0, 97, 167, 0, 28, 42, 89, 180, 0, 80, 4, 96, 181, 0, 80]
abbrev dktX2_token_10 : List UInt8 := dkwX2_token_10 ++ dktX2_token_11
def dkwX2_token_9 : List UInt8 := [181, 0, 100, 42, 89, 180, 0, 80, 4, 96, 181, 0, 80, 132, 2, 1, 167, 255, 198, 42, 28, 5]
abbrev dktX2_token_9 : List UInt8 := dkwX2_token_9 ++ dktX2_token_10
def dkwX2_token_8 : List UInt8 := [16, 10, 42, 180, 0, 100, 104, 42, 182, 0, 86, 96, 16, 48, 100, 167, 0, 7, 42, 180, 0, 100]
abbrev dktX2_token_8 : List UInt8 := dkwX2_token_8 ++ dktX2_token_9
def dkwX2_token_7 : List UInt8 := [181, 0, 100, 42, 182, 0, 86, 16, 48, 16, 57, 184, 0, 72, 153, 0, 50, 42, 28, 5, 162, 0, 21]
abbrev dktX2_token_7 : List UInt8 := dkwX2_token_7 ++ dktX2_token_8
def dkwX2_token_6 : List UInt8 := [181, 0, 93, 42, 5, 181, 0, 97, 167, 0, 122, 27, 16, 48, 16, 57, 184, 0, 72, 153, 0, 86, 42, 3]
abbrev dktX2_token_6 : List UInt8 := dkwX2_token_6 ++ dktX2_token_7
def dkwX2_token_5 : List UInt8 := [181, 0, 80, 132, 2, 1, 167, 255, 212, 42, 28, 16, 8, 164, 0, 7, 9, 167, 0, 7, 42, 180, 0, 93]
abbrev dktX2_token_5 : List UInt8 := dkwX2_token_5 ++ dktX2_token_6
def dkwX2_token_4 : List UInt8 := [180, 0, 93, 16, 8, 121, 42, 182, 0, 86, 133, 129, 181, 0, 93, 42, 89, 180, 0, 80, 4, 96]
abbrev dktX2_token_4 : List UInt8 := dkwX2_token_4 ++ dktX2_token_5
def dkwX2_token_3 : List UInt8 := [184, 0, 72, 153, 0, 76, 42, 182, 0, 86, 16, 97, 16, 122, 184, 0, 72, 153, 0, 36, 42, 42]
abbrev dktX2_token_3 : List UInt8 := dkwX2_token_3 ++ dktX2_token_4
def dkwX2_token_2 : List UInt8 := [181, 0, 93, 3, 61, 27, 156, 0, 11, 42, 3, 181, 0, 97, 167, 0, 206, 27, 16, 97, 16, 122]
abbrev dktX2_token_2 : List UInt8 := dkwX2_token_2 ++ dktX2_token_3
def dkwX2_token_1 : List UInt8 := [96, 181, 0, 80, 167, 255, 228, 42, 42, 180, 0, 80, 181, 0, 90, 42, 182, 0, 86, 60, 42, 9]
abbrev dktX2_token_1 : List UInt8 := dkwX2_token_1 ++ dktX2_token_2
def dkwX2_token_0 : List UInt8 := [42, 182, 0, 86, 16, 10, 159, 0, 12, 42, 182, 0, 86, 16, 32, 160, 0, 16, 42, 89, 180, 0, 80, 4]
abbrev dktX2_token_0 : List UInt8 := dkwX2_token_0 ++ dktX2_token_1
theorem dksX2_token_0 : cX2_token.data.toList.drop 0 = dktX2_token_0 := by decide +kernel
theorem dksX2_token_1 : cX2_token.data.toList.drop 24 = dktX2_token_1 := dk_seg dksX2_token_0 24 rfl rfl
theorem dksX2_token_2 : cX2_token.data.toList.drop 46 = dktX2_token_2 := dk_seg dksX2_token_1 22 rfl rfl
theorem dksX2_token_3 : cX2_token.data.toList.drop 68 = dktX2_token_3 := dk_seg dksX2_token_2 22 rfl rfl
theorem dksX2_token_4 : cX2_token.data.toList.drop 90 = dktX2_token_4 := dk_seg dksX2_token_3 22 rfl rfl
theorem dksX2_token_5 : cX2_token.data.toList.drop 112 = dktX2_token_5 := dk_seg dksX2_token_4 22 rfl rfl
theorem dksX2_token_6 : cX2_token.data.toList.drop 136 = dktX2_token_6 := dk_seg dksX2_token_5 24 rfl rfl
theorem dksX2_token_7 : cX2_token.data.toList.drop 160 = dktX2_token_7 := dk_seg dksX2_token_6 24 rfl rfl
theorem dksX2_token_8 : cX2_token.data.toList.drop 183 = dktX2_token_8 := dk_seg dksX2_token_7 23 rfl rfl
theorem dksX2_token_9 : cX2_token.data.toList.drop 205 = dktX2_token_9 := dk_seg dksX2_token_8 22 rfl rfl
theorem dksX2_token_10 : cX2_token.data.toList.drop 227 = dktX2_token_10 := dk_seg dksX2_token_9 22 rfl rfl
theorem dksX2_token_11 : cX2_token.data.toList.drop 251 = dktX2_token_11 := dk_seg dksX2_token_10 24 rfl rfl
theorem dX2_token_0 : decode cX2_token 0 = .ok (.aload_n 0, 1) := dk_42 (dk_at dksX2_token_0 0 rfl rfl)
theorem dX2_token_1 : decode cX2_token 1 = .ok (.invokevirtual 86, 3) := dk_182 0 86 (dk_at dksX2_token_0 1 rfl rfl)
theorem dX2_token_4 : decode cX2_token 4 = .ok (.bipush 10, 2) := dk_16 10 (dk_at dksX2_token_0 4 rfl rfl)
theorem dX2_token_6 : decode cX2_token 6 = .ok (.if_icmp .eq 12, 3) := dk_159 0 12 (dk_at dksX2_token_0 6 rfl rfl)
theorem dX2_token_9 : decode cX2_token 9 = .ok (.aload_n 0, 1) := dk_42 (dk_at dksX2_token_0 9 rfl rfl)
theorem dX2_token_10 : decode cX2_token 10 = .ok (.invokevirtual 86, 3) := dk_182 0 86 (dk_at dksX2_token_0 10 rfl rfl)
theorem dX2_token_13 : decode cX2_token 13 = .ok (.bipush 32, 2) := dk_16 32 (dk_at dksX2_token_0 13 rfl rfl)
theorem dX2_token_15 : decode cX2_token 15 = .ok (.if_icmp .ne 16, 3) := dk_160 0 16 (dk_at dksX2_token_0 15 rfl rfl)
theorem dX2_token_18 : decode cX2_token 18 = .ok (.aload_n 0, 1) := dk_42 (dk_at dksX2_token_0 18 rfl rfl)
theorem dX2_token_19 : decode cX2_token 19 = .ok (.dup, 1) := dk_89 (dk_at dksX2_token_0 19 rfl rfl)
theorem dX2_token_20 : decode cX2_token 20 = .ok (.getfield 80, 3) := dk_180 0 80 (dk_at dksX2_token_0 20 rfl rfl)
theorem dX2_token_23 : decode cX2_token 23 = .ok (.iconst 1, 1) := dk_4 (dk_at dksX2_token_0 23 rfl rfl)
theorem dX2_token_24 : decode cX2_token 24 = .ok (.iadd, 1) := dk_96 (dk_at dksX2_token_1 0 rfl rfl)
theorem dX2_token_25 : decode cX2_token 25 = .ok (.putfield 80, 3) := dk_181 0 80 (dk_at dksX2_token_1 1 rfl rfl)
theorem dX2_token_28 : decode cX2_token 28 = .ok (.goto (-28), 3) := dk_167 255 228 (dk_at dksX2_token_1 4 rfl rfl)
theorem dX2_token_31 : decode cX2_token 31 = .ok (.aload_n 0, 1) := dk_42 (dk_at dksX2_token_1 7 rfl rfl)
theorem dX2_token_32 : decode cX2_token 32 = .ok (.aload_n 0, 1) := dk_42 (dk_at dksX2_token_1 8 rfl rfl)
theorem dX2_token_33 : decode cX2_token 33 = .ok (.getfield 80, 3) := dk_180 0 80 (dk_at dksX2_token_1 9 rfl rfl)
theorem dX2_token_36 : decode cX2_token 36 = .ok (.putfield 90, 3) := dk_181 0 90 (dk_at dksX2_token_1 12 rfl rfl)
theorem dX2_token_39 : decode cX2_token 39 = .ok (.aload_n 0, 1) := dk_42 (dk_at dksX2_token_1 15 rfl rfl)
theorem dX2_token_40 : decode cX2_token 40 = .ok (.invokevirtual 86, 3) := dk_182 0 86 (dk_at dksX2_token_1 16 rfl rfl)
theorem dX2_token_43 : decode cX2_token 43 = .ok (.istore_n 1, 1) := dk_60 (dk_at dksX2_token_1 19 rfl rfl)
theorem dX2_token_44 : decode cX2_token 44 = .ok (.aload_n 0, 1) := dk_42 (dk_at dksX2_token_1 20 rfl rfl)
theorem dX2_token_45 : decode cX2_token 45 = .ok (.lconst 0, 1) := dk_9 (dk_at dksX2_token_1 21 rfl rfl)
theorem dX2_token_46 : decode cX2_token 46 = .ok (.putfield 93, 3) := dk_181 0 93 (dk_at dksX2_token_2 0 rfl rfl)
theorem dX2_token_49 : decode cX2_token 49 = .ok (.iconst 0, 1) := dk_3 (dk_at dksX2_token_2 3 rfl rfl)
theorem dX2_token_50 : decode cX2_token 50 = .ok (.istore_n 2, 1) := dk_61 (dk_at dksX2_token_2 4 rfl rfl)
theorem dX2_token_51 : decode cX2_token 51 = .ok (.iload_n 1, 1) := dk_27 (dk_at dksX2_token_2 5 rfl rfl)
theorem dX2_token_52 : decode cX2_token 52 = .ok (.ifCond .ge 11, 3) := dk_156 0 11 (dk_at dksX2_token_2 6 rfl rfl)
theorem dX2_token_55 : decode cX2_token 55 = .ok (.aload_n 0, 1) := dk_42 (dk_at dksX2_token_2 9 rfl rfl)
theorem dX2_token_56 : decode cX2_token 56 = .ok (.iconst 0, 1) := dk_3 (dk_at dksX2_token_2 10 rfl rfl)
theorem dX2_token_57 : decode cX2_token 57 = .ok (.putfield 97, 3) := dk_181 0 97 (dk_at dksX2_token_2 11 rfl rfl)
theorem dX2_token_60 : decode cX2_token 60 = .ok (.goto 206, 3) := dk_167 0 206 (dk_at dksX2_token_2 14 rfl rfl)
theorem dX2_token_63 : decode cX2_token 63 = .ok (.iload_n 1, 1) := dk_27 (dk_at dksX2_token_2 17 rfl rfl)
theorem dX2_token_64 : decode cX2_token 64 = .ok (.bipush 97, 2) := dk_16 97 (dk_at dksX2_token_2 18 rfl rfl)
theorem dX2_token_66 : decode cX2_token 66 = .ok (.bipush 122, 2) := dk_16 122 (dk_at dksX2_token_2 20 rfl rfl)
theorem dX2_token_68 : decode cX2_token 68 = .ok (.invokestatic 72, 3) := dk_184 0 72 (dk_at dksX2_token_3 0 rfl rfl)
theorem dX2_token_71 : decode cX2_token 71 = .ok (.ifCond .eq 76, 3) := dk_153 0 76 (dk_at dksX2_token_3 3 rfl rfl)
theorem dX2_token_74 : decode cX2_token 74 = .ok (.aload_n 0, 1) := dk_42 (dk_at dksX2_token_3 6 rfl rfl)
theorem dX2_token_75 : decode cX2_token 75 = .ok (.invokevirtual 86, 3) := dk_182 0 86 (dk_at dksX2_token_3 7 rfl rfl)
theorem dX2_token_78 : decode cX2_token 78 = .ok (.bipush 97, 2) := dk_16 97 (dk_at dksX2_token_3 10 rfl rfl)
theorem dX2_token_80 : decode cX2_token 80 = .ok (.bipush 122, 2) := dk_16 122 (dk_at dksX2_token_3 12 rfl rfl)
theorem dX2_token_82 : decode cX2_token 82 = .ok (.invokestatic 72, 3) := dk_184 0 72 (dk_at dksX2_token_3 14 rfl rfl)
theorem dX2_token_85 : decode cX2_token 85 = .ok (.ifCond .eq 36, 3) := dk_153 0 36 (dk_at dksX2_token_3 17 rfl rfl)
theorem dX2_token_88 : decode cX2_token 88 = .ok (.aload_n 0, 1) := dk_42 (dk_at dksX2_token_3 20 rfl rfl)
theorem dX2_token_89 : decode cX2_token 89 = .ok (.aload_n 0, 1) := dk_42 (dk_at dksX2_token_3 21 rfl rfl)
theorem dX2_token_90 : decode cX2_token 90 = .ok (.getfield 93, 3) := dk_180 0 93 (dk_at dksX2_token_4 0 rfl rfl)
theorem dX2_token_93 : decode cX2_token 93 = .ok (.bipush 8, 2) := dk_16 8 (dk_at dksX2_token_4 3 rfl rfl)
theorem dX2_token_95 : decode cX2_token 95 = .ok (.lshl, 1) := dk_121 (dk_at dksX2_token_4 5 rfl rfl)
theorem dX2_token_96 : decode cX2_token 96 = .ok (.aload_n 0, 1) := dk_42 (dk_at dksX2_token_4 6 rfl rfl)
theorem dX2_token_97 : decode cX2_token 97 = .ok (.invokevirtual 86, 3) := dk_182 0 86 (dk_at dksX2_token_4 7 rfl rfl)
theorem dX2_token_100 : decode cX2_token 100 = .ok (.i2l, 1) := dk_133 (dk_at dksX2_token_4 10 rfl rfl)
theorem dX2_token_101 : decode cX2_token 101 = .ok (.lor, 1) := dk_129 (dk_at dksX2_token_4 11 rfl rfl)
theorem dX2_token_102 : decode cX2_token 102 = .ok (.putfield 93, 3) := dk_181 0 93 (dk_at dksX2_token_4 12 rfl rfl)
theorem dX2_token_105 : decode cX2_token 105 = .ok (.aload_n 0, 1) := dk_42 (dk_at dksX2_token_4 15 rfl rfl)
theorem dX2_token_106 : decode cX2_token 106 = .ok (.dup, 1) := dk_89 (dk_at dksX2_token_4 16 rfl rfl)
theorem dX2_token_107 : decode cX2_token 107 = .ok (.getfield 80, 3) := dk_180 0 80 (dk_at dksX2_token_4 17 rfl rfl)
theorem dX2_token_110 : decode cX2_token 110 = .ok (.iconst 1, 1) := dk_4 (dk_at dksX2_token_4 20 rfl rfl)
theorem dX2_token_111 : decode cX2_token 111 = .ok (.iadd, 1) := dk_96 (dk_at dksX2_token_4 21 rfl rfl)
theorem dX2_token_112 : decode cX2_token 112 = .ok (.putfield 80, 3) := dk_181 0 80 (dk_at dksX2_token_5 0 rfl rfl)
theorem dX2_token_115 : decode cX2_token 115 = .ok (.iinc 2 1, 3) := dk_132 2 1 (dk_at dksX2_token_5 3 rfl rfl)
theorem dX2_token_118 : decode cX2_token 118 = .ok (.goto (-44), 3) := dk_167 255 212 (dk_at dksX2_token_5 6 rfl rfl)
theorem dX2_token_121 : decode cX2_token 121 = .ok (.aload_n 0, 1) := dk_42 (dk_at dksX2_token_5 9 rfl rfl)
theorem dX2_token_122 : decode cX2_token 122 = .ok (.iload_n 2, 1) := dk_28 (dk_at dksX2_token_5 10 rfl rfl)
theorem dX2_token_123 : decode cX2_token 123 = .ok (.bipush 8, 2) := dk_16 8 (dk_at dksX2_token_5 11 rfl rfl)
theorem dX2_token_125 : decode cX2_token 125 = .ok (.if_icmp .le 7, 3) := dk_164 0 7 (dk_at dksX2_token_5 13 rfl rfl)
theorem dX2_token_128 : decode cX2_token 128 = .ok (.lconst 0, 1) := dk_9 (dk_at dksX2_token_5 16 rfl rfl)
theorem dX2_token_129 : decode cX2_token 129 = .ok (.goto 7, 3) := dk_167 0 7 (dk_at dksX2_token_5 17 rfl rfl)
theorem dX2_token_132 : decode cX2_token 132 = .ok (.aload_n 0, 1) := dk_42 (dk_at dksX2_token_5 20 rfl rfl)
theorem dX2_token_133 : decode cX2_token 133 = .ok (.getfield 93, 3) := dk_180 0 93 (dk_at dksX2_token_5 21 rfl rfl)
theorem dX2_token_136 : decode cX2_token 136 = .ok (.putfield 93, 3) := dk_181 0 93 (dk_at dksX2_token_6 0 rfl rfl)
theorem dX2_token_139 : decode cX2_token 139 = .ok (.aload_n 0, 1) := dk_42 (dk_at dksX2_token_6 3 rfl rfl)
theorem dX2_token_140 : decode cX2_token 140 = .ok (.iconst 2, 1) := dk_5 (dk_at dksX2_token_6 4 rfl rfl)
theorem dX2_token_141 : decode cX2_token 141 = .ok (.putfield 97, 3) := dk_181 0 97 (dk_at dksX2_token_6 5 rfl rfl)
theorem dX2_token_144 : decode cX2_token 144 = .ok (.goto 122, 3) := dk_167 0 122 (dk_at dksX2_token_6 8 rfl rfl)
theorem dX2_token_147 : decode cX2_token 147 = .ok (.iload_n 1, 1) := dk_27 (dk_at dksX2_token_6 11 rfl rfl)
theorem dX2_token_148 : decode cX2_token 148 = .ok (.bipush 48, 2) := dk_16 48 (dk_at dksX2_token_6 12 rfl rfl)
theorem dX2_token_150 : decode cX2_token 150 = .ok (.bipush 57, 2) := dk_16 57 (dk_at dksX2_token_6 14 rfl rfl)
theorem dX2_token_152 : decode cX2_token 152 = .ok (.invokestatic 72, 3) := dk_184 0 72 (dk_at dksX2_token_6 16 rfl rfl)
theorem dX2_token_155 : decode cX2_token 155 = .ok (.ifCond .eq 86, 3) := dk_153 0 86 (dk_at dksX2_token_6 19 rfl rfl)
theorem dX2_token_158 : decode cX2_token 158 = .ok (.aload_n 0, 1) := dk_42 (dk_at dksX2_token_6 22 rfl rfl)
theorem dX2_token_159 : decode cX2_token 159 = .ok (.iconst 0, 1) := dk_3 (dk_at dksX2_token_6 23 rfl rfl)
theorem dX2_token_160 : decode cX2_token 160 = .ok (.putfield 100, 3) := dk_181 0 100 (dk_at dksX2_token_7 0 rfl rfl)
theorem dX2_token_163 : decode cX2_token 163 = .ok (.aload_n 0, 1) := dk_42 (dk_at dksX2_token_7 3 rfl rfl)
theorem dX2_token_164 : decode cX2_token 164 = .ok (.invokevirtual 86, 3) := dk_182 0 86 (dk_at dksX2_token_7 4 rfl rfl)
theorem dX2_token_167 : decode cX2_token 167 = .ok (.bipush 48, 2) := dk_16 48 (dk_at dksX2_token_7 7 rfl rfl)
theorem dX2_token_169 : decode cX2_token 169 = .ok (.bipush 57, 2) := dk_16 57 (dk_at dksX2_token_7 9 rfl rfl)
theorem dX2_token_171 : decode cX2_token 171 = .ok (.invokestatic 72, 3) := dk_184 0 72 (dk_at dksX2_token_7 11 rfl rfl)
theorem dX2_token_174 : decode cX2_token 174 = .ok (.ifCond .eq 50, 3) := dk_153 0 50 (dk_at dksX2_token_7 14 rfl rfl)
theorem dX2_token_177 : decode cX2_token 177 = .ok (.aload_n 0, 1) := dk_42 (dk_at dksX2_token_7 17 rfl rfl)
theorem dX2_token_178 : decode cX2_token 178 = .ok (.iload_n 2, 1) := dk_28 (dk_at dksX2_token_7 18 rfl rfl)
theorem dX2_token_179 : decode cX2_token 179 = .ok (.iconst 2, 1) := dk_5 (dk_at dksX2_token_7 19 rfl rfl)
theorem dX2_token_180 : decode cX2_token 180 = .ok (.if_icmp .ge 21, 3) := dk_162 0 21 (dk_at dksX2_token_7 20 rfl rfl)
theorem dX2_token_183 : decode cX2_token 183 = .ok (.bipush 10, 2) := dk_16 10 (dk_at dksX2_token_8 0 rfl rfl)
theorem dX2_token_185 : decode cX2_token 185 = .ok (.aload_n 0, 1) := dk_42 (dk_at dksX2_token_8 2 rfl rfl)
theorem dX2_token_186 : decode cX2_token 186 = .ok (.getfield 100, 3) := dk_180 0 100 (dk_at dksX2_token_8 3 rfl rfl)
theorem dX2_token_189 : decode cX2_token 189 = .ok (.imul, 1) := dk_104 (dk_at dksX2_token_8 6 rfl rfl)
theorem dX2_token_190 : decode cX2_token 190 = .ok (.aload_n 0, 1) := dk_42 (dk_at dksX2_token_8 7 rfl rfl)
theorem dX2_token_191 : decode cX2_token 191 = .ok (.invokevirtual 86, 3) := dk_182 0 86 (dk_at dksX2_token_8 8 rfl rfl)
theorem dX2_token_194 : decode cX2_token 194 = .ok (.iadd, 1) := dk_96 (dk_at dksX2_token_8 11 rfl rfl)
theorem dX2_token_195 : decode cX2_token 195 = .ok (.bipush 48, 2) := dk_16 48 (dk_at dksX2_token_8 12 rfl rfl)
theorem dX2_token_197 : decode cX2_token 197 = .ok (.isub, 1) := dk_100 (dk_at dksX2_token_8 14 rfl rfl)
theorem dX2_token_198 : decode cX2_token 198 = .ok (.goto 7, 3) := dk_167 0 7 (dk_at dksX2_token_8 15 rfl rfl)
theorem dX2_token_201 : decode cX2_token 201 = .ok (.aload_n 0, 1) := dk_42 (dk_at dksX2_token_8 18 rfl rfl)
theorem dX2_token_202 : decode cX2_token 202 = .ok (.getfield 100, 3) := dk_180 0 100 (dk_at dksX2_token_8 19 rfl rfl)
theorem dX2_token_205 : decode cX2_token 205 = .ok (.putfield 100, 3) := dk_181 0 100 (dk_at dksX2_token_9 0 rfl rfl)
theorem dX2_token_208 : decode cX2_token 208 = .ok (.aload_n 0, 1) := dk_42 (dk_at dksX2_token_9 3 rfl rfl)
theorem dX2_token_209 : decode cX2_token 209 = .ok (.dup, 1) := dk_89 (dk_at dksX2_token_9 4 rfl rfl)
theorem dX2_token_210 : decode cX2_token 210 = .ok (.getfield 80, 3) := dk_180 0 80 (dk_at dksX2_token_9 5 rfl rfl)
theorem dX2_token_213 : decode cX2_token 213 = .ok (.iconst 1, 1) := dk_4 (dk_at dksX2_token_9 8 rfl rfl)
theorem dX2_token_214 : decode cX2_token 214 = .ok (.iadd, 1) := dk_96 (dk_at dksX2_token_9 9 rfl rfl)
theorem dX2_token_215 : decode cX2_token 215 = .ok (.putfield 80, 3) := dk_181 0 80 (dk_at dksX2_token_9 10 rfl rfl)
theorem dX2_token_218 : decode cX2_token 218 = .ok (.iinc 2 1, 3) := dk_132 2 1 (dk_at dksX2_token_9 13 rfl rfl)
theorem dX2_token_221 : decode cX2_token 221 = .ok (.goto (-58), 3) := dk_167 255 198 (dk_at dksX2_token_9 16 rfl rfl)
theorem dX2_token_224 : decode cX2_token 224 = .ok (.aload_n 0, 1) := dk_42 (dk_at dksX2_token_9 19 rfl rfl)
theorem dX2_token_225 : decode cX2_token 225 = .ok (.iload_n 2, 1) := dk_28 (dk_at dksX2_token_9 20 rfl rfl)
theorem dX2_token_226 : decode cX2_token 226 = .ok (.iconst 2, 1) := dk_5 (dk_at dksX2_token_9 21 rfl rfl)
theorem dX2_token_227 : decode cX2_token 227 = .ok (.if_icmp .le 7, 3) := dk_164 0 7 (dk_at dksX2_token_10 0 rfl rfl)
theorem dX2_token_230 : decode cX2_token 230 = .ok (.iconst 1, 1) := dk_4 (dk_at dksX2_token_10 3 rfl rfl)
theorem dX2_token_231 : decode cX2_token 231 = .ok (.goto 4, 3) := dk_167 0 4 (dk_at dksX2_token_10 4 rfl rfl)
theorem dX2_token_234 : decode cX2_token 234 = .ok (.iconst 3, 1) := dk_6 (dk_at dksX2_token_10 7 rfl rfl)
theorem dX2_token_235 : decode cX2_token 235 = .ok (.putfield 97, 3) := dk_181 0 97 (dk_at dksX2_token_10 8 rfl rfl)
theorem dX2_token_238 : decode cX2_token 238 = .ok (.goto 28, 3) := dk_167 0 28 (dk_at dksX2_token_10 11 rfl rfl)
theorem dX2_token_241 : decode cX2_token 241 = .ok (.aload_n 0, 1) := dk_42 (dk_at dksX2_token_10 14 rfl rfl)
theorem dX2_token_242 : decode cX2_token 242 = .ok (.dup, 1) := dk_89 (dk_at dksX2_token_10 15 rfl rfl)
theorem dX2_token_243 : decode cX2_token 243 = .ok (.getfield 80, 3) := dk_180 0 80 (dk_at dksX2_token_10 16 rfl rfl)
theorem dX2_token_246 : decode cX2_token 246 = .ok (.iconst 1, 1) := dk_4 (dk_at dksX2_token_10 19 rfl rfl)
theorem dX2_token_247 : decode cX2_token 247 = .ok (.iadd, 1) := dk_96 (dk_at dksX2_token_10 20 rfl rfl)
theorem dX2_token_248 : decode cX2_token 248 = .ok (.putfield 80, 3) := dk_181 0 80 (dk_at dksX2_token_10 21 rfl rfl)
theorem dX2_token_251 : decode cX2_token 251 = .ok (.aload_n 0, 1) := dk_42 (dk_at dksX2_token_11 0 rfl rfl)
theorem dX2_token_252 : decode cX2_token 252 = .ok (.iload_n 1, 1) := dk_27 (dk_at dksX2_token_11 1 rfl rfl)
theorem dX2_token_253 : decode cX2_token 253 = .ok (.bipush 59, 2) := dk_16 59 (dk_at dksX2_token_11 2 rfl rfl)
theorem dX2_token_255 : decode cX2_token 255 = .ok (.if_icmp .ne 7, 3) := dk_160 0 7 (dk_at dksX2_token_11 4 rfl rfl)
theorem dX2_token_258 : decode cX2_token 258 = .ok (.iconst 4, 1) := dk_7 (dk_at dksX2_token_11 7 rfl rfl)
theorem dX2_token_259 : decode cX2_token 259 = .ok (.goto 4, 3) := dk_167 0 4 (dk_at dksX2_token_11 8 rfl rfl)
theorem dX2_token_262 : decode cX2_token 262 = .ok (.iconst 1, 1) := dk_4 (dk_at dksX2_token_11 11 rfl rfl)
theorem dX2_token_263 : decode cX2_token 263 = .ok (.putfield 97, 3) := dk_181 0 97 (dk_at dksX2_token_11 12 rfl rfl)
theorem dX2_token_266 : decode cX2_token 266 = .ok (.return_, 1) := dk_177 (dk_at dksX2_token_11 15 rfl rfl)
abbrev cX2_see : ByteArray := prog_25_method_14_code
def yX2_see : MethodName := ⟨RX2, "see", "()I"⟩
def dkwX2_see_1 : List UInt8 := [167, 0, 4, 2, 172]
abbrev dktX2_see_1 : List UInt8 := dkwX2_see_1 ++ []
def dkwX2_see_0 : List UInt8 := [42, 180, 0, 80, 42, 180, 0, 83, 162, 0, 19, 42, 180, 0, 7, 42, 180, 0, 80, 51, 17, 0, 255, 126]
abbrev dktX2_see_0 : List UInt8 := dkwX2_see_0 ++ dktX2_see_1
theorem dksX2_see_0 : cX2_see.data.toList.drop 0 = dktX2_see_0 := by decide +kernel
theorem dksX2_see_1 : cX2_see.data.toList.drop 24 = dktX2_see_1 := dk_seg dksX2_see_0 24 rfl rfl
theorem dX2_see_0 : decode cX2_see 0 = .ok (.aload_n 0, 1) := dk_42 (dk_at dksX2_see_0 0 rfl rfl)
theorem dX2_see_1 : decode cX2_see 1 = .ok (.getfield 80, 3) := dk_180 0 80 (dk_at dksX2_see_0 1 rfl rfl)
theorem dX2_see_4 : decode cX2_see 4 = .ok (.aload_n 0, 1) := dk_42 (dk_at dksX2_see_0 4 rfl rfl)
theorem dX2_see_5 : decode cX2_see 5 = .ok (.getfield 83, 3) := dk_180 0 83 (dk_at dksX2_see_0 5 rfl rfl)
theorem dX2_see_8 : decode cX2_see 8 = .ok (.if_icmp .ge 19, 3) := dk_162 0 19 (dk_at dksX2_see_0 8 rfl rfl)
theorem dX2_see_11 : decode cX2_see 11 = .ok (.aload_n 0, 1) := dk_42 (dk_at dksX2_see_0 11 rfl rfl)
theorem dX2_see_12 : decode cX2_see 12 = .ok (.getfield 7, 3) := dk_180 0 7 (dk_at dksX2_see_0 12 rfl rfl)
theorem dX2_see_15 : decode cX2_see 15 = .ok (.aload_n 0, 1) := dk_42 (dk_at dksX2_see_0 15 rfl rfl)
theorem dX2_see_16 : decode cX2_see 16 = .ok (.getfield 80, 3) := dk_180 0 80 (dk_at dksX2_see_0 16 rfl rfl)
theorem dX2_see_19 : decode cX2_see 19 = .ok (.baload, 1) := dk_51 (dk_at dksX2_see_0 19 rfl rfl)
theorem dX2_see_20 : decode cX2_see 20 = .ok (.sipush 255, 3) := dk_17 0 255 (dk_at dksX2_see_0 20 rfl rfl)
theorem dX2_see_23 : decode cX2_see 23 = .ok (.iand, 1) := dk_126 (dk_at dksX2_see_0 23 rfl rfl)
theorem dX2_see_24 : decode cX2_see 24 = .ok (.goto 4, 3) := dk_167 0 4 (dk_at dksX2_see_1 0 rfl rfl)
theorem dX2_see_27 : decode cX2_see 27 = .ok (.iconst (-1), 1) := dk_2 (dk_at dksX2_see_1 3 rfl rfl)
theorem dX2_see_28 : decode cX2_see 28 = .ok (.ireturn, 1) := dk_172 (dk_at dksX2_see_1 4 rfl rfl)
abbrev cX2_allLines : ByteArray := prog_25_method_40_code
def yX2_allLines : MethodName := ⟨RX2, "allLines", "(I)Z"⟩
def dkwX2_allLines_5 : List UInt8 := [180, 0, 143, 4, 96, 181, 0, 143, 167, 255, 140, 28, 172]
abbrev dktX2_allLines_5 : List UInt8 := dkwX2_allLines_5 ++ []
def dkwX2_allLines_4 : List UInt8 := [180, 0, 97, 7, 159, 0, 8, 42, 182, 0, 112, 61, 28, 153, 0, 17, 42, 182, 0, 124, 42, 89]
abbrev dktX2_allLines_4 : List UInt8 := dkwX2_allLines_4 ++ dktX2_allLines_5
def dkwX2_allLines_3 : List UInt8 := [22, 4, 29, 182, 0, 234, 167, 0, 10, 42, 22, 4, 29, 182, 0, 237, 61, 28, 153, 0, 16, 42]
abbrev dktX2_allLines_3 : List UInt8 := dkwX2_allLines_3 ++ dktX2_allLines_4
def dkwX2_allLines_2 : List UInt8 := [181, 0, 129, 27, 154, 0, 13, 42, 22, 4, 29, 182, 0, 230, 167, 0, 25, 27, 4, 160, 0, 13, 42]
abbrev dktX2_allLines_2 : List UInt8 := dkwX2_allLines_2 ++ dktX2_allLines_3
def dkwX2_allLines_1 : List UInt8 := [180, 0, 97, 5, 160, 0, 10, 42, 180, 0, 93, 167, 0, 4, 9, 55, 4, 42, 4, 181, 0, 120, 42, 3]
abbrev dktX2_allLines_1 : List UInt8 := dkwX2_allLines_1 ++ dktX2_allLines_2
def dkwX2_allLines_0 : List UInt8 := [4, 61, 42, 3, 181, 0, 143, 28, 153, 0, 118, 42, 180, 0, 97, 153, 0, 111, 42, 180, 0, 90, 62, 42]
abbrev dktX2_allLines_0 : List UInt8 := dkwX2_allLines_0 ++ dktX2_allLines_1
theorem dksX2_allLines_0 : cX2_allLines.data.toList.drop 0 = dktX2_allLines_0 := by decide +kernel
theorem dksX2_allLines_1 : cX2_allLines.data.toList.drop 24 = dktX2_allLines_1 := dk_seg dksX2_allLines_0 24 rfl rfl
theorem dksX2_allLines_2 : cX2_allLines.data.toList.drop 48 = dktX2_allLines_2 := dk_seg dksX2_allLines_1 24 rfl rfl
theorem dksX2_allLines_3 : cX2_allLines.data.toList.drop 71 = dktX2_allLines_3 := dk_seg dksX2_allLines_2 23 rfl rfl
theorem dksX2_allLines_4 : cX2_allLines.data.toList.drop 93 = dktX2_allLines_4 := dk_seg dksX2_allLines_3 22 rfl rfl
theorem dksX2_allLines_5 : cX2_allLines.data.toList.drop 115 = dktX2_allLines_5 := dk_seg dksX2_allLines_4 22 rfl rfl
theorem dX2_allLines_0 : decode cX2_allLines 0 = .ok (.iconst 1, 1) := dk_4 (dk_at dksX2_allLines_0 0 rfl rfl)
theorem dX2_allLines_1 : decode cX2_allLines 1 = .ok (.istore_n 2, 1) := dk_61 (dk_at dksX2_allLines_0 1 rfl rfl)
theorem dX2_allLines_2 : decode cX2_allLines 2 = .ok (.aload_n 0, 1) := dk_42 (dk_at dksX2_allLines_0 2 rfl rfl)
theorem dX2_allLines_3 : decode cX2_allLines 3 = .ok (.iconst 0, 1) := dk_3 (dk_at dksX2_allLines_0 3 rfl rfl)
theorem dX2_allLines_4 : decode cX2_allLines 4 = .ok (.putfield 143, 3) := dk_181 0 143 (dk_at dksX2_allLines_0 4 rfl rfl)
theorem dX2_allLines_7 : decode cX2_allLines 7 = .ok (.iload_n 2, 1) := dk_28 (dk_at dksX2_allLines_0 7 rfl rfl)
theorem dX2_allLines_8 : decode cX2_allLines 8 = .ok (.ifCond .eq 118, 3) := dk_153 0 118 (dk_at dksX2_allLines_0 8 rfl rfl)
theorem dX2_allLines_11 : decode cX2_allLines 11 = .ok (.aload_n 0, 1) := dk_42 (dk_at dksX2_allLines_0 11 rfl rfl)
theorem dX2_allLines_12 : decode cX2_allLines 12 = .ok (.getfield 97, 3) := dk_180 0 97 (dk_at dksX2_allLines_0 12 rfl rfl)
theorem dX2_allLines_15 : decode cX2_allLines 15 = .ok (.ifCond .eq 111, 3) := dk_153 0 111 (dk_at dksX2_allLines_0 15 rfl rfl)
theorem dX2_allLines_18 : decode cX2_allLines 18 = .ok (.aload_n 0, 1) := dk_42 (dk_at dksX2_allLines_0 18 rfl rfl)
theorem dX2_allLines_19 : decode cX2_allLines 19 = .ok (.getfield 90, 3) := dk_180 0 90 (dk_at dksX2_allLines_0 19 rfl rfl)
theorem dX2_allLines_22 : decode cX2_allLines 22 = .ok (.istore_n 3, 1) := dk_62 (dk_at dksX2_allLines_0 22 rfl rfl)
theorem dX2_allLines_23 : decode cX2_allLines 23 = .ok (.aload_n 0, 1) := dk_42 (dk_at dksX2_allLines_0 23 rfl rfl)
theorem dX2_allLines_24 : decode cX2_allLines 24 = .ok (.getfield 97, 3) := dk_180 0 97 (dk_at dksX2_allLines_1 0 rfl rfl)
theorem dX2_allLines_27 : decode cX2_allLines 27 = .ok (.iconst 2, 1) := dk_5 (dk_at dksX2_allLines_1 3 rfl rfl)
theorem dX2_allLines_28 : decode cX2_allLines 28 = .ok (.if_icmp .ne 10, 3) := dk_160 0 10 (dk_at dksX2_allLines_1 4 rfl rfl)
theorem dX2_allLines_31 : decode cX2_allLines 31 = .ok (.aload_n 0, 1) := dk_42 (dk_at dksX2_allLines_1 7 rfl rfl)
theorem dX2_allLines_32 : decode cX2_allLines 32 = .ok (.getfield 93, 3) := dk_180 0 93 (dk_at dksX2_allLines_1 8 rfl rfl)
theorem dX2_allLines_35 : decode cX2_allLines 35 = .ok (.goto 4, 3) := dk_167 0 4 (dk_at dksX2_allLines_1 11 rfl rfl)
theorem dX2_allLines_38 : decode cX2_allLines 38 = .ok (.lconst 0, 1) := dk_9 (dk_at dksX2_allLines_1 14 rfl rfl)
theorem dX2_allLines_39 : decode cX2_allLines 39 = .ok (.lstore 4, 2) := dk_55 4 (dk_at dksX2_allLines_1 15 rfl rfl)
theorem dX2_allLines_41 : decode cX2_allLines 41 = .ok (.aload_n 0, 1) := dk_42 (dk_at dksX2_allLines_1 17 rfl rfl)
theorem dX2_allLines_42 : decode cX2_allLines 42 = .ok (.iconst 1, 1) := dk_4 (dk_at dksX2_allLines_1 18 rfl rfl)
theorem dX2_allLines_43 : decode cX2_allLines 43 = .ok (.putfield 120, 3) := dk_181 0 120 (dk_at dksX2_allLines_1 19 rfl rfl)
theorem dX2_allLines_46 : decode cX2_allLines 46 = .ok (.aload_n 0, 1) := dk_42 (dk_at dksX2_allLines_1 22 rfl rfl)
theorem dX2_allLines_47 : decode cX2_allLines 47 = .ok (.iconst 0, 1) := dk_3 (dk_at dksX2_allLines_1 23 rfl rfl)
theorem dX2_allLines_48 : decode cX2_allLines 48 = .ok (.putfield 129, 3) := dk_181 0 129 (dk_at dksX2_allLines_2 0 rfl rfl)
theorem dX2_allLines_51 : decode cX2_allLines 51 = .ok (.iload_n 1, 1) := dk_27 (dk_at dksX2_allLines_2 3 rfl rfl)
theorem dX2_allLines_52 : decode cX2_allLines 52 = .ok (.ifCond .ne 13, 3) := dk_154 0 13 (dk_at dksX2_allLines_2 4 rfl rfl)
theorem dX2_allLines_55 : decode cX2_allLines 55 = .ok (.aload_n 0, 1) := dk_42 (dk_at dksX2_allLines_2 7 rfl rfl)
theorem dX2_allLines_56 : decode cX2_allLines 56 = .ok (.lload 4, 2) := dk_22 4 (dk_at dksX2_allLines_2 8 rfl rfl)
theorem dX2_allLines_58 : decode cX2_allLines 58 = .ok (.iload_n 3, 1) := dk_29 (dk_at dksX2_allLines_2 10 rfl rfl)
theorem dX2_allLines_59 : decode cX2_allLines 59 = .ok (.invokevirtual 230, 3) := dk_182 0 230 (dk_at dksX2_allLines_2 11 rfl rfl)
theorem dX2_allLines_62 : decode cX2_allLines 62 = .ok (.goto 25, 3) := dk_167 0 25 (dk_at dksX2_allLines_2 14 rfl rfl)
theorem dX2_allLines_65 : decode cX2_allLines 65 = .ok (.iload_n 1, 1) := dk_27 (dk_at dksX2_allLines_2 17 rfl rfl)
theorem dX2_allLines_66 : decode cX2_allLines 66 = .ok (.iconst 1, 1) := dk_4 (dk_at dksX2_allLines_2 18 rfl rfl)
theorem dX2_allLines_67 : decode cX2_allLines 67 = .ok (.if_icmp .ne 13, 3) := dk_160 0 13 (dk_at dksX2_allLines_2 19 rfl rfl)
theorem dX2_allLines_70 : decode cX2_allLines 70 = .ok (.aload_n 0, 1) := dk_42 (dk_at dksX2_allLines_2 22 rfl rfl)
theorem dX2_allLines_71 : decode cX2_allLines 71 = .ok (.lload 4, 2) := dk_22 4 (dk_at dksX2_allLines_3 0 rfl rfl)
theorem dX2_allLines_73 : decode cX2_allLines 73 = .ok (.iload_n 3, 1) := dk_29 (dk_at dksX2_allLines_3 2 rfl rfl)
theorem dX2_allLines_74 : decode cX2_allLines 74 = .ok (.invokevirtual 234, 3) := dk_182 0 234 (dk_at dksX2_allLines_3 3 rfl rfl)
theorem dX2_allLines_77 : decode cX2_allLines 77 = .ok (.goto 10, 3) := dk_167 0 10 (dk_at dksX2_allLines_3 6 rfl rfl)
theorem dX2_allLines_80 : decode cX2_allLines 80 = .ok (.aload_n 0, 1) := dk_42 (dk_at dksX2_allLines_3 9 rfl rfl)
theorem dX2_allLines_81 : decode cX2_allLines 81 = .ok (.lload 4, 2) := dk_22 4 (dk_at dksX2_allLines_3 10 rfl rfl)
theorem dX2_allLines_83 : decode cX2_allLines 83 = .ok (.iload_n 3, 1) := dk_29 (dk_at dksX2_allLines_3 12 rfl rfl)
theorem dX2_allLines_84 : decode cX2_allLines 84 = .ok (.invokevirtual 237, 3) := dk_182 0 237 (dk_at dksX2_allLines_3 13 rfl rfl)
theorem dX2_allLines_87 : decode cX2_allLines 87 = .ok (.istore_n 2, 1) := dk_61 (dk_at dksX2_allLines_3 16 rfl rfl)
theorem dX2_allLines_88 : decode cX2_allLines 88 = .ok (.iload_n 2, 1) := dk_28 (dk_at dksX2_allLines_3 17 rfl rfl)
theorem dX2_allLines_89 : decode cX2_allLines 89 = .ok (.ifCond .eq 16, 3) := dk_153 0 16 (dk_at dksX2_allLines_3 18 rfl rfl)
theorem dX2_allLines_92 : decode cX2_allLines 92 = .ok (.aload_n 0, 1) := dk_42 (dk_at dksX2_allLines_3 21 rfl rfl)
theorem dX2_allLines_93 : decode cX2_allLines 93 = .ok (.getfield 97, 3) := dk_180 0 97 (dk_at dksX2_allLines_4 0 rfl rfl)
theorem dX2_allLines_96 : decode cX2_allLines 96 = .ok (.iconst 4, 1) := dk_7 (dk_at dksX2_allLines_4 3 rfl rfl)
theorem dX2_allLines_97 : decode cX2_allLines 97 = .ok (.if_icmp .eq 8, 3) := dk_159 0 8 (dk_at dksX2_allLines_4 4 rfl rfl)
theorem dX2_allLines_100 : decode cX2_allLines 100 = .ok (.aload_n 0, 1) := dk_42 (dk_at dksX2_allLines_4 7 rfl rfl)
theorem dX2_allLines_101 : decode cX2_allLines 101 = .ok (.invokevirtual 112, 3) := dk_182 0 112 (dk_at dksX2_allLines_4 8 rfl rfl)
theorem dX2_allLines_104 : decode cX2_allLines 104 = .ok (.istore_n 2, 1) := dk_61 (dk_at dksX2_allLines_4 11 rfl rfl)
theorem dX2_allLines_105 : decode cX2_allLines 105 = .ok (.iload_n 2, 1) := dk_28 (dk_at dksX2_allLines_4 12 rfl rfl)
theorem dX2_allLines_106 : decode cX2_allLines 106 = .ok (.ifCond .eq 17, 3) := dk_153 0 17 (dk_at dksX2_allLines_4 13 rfl rfl)
theorem dX2_allLines_109 : decode cX2_allLines 109 = .ok (.aload_n 0, 1) := dk_42 (dk_at dksX2_allLines_4 16 rfl rfl)
theorem dX2_allLines_110 : decode cX2_allLines 110 = .ok (.invokevirtual 124, 3) := dk_182 0 124 (dk_at dksX2_allLines_4 17 rfl rfl)
theorem dX2_allLines_113 : decode cX2_allLines 113 = .ok (.aload_n 0, 1) := dk_42 (dk_at dksX2_allLines_4 20 rfl rfl)
theorem dX2_allLines_114 : decode cX2_allLines 114 = .ok (.dup, 1) := dk_89 (dk_at dksX2_allLines_4 21 rfl rfl)
theorem dX2_allLines_115 : decode cX2_allLines 115 = .ok (.getfield 143, 3) := dk_180 0 143 (dk_at dksX2_allLines_5 0 rfl rfl)
theorem dX2_allLines_118 : decode cX2_allLines 118 = .ok (.iconst 1, 1) := dk_4 (dk_at dksX2_allLines_5 3 rfl rfl)
theorem dX2_allLines_119 : decode cX2_allLines 119 = .ok (.iadd, 1) := dk_96 (dk_at dksX2_allLines_5 4 rfl rfl)
theorem dX2_allLines_120 : decode cX2_allLines 120 = .ok (.putfield 143, 3) := dk_181 0 143 (dk_at dksX2_allLines_5 5 rfl rfl)
theorem dX2_allLines_123 : decode cX2_allLines 123 = .ok (.goto (-116), 3) := dk_167 255 140 (dk_at dksX2_allLines_5 8 rfl rfl)
theorem dX2_allLines_126 : decode cX2_allLines 126 = .ok (.iload_n 2, 1) := dk_28 (dk_at dksX2_allLines_5 11 rfl rfl)
theorem dX2_allLines_127 : decode cX2_allLines 127 = .ok (.ireturn, 1) := dk_172 (dk_at dksX2_allLines_5 12 rfl rfl)
abbrev cX2_archiveLine : ByteArray := prog_25_method_35_code
def yX2_archiveLine : MethodName := ⟨RX2, "archiveLine", "(JI)Z"⟩
def dkwX2_archiveLine_1 : List UInt8 := [21, 4, 2, 160, 0, 10, 42, 182, 0, 112, 167, 0, 10, 42, 21, 4, 29, 182, 0, 201, 172]
abbrev dktX2_archiveLine_1 : List UInt8 := dkwX2_archiveLine_1 ++ []
def dkwX2_archiveLine_0 : List UInt8 := [42, 31, 182, 0, 193, 54, 4, 31, 20, 0, 196, 148, 154, 0, 11, 42, 29, 182, 0, 198, 167, 0, 23]
abbrev dktX2_archiveLine_0 : List UInt8 := dkwX2_archiveLine_0 ++ dktX2_archiveLine_1
theorem dksX2_archiveLine_0 : cX2_archiveLine.data.toList.drop 0 = dktX2_archiveLine_0 := by decide +kernel
theorem dksX2_archiveLine_1 : cX2_archiveLine.data.toList.drop 23 = dktX2_archiveLine_1 := dk_seg dksX2_archiveLine_0 23 rfl rfl
theorem dX2_archiveLine_0 : decode cX2_archiveLine 0 = .ok (.aload_n 0, 1) := dk_42 (dk_at dksX2_archiveLine_0 0 rfl rfl)
theorem dX2_archiveLine_1 : decode cX2_archiveLine 1 = .ok (.lload_n 1, 1) := dk_31 (dk_at dksX2_archiveLine_0 1 rfl rfl)
theorem dX2_archiveLine_2 : decode cX2_archiveLine 2 = .ok (.invokevirtual 193, 3) := dk_182 0 193 (dk_at dksX2_archiveLine_0 2 rfl rfl)
theorem dX2_archiveLine_5 : decode cX2_archiveLine 5 = .ok (.istore 4, 2) := dk_54 4 (dk_at dksX2_archiveLine_0 5 rfl rfl)
theorem dX2_archiveLine_7 : decode cX2_archiveLine 7 = .ok (.lload_n 1, 1) := dk_31 (dk_at dksX2_archiveLine_0 7 rfl rfl)
theorem dX2_archiveLine_8 : decode cX2_archiveLine 8 = .ok (.ldc2_w 196, 3) := dk_20 0 196 (dk_at dksX2_archiveLine_0 8 rfl rfl)
theorem dX2_archiveLine_11 : decode cX2_archiveLine 11 = .ok (.lcmp, 1) := dk_148 (dk_at dksX2_archiveLine_0 11 rfl rfl)
theorem dX2_archiveLine_12 : decode cX2_archiveLine 12 = .ok (.ifCond .ne 11, 3) := dk_154 0 11 (dk_at dksX2_archiveLine_0 12 rfl rfl)
theorem dX2_archiveLine_15 : decode cX2_archiveLine 15 = .ok (.aload_n 0, 1) := dk_42 (dk_at dksX2_archiveLine_0 15 rfl rfl)
theorem dX2_archiveLine_16 : decode cX2_archiveLine 16 = .ok (.iload_n 3, 1) := dk_29 (dk_at dksX2_archiveLine_0 16 rfl rfl)
theorem dX2_archiveLine_17 : decode cX2_archiveLine 17 = .ok (.invokevirtual 198, 3) := dk_182 0 198 (dk_at dksX2_archiveLine_0 17 rfl rfl)
theorem dX2_archiveLine_20 : decode cX2_archiveLine 20 = .ok (.goto 23, 3) := dk_167 0 23 (dk_at dksX2_archiveLine_0 20 rfl rfl)
theorem dX2_archiveLine_23 : decode cX2_archiveLine 23 = .ok (.iload 4, 2) := dk_21 4 (dk_at dksX2_archiveLine_1 0 rfl rfl)
theorem dX2_archiveLine_25 : decode cX2_archiveLine 25 = .ok (.iconst (-1), 1) := dk_2 (dk_at dksX2_archiveLine_1 2 rfl rfl)
theorem dX2_archiveLine_26 : decode cX2_archiveLine 26 = .ok (.if_icmp .ne 10, 3) := dk_160 0 10 (dk_at dksX2_archiveLine_1 3 rfl rfl)
theorem dX2_archiveLine_29 : decode cX2_archiveLine 29 = .ok (.aload_n 0, 1) := dk_42 (dk_at dksX2_archiveLine_1 6 rfl rfl)
theorem dX2_archiveLine_30 : decode cX2_archiveLine 30 = .ok (.invokevirtual 112, 3) := dk_182 0 112 (dk_at dksX2_archiveLine_1 7 rfl rfl)
theorem dX2_archiveLine_33 : decode cX2_archiveLine 33 = .ok (.goto 10, 3) := dk_167 0 10 (dk_at dksX2_archiveLine_1 10 rfl rfl)
theorem dX2_archiveLine_36 : decode cX2_archiveLine 36 = .ok (.aload_n 0, 1) := dk_42 (dk_at dksX2_archiveLine_1 13 rfl rfl)
theorem dX2_archiveLine_37 : decode cX2_archiveLine 37 = .ok (.iload 4, 2) := dk_21 4 (dk_at dksX2_archiveLine_1 14 rfl rfl)
theorem dX2_archiveLine_39 : decode cX2_archiveLine 39 = .ok (.iload_n 3, 1) := dk_29 (dk_at dksX2_archiveLine_1 16 rfl rfl)
theorem dX2_archiveLine_40 : decode cX2_archiveLine 40 = .ok (.invokevirtual 201, 3) := dk_182 0 201 (dk_at dksX2_archiveLine_1 17 rfl rfl)
theorem dX2_archiveLine_43 : decode cX2_archiveLine 43 = .ok (.ireturn, 1) := dk_172 (dk_at dksX2_archiveLine_1 20 rfl rfl)
abbrev cX2_changeBy : ByteArray := prog_25_method_28_code
def yX2_changeBy : MethodName := ⟨RX2, "changeBy", "(J)I"⟩
def dkwX2_changeBy_2 : List UInt8 := [2, 172]
abbrev dktX2_changeBy_2 : List UInt8 := dkwX2_changeBy_2 ++ []
def dkwX2_changeBy_1 : List UInt8 := [31, 20, 0, 169, 148, 154, 0, 7, 5, 167, 0, 16, 31, 20, 0, 171, 148, 154, 0, 7, 6, 167, 0, 4]
abbrev dktX2_changeBy_1 : List UInt8 := dkwX2_changeBy_1 ++ dktX2_changeBy_2
def dkwX2_changeBy_0 : List UInt8 := [31, 20, 0, 165, 148, 154, 0, 7, 3, 167, 0, 40, 31, 20, 0, 167, 148, 154, 0, 7, 4, 167, 0, 28]
abbrev dktX2_changeBy_0 : List UInt8 := dkwX2_changeBy_0 ++ dktX2_changeBy_1
theorem dksX2_changeBy_0 : cX2_changeBy.data.toList.drop 0 = dktX2_changeBy_0 := by decide +kernel
theorem dksX2_changeBy_1 : cX2_changeBy.data.toList.drop 24 = dktX2_changeBy_1 := dk_seg dksX2_changeBy_0 24 rfl rfl
theorem dksX2_changeBy_2 : cX2_changeBy.data.toList.drop 48 = dktX2_changeBy_2 := dk_seg dksX2_changeBy_1 24 rfl rfl
theorem dX2_changeBy_0 : decode cX2_changeBy 0 = .ok (.lload_n 1, 1) := dk_31 (dk_at dksX2_changeBy_0 0 rfl rfl)
theorem dX2_changeBy_1 : decode cX2_changeBy 1 = .ok (.ldc2_w 165, 3) := dk_20 0 165 (dk_at dksX2_changeBy_0 1 rfl rfl)
theorem dX2_changeBy_4 : decode cX2_changeBy 4 = .ok (.lcmp, 1) := dk_148 (dk_at dksX2_changeBy_0 4 rfl rfl)
theorem dX2_changeBy_5 : decode cX2_changeBy 5 = .ok (.ifCond .ne 7, 3) := dk_154 0 7 (dk_at dksX2_changeBy_0 5 rfl rfl)
theorem dX2_changeBy_8 : decode cX2_changeBy 8 = .ok (.iconst 0, 1) := dk_3 (dk_at dksX2_changeBy_0 8 rfl rfl)
theorem dX2_changeBy_9 : decode cX2_changeBy 9 = .ok (.goto 40, 3) := dk_167 0 40 (dk_at dksX2_changeBy_0 9 rfl rfl)
theorem dX2_changeBy_12 : decode cX2_changeBy 12 = .ok (.lload_n 1, 1) := dk_31 (dk_at dksX2_changeBy_0 12 rfl rfl)
theorem dX2_changeBy_13 : decode cX2_changeBy 13 = .ok (.ldc2_w 167, 3) := dk_20 0 167 (dk_at dksX2_changeBy_0 13 rfl rfl)
theorem dX2_changeBy_16 : decode cX2_changeBy 16 = .ok (.lcmp, 1) := dk_148 (dk_at dksX2_changeBy_0 16 rfl rfl)
theorem dX2_changeBy_17 : decode cX2_changeBy 17 = .ok (.ifCond .ne 7, 3) := dk_154 0 7 (dk_at dksX2_changeBy_0 17 rfl rfl)
theorem dX2_changeBy_20 : decode cX2_changeBy 20 = .ok (.iconst 1, 1) := dk_4 (dk_at dksX2_changeBy_0 20 rfl rfl)
theorem dX2_changeBy_21 : decode cX2_changeBy 21 = .ok (.goto 28, 3) := dk_167 0 28 (dk_at dksX2_changeBy_0 21 rfl rfl)
theorem dX2_changeBy_24 : decode cX2_changeBy 24 = .ok (.lload_n 1, 1) := dk_31 (dk_at dksX2_changeBy_1 0 rfl rfl)
theorem dX2_changeBy_25 : decode cX2_changeBy 25 = .ok (.ldc2_w 169, 3) := dk_20 0 169 (dk_at dksX2_changeBy_1 1 rfl rfl)
theorem dX2_changeBy_28 : decode cX2_changeBy 28 = .ok (.lcmp, 1) := dk_148 (dk_at dksX2_changeBy_1 4 rfl rfl)
theorem dX2_changeBy_29 : decode cX2_changeBy 29 = .ok (.ifCond .ne 7, 3) := dk_154 0 7 (dk_at dksX2_changeBy_1 5 rfl rfl)
theorem dX2_changeBy_32 : decode cX2_changeBy 32 = .ok (.iconst 2, 1) := dk_5 (dk_at dksX2_changeBy_1 8 rfl rfl)
theorem dX2_changeBy_33 : decode cX2_changeBy 33 = .ok (.goto 16, 3) := dk_167 0 16 (dk_at dksX2_changeBy_1 9 rfl rfl)
theorem dX2_changeBy_36 : decode cX2_changeBy 36 = .ok (.lload_n 1, 1) := dk_31 (dk_at dksX2_changeBy_1 12 rfl rfl)
theorem dX2_changeBy_37 : decode cX2_changeBy 37 = .ok (.ldc2_w 171, 3) := dk_20 0 171 (dk_at dksX2_changeBy_1 13 rfl rfl)
theorem dX2_changeBy_40 : decode cX2_changeBy 40 = .ok (.lcmp, 1) := dk_148 (dk_at dksX2_changeBy_1 16 rfl rfl)
theorem dX2_changeBy_41 : decode cX2_changeBy 41 = .ok (.ifCond .ne 7, 3) := dk_154 0 7 (dk_at dksX2_changeBy_1 17 rfl rfl)
theorem dX2_changeBy_44 : decode cX2_changeBy 44 = .ok (.iconst 3, 1) := dk_6 (dk_at dksX2_changeBy_1 20 rfl rfl)
theorem dX2_changeBy_45 : decode cX2_changeBy 45 = .ok (.goto 4, 3) := dk_167 0 4 (dk_at dksX2_changeBy_1 21 rfl rfl)
theorem dX2_changeBy_48 : decode cX2_changeBy 48 = .ok (.iconst (-1), 1) := dk_2 (dk_at dksX2_changeBy_2 0 rfl rfl)
theorem dX2_changeBy_49 : decode cX2_changeBy 49 = .ok (.ireturn, 1) := dk_172 (dk_at dksX2_changeBy_2 1 rfl rfl)
abbrev cX2_docLine : ByteArray := prog_25_method_27_code
def yX2_docLine : MethodName := ⟨RX2, "docLine", "(I)Z"⟩
def dkwX2_docLine_3 : List UInt8 := [180, 0, 41, 29, 46, 182, 0, 159, 182, 0, 162, 132, 3, 1, 167, 255, 229, 4, 172]
abbrev dktX2_docLine_3 : List UInt8 := dkwX2_docLine_3 ++ []
def dkwX2_docLine_2 : List UInt8 := [4, 96, 79, 42, 28, 182, 0, 156, 3, 62, 29, 42, 180, 0, 129, 162, 0, 25, 42, 28, 42, 28, 42]
abbrev dktX2_docLine_2 : List UInt8 := dkwX2_docLine_2 ++ dktX2_docLine_3
def dkwX2_docLine_1 : List UInt8 := [182, 0, 153, 42, 180, 0, 106, 154, 0, 57, 42, 180, 0, 35, 3, 46, 61, 42, 180, 0, 35, 3, 92, 46]
abbrev dktX2_docLine_1 : List UInt8 := dkwX2_docLine_1 ++ dktX2_docLine_2
def dkwX2_docLine_0 : List UInt8 := [42, 180, 0, 35, 3, 46, 7, 160, 0, 9, 42, 6, 27, 182, 0, 116, 42, 182, 0, 124, 42, 16, 20]
abbrev dktX2_docLine_0 : List UInt8 := dkwX2_docLine_0 ++ dktX2_docLine_1
theorem dksX2_docLine_0 : cX2_docLine.data.toList.drop 0 = dktX2_docLine_0 := by decide +kernel
theorem dksX2_docLine_1 : cX2_docLine.data.toList.drop 23 = dktX2_docLine_1 := dk_seg dksX2_docLine_0 23 rfl rfl
theorem dksX2_docLine_2 : cX2_docLine.data.toList.drop 47 = dktX2_docLine_2 := dk_seg dksX2_docLine_1 24 rfl rfl
theorem dksX2_docLine_3 : cX2_docLine.data.toList.drop 70 = dktX2_docLine_3 := dk_seg dksX2_docLine_2 23 rfl rfl
theorem dX2_docLine_0 : decode cX2_docLine 0 = .ok (.aload_n 0, 1) := dk_42 (dk_at dksX2_docLine_0 0 rfl rfl)
theorem dX2_docLine_1 : decode cX2_docLine 1 = .ok (.getfield 35, 3) := dk_180 0 35 (dk_at dksX2_docLine_0 1 rfl rfl)
theorem dX2_docLine_4 : decode cX2_docLine 4 = .ok (.iconst 0, 1) := dk_3 (dk_at dksX2_docLine_0 4 rfl rfl)
theorem dX2_docLine_5 : decode cX2_docLine 5 = .ok (.iaload, 1) := dk_46 (dk_at dksX2_docLine_0 5 rfl rfl)
theorem dX2_docLine_6 : decode cX2_docLine 6 = .ok (.iconst 4, 1) := dk_7 (dk_at dksX2_docLine_0 6 rfl rfl)
theorem dX2_docLine_7 : decode cX2_docLine 7 = .ok (.if_icmp .ne 9, 3) := dk_160 0 9 (dk_at dksX2_docLine_0 7 rfl rfl)
theorem dX2_docLine_10 : decode cX2_docLine 10 = .ok (.aload_n 0, 1) := dk_42 (dk_at dksX2_docLine_0 10 rfl rfl)
theorem dX2_docLine_11 : decode cX2_docLine 11 = .ok (.iconst 3, 1) := dk_6 (dk_at dksX2_docLine_0 11 rfl rfl)
theorem dX2_docLine_12 : decode cX2_docLine 12 = .ok (.iload_n 1, 1) := dk_27 (dk_at dksX2_docLine_0 12 rfl rfl)
theorem dX2_docLine_13 : decode cX2_docLine 13 = .ok (.invokevirtual 116, 3) := dk_182 0 116 (dk_at dksX2_docLine_0 13 rfl rfl)
theorem dX2_docLine_16 : decode cX2_docLine 16 = .ok (.aload_n 0, 1) := dk_42 (dk_at dksX2_docLine_0 16 rfl rfl)
theorem dX2_docLine_17 : decode cX2_docLine 17 = .ok (.invokevirtual 124, 3) := dk_182 0 124 (dk_at dksX2_docLine_0 17 rfl rfl)
theorem dX2_docLine_20 : decode cX2_docLine 20 = .ok (.aload_n 0, 1) := dk_42 (dk_at dksX2_docLine_0 20 rfl rfl)
theorem dX2_docLine_21 : decode cX2_docLine 21 = .ok (.bipush 20, 2) := dk_16 20 (dk_at dksX2_docLine_0 21 rfl rfl)
theorem dX2_docLine_23 : decode cX2_docLine 23 = .ok (.invokevirtual 153, 3) := dk_182 0 153 (dk_at dksX2_docLine_1 0 rfl rfl)
theorem dX2_docLine_26 : decode cX2_docLine 26 = .ok (.aload_n 0, 1) := dk_42 (dk_at dksX2_docLine_1 3 rfl rfl)
theorem dX2_docLine_27 : decode cX2_docLine 27 = .ok (.getfield 106, 3) := dk_180 0 106 (dk_at dksX2_docLine_1 4 rfl rfl)
theorem dX2_docLine_30 : decode cX2_docLine 30 = .ok (.ifCond .ne 57, 3) := dk_154 0 57 (dk_at dksX2_docLine_1 7 rfl rfl)
theorem dX2_docLine_33 : decode cX2_docLine 33 = .ok (.aload_n 0, 1) := dk_42 (dk_at dksX2_docLine_1 10 rfl rfl)
theorem dX2_docLine_34 : decode cX2_docLine 34 = .ok (.getfield 35, 3) := dk_180 0 35 (dk_at dksX2_docLine_1 11 rfl rfl)
theorem dX2_docLine_37 : decode cX2_docLine 37 = .ok (.iconst 0, 1) := dk_3 (dk_at dksX2_docLine_1 14 rfl rfl)
theorem dX2_docLine_38 : decode cX2_docLine 38 = .ok (.iaload, 1) := dk_46 (dk_at dksX2_docLine_1 15 rfl rfl)
theorem dX2_docLine_39 : decode cX2_docLine 39 = .ok (.istore_n 2, 1) := dk_61 (dk_at dksX2_docLine_1 16 rfl rfl)
theorem dX2_docLine_40 : decode cX2_docLine 40 = .ok (.aload_n 0, 1) := dk_42 (dk_at dksX2_docLine_1 17 rfl rfl)
theorem dX2_docLine_41 : decode cX2_docLine 41 = .ok (.getfield 35, 3) := dk_180 0 35 (dk_at dksX2_docLine_1 18 rfl rfl)
theorem dX2_docLine_44 : decode cX2_docLine 44 = .ok (.iconst 0, 1) := dk_3 (dk_at dksX2_docLine_1 21 rfl rfl)
theorem dX2_docLine_45 : decode cX2_docLine 45 = .ok (.dup2, 1) := dk_92 (dk_at dksX2_docLine_1 22 rfl rfl)
theorem dX2_docLine_46 : decode cX2_docLine 46 = .ok (.iaload, 1) := dk_46 (dk_at dksX2_docLine_1 23 rfl rfl)
theorem dX2_docLine_47 : decode cX2_docLine 47 = .ok (.iconst 1, 1) := dk_4 (dk_at dksX2_docLine_2 0 rfl rfl)
theorem dX2_docLine_48 : decode cX2_docLine 48 = .ok (.iadd, 1) := dk_96 (dk_at dksX2_docLine_2 1 rfl rfl)
theorem dX2_docLine_49 : decode cX2_docLine 49 = .ok (.iastore, 1) := dk_79 (dk_at dksX2_docLine_2 2 rfl rfl)
theorem dX2_docLine_50 : decode cX2_docLine 50 = .ok (.aload_n 0, 1) := dk_42 (dk_at dksX2_docLine_2 3 rfl rfl)
theorem dX2_docLine_51 : decode cX2_docLine 51 = .ok (.iload_n 2, 1) := dk_28 (dk_at dksX2_docLine_2 4 rfl rfl)
theorem dX2_docLine_52 : decode cX2_docLine 52 = .ok (.invokevirtual 156, 3) := dk_182 0 156 (dk_at dksX2_docLine_2 5 rfl rfl)
theorem dX2_docLine_55 : decode cX2_docLine 55 = .ok (.iconst 0, 1) := dk_3 (dk_at dksX2_docLine_2 8 rfl rfl)
theorem dX2_docLine_56 : decode cX2_docLine 56 = .ok (.istore_n 3, 1) := dk_62 (dk_at dksX2_docLine_2 9 rfl rfl)
theorem dX2_docLine_57 : decode cX2_docLine 57 = .ok (.iload_n 3, 1) := dk_29 (dk_at dksX2_docLine_2 10 rfl rfl)
theorem dX2_docLine_58 : decode cX2_docLine 58 = .ok (.aload_n 0, 1) := dk_42 (dk_at dksX2_docLine_2 11 rfl rfl)
theorem dX2_docLine_59 : decode cX2_docLine 59 = .ok (.getfield 129, 3) := dk_180 0 129 (dk_at dksX2_docLine_2 12 rfl rfl)
theorem dX2_docLine_62 : decode cX2_docLine 62 = .ok (.if_icmp .ge 25, 3) := dk_162 0 25 (dk_at dksX2_docLine_2 15 rfl rfl)
theorem dX2_docLine_65 : decode cX2_docLine 65 = .ok (.aload_n 0, 1) := dk_42 (dk_at dksX2_docLine_2 18 rfl rfl)
theorem dX2_docLine_66 : decode cX2_docLine 66 = .ok (.iload_n 2, 1) := dk_28 (dk_at dksX2_docLine_2 19 rfl rfl)
theorem dX2_docLine_67 : decode cX2_docLine 67 = .ok (.aload_n 0, 1) := dk_42 (dk_at dksX2_docLine_2 20 rfl rfl)
theorem dX2_docLine_68 : decode cX2_docLine 68 = .ok (.iload_n 2, 1) := dk_28 (dk_at dksX2_docLine_2 21 rfl rfl)
theorem dX2_docLine_69 : decode cX2_docLine 69 = .ok (.aload_n 0, 1) := dk_42 (dk_at dksX2_docLine_2 22 rfl rfl)
theorem dX2_docLine_70 : decode cX2_docLine 70 = .ok (.getfield 41, 3) := dk_180 0 41 (dk_at dksX2_docLine_3 0 rfl rfl)
theorem dX2_docLine_73 : decode cX2_docLine 73 = .ok (.iload_n 3, 1) := dk_29 (dk_at dksX2_docLine_3 3 rfl rfl)
theorem dX2_docLine_74 : decode cX2_docLine 74 = .ok (.iaload, 1) := dk_46 (dk_at dksX2_docLine_3 4 rfl rfl)
theorem dX2_docLine_75 : decode cX2_docLine 75 = .ok (.invokevirtual 159, 3) := dk_182 0 159 (dk_at dksX2_docLine_3 5 rfl rfl)
theorem dX2_docLine_78 : decode cX2_docLine 78 = .ok (.invokevirtual 162, 3) := dk_182 0 162 (dk_at dksX2_docLine_3 8 rfl rfl)
theorem dX2_docLine_81 : decode cX2_docLine 81 = .ok (.iinc 3 1, 3) := dk_132 3 1 (dk_at dksX2_docLine_3 11 rfl rfl)
theorem dX2_docLine_84 : decode cX2_docLine 84 = .ok (.goto (-27), 3) := dk_167 255 229 (dk_at dksX2_docLine_3 14 rfl rfl)
theorem dX2_docLine_87 : decode cX2_docLine 87 = .ok (.iconst 1, 1) := dk_4 (dk_at dksX2_docLine_3 17 rfl rfl)
theorem dX2_docLine_88 : decode cX2_docLine 88 = .ok (.ireturn, 1) := dk_172 (dk_at dksX2_docLine_3 18 rfl rfl)
abbrev cX2_addsFault : ByteArray := prog_25_method_17_code
def yX2_addsFault : MethodName := ⟨RX2, "addsFault", "(II)V"⟩
def dkwX2_addsFault_1 : List UInt8 := [42, 180, 0, 106, 162, 0, 13, 42, 27, 181, 0, 106, 42, 28, 181, 0, 109, 177]
abbrev dktX2_addsFault_1 : List UInt8 := dkwX2_addsFault_1 ++ []
def dkwX2_addsFault_0 : List UInt8 := [42, 180, 0, 106, 153, 0, 27, 28, 42, 180, 0, 109, 161, 0, 19, 28, 42, 180, 0, 109, 160, 0, 21, 27]
abbrev dktX2_addsFault_0 : List UInt8 := dkwX2_addsFault_0 ++ dktX2_addsFault_1
theorem dksX2_addsFault_0 : cX2_addsFault.data.toList.drop 0 = dktX2_addsFault_0 := by decide +kernel
theorem dksX2_addsFault_1 : cX2_addsFault.data.toList.drop 24 = dktX2_addsFault_1 := dk_seg dksX2_addsFault_0 24 rfl rfl
theorem dX2_addsFault_0 : decode cX2_addsFault 0 = .ok (.aload_n 0, 1) := dk_42 (dk_at dksX2_addsFault_0 0 rfl rfl)
theorem dX2_addsFault_1 : decode cX2_addsFault 1 = .ok (.getfield 106, 3) := dk_180 0 106 (dk_at dksX2_addsFault_0 1 rfl rfl)
theorem dX2_addsFault_4 : decode cX2_addsFault 4 = .ok (.ifCond .eq 27, 3) := dk_153 0 27 (dk_at dksX2_addsFault_0 4 rfl rfl)
theorem dX2_addsFault_7 : decode cX2_addsFault 7 = .ok (.iload_n 2, 1) := dk_28 (dk_at dksX2_addsFault_0 7 rfl rfl)
theorem dX2_addsFault_8 : decode cX2_addsFault 8 = .ok (.aload_n 0, 1) := dk_42 (dk_at dksX2_addsFault_0 8 rfl rfl)
theorem dX2_addsFault_9 : decode cX2_addsFault 9 = .ok (.getfield 109, 3) := dk_180 0 109 (dk_at dksX2_addsFault_0 9 rfl rfl)
theorem dX2_addsFault_12 : decode cX2_addsFault 12 = .ok (.if_icmp .lt 19, 3) := dk_161 0 19 (dk_at dksX2_addsFault_0 12 rfl rfl)
theorem dX2_addsFault_15 : decode cX2_addsFault 15 = .ok (.iload_n 2, 1) := dk_28 (dk_at dksX2_addsFault_0 15 rfl rfl)
theorem dX2_addsFault_16 : decode cX2_addsFault 16 = .ok (.aload_n 0, 1) := dk_42 (dk_at dksX2_addsFault_0 16 rfl rfl)
theorem dX2_addsFault_17 : decode cX2_addsFault 17 = .ok (.getfield 109, 3) := dk_180 0 109 (dk_at dksX2_addsFault_0 17 rfl rfl)
theorem dX2_addsFault_20 : decode cX2_addsFault 20 = .ok (.if_icmp .ne 21, 3) := dk_160 0 21 (dk_at dksX2_addsFault_0 20 rfl rfl)
theorem dX2_addsFault_23 : decode cX2_addsFault 23 = .ok (.iload_n 1, 1) := dk_27 (dk_at dksX2_addsFault_0 23 rfl rfl)
theorem dX2_addsFault_24 : decode cX2_addsFault 24 = .ok (.aload_n 0, 1) := dk_42 (dk_at dksX2_addsFault_1 0 rfl rfl)
theorem dX2_addsFault_25 : decode cX2_addsFault 25 = .ok (.getfield 106, 3) := dk_180 0 106 (dk_at dksX2_addsFault_1 1 rfl rfl)
theorem dX2_addsFault_28 : decode cX2_addsFault 28 = .ok (.if_icmp .ge 13, 3) := dk_162 0 13 (dk_at dksX2_addsFault_1 4 rfl rfl)
theorem dX2_addsFault_31 : decode cX2_addsFault 31 = .ok (.aload_n 0, 1) := dk_42 (dk_at dksX2_addsFault_1 7 rfl rfl)
theorem dX2_addsFault_32 : decode cX2_addsFault 32 = .ok (.iload_n 1, 1) := dk_27 (dk_at dksX2_addsFault_1 8 rfl rfl)
theorem dX2_addsFault_33 : decode cX2_addsFault 33 = .ok (.putfield 106, 3) := dk_181 0 106 (dk_at dksX2_addsFault_1 9 rfl rfl)
theorem dX2_addsFault_36 : decode cX2_addsFault 36 = .ok (.aload_n 0, 1) := dk_42 (dk_at dksX2_addsFault_1 12 rfl rfl)
theorem dX2_addsFault_37 : decode cX2_addsFault 37 = .ok (.iload_n 2, 1) := dk_28 (dk_at dksX2_addsFault_1 13 rfl rfl)
theorem dX2_addsFault_38 : decode cX2_addsFault 38 = .ok (.putfield 109, 3) := dk_181 0 109 (dk_at dksX2_addsFault_1 14 rfl rfl)
theorem dX2_addsFault_41 : decode cX2_addsFault 41 = .ok (.return_, 1) := dk_177 (dk_at dksX2_addsFault_1 17 rfl rfl)
abbrev cX2_takeWords : ByteArray := prog_25_method_21_code
def yX2_takeWords : MethodName := ⟨RX2, "takeWords", "(I)V"⟩
def dkwX2_takeWords_1 : List UInt8 := [182, 0, 116, 42, 182, 0, 136, 87, 167, 255, 226, 177]
abbrev dktX2_takeWords_1 : List UInt8 := dkwX2_takeWords_1 ++ []
def dkwX2_takeWords_0 : List UInt8 := [42, 180, 0, 97, 5, 160, 0, 28, 42, 180, 0, 129, 27, 161, 0, 12, 42, 6, 42, 180, 0, 90]
abbrev dktX2_takeWords_0 : List UInt8 := dkwX2_takeWords_0 ++ dktX2_takeWords_1
theorem dksX2_takeWords_0 : cX2_takeWords.data.toList.drop 0 = dktX2_takeWords_0 := by decide +kernel
theorem dksX2_takeWords_1 : cX2_takeWords.data.toList.drop 22 = dktX2_takeWords_1 := dk_seg dksX2_takeWords_0 22 rfl rfl
theorem dX2_takeWords_0 : decode cX2_takeWords 0 = .ok (.aload_n 0, 1) := dk_42 (dk_at dksX2_takeWords_0 0 rfl rfl)
theorem dX2_takeWords_1 : decode cX2_takeWords 1 = .ok (.getfield 97, 3) := dk_180 0 97 (dk_at dksX2_takeWords_0 1 rfl rfl)
theorem dX2_takeWords_4 : decode cX2_takeWords 4 = .ok (.iconst 2, 1) := dk_5 (dk_at dksX2_takeWords_0 4 rfl rfl)
theorem dX2_takeWords_5 : decode cX2_takeWords 5 = .ok (.if_icmp .ne 28, 3) := dk_160 0 28 (dk_at dksX2_takeWords_0 5 rfl rfl)
theorem dX2_takeWords_8 : decode cX2_takeWords 8 = .ok (.aload_n 0, 1) := dk_42 (dk_at dksX2_takeWords_0 8 rfl rfl)
theorem dX2_takeWords_9 : decode cX2_takeWords 9 = .ok (.getfield 129, 3) := dk_180 0 129 (dk_at dksX2_takeWords_0 9 rfl rfl)
theorem dX2_takeWords_12 : decode cX2_takeWords 12 = .ok (.iload_n 1, 1) := dk_27 (dk_at dksX2_takeWords_0 12 rfl rfl)
theorem dX2_takeWords_13 : decode cX2_takeWords 13 = .ok (.if_icmp .lt 12, 3) := dk_161 0 12 (dk_at dksX2_takeWords_0 13 rfl rfl)
theorem dX2_takeWords_16 : decode cX2_takeWords 16 = .ok (.aload_n 0, 1) := dk_42 (dk_at dksX2_takeWords_0 16 rfl rfl)
theorem dX2_takeWords_17 : decode cX2_takeWords 17 = .ok (.iconst 3, 1) := dk_6 (dk_at dksX2_takeWords_0 17 rfl rfl)
theorem dX2_takeWords_18 : decode cX2_takeWords 18 = .ok (.aload_n 0, 1) := dk_42 (dk_at dksX2_takeWords_0 18 rfl rfl)
theorem dX2_takeWords_19 : decode cX2_takeWords 19 = .ok (.getfield 90, 3) := dk_180 0 90 (dk_at dksX2_takeWords_0 19 rfl rfl)
theorem dX2_takeWords_22 : decode cX2_takeWords 22 = .ok (.invokevirtual 116, 3) := dk_182 0 116 (dk_at dksX2_takeWords_1 0 rfl rfl)
theorem dX2_takeWords_25 : decode cX2_takeWords 25 = .ok (.aload_n 0, 1) := dk_42 (dk_at dksX2_takeWords_1 3 rfl rfl)
theorem dX2_takeWords_26 : decode cX2_takeWords 26 = .ok (.invokevirtual 136, 3) := dk_182 0 136 (dk_at dksX2_takeWords_1 4 rfl rfl)
theorem dX2_takeWords_29 : decode cX2_takeWords 29 = .ok (.pop, 1) := dk_87 (dk_at dksX2_takeWords_1 7 rfl rfl)
theorem dX2_takeWords_30 : decode cX2_takeWords 30 = .ok (.goto (-30), 3) := dk_167 255 226 (dk_at dksX2_takeWords_1 8 rfl rfl)
theorem dX2_takeWords_33 : decode cX2_takeWords 33 = .ok (.return_, 1) := dk_177 (dk_at dksX2_takeWords_1 11 rfl rfl)
abbrev cX2_takeWord : ByteArray := prog_25_method_20_code
def yX2_takeWord : MethodName := ⟨RX2, "takeWord", "()Z"⟩
def dkwX2_takeWord_3 : List UInt8 := [182, 0, 124, 4, 172]
abbrev dktX2_takeWord_3 : List UInt8 := dkwX2_takeWord_3 ++ []
def dkwX2_takeWord_2 : List UInt8 := [180, 0, 129, 42, 180, 0, 93, 184, 0, 132, 79, 42, 89, 180, 0, 129, 4, 96, 181, 0, 129, 42]
abbrev dktX2_takeWord_2 : List UInt8 := dkwX2_takeWord_2 ++ dktX2_takeWord_3
def dkwX2_takeWord_1 : List UInt8 := [164, 0, 17, 42, 5, 42, 180, 0, 90, 182, 0, 116, 42, 3, 181, 0, 120, 42, 180, 0, 41, 42]
abbrev dktX2_takeWord_1 : List UInt8 := dkwX2_takeWord_1 ++ dktX2_takeWord_2
def dkwX2_takeWord_0 : List UInt8 := [42, 180, 0, 97, 5, 159, 0, 8, 42, 182, 0, 112, 172, 42, 180, 0, 80, 42, 180, 0, 90, 100, 7]
abbrev dktX2_takeWord_0 : List UInt8 := dkwX2_takeWord_0 ++ dktX2_takeWord_1
theorem dksX2_takeWord_0 : cX2_takeWord.data.toList.drop 0 = dktX2_takeWord_0 := by decide +kernel
theorem dksX2_takeWord_1 : cX2_takeWord.data.toList.drop 23 = dktX2_takeWord_1 := dk_seg dksX2_takeWord_0 23 rfl rfl
theorem dksX2_takeWord_2 : cX2_takeWord.data.toList.drop 45 = dktX2_takeWord_2 := dk_seg dksX2_takeWord_1 22 rfl rfl
theorem dksX2_takeWord_3 : cX2_takeWord.data.toList.drop 67 = dktX2_takeWord_3 := dk_seg dksX2_takeWord_2 22 rfl rfl
theorem dX2_takeWord_0 : decode cX2_takeWord 0 = .ok (.aload_n 0, 1) := dk_42 (dk_at dksX2_takeWord_0 0 rfl rfl)
theorem dX2_takeWord_1 : decode cX2_takeWord 1 = .ok (.getfield 97, 3) := dk_180 0 97 (dk_at dksX2_takeWord_0 1 rfl rfl)
theorem dX2_takeWord_4 : decode cX2_takeWord 4 = .ok (.iconst 2, 1) := dk_5 (dk_at dksX2_takeWord_0 4 rfl rfl)
theorem dX2_takeWord_5 : decode cX2_takeWord 5 = .ok (.if_icmp .eq 8, 3) := dk_159 0 8 (dk_at dksX2_takeWord_0 5 rfl rfl)
theorem dX2_takeWord_8 : decode cX2_takeWord 8 = .ok (.aload_n 0, 1) := dk_42 (dk_at dksX2_takeWord_0 8 rfl rfl)
theorem dX2_takeWord_9 : decode cX2_takeWord 9 = .ok (.invokevirtual 112, 3) := dk_182 0 112 (dk_at dksX2_takeWord_0 9 rfl rfl)
theorem dX2_takeWord_12 : decode cX2_takeWord 12 = .ok (.ireturn, 1) := dk_172 (dk_at dksX2_takeWord_0 12 rfl rfl)
theorem dX2_takeWord_13 : decode cX2_takeWord 13 = .ok (.aload_n 0, 1) := dk_42 (dk_at dksX2_takeWord_0 13 rfl rfl)
theorem dX2_takeWord_14 : decode cX2_takeWord 14 = .ok (.getfield 80, 3) := dk_180 0 80 (dk_at dksX2_takeWord_0 14 rfl rfl)
theorem dX2_takeWord_17 : decode cX2_takeWord 17 = .ok (.aload_n 0, 1) := dk_42 (dk_at dksX2_takeWord_0 17 rfl rfl)
theorem dX2_takeWord_18 : decode cX2_takeWord 18 = .ok (.getfield 90, 3) := dk_180 0 90 (dk_at dksX2_takeWord_0 18 rfl rfl)
theorem dX2_takeWord_21 : decode cX2_takeWord 21 = .ok (.isub, 1) := dk_100 (dk_at dksX2_takeWord_0 21 rfl rfl)
theorem dX2_takeWord_22 : decode cX2_takeWord 22 = .ok (.iconst 4, 1) := dk_7 (dk_at dksX2_takeWord_0 22 rfl rfl)
theorem dX2_takeWord_23 : decode cX2_takeWord 23 = .ok (.if_icmp .le 17, 3) := dk_164 0 17 (dk_at dksX2_takeWord_1 0 rfl rfl)
theorem dX2_takeWord_26 : decode cX2_takeWord 26 = .ok (.aload_n 0, 1) := dk_42 (dk_at dksX2_takeWord_1 3 rfl rfl)
theorem dX2_takeWord_27 : decode cX2_takeWord 27 = .ok (.iconst 2, 1) := dk_5 (dk_at dksX2_takeWord_1 4 rfl rfl)
theorem dX2_takeWord_28 : decode cX2_takeWord 28 = .ok (.aload_n 0, 1) := dk_42 (dk_at dksX2_takeWord_1 5 rfl rfl)
theorem dX2_takeWord_29 : decode cX2_takeWord 29 = .ok (.getfield 90, 3) := dk_180 0 90 (dk_at dksX2_takeWord_1 6 rfl rfl)
theorem dX2_takeWord_32 : decode cX2_takeWord 32 = .ok (.invokevirtual 116, 3) := dk_182 0 116 (dk_at dksX2_takeWord_1 9 rfl rfl)
theorem dX2_takeWord_35 : decode cX2_takeWord 35 = .ok (.aload_n 0, 1) := dk_42 (dk_at dksX2_takeWord_1 12 rfl rfl)
theorem dX2_takeWord_36 : decode cX2_takeWord 36 = .ok (.iconst 0, 1) := dk_3 (dk_at dksX2_takeWord_1 13 rfl rfl)
theorem dX2_takeWord_37 : decode cX2_takeWord 37 = .ok (.putfield 120, 3) := dk_181 0 120 (dk_at dksX2_takeWord_1 14 rfl rfl)
theorem dX2_takeWord_40 : decode cX2_takeWord 40 = .ok (.aload_n 0, 1) := dk_42 (dk_at dksX2_takeWord_1 17 rfl rfl)
theorem dX2_takeWord_41 : decode cX2_takeWord 41 = .ok (.getfield 41, 3) := dk_180 0 41 (dk_at dksX2_takeWord_1 18 rfl rfl)
theorem dX2_takeWord_44 : decode cX2_takeWord 44 = .ok (.aload_n 0, 1) := dk_42 (dk_at dksX2_takeWord_1 21 rfl rfl)
theorem dX2_takeWord_45 : decode cX2_takeWord 45 = .ok (.getfield 129, 3) := dk_180 0 129 (dk_at dksX2_takeWord_2 0 rfl rfl)
theorem dX2_takeWord_48 : decode cX2_takeWord 48 = .ok (.aload_n 0, 1) := dk_42 (dk_at dksX2_takeWord_2 3 rfl rfl)
theorem dX2_takeWord_49 : decode cX2_takeWord 49 = .ok (.getfield 93, 3) := dk_180 0 93 (dk_at dksX2_takeWord_2 4 rfl rfl)
theorem dX2_takeWord_52 : decode cX2_takeWord 52 = .ok (.invokestatic 132, 3) := dk_184 0 132 (dk_at dksX2_takeWord_2 7 rfl rfl)
theorem dX2_takeWord_55 : decode cX2_takeWord 55 = .ok (.iastore, 1) := dk_79 (dk_at dksX2_takeWord_2 10 rfl rfl)
theorem dX2_takeWord_56 : decode cX2_takeWord 56 = .ok (.aload_n 0, 1) := dk_42 (dk_at dksX2_takeWord_2 11 rfl rfl)
theorem dX2_takeWord_57 : decode cX2_takeWord 57 = .ok (.dup, 1) := dk_89 (dk_at dksX2_takeWord_2 12 rfl rfl)
theorem dX2_takeWord_58 : decode cX2_takeWord 58 = .ok (.getfield 129, 3) := dk_180 0 129 (dk_at dksX2_takeWord_2 13 rfl rfl)
theorem dX2_takeWord_61 : decode cX2_takeWord 61 = .ok (.iconst 1, 1) := dk_4 (dk_at dksX2_takeWord_2 16 rfl rfl)
theorem dX2_takeWord_62 : decode cX2_takeWord 62 = .ok (.iadd, 1) := dk_96 (dk_at dksX2_takeWord_2 17 rfl rfl)
theorem dX2_takeWord_63 : decode cX2_takeWord 63 = .ok (.putfield 129, 3) := dk_181 0 129 (dk_at dksX2_takeWord_2 18 rfl rfl)
theorem dX2_takeWord_66 : decode cX2_takeWord 66 = .ok (.aload_n 0, 1) := dk_42 (dk_at dksX2_takeWord_2 21 rfl rfl)
theorem dX2_takeWord_67 : decode cX2_takeWord 67 = .ok (.invokevirtual 124, 3) := dk_182 0 124 (dk_at dksX2_takeWord_3 0 rfl rfl)
theorem dX2_takeWord_70 : decode cX2_takeWord 70 = .ok (.iconst 1, 1) := dk_4 (dk_at dksX2_takeWord_3 3 rfl rfl)
theorem dX2_takeWord_71 : decode cX2_takeWord 71 = .ok (.ireturn, 1) := dk_172 (dk_at dksX2_takeWord_3 4 rfl rfl)
abbrev cX2_fails : ByteArray := prog_25_method_16_code
def yX2_fails : MethodName := ⟨RX2, "fails", "()Z"⟩
def dkwX2_fails_0 : List UInt8 := [42, 42, 180, 0, 90, 181, 0, 103, 3, 172]
abbrev dktX2_fails_0 : List UInt8 := dkwX2_fails_0 ++ []
theorem dksX2_fails_0 : cX2_fails.data.toList.drop 0 = dktX2_fails_0 := by decide +kernel
theorem dX2_fails_0 : decode cX2_fails 0 = .ok (.aload_n 0, 1) := dk_42 (dk_at dksX2_fails_0 0 rfl rfl)
theorem dX2_fails_1 : decode cX2_fails 1 = .ok (.aload_n 0, 1) := dk_42 (dk_at dksX2_fails_0 1 rfl rfl)
theorem dX2_fails_2 : decode cX2_fails 2 = .ok (.getfield 90, 3) := dk_180 0 90 (dk_at dksX2_fails_0 2 rfl rfl)
theorem dX2_fails_5 : decode cX2_fails 5 = .ok (.putfield 103, 3) := dk_181 0 103 (dk_at dksX2_fails_0 5 rfl rfl)
theorem dX2_fails_8 : decode cX2_fails 8 = .ok (.iconst 0, 1) := dk_3 (dk_at dksX2_fails_0 8 rfl rfl)
theorem dX2_fails_9 : decode cX2_fails 9 = .ok (.ireturn, 1) := dk_172 (dk_at dksX2_fails_0 9 rfl rfl)
abbrev cX2_numberOf : ByteArray := prog_25_method_19_code
def yX2_numberOf : MethodName := ⟨RX2, "numberOf", "(J)I"⟩
def dkwX2_numberOf_1 : List UInt8 := [28, 167, 0, 13, 16, 27, 28, 104, 21, 4, 96, 16, 96, 100, 61, 132, 3, 248, 167, 255, 219, 28, 172]
abbrev dktX2_numberOf_1 : List UInt8 := dkwX2_numberOf_1 ++ []
def dkwX2_numberOf_0 : List UInt8 := [3, 61, 16, 24, 62, 29, 155, 0, 39, 30, 29, 123, 20, 0, 127, 127, 136, 54, 4, 21, 4, 154, 0, 7]
abbrev dktX2_numberOf_0 : List UInt8 := dkwX2_numberOf_0 ++ dktX2_numberOf_1
theorem dksX2_numberOf_0 : cX2_numberOf.data.toList.drop 0 = dktX2_numberOf_0 := by decide +kernel
theorem dksX2_numberOf_1 : cX2_numberOf.data.toList.drop 24 = dktX2_numberOf_1 := dk_seg dksX2_numberOf_0 24 rfl rfl
theorem dX2_numberOf_0 : decode cX2_numberOf 0 = .ok (.iconst 0, 1) := dk_3 (dk_at dksX2_numberOf_0 0 rfl rfl)
theorem dX2_numberOf_1 : decode cX2_numberOf 1 = .ok (.istore_n 2, 1) := dk_61 (dk_at dksX2_numberOf_0 1 rfl rfl)
theorem dX2_numberOf_2 : decode cX2_numberOf 2 = .ok (.bipush 24, 2) := dk_16 24 (dk_at dksX2_numberOf_0 2 rfl rfl)
theorem dX2_numberOf_4 : decode cX2_numberOf 4 = .ok (.istore_n 3, 1) := dk_62 (dk_at dksX2_numberOf_0 4 rfl rfl)
theorem dX2_numberOf_5 : decode cX2_numberOf 5 = .ok (.iload_n 3, 1) := dk_29 (dk_at dksX2_numberOf_0 5 rfl rfl)
theorem dX2_numberOf_6 : decode cX2_numberOf 6 = .ok (.ifCond .lt 39, 3) := dk_155 0 39 (dk_at dksX2_numberOf_0 6 rfl rfl)
theorem dX2_numberOf_9 : decode cX2_numberOf 9 = .ok (.lload_n 0, 1) := dk_30 (dk_at dksX2_numberOf_0 9 rfl rfl)
theorem dX2_numberOf_10 : decode cX2_numberOf 10 = .ok (.iload_n 3, 1) := dk_29 (dk_at dksX2_numberOf_0 10 rfl rfl)
theorem dX2_numberOf_11 : decode cX2_numberOf 11 = .ok (.lshr, 1) := dk_123 (dk_at dksX2_numberOf_0 11 rfl rfl)
theorem dX2_numberOf_12 : decode cX2_numberOf 12 = .ok (.ldc2_w 127, 3) := dk_20 0 127 (dk_at dksX2_numberOf_0 12 rfl rfl)
theorem dX2_numberOf_15 : decode cX2_numberOf 15 = .ok (.land, 1) := dk_127 (dk_at dksX2_numberOf_0 15 rfl rfl)
theorem dX2_numberOf_16 : decode cX2_numberOf 16 = .ok (.l2i, 1) := dk_136 (dk_at dksX2_numberOf_0 16 rfl rfl)
theorem dX2_numberOf_17 : decode cX2_numberOf 17 = .ok (.istore 4, 2) := dk_54 4 (dk_at dksX2_numberOf_0 17 rfl rfl)
theorem dX2_numberOf_19 : decode cX2_numberOf 19 = .ok (.iload 4, 2) := dk_21 4 (dk_at dksX2_numberOf_0 19 rfl rfl)
theorem dX2_numberOf_21 : decode cX2_numberOf 21 = .ok (.ifCond .ne 7, 3) := dk_154 0 7 (dk_at dksX2_numberOf_0 21 rfl rfl)
theorem dX2_numberOf_24 : decode cX2_numberOf 24 = .ok (.iload_n 2, 1) := dk_28 (dk_at dksX2_numberOf_1 0 rfl rfl)
theorem dX2_numberOf_25 : decode cX2_numberOf 25 = .ok (.goto 13, 3) := dk_167 0 13 (dk_at dksX2_numberOf_1 1 rfl rfl)
theorem dX2_numberOf_28 : decode cX2_numberOf 28 = .ok (.bipush 27, 2) := dk_16 27 (dk_at dksX2_numberOf_1 4 rfl rfl)
theorem dX2_numberOf_30 : decode cX2_numberOf 30 = .ok (.iload_n 2, 1) := dk_28 (dk_at dksX2_numberOf_1 6 rfl rfl)
theorem dX2_numberOf_31 : decode cX2_numberOf 31 = .ok (.imul, 1) := dk_104 (dk_at dksX2_numberOf_1 7 rfl rfl)
theorem dX2_numberOf_32 : decode cX2_numberOf 32 = .ok (.iload 4, 2) := dk_21 4 (dk_at dksX2_numberOf_1 8 rfl rfl)
theorem dX2_numberOf_34 : decode cX2_numberOf 34 = .ok (.iadd, 1) := dk_96 (dk_at dksX2_numberOf_1 10 rfl rfl)
theorem dX2_numberOf_35 : decode cX2_numberOf 35 = .ok (.bipush 96, 2) := dk_16 96 (dk_at dksX2_numberOf_1 11 rfl rfl)
theorem dX2_numberOf_37 : decode cX2_numberOf 37 = .ok (.isub, 1) := dk_100 (dk_at dksX2_numberOf_1 13 rfl rfl)
theorem dX2_numberOf_38 : decode cX2_numberOf 38 = .ok (.istore_n 2, 1) := dk_61 (dk_at dksX2_numberOf_1 14 rfl rfl)
theorem dX2_numberOf_39 : decode cX2_numberOf 39 = .ok (.iinc 3 (-8), 3) := dk_132 3 248 (dk_at dksX2_numberOf_1 15 rfl rfl)
theorem dX2_numberOf_42 : decode cX2_numberOf 42 = .ok (.goto (-37), 3) := dk_167 255 219 (dk_at dksX2_numberOf_1 18 rfl rfl)
theorem dX2_numberOf_45 : decode cX2_numberOf 45 = .ok (.iload_n 2, 1) := dk_28 (dk_at dksX2_numberOf_1 21 rfl rfl)
theorem dX2_numberOf_46 : decode cX2_numberOf 46 = .ok (.ireturn, 1) := dk_172 (dk_at dksX2_numberOf_1 22 rfl rfl)
abbrev cX2_beginVersion : ByteArray := prog_25_method_23_code
def yX2_beginVersion : MethodName := ⟨RX2, "beginVersion", "(I)V"⟩
def dkwX2_beginVersion_1 : List UInt8 := [3, 79, 42, 180, 0, 35, 16, 6, 42, 27, 182, 0, 139, 96, 42, 180, 0, 143, 79, 177]
abbrev dktX2_beginVersion_1 : List UInt8 := dkwX2_beginVersion_1 ++ []
def dkwX2_beginVersion_0 : List UInt8 := [42, 180, 0, 35, 4, 27, 96, 92, 46, 4, 96, 79, 42, 180, 0, 35, 16, 46, 42, 27, 182, 0, 139, 96]
abbrev dktX2_beginVersion_0 : List UInt8 := dkwX2_beginVersion_0 ++ dktX2_beginVersion_1
theorem dksX2_beginVersion_0 : cX2_beginVersion.data.toList.drop 0 = dktX2_beginVersion_0 := by decide +kernel
theorem dksX2_beginVersion_1 : cX2_beginVersion.data.toList.drop 24 = dktX2_beginVersion_1 := dk_seg dksX2_beginVersion_0 24 rfl rfl
theorem dX2_beginVersion_0 : decode cX2_beginVersion 0 = .ok (.aload_n 0, 1) := dk_42 (dk_at dksX2_beginVersion_0 0 rfl rfl)
theorem dX2_beginVersion_1 : decode cX2_beginVersion 1 = .ok (.getfield 35, 3) := dk_180 0 35 (dk_at dksX2_beginVersion_0 1 rfl rfl)
theorem dX2_beginVersion_4 : decode cX2_beginVersion 4 = .ok (.iconst 1, 1) := dk_4 (dk_at dksX2_beginVersion_0 4 rfl rfl)
theorem dX2_beginVersion_5 : decode cX2_beginVersion 5 = .ok (.iload_n 1, 1) := dk_27 (dk_at dksX2_beginVersion_0 5 rfl rfl)
theorem dX2_beginVersion_6 : decode cX2_beginVersion 6 = .ok (.iadd, 1) := dk_96 (dk_at dksX2_beginVersion_0 6 rfl rfl)
theorem dX2_beginVersion_7 : decode cX2_beginVersion 7 = .ok (.dup2, 1) := dk_92 (dk_at dksX2_beginVersion_0 7 rfl rfl)
theorem dX2_beginVersion_8 : decode cX2_beginVersion 8 = .ok (.iaload, 1) := dk_46 (dk_at dksX2_beginVersion_0 8 rfl rfl)
theorem dX2_beginVersion_9 : decode cX2_beginVersion 9 = .ok (.iconst 1, 1) := dk_4 (dk_at dksX2_beginVersion_0 9 rfl rfl)
theorem dX2_beginVersion_10 : decode cX2_beginVersion 10 = .ok (.iadd, 1) := dk_96 (dk_at dksX2_beginVersion_0 10 rfl rfl)
theorem dX2_beginVersion_11 : decode cX2_beginVersion 11 = .ok (.iastore, 1) := dk_79 (dk_at dksX2_beginVersion_0 11 rfl rfl)
theorem dX2_beginVersion_12 : decode cX2_beginVersion 12 = .ok (.aload_n 0, 1) := dk_42 (dk_at dksX2_beginVersion_0 12 rfl rfl)
theorem dX2_beginVersion_13 : decode cX2_beginVersion 13 = .ok (.getfield 35, 3) := dk_180 0 35 (dk_at dksX2_beginVersion_0 13 rfl rfl)
theorem dX2_beginVersion_16 : decode cX2_beginVersion 16 = .ok (.bipush 46, 2) := dk_16 46 (dk_at dksX2_beginVersion_0 16 rfl rfl)
theorem dX2_beginVersion_18 : decode cX2_beginVersion 18 = .ok (.aload_n 0, 1) := dk_42 (dk_at dksX2_beginVersion_0 18 rfl rfl)
theorem dX2_beginVersion_19 : decode cX2_beginVersion 19 = .ok (.iload_n 1, 1) := dk_27 (dk_at dksX2_beginVersion_0 19 rfl rfl)
theorem dX2_beginVersion_20 : decode cX2_beginVersion 20 = .ok (.invokevirtual 139, 3) := dk_182 0 139 (dk_at dksX2_beginVersion_0 20 rfl rfl)
theorem dX2_beginVersion_23 : decode cX2_beginVersion 23 = .ok (.iadd, 1) := dk_96 (dk_at dksX2_beginVersion_0 23 rfl rfl)
theorem dX2_beginVersion_24 : decode cX2_beginVersion 24 = .ok (.iconst 0, 1) := dk_3 (dk_at dksX2_beginVersion_1 0 rfl rfl)
theorem dX2_beginVersion_25 : decode cX2_beginVersion 25 = .ok (.iastore, 1) := dk_79 (dk_at dksX2_beginVersion_1 1 rfl rfl)
theorem dX2_beginVersion_26 : decode cX2_beginVersion 26 = .ok (.aload_n 0, 1) := dk_42 (dk_at dksX2_beginVersion_1 2 rfl rfl)
theorem dX2_beginVersion_27 : decode cX2_beginVersion 27 = .ok (.getfield 35, 3) := dk_180 0 35 (dk_at dksX2_beginVersion_1 3 rfl rfl)
theorem dX2_beginVersion_30 : decode cX2_beginVersion 30 = .ok (.bipush 6, 2) := dk_16 6 (dk_at dksX2_beginVersion_1 6 rfl rfl)
theorem dX2_beginVersion_32 : decode cX2_beginVersion 32 = .ok (.aload_n 0, 1) := dk_42 (dk_at dksX2_beginVersion_1 8 rfl rfl)
theorem dX2_beginVersion_33 : decode cX2_beginVersion 33 = .ok (.iload_n 1, 1) := dk_27 (dk_at dksX2_beginVersion_1 9 rfl rfl)
theorem dX2_beginVersion_34 : decode cX2_beginVersion 34 = .ok (.invokevirtual 139, 3) := dk_182 0 139 (dk_at dksX2_beginVersion_1 10 rfl rfl)
theorem dX2_beginVersion_37 : decode cX2_beginVersion 37 = .ok (.iadd, 1) := dk_96 (dk_at dksX2_beginVersion_1 13 rfl rfl)
theorem dX2_beginVersion_38 : decode cX2_beginVersion 38 = .ok (.aload_n 0, 1) := dk_42 (dk_at dksX2_beginVersion_1 14 rfl rfl)
theorem dX2_beginVersion_39 : decode cX2_beginVersion 39 = .ok (.getfield 143, 3) := dk_180 0 143 (dk_at dksX2_beginVersion_1 15 rfl rfl)
theorem dX2_beginVersion_42 : decode cX2_beginVersion 42 = .ok (.iastore, 1) := dk_79 (dk_at dksX2_beginVersion_1 18 rfl rfl)
theorem dX2_beginVersion_43 : decode cX2_beginVersion 43 = .ok (.return_, 1) := dk_177 (dk_at dksX2_beginVersion_1 19 rfl rfl)
abbrev cX2_latest : ByteArray := prog_25_method_24_code
def yX2_latest : MethodName := ⟨RX2, "latest", "(I)I"⟩
def dkwX2_latest_0 : List UInt8 := [27, 42, 180, 0, 35, 4, 27, 96, 46, 4, 100, 184, 0, 146, 172]
abbrev dktX2_latest_0 : List UInt8 := dkwX2_latest_0 ++ []
theorem dksX2_latest_0 : cX2_latest.data.toList.drop 0 = dktX2_latest_0 := by decide +kernel
theorem dX2_latest_0 : decode cX2_latest 0 = .ok (.iload_n 1, 1) := dk_27 (dk_at dksX2_latest_0 0 rfl rfl)
theorem dX2_latest_1 : decode cX2_latest 1 = .ok (.aload_n 0, 1) := dk_42 (dk_at dksX2_latest_0 1 rfl rfl)
theorem dX2_latest_2 : decode cX2_latest 2 = .ok (.getfield 35, 3) := dk_180 0 35 (dk_at dksX2_latest_0 2 rfl rfl)
theorem dX2_latest_5 : decode cX2_latest 5 = .ok (.iconst 1, 1) := dk_4 (dk_at dksX2_latest_0 5 rfl rfl)
theorem dX2_latest_6 : decode cX2_latest 6 = .ok (.iload_n 1, 1) := dk_27 (dk_at dksX2_latest_0 6 rfl rfl)
theorem dX2_latest_7 : decode cX2_latest 7 = .ok (.iadd, 1) := dk_96 (dk_at dksX2_latest_0 7 rfl rfl)
theorem dX2_latest_8 : decode cX2_latest 8 = .ok (.iaload, 1) := dk_46 (dk_at dksX2_latest_0 8 rfl rfl)
theorem dX2_latest_9 : decode cX2_latest 9 = .ok (.iconst 1, 1) := dk_4 (dk_at dksX2_latest_0 9 rfl rfl)
theorem dX2_latest_10 : decode cX2_latest 10 = .ok (.isub, 1) := dk_100 (dk_at dksX2_latest_0 10 rfl rfl)
theorem dX2_latest_11 : decode cX2_latest 11 = .ok (.invokestatic 146, 3) := dk_184 0 146 (dk_at dksX2_latest_0 11 rfl rfl)
theorem dX2_latest_14 : decode cX2_latest 14 = .ok (.ireturn, 1) := dk_172 (dk_at dksX2_latest_0 14 rfl rfl)
abbrev cX2_at : ByteArray := prog_25_method_22_code
def yX2_at : MethodName := ⟨RX2, "at", "(II)I"⟩
def dkwX2_at_0 : List UInt8 := [16, 10, 26, 104, 27, 96, 172]
abbrev dktX2_at_0 : List UInt8 := dkwX2_at_0 ++ []
theorem dksX2_at_0 : cX2_at.data.toList.drop 0 = dktX2_at_0 := by decide +kernel
theorem dX2_at_0 : decode cX2_at 0 = .ok (.bipush 10, 2) := dk_16 10 (dk_at dksX2_at_0 0 rfl rfl)
theorem dX2_at_2 : decode cX2_at 2 = .ok (.iload_n 0, 1) := dk_26 (dk_at dksX2_at_0 2 rfl rfl)
theorem dX2_at_3 : decode cX2_at 3 = .ok (.imul, 1) := dk_104 (dk_at dksX2_at_0 3 rfl rfl)
theorem dX2_at_4 : decode cX2_at 4 = .ok (.iload_n 1, 1) := dk_27 (dk_at dksX2_at_0 4 rfl rfl)
theorem dX2_at_5 : decode cX2_at 5 = .ok (.iadd, 1) := dk_96 (dk_at dksX2_at_0 5 rfl rfl)
theorem dX2_at_6 : decode cX2_at 6 = .ok (.ireturn, 1) := dk_172 (dk_at dksX2_at_0 6 rfl rfl)
abbrev cX2_newToken : ByteArray := prog_25_method_26_code
def yX2_newToken : MethodName := ⟨RX2, "newToken", "(II)I"⟩
def dkwX2_newToken_1 : List UInt8 := [17, 4, 182, 29, 96, 27, 79, 42, 180, 0, 35, 8, 17, 1, 63, 29, 4, 96, 184, 0, 150, 79, 29, 172]
abbrev dktX2_newToken_1 : List UInt8 := dkwX2_newToken_1 ++ []
def dkwX2_newToken_0 : List UInt8 := [42, 180, 0, 35, 8, 46, 62, 42, 180, 0, 35, 17, 3, 118, 29, 96, 28, 79, 42, 180, 0, 35]
abbrev dktX2_newToken_0 : List UInt8 := dkwX2_newToken_0 ++ dktX2_newToken_1
theorem dksX2_newToken_0 : cX2_newToken.data.toList.drop 0 = dktX2_newToken_0 := by decide +kernel
theorem dksX2_newToken_1 : cX2_newToken.data.toList.drop 22 = dktX2_newToken_1 := dk_seg dksX2_newToken_0 22 rfl rfl
theorem dX2_newToken_0 : decode cX2_newToken 0 = .ok (.aload_n 0, 1) := dk_42 (dk_at dksX2_newToken_0 0 rfl rfl)
theorem dX2_newToken_1 : decode cX2_newToken 1 = .ok (.getfield 35, 3) := dk_180 0 35 (dk_at dksX2_newToken_0 1 rfl rfl)
theorem dX2_newToken_4 : decode cX2_newToken 4 = .ok (.iconst 5, 1) := dk_8 (dk_at dksX2_newToken_0 4 rfl rfl)
theorem dX2_newToken_5 : decode cX2_newToken 5 = .ok (.iaload, 1) := dk_46 (dk_at dksX2_newToken_0 5 rfl rfl)
theorem dX2_newToken_6 : decode cX2_newToken 6 = .ok (.istore_n 3, 1) := dk_62 (dk_at dksX2_newToken_0 6 rfl rfl)
theorem dX2_newToken_7 : decode cX2_newToken 7 = .ok (.aload_n 0, 1) := dk_42 (dk_at dksX2_newToken_0 7 rfl rfl)
theorem dX2_newToken_8 : decode cX2_newToken 8 = .ok (.getfield 35, 3) := dk_180 0 35 (dk_at dksX2_newToken_0 8 rfl rfl)
theorem dX2_newToken_11 : decode cX2_newToken 11 = .ok (.sipush 886, 3) := dk_17 3 118 (dk_at dksX2_newToken_0 11 rfl rfl)
theorem dX2_newToken_14 : decode cX2_newToken 14 = .ok (.iload_n 3, 1) := dk_29 (dk_at dksX2_newToken_0 14 rfl rfl)
theorem dX2_newToken_15 : decode cX2_newToken 15 = .ok (.iadd, 1) := dk_96 (dk_at dksX2_newToken_0 15 rfl rfl)
theorem dX2_newToken_16 : decode cX2_newToken 16 = .ok (.iload_n 2, 1) := dk_28 (dk_at dksX2_newToken_0 16 rfl rfl)
theorem dX2_newToken_17 : decode cX2_newToken 17 = .ok (.iastore, 1) := dk_79 (dk_at dksX2_newToken_0 17 rfl rfl)
theorem dX2_newToken_18 : decode cX2_newToken 18 = .ok (.aload_n 0, 1) := dk_42 (dk_at dksX2_newToken_0 18 rfl rfl)
theorem dX2_newToken_19 : decode cX2_newToken 19 = .ok (.getfield 35, 3) := dk_180 0 35 (dk_at dksX2_newToken_0 19 rfl rfl)
theorem dX2_newToken_22 : decode cX2_newToken 22 = .ok (.sipush 1206, 3) := dk_17 4 182 (dk_at dksX2_newToken_1 0 rfl rfl)
theorem dX2_newToken_25 : decode cX2_newToken 25 = .ok (.iload_n 3, 1) := dk_29 (dk_at dksX2_newToken_1 3 rfl rfl)
theorem dX2_newToken_26 : decode cX2_newToken 26 = .ok (.iadd, 1) := dk_96 (dk_at dksX2_newToken_1 4 rfl rfl)
theorem dX2_newToken_27 : decode cX2_newToken 27 = .ok (.iload_n 1, 1) := dk_27 (dk_at dksX2_newToken_1 5 rfl rfl)
theorem dX2_newToken_28 : decode cX2_newToken 28 = .ok (.iastore, 1) := dk_79 (dk_at dksX2_newToken_1 6 rfl rfl)
theorem dX2_newToken_29 : decode cX2_newToken 29 = .ok (.aload_n 0, 1) := dk_42 (dk_at dksX2_newToken_1 7 rfl rfl)
theorem dX2_newToken_30 : decode cX2_newToken 30 = .ok (.getfield 35, 3) := dk_180 0 35 (dk_at dksX2_newToken_1 8 rfl rfl)
theorem dX2_newToken_33 : decode cX2_newToken 33 = .ok (.iconst 5, 1) := dk_8 (dk_at dksX2_newToken_1 11 rfl rfl)
theorem dX2_newToken_34 : decode cX2_newToken 34 = .ok (.sipush 319, 3) := dk_17 1 63 (dk_at dksX2_newToken_1 12 rfl rfl)
theorem dX2_newToken_37 : decode cX2_newToken 37 = .ok (.iload_n 3, 1) := dk_29 (dk_at dksX2_newToken_1 15 rfl rfl)
theorem dX2_newToken_38 : decode cX2_newToken 38 = .ok (.iconst 1, 1) := dk_4 (dk_at dksX2_newToken_1 16 rfl rfl)
theorem dX2_newToken_39 : decode cX2_newToken 39 = .ok (.iadd, 1) := dk_96 (dk_at dksX2_newToken_1 17 rfl rfl)
theorem dX2_newToken_40 : decode cX2_newToken 40 = .ok (.invokestatic 150, 3) := dk_184 0 150 (dk_at dksX2_newToken_1 18 rfl rfl)
theorem dX2_newToken_43 : decode cX2_newToken 43 = .ok (.iastore, 1) := dk_79 (dk_at dksX2_newToken_1 21 rfl rfl)
theorem dX2_newToken_44 : decode cX2_newToken 44 = .ok (.iload_n 3, 1) := dk_29 (dk_at dksX2_newToken_1 22 rfl rfl)
theorem dX2_newToken_45 : decode cX2_newToken 45 = .ok (.ireturn, 1) := dk_172 (dk_at dksX2_newToken_1 23 rfl rfl)
abbrev cX2_lesser : ByteArray := prog_25_method_6_code
def yX2_lesser : MethodName := ⟨RX2, "lesser", "(II)I"⟩
def dkwX2_lesser_0 : List UInt8 := [26, 27, 162, 0, 7, 26, 167, 0, 4, 27, 172]
abbrev dktX2_lesser_0 : List UInt8 := dkwX2_lesser_0 ++ []
theorem dksX2_lesser_0 : cX2_lesser.data.toList.drop 0 = dktX2_lesser_0 := by decide +kernel
theorem dX2_lesser_0 : decode cX2_lesser 0 = .ok (.iload_n 0, 1) := dk_26 (dk_at dksX2_lesser_0 0 rfl rfl)
theorem dX2_lesser_1 : decode cX2_lesser 1 = .ok (.iload_n 1, 1) := dk_27 (dk_at dksX2_lesser_0 1 rfl rfl)
theorem dX2_lesser_2 : decode cX2_lesser 2 = .ok (.if_icmp .ge 7, 3) := dk_162 0 7 (dk_at dksX2_lesser_0 2 rfl rfl)
theorem dX2_lesser_5 : decode cX2_lesser 5 = .ok (.iload_n 0, 1) := dk_26 (dk_at dksX2_lesser_0 5 rfl rfl)
theorem dX2_lesser_6 : decode cX2_lesser 6 = .ok (.goto 4, 3) := dk_167 0 4 (dk_at dksX2_lesser_0 6 rfl rfl)
theorem dX2_lesser_9 : decode cX2_lesser 9 = .ok (.iload_n 1, 1) := dk_27 (dk_at dksX2_lesser_0 9 rfl rfl)
theorem dX2_lesser_10 : decode cX2_lesser 10 = .ok (.ireturn, 1) := dk_172 (dk_at dksX2_lesser_0 10 rfl rfl)
abbrev cX2_addWord : ByteArray := prog_25_method_25_code
def yX2_addWord : MethodName := ⟨RX2, "addWord", "(II)V"⟩
def dkwX2_addWord_2 : List UInt8 := [92, 46, 4, 96, 79, 177]
abbrev dktX2_addWord_2 : List UInt8 := dkwX2_addWord_2 ++ []
def dkwX2_addWord_1 : List UInt8 := [42, 180, 0, 35, 16, 86, 16, 20, 29, 104, 96, 21, 4, 96, 28, 79, 42, 180, 0, 35, 16, 46, 29, 96]
abbrev dktX2_addWord_1 : List UInt8 := dkwX2_addWord_1 ++ dktX2_addWord_2
def dkwX2_addWord_0 : List UInt8 := [42, 27, 182, 0, 139, 62, 42, 180, 0, 35, 16, 46, 29, 96, 46, 54, 4, 21, 4, 16, 20, 162, 0, 32]
abbrev dktX2_addWord_0 : List UInt8 := dkwX2_addWord_0 ++ dktX2_addWord_1
theorem dksX2_addWord_0 : cX2_addWord.data.toList.drop 0 = dktX2_addWord_0 := by decide +kernel
theorem dksX2_addWord_1 : cX2_addWord.data.toList.drop 24 = dktX2_addWord_1 := dk_seg dksX2_addWord_0 24 rfl rfl
theorem dksX2_addWord_2 : cX2_addWord.data.toList.drop 48 = dktX2_addWord_2 := dk_seg dksX2_addWord_1 24 rfl rfl
theorem dX2_addWord_0 : decode cX2_addWord 0 = .ok (.aload_n 0, 1) := dk_42 (dk_at dksX2_addWord_0 0 rfl rfl)
theorem dX2_addWord_1 : decode cX2_addWord 1 = .ok (.iload_n 1, 1) := dk_27 (dk_at dksX2_addWord_0 1 rfl rfl)
theorem dX2_addWord_2 : decode cX2_addWord 2 = .ok (.invokevirtual 139, 3) := dk_182 0 139 (dk_at dksX2_addWord_0 2 rfl rfl)
theorem dX2_addWord_5 : decode cX2_addWord 5 = .ok (.istore_n 3, 1) := dk_62 (dk_at dksX2_addWord_0 5 rfl rfl)
theorem dX2_addWord_6 : decode cX2_addWord 6 = .ok (.aload_n 0, 1) := dk_42 (dk_at dksX2_addWord_0 6 rfl rfl)
theorem dX2_addWord_7 : decode cX2_addWord 7 = .ok (.getfield 35, 3) := dk_180 0 35 (dk_at dksX2_addWord_0 7 rfl rfl)
theorem dX2_addWord_10 : decode cX2_addWord 10 = .ok (.bipush 46, 2) := dk_16 46 (dk_at dksX2_addWord_0 10 rfl rfl)
theorem dX2_addWord_12 : decode cX2_addWord 12 = .ok (.iload_n 3, 1) := dk_29 (dk_at dksX2_addWord_0 12 rfl rfl)
theorem dX2_addWord_13 : decode cX2_addWord 13 = .ok (.iadd, 1) := dk_96 (dk_at dksX2_addWord_0 13 rfl rfl)
theorem dX2_addWord_14 : decode cX2_addWord 14 = .ok (.iaload, 1) := dk_46 (dk_at dksX2_addWord_0 14 rfl rfl)
theorem dX2_addWord_15 : decode cX2_addWord 15 = .ok (.istore 4, 2) := dk_54 4 (dk_at dksX2_addWord_0 15 rfl rfl)
theorem dX2_addWord_17 : decode cX2_addWord 17 = .ok (.iload 4, 2) := dk_21 4 (dk_at dksX2_addWord_0 17 rfl rfl)
theorem dX2_addWord_19 : decode cX2_addWord 19 = .ok (.bipush 20, 2) := dk_16 20 (dk_at dksX2_addWord_0 19 rfl rfl)
theorem dX2_addWord_21 : decode cX2_addWord 21 = .ok (.if_icmp .ge 32, 3) := dk_162 0 32 (dk_at dksX2_addWord_0 21 rfl rfl)
theorem dX2_addWord_24 : decode cX2_addWord 24 = .ok (.aload_n 0, 1) := dk_42 (dk_at dksX2_addWord_1 0 rfl rfl)
theorem dX2_addWord_25 : decode cX2_addWord 25 = .ok (.getfield 35, 3) := dk_180 0 35 (dk_at dksX2_addWord_1 1 rfl rfl)
theorem dX2_addWord_28 : decode cX2_addWord 28 = .ok (.bipush 86, 2) := dk_16 86 (dk_at dksX2_addWord_1 4 rfl rfl)
theorem dX2_addWord_30 : decode cX2_addWord 30 = .ok (.bipush 20, 2) := dk_16 20 (dk_at dksX2_addWord_1 6 rfl rfl)
theorem dX2_addWord_32 : decode cX2_addWord 32 = .ok (.iload_n 3, 1) := dk_29 (dk_at dksX2_addWord_1 8 rfl rfl)
theorem dX2_addWord_33 : decode cX2_addWord 33 = .ok (.imul, 1) := dk_104 (dk_at dksX2_addWord_1 9 rfl rfl)
theorem dX2_addWord_34 : decode cX2_addWord 34 = .ok (.iadd, 1) := dk_96 (dk_at dksX2_addWord_1 10 rfl rfl)
theorem dX2_addWord_35 : decode cX2_addWord 35 = .ok (.iload 4, 2) := dk_21 4 (dk_at dksX2_addWord_1 11 rfl rfl)
theorem dX2_addWord_37 : decode cX2_addWord 37 = .ok (.iadd, 1) := dk_96 (dk_at dksX2_addWord_1 13 rfl rfl)
theorem dX2_addWord_38 : decode cX2_addWord 38 = .ok (.iload_n 2, 1) := dk_28 (dk_at dksX2_addWord_1 14 rfl rfl)
theorem dX2_addWord_39 : decode cX2_addWord 39 = .ok (.iastore, 1) := dk_79 (dk_at dksX2_addWord_1 15 rfl rfl)
theorem dX2_addWord_40 : decode cX2_addWord 40 = .ok (.aload_n 0, 1) := dk_42 (dk_at dksX2_addWord_1 16 rfl rfl)
theorem dX2_addWord_41 : decode cX2_addWord 41 = .ok (.getfield 35, 3) := dk_180 0 35 (dk_at dksX2_addWord_1 17 rfl rfl)
theorem dX2_addWord_44 : decode cX2_addWord 44 = .ok (.bipush 46, 2) := dk_16 46 (dk_at dksX2_addWord_1 20 rfl rfl)
theorem dX2_addWord_46 : decode cX2_addWord 46 = .ok (.iload_n 3, 1) := dk_29 (dk_at dksX2_addWord_1 22 rfl rfl)
theorem dX2_addWord_47 : decode cX2_addWord 47 = .ok (.iadd, 1) := dk_96 (dk_at dksX2_addWord_1 23 rfl rfl)
theorem dX2_addWord_48 : decode cX2_addWord 48 = .ok (.dup2, 1) := dk_92 (dk_at dksX2_addWord_2 0 rfl rfl)
theorem dX2_addWord_49 : decode cX2_addWord 49 = .ok (.iaload, 1) := dk_46 (dk_at dksX2_addWord_2 1 rfl rfl)
theorem dX2_addWord_50 : decode cX2_addWord 50 = .ok (.iconst 1, 1) := dk_4 (dk_at dksX2_addWord_2 2 rfl rfl)
theorem dX2_addWord_51 : decode cX2_addWord 51 = .ok (.iadd, 1) := dk_96 (dk_at dksX2_addWord_2 3 rfl rfl)
theorem dX2_addWord_52 : decode cX2_addWord 52 = .ok (.iastore, 1) := dk_79 (dk_at dksX2_addWord_2 4 rfl rfl)
theorem dX2_addWord_53 : decode cX2_addWord 53 = .ok (.return_, 1) := dk_177 (dk_at dksX2_addWord_2 5 rfl rfl)
abbrev cX2_changeLine : ByteArray := prog_25_method_34_code
def yX2_changeLine : MethodName := ⟨RX2, "changeLine", "(II)Z"⟩
def dkwX2_changeLine_4 : List UInt8 := [180, 0, 106, 154, 0, 8, 42, 27, 182, 0, 190, 4, 172]
abbrev dktX2_changeLine_4 : List UInt8 := dkwX2_changeLine_4 ++ []
def dkwX2_changeLine_3 : List UInt8 := [167, 0, 21, 29, 153, 0, 11, 42, 27, 182, 0, 187, 154, 0, 9, 42, 7, 28, 182, 0, 116, 42]
abbrev dktX2_changeLine_3 : List UInt8 := dkwX2_changeLine_3 ++ dktX2_changeLine_4
def dkwX2_changeLine_2 : List UInt8 := [42, 180, 0, 35, 4, 42, 180, 0, 38, 3, 46, 96, 46, 16, 10, 160, 0, 12, 42, 6, 28, 182, 0, 116]
abbrev dktX2_changeLine_2 : List UInt8 := dkwX2_changeLine_2 ++ dktX2_changeLine_3
def dkwX2_changeLine_1 : List UInt8 := [180, 0, 38, 3, 46, 42, 180, 0, 35, 3, 46, 162, 0, 7, 4, 167, 0, 4, 3, 62, 29, 153, 0, 30]
abbrev dktX2_changeLine_1 : List UInt8 := dkwX2_changeLine_1 ++ dktX2_changeLine_2
def dkwX2_changeLine_0 : List UInt8 := [42, 182, 0, 124, 42, 27, 182, 0, 183, 154, 0, 5, 3, 172, 42, 180, 0, 120, 153, 0, 73, 42]
abbrev dktX2_changeLine_0 : List UInt8 := dkwX2_changeLine_0 ++ dktX2_changeLine_1
theorem dksX2_changeLine_0 : cX2_changeLine.data.toList.drop 0 = dktX2_changeLine_0 := by decide +kernel
theorem dksX2_changeLine_1 : cX2_changeLine.data.toList.drop 22 = dktX2_changeLine_1 := dk_seg dksX2_changeLine_0 22 rfl rfl
theorem dksX2_changeLine_2 : cX2_changeLine.data.toList.drop 46 = dktX2_changeLine_2 := dk_seg dksX2_changeLine_1 24 rfl rfl
theorem dksX2_changeLine_3 : cX2_changeLine.data.toList.drop 70 = dktX2_changeLine_3 := dk_seg dksX2_changeLine_2 24 rfl rfl
theorem dksX2_changeLine_4 : cX2_changeLine.data.toList.drop 92 = dktX2_changeLine_4 := dk_seg dksX2_changeLine_3 22 rfl rfl
theorem dX2_changeLine_0 : decode cX2_changeLine 0 = .ok (.aload_n 0, 1) := dk_42 (dk_at dksX2_changeLine_0 0 rfl rfl)
theorem dX2_changeLine_1 : decode cX2_changeLine 1 = .ok (.invokevirtual 124, 3) := dk_182 0 124 (dk_at dksX2_changeLine_0 1 rfl rfl)
theorem dX2_changeLine_4 : decode cX2_changeLine 4 = .ok (.aload_n 0, 1) := dk_42 (dk_at dksX2_changeLine_0 4 rfl rfl)
theorem dX2_changeLine_5 : decode cX2_changeLine 5 = .ok (.iload_n 1, 1) := dk_27 (dk_at dksX2_changeLine_0 5 rfl rfl)
theorem dX2_changeLine_6 : decode cX2_changeLine 6 = .ok (.invokevirtual 183, 3) := dk_182 0 183 (dk_at dksX2_changeLine_0 6 rfl rfl)
theorem dX2_changeLine_9 : decode cX2_changeLine 9 = .ok (.ifCond .ne 5, 3) := dk_154 0 5 (dk_at dksX2_changeLine_0 9 rfl rfl)
theorem dX2_changeLine_12 : decode cX2_changeLine 12 = .ok (.iconst 0, 1) := dk_3 (dk_at dksX2_changeLine_0 12 rfl rfl)
theorem dX2_changeLine_13 : decode cX2_changeLine 13 = .ok (.ireturn, 1) := dk_172 (dk_at dksX2_changeLine_0 13 rfl rfl)
theorem dX2_changeLine_14 : decode cX2_changeLine 14 = .ok (.aload_n 0, 1) := dk_42 (dk_at dksX2_changeLine_0 14 rfl rfl)
theorem dX2_changeLine_15 : decode cX2_changeLine 15 = .ok (.getfield 120, 3) := dk_180 0 120 (dk_at dksX2_changeLine_0 15 rfl rfl)
theorem dX2_changeLine_18 : decode cX2_changeLine 18 = .ok (.ifCond .eq 73, 3) := dk_153 0 73 (dk_at dksX2_changeLine_0 18 rfl rfl)
theorem dX2_changeLine_21 : decode cX2_changeLine 21 = .ok (.aload_n 0, 1) := dk_42 (dk_at dksX2_changeLine_0 21 rfl rfl)
theorem dX2_changeLine_22 : decode cX2_changeLine 22 = .ok (.getfield 38, 3) := dk_180 0 38 (dk_at dksX2_changeLine_1 0 rfl rfl)
theorem dX2_changeLine_25 : decode cX2_changeLine 25 = .ok (.iconst 0, 1) := dk_3 (dk_at dksX2_changeLine_1 3 rfl rfl)
theorem dX2_changeLine_26 : decode cX2_changeLine 26 = .ok (.iaload, 1) := dk_46 (dk_at dksX2_changeLine_1 4 rfl rfl)
theorem dX2_changeLine_27 : decode cX2_changeLine 27 = .ok (.aload_n 0, 1) := dk_42 (dk_at dksX2_changeLine_1 5 rfl rfl)
theorem dX2_changeLine_28 : decode cX2_changeLine 28 = .ok (.getfield 35, 3) := dk_180 0 35 (dk_at dksX2_changeLine_1 6 rfl rfl)
theorem dX2_changeLine_31 : decode cX2_changeLine 31 = .ok (.iconst 0, 1) := dk_3 (dk_at dksX2_changeLine_1 9 rfl rfl)
theorem dX2_changeLine_32 : decode cX2_changeLine 32 = .ok (.iaload, 1) := dk_46 (dk_at dksX2_changeLine_1 10 rfl rfl)
theorem dX2_changeLine_33 : decode cX2_changeLine 33 = .ok (.if_icmp .ge 7, 3) := dk_162 0 7 (dk_at dksX2_changeLine_1 11 rfl rfl)
theorem dX2_changeLine_36 : decode cX2_changeLine 36 = .ok (.iconst 1, 1) := dk_4 (dk_at dksX2_changeLine_1 14 rfl rfl)
theorem dX2_changeLine_37 : decode cX2_changeLine 37 = .ok (.goto 4, 3) := dk_167 0 4 (dk_at dksX2_changeLine_1 15 rfl rfl)
theorem dX2_changeLine_40 : decode cX2_changeLine 40 = .ok (.iconst 0, 1) := dk_3 (dk_at dksX2_changeLine_1 18 rfl rfl)
theorem dX2_changeLine_41 : decode cX2_changeLine 41 = .ok (.istore_n 3, 1) := dk_62 (dk_at dksX2_changeLine_1 19 rfl rfl)
theorem dX2_changeLine_42 : decode cX2_changeLine 42 = .ok (.iload_n 3, 1) := dk_29 (dk_at dksX2_changeLine_1 20 rfl rfl)
theorem dX2_changeLine_43 : decode cX2_changeLine 43 = .ok (.ifCond .eq 30, 3) := dk_153 0 30 (dk_at dksX2_changeLine_1 21 rfl rfl)
theorem dX2_changeLine_46 : decode cX2_changeLine 46 = .ok (.aload_n 0, 1) := dk_42 (dk_at dksX2_changeLine_2 0 rfl rfl)
theorem dX2_changeLine_47 : decode cX2_changeLine 47 = .ok (.getfield 35, 3) := dk_180 0 35 (dk_at dksX2_changeLine_2 1 rfl rfl)
theorem dX2_changeLine_50 : decode cX2_changeLine 50 = .ok (.iconst 1, 1) := dk_4 (dk_at dksX2_changeLine_2 4 rfl rfl)
theorem dX2_changeLine_51 : decode cX2_changeLine 51 = .ok (.aload_n 0, 1) := dk_42 (dk_at dksX2_changeLine_2 5 rfl rfl)
theorem dX2_changeLine_52 : decode cX2_changeLine 52 = .ok (.getfield 38, 3) := dk_180 0 38 (dk_at dksX2_changeLine_2 6 rfl rfl)
theorem dX2_changeLine_55 : decode cX2_changeLine 55 = .ok (.iconst 0, 1) := dk_3 (dk_at dksX2_changeLine_2 9 rfl rfl)
theorem dX2_changeLine_56 : decode cX2_changeLine 56 = .ok (.iaload, 1) := dk_46 (dk_at dksX2_changeLine_2 10 rfl rfl)
theorem dX2_changeLine_57 : decode cX2_changeLine 57 = .ok (.iadd, 1) := dk_96 (dk_at dksX2_changeLine_2 11 rfl rfl)
theorem dX2_changeLine_58 : decode cX2_changeLine 58 = .ok (.iaload, 1) := dk_46 (dk_at dksX2_changeLine_2 12 rfl rfl)
theorem dX2_changeLine_59 : decode cX2_changeLine 59 = .ok (.bipush 10, 2) := dk_16 10 (dk_at dksX2_changeLine_2 13 rfl rfl)
theorem dX2_changeLine_61 : decode cX2_changeLine 61 = .ok (.if_icmp .ne 12, 3) := dk_160 0 12 (dk_at dksX2_changeLine_2 15 rfl rfl)
theorem dX2_changeLine_64 : decode cX2_changeLine 64 = .ok (.aload_n 0, 1) := dk_42 (dk_at dksX2_changeLine_2 18 rfl rfl)
theorem dX2_changeLine_65 : decode cX2_changeLine 65 = .ok (.iconst 3, 1) := dk_6 (dk_at dksX2_changeLine_2 19 rfl rfl)
theorem dX2_changeLine_66 : decode cX2_changeLine 66 = .ok (.iload_n 2, 1) := dk_28 (dk_at dksX2_changeLine_2 20 rfl rfl)
theorem dX2_changeLine_67 : decode cX2_changeLine 67 = .ok (.invokevirtual 116, 3) := dk_182 0 116 (dk_at dksX2_changeLine_2 21 rfl rfl)
theorem dX2_changeLine_70 : decode cX2_changeLine 70 = .ok (.goto 21, 3) := dk_167 0 21 (dk_at dksX2_changeLine_3 0 rfl rfl)
theorem dX2_changeLine_73 : decode cX2_changeLine 73 = .ok (.iload_n 3, 1) := dk_29 (dk_at dksX2_changeLine_3 3 rfl rfl)
theorem dX2_changeLine_74 : decode cX2_changeLine 74 = .ok (.ifCond .eq 11, 3) := dk_153 0 11 (dk_at dksX2_changeLine_3 4 rfl rfl)
theorem dX2_changeLine_77 : decode cX2_changeLine 77 = .ok (.aload_n 0, 1) := dk_42 (dk_at dksX2_changeLine_3 7 rfl rfl)
theorem dX2_changeLine_78 : decode cX2_changeLine 78 = .ok (.iload_n 1, 1) := dk_27 (dk_at dksX2_changeLine_3 8 rfl rfl)
theorem dX2_changeLine_79 : decode cX2_changeLine 79 = .ok (.invokevirtual 187, 3) := dk_182 0 187 (dk_at dksX2_changeLine_3 9 rfl rfl)
theorem dX2_changeLine_82 : decode cX2_changeLine 82 = .ok (.ifCond .ne 9, 3) := dk_154 0 9 (dk_at dksX2_changeLine_3 12 rfl rfl)
theorem dX2_changeLine_85 : decode cX2_changeLine 85 = .ok (.aload_n 0, 1) := dk_42 (dk_at dksX2_changeLine_3 15 rfl rfl)
theorem dX2_changeLine_86 : decode cX2_changeLine 86 = .ok (.iconst 4, 1) := dk_7 (dk_at dksX2_changeLine_3 16 rfl rfl)
theorem dX2_changeLine_87 : decode cX2_changeLine 87 = .ok (.iload_n 2, 1) := dk_28 (dk_at dksX2_changeLine_3 17 rfl rfl)
theorem dX2_changeLine_88 : decode cX2_changeLine 88 = .ok (.invokevirtual 116, 3) := dk_182 0 116 (dk_at dksX2_changeLine_3 18 rfl rfl)
theorem dX2_changeLine_91 : decode cX2_changeLine 91 = .ok (.aload_n 0, 1) := dk_42 (dk_at dksX2_changeLine_3 21 rfl rfl)
theorem dX2_changeLine_92 : decode cX2_changeLine 92 = .ok (.getfield 106, 3) := dk_180 0 106 (dk_at dksX2_changeLine_4 0 rfl rfl)
theorem dX2_changeLine_95 : decode cX2_changeLine 95 = .ok (.ifCond .ne 8, 3) := dk_154 0 8 (dk_at dksX2_changeLine_4 3 rfl rfl)
theorem dX2_changeLine_98 : decode cX2_changeLine 98 = .ok (.aload_n 0, 1) := dk_42 (dk_at dksX2_changeLine_4 6 rfl rfl)
theorem dX2_changeLine_99 : decode cX2_changeLine 99 = .ok (.iload_n 1, 1) := dk_27 (dk_at dksX2_changeLine_4 7 rfl rfl)
theorem dX2_changeLine_100 : decode cX2_changeLine 100 = .ok (.invokevirtual 190, 3) := dk_182 0 190 (dk_at dksX2_changeLine_4 8 rfl rfl)
theorem dX2_changeLine_103 : decode cX2_changeLine 103 = .ok (.iconst 1, 1) := dk_4 (dk_at dksX2_changeLine_4 11 rfl rfl)
theorem dX2_changeLine_104 : decode cX2_changeLine 104 = .ok (.ireturn, 1) := dk_172 (dk_at dksX2_changeLine_4 12 rfl rfl)
abbrev cX2_readChange : ByteArray := prog_25_method_33_code
def yX2_readChange : MethodName := ⟨RX2, "readChange", "(I)Z"⟩
def dkwX2_readChange_4 : List UInt8 := [16, 19, 182, 0, 177, 153, 0, 7, 4, 167, 0, 4, 3, 172, 42, 4, 3, 16, 9, 182, 0, 177, 172]
abbrev dktX2_readChange_4 : List UInt8 := dkwX2_readChange_4 ++ []
def dkwX2_readChange_3 : List UInt8 := [153, 0, 7, 4, 167, 0, 4, 3, 172, 42, 4, 3, 16, 19, 182, 0, 177, 153, 0, 18, 42, 5, 3]
abbrev dktX2_readChange_3 : List UInt8 := dkwX2_readChange_3 ++ dktX2_readChange_4
def dkwX2_readChange_2 : List UInt8 := [42, 182, 0, 180, 172, 42, 4, 3, 16, 19, 182, 0, 177, 153, 0, 18, 42, 5, 4, 16, 20, 182, 0, 177]
abbrev dktX2_readChange_2 : List UInt8 := dkwX2_readChange_2 ++ dktX2_readChange_3
def dkwX2_readChange_1 : List UInt8 := [170, 0, 0, 0, 0, 0, 88, 0, 0, 0, 0, 0, 0, 0, 2, 0, 0, 0, 27, 0, 0, 0, 32, 0, 0, 0, 60]
abbrev dktX2_readChange_1 : List UInt8 := dkwX2_readChange_1 ++ dktX2_readChange_2
def dkwX2_readChange_0 : List UInt8 := [42, 3, 3, 6, 182, 0, 177, 154, 0, 5, 3, 172, 27]
abbrev dktX2_readChange_0 : List UInt8 := dkwX2_readChange_0 ++ dktX2_readChange_1
theorem dksX2_readChange_0 : cX2_readChange.data.toList.drop 0 = dktX2_readChange_0 := by decide +kernel
theorem dksX2_readChange_1 : cX2_readChange.data.toList.drop 13 = dktX2_readChange_1 := dk_seg dksX2_readChange_0 13 rfl rfl
theorem dksX2_readChange_2 : cX2_readChange.data.toList.drop 40 = dktX2_readChange_2 := dk_seg dksX2_readChange_1 27 rfl rfl
theorem dksX2_readChange_3 : cX2_readChange.data.toList.drop 64 = dktX2_readChange_3 := dk_seg dksX2_readChange_2 24 rfl rfl
theorem dksX2_readChange_4 : cX2_readChange.data.toList.drop 87 = dktX2_readChange_4 := dk_seg dksX2_readChange_3 23 rfl rfl
theorem dX2_readChange_0 : decode cX2_readChange 0 = .ok (.aload_n 0, 1) := dk_42 (dk_at dksX2_readChange_0 0 rfl rfl)
theorem dX2_readChange_1 : decode cX2_readChange 1 = .ok (.iconst 0, 1) := dk_3 (dk_at dksX2_readChange_0 1 rfl rfl)
theorem dX2_readChange_2 : decode cX2_readChange 2 = .ok (.iconst 0, 1) := dk_3 (dk_at dksX2_readChange_0 2 rfl rfl)
theorem dX2_readChange_3 : decode cX2_readChange 3 = .ok (.iconst 3, 1) := dk_6 (dk_at dksX2_readChange_0 3 rfl rfl)
theorem dX2_readChange_4 : decode cX2_readChange 4 = .ok (.invokevirtual 177, 3) := dk_182 0 177 (dk_at dksX2_readChange_0 4 rfl rfl)
theorem dX2_readChange_7 : decode cX2_readChange 7 = .ok (.ifCond .ne 5, 3) := dk_154 0 5 (dk_at dksX2_readChange_0 7 rfl rfl)
theorem dX2_readChange_10 : decode cX2_readChange 10 = .ok (.iconst 0, 1) := dk_3 (dk_at dksX2_readChange_0 10 rfl rfl)
theorem dX2_readChange_11 : decode cX2_readChange 11 = .ok (.ireturn, 1) := dk_172 (dk_at dksX2_readChange_0 11 rfl rfl)
theorem dX2_readChange_12 : decode cX2_readChange 12 = .ok (.iload_n 1, 1) := dk_27 (dk_at dksX2_readChange_0 12 rfl rfl)
theorem dX2_readChange_13 : decode cX2_readChange 13 = .ok (.tableswitch 88 0 2 #[27, 32, 60], 27) := by decide +kernel
theorem dX2_readChange_40 : decode cX2_readChange 40 = .ok (.aload_n 0, 1) := dk_42 (dk_at dksX2_readChange_2 0 rfl rfl)
theorem dX2_readChange_41 : decode cX2_readChange 41 = .ok (.invokevirtual 180, 3) := dk_182 0 180 (dk_at dksX2_readChange_2 1 rfl rfl)
theorem dX2_readChange_44 : decode cX2_readChange 44 = .ok (.ireturn, 1) := dk_172 (dk_at dksX2_readChange_2 4 rfl rfl)
theorem dX2_readChange_45 : decode cX2_readChange 45 = .ok (.aload_n 0, 1) := dk_42 (dk_at dksX2_readChange_2 5 rfl rfl)
theorem dX2_readChange_46 : decode cX2_readChange 46 = .ok (.iconst 1, 1) := dk_4 (dk_at dksX2_readChange_2 6 rfl rfl)
theorem dX2_readChange_47 : decode cX2_readChange 47 = .ok (.iconst 0, 1) := dk_3 (dk_at dksX2_readChange_2 7 rfl rfl)
theorem dX2_readChange_48 : decode cX2_readChange 48 = .ok (.bipush 19, 2) := dk_16 19 (dk_at dksX2_readChange_2 8 rfl rfl)
theorem dX2_readChange_50 : decode cX2_readChange 50 = .ok (.invokevirtual 177, 3) := dk_182 0 177 (dk_at dksX2_readChange_2 10 rfl rfl)
theorem dX2_readChange_53 : decode cX2_readChange 53 = .ok (.ifCond .eq 18, 3) := dk_153 0 18 (dk_at dksX2_readChange_2 13 rfl rfl)
theorem dX2_readChange_56 : decode cX2_readChange 56 = .ok (.aload_n 0, 1) := dk_42 (dk_at dksX2_readChange_2 16 rfl rfl)
theorem dX2_readChange_57 : decode cX2_readChange 57 = .ok (.iconst 2, 1) := dk_5 (dk_at dksX2_readChange_2 17 rfl rfl)
theorem dX2_readChange_58 : decode cX2_readChange 58 = .ok (.iconst 1, 1) := dk_4 (dk_at dksX2_readChange_2 18 rfl rfl)
theorem dX2_readChange_59 : decode cX2_readChange 59 = .ok (.bipush 20, 2) := dk_16 20 (dk_at dksX2_readChange_2 19 rfl rfl)
theorem dX2_readChange_61 : decode cX2_readChange 61 = .ok (.invokevirtual 177, 3) := dk_182 0 177 (dk_at dksX2_readChange_2 21 rfl rfl)
theorem dX2_readChange_64 : decode cX2_readChange 64 = .ok (.ifCond .eq 7, 3) := dk_153 0 7 (dk_at dksX2_readChange_3 0 rfl rfl)
theorem dX2_readChange_67 : decode cX2_readChange 67 = .ok (.iconst 1, 1) := dk_4 (dk_at dksX2_readChange_3 3 rfl rfl)
theorem dX2_readChange_68 : decode cX2_readChange 68 = .ok (.goto 4, 3) := dk_167 0 4 (dk_at dksX2_readChange_3 4 rfl rfl)
theorem dX2_readChange_71 : decode cX2_readChange 71 = .ok (.iconst 0, 1) := dk_3 (dk_at dksX2_readChange_3 7 rfl rfl)
theorem dX2_readChange_72 : decode cX2_readChange 72 = .ok (.ireturn, 1) := dk_172 (dk_at dksX2_readChange_3 8 rfl rfl)
theorem dX2_readChange_73 : decode cX2_readChange 73 = .ok (.aload_n 0, 1) := dk_42 (dk_at dksX2_readChange_3 9 rfl rfl)
theorem dX2_readChange_74 : decode cX2_readChange 74 = .ok (.iconst 1, 1) := dk_4 (dk_at dksX2_readChange_3 10 rfl rfl)
theorem dX2_readChange_75 : decode cX2_readChange 75 = .ok (.iconst 0, 1) := dk_3 (dk_at dksX2_readChange_3 11 rfl rfl)
theorem dX2_readChange_76 : decode cX2_readChange 76 = .ok (.bipush 19, 2) := dk_16 19 (dk_at dksX2_readChange_3 12 rfl rfl)
theorem dX2_readChange_78 : decode cX2_readChange 78 = .ok (.invokevirtual 177, 3) := dk_182 0 177 (dk_at dksX2_readChange_3 14 rfl rfl)
theorem dX2_readChange_81 : decode cX2_readChange 81 = .ok (.ifCond .eq 18, 3) := dk_153 0 18 (dk_at dksX2_readChange_3 17 rfl rfl)
theorem dX2_readChange_84 : decode cX2_readChange 84 = .ok (.aload_n 0, 1) := dk_42 (dk_at dksX2_readChange_3 20 rfl rfl)
theorem dX2_readChange_85 : decode cX2_readChange 85 = .ok (.iconst 2, 1) := dk_5 (dk_at dksX2_readChange_3 21 rfl rfl)
theorem dX2_readChange_86 : decode cX2_readChange 86 = .ok (.iconst 0, 1) := dk_3 (dk_at dksX2_readChange_3 22 rfl rfl)
theorem dX2_readChange_87 : decode cX2_readChange 87 = .ok (.bipush 19, 2) := dk_16 19 (dk_at dksX2_readChange_4 0 rfl rfl)
theorem dX2_readChange_89 : decode cX2_readChange 89 = .ok (.invokevirtual 177, 3) := dk_182 0 177 (dk_at dksX2_readChange_4 2 rfl rfl)
theorem dX2_readChange_92 : decode cX2_readChange 92 = .ok (.ifCond .eq 7, 3) := dk_153 0 7 (dk_at dksX2_readChange_4 5 rfl rfl)
theorem dX2_readChange_95 : decode cX2_readChange 95 = .ok (.iconst 1, 1) := dk_4 (dk_at dksX2_readChange_4 8 rfl rfl)
theorem dX2_readChange_96 : decode cX2_readChange 96 = .ok (.goto 4, 3) := dk_167 0 4 (dk_at dksX2_readChange_4 9 rfl rfl)
theorem dX2_readChange_99 : decode cX2_readChange 99 = .ok (.iconst 0, 1) := dk_3 (dk_at dksX2_readChange_4 12 rfl rfl)
theorem dX2_readChange_100 : decode cX2_readChange 100 = .ok (.ireturn, 1) := dk_172 (dk_at dksX2_readChange_4 13 rfl rfl)
theorem dX2_readChange_101 : decode cX2_readChange 101 = .ok (.aload_n 0, 1) := dk_42 (dk_at dksX2_readChange_4 14 rfl rfl)
theorem dX2_readChange_102 : decode cX2_readChange 102 = .ok (.iconst 1, 1) := dk_4 (dk_at dksX2_readChange_4 15 rfl rfl)
theorem dX2_readChange_103 : decode cX2_readChange 103 = .ok (.iconst 0, 1) := dk_3 (dk_at dksX2_readChange_4 16 rfl rfl)
theorem dX2_readChange_104 : decode cX2_readChange 104 = .ok (.bipush 9, 2) := dk_16 9 (dk_at dksX2_readChange_4 17 rfl rfl)
theorem dX2_readChange_106 : decode cX2_readChange 106 = .ok (.invokevirtual 177, 3) := dk_182 0 177 (dk_at dksX2_readChange_4 19 rfl rfl)
theorem dX2_readChange_109 : decode cX2_readChange 109 = .ok (.ireturn, 1) := dk_172 (dk_at dksX2_readChange_4 22 rfl rfl)
abbrev cX2_take : ByteArray := prog_25_method_18_code
def yX2_take : MethodName := ⟨RX2, "take", "(III)Z"⟩
def dkwX2_take_2 : List UInt8 := [181, 0, 120, 42, 182, 0, 124, 4, 172]
abbrev dktX2_take_2 : List UInt8 := dkwX2_take_2 ++ []
def dkwX2_take_1 : List UInt8 := [180, 0, 100, 28, 29, 184, 0, 72, 154, 0, 17, 42, 5, 42, 180, 0, 90, 182, 0, 116, 42, 3]
abbrev dktX2_take_1 : List UInt8 := dkwX2_take_1 ++ dktX2_take_2
def dkwX2_take_0 : List UInt8 := [42, 180, 0, 97, 6, 159, 0, 8, 42, 182, 0, 112, 172, 42, 180, 0, 38, 27, 42, 180, 0, 100, 79, 42]
abbrev dktX2_take_0 : List UInt8 := dkwX2_take_0 ++ dktX2_take_1
theorem dksX2_take_0 : cX2_take.data.toList.drop 0 = dktX2_take_0 := by decide +kernel
theorem dksX2_take_1 : cX2_take.data.toList.drop 24 = dktX2_take_1 := dk_seg dksX2_take_0 24 rfl rfl
theorem dksX2_take_2 : cX2_take.data.toList.drop 46 = dktX2_take_2 := dk_seg dksX2_take_1 22 rfl rfl
theorem dX2_take_0 : decode cX2_take 0 = .ok (.aload_n 0, 1) := dk_42 (dk_at dksX2_take_0 0 rfl rfl)
theorem dX2_take_1 : decode cX2_take 1 = .ok (.getfield 97, 3) := dk_180 0 97 (dk_at dksX2_take_0 1 rfl rfl)
theorem dX2_take_4 : decode cX2_take 4 = .ok (.iconst 3, 1) := dk_6 (dk_at dksX2_take_0 4 rfl rfl)
theorem dX2_take_5 : decode cX2_take 5 = .ok (.if_icmp .eq 8, 3) := dk_159 0 8 (dk_at dksX2_take_0 5 rfl rfl)
theorem dX2_take_8 : decode cX2_take 8 = .ok (.aload_n 0, 1) := dk_42 (dk_at dksX2_take_0 8 rfl rfl)
theorem dX2_take_9 : decode cX2_take 9 = .ok (.invokevirtual 112, 3) := dk_182 0 112 (dk_at dksX2_take_0 9 rfl rfl)
theorem dX2_take_12 : decode cX2_take 12 = .ok (.ireturn, 1) := dk_172 (dk_at dksX2_take_0 12 rfl rfl)
theorem dX2_take_13 : decode cX2_take 13 = .ok (.aload_n 0, 1) := dk_42 (dk_at dksX2_take_0 13 rfl rfl)
theorem dX2_take_14 : decode cX2_take 14 = .ok (.getfield 38, 3) := dk_180 0 38 (dk_at dksX2_take_0 14 rfl rfl)
theorem dX2_take_17 : decode cX2_take 17 = .ok (.iload_n 1, 1) := dk_27 (dk_at dksX2_take_0 17 rfl rfl)
theorem dX2_take_18 : decode cX2_take 18 = .ok (.aload_n 0, 1) := dk_42 (dk_at dksX2_take_0 18 rfl rfl)
theorem dX2_take_19 : decode cX2_take 19 = .ok (.getfield 100, 3) := dk_180 0 100 (dk_at dksX2_take_0 19 rfl rfl)
theorem dX2_take_22 : decode cX2_take 22 = .ok (.iastore, 1) := dk_79 (dk_at dksX2_take_0 22 rfl rfl)
theorem dX2_take_23 : decode cX2_take 23 = .ok (.aload_n 0, 1) := dk_42 (dk_at dksX2_take_0 23 rfl rfl)
theorem dX2_take_24 : decode cX2_take 24 = .ok (.getfield 100, 3) := dk_180 0 100 (dk_at dksX2_take_1 0 rfl rfl)
theorem dX2_take_27 : decode cX2_take 27 = .ok (.iload_n 2, 1) := dk_28 (dk_at dksX2_take_1 3 rfl rfl)
theorem dX2_take_28 : decode cX2_take 28 = .ok (.iload_n 3, 1) := dk_29 (dk_at dksX2_take_1 4 rfl rfl)
theorem dX2_take_29 : decode cX2_take 29 = .ok (.invokestatic 72, 3) := dk_184 0 72 (dk_at dksX2_take_1 5 rfl rfl)
theorem dX2_take_32 : decode cX2_take 32 = .ok (.ifCond .ne 17, 3) := dk_154 0 17 (dk_at dksX2_take_1 8 rfl rfl)
theorem dX2_take_35 : decode cX2_take 35 = .ok (.aload_n 0, 1) := dk_42 (dk_at dksX2_take_1 11 rfl rfl)
theorem dX2_take_36 : decode cX2_take 36 = .ok (.iconst 2, 1) := dk_5 (dk_at dksX2_take_1 12 rfl rfl)
theorem dX2_take_37 : decode cX2_take 37 = .ok (.aload_n 0, 1) := dk_42 (dk_at dksX2_take_1 13 rfl rfl)
theorem dX2_take_38 : decode cX2_take 38 = .ok (.getfield 90, 3) := dk_180 0 90 (dk_at dksX2_take_1 14 rfl rfl)
theorem dX2_take_41 : decode cX2_take 41 = .ok (.invokevirtual 116, 3) := dk_182 0 116 (dk_at dksX2_take_1 17 rfl rfl)
theorem dX2_take_44 : decode cX2_take 44 = .ok (.aload_n 0, 1) := dk_42 (dk_at dksX2_take_1 20 rfl rfl)
theorem dX2_take_45 : decode cX2_take 45 = .ok (.iconst 0, 1) := dk_3 (dk_at dksX2_take_1 21 rfl rfl)
theorem dX2_take_46 : decode cX2_take 46 = .ok (.putfield 120, 3) := dk_181 0 120 (dk_at dksX2_take_2 0 rfl rfl)
theorem dX2_take_49 : decode cX2_take 49 = .ok (.aload_n 0, 1) := dk_42 (dk_at dksX2_take_2 3 rfl rfl)
theorem dX2_take_50 : decode cX2_take 50 = .ok (.invokevirtual 124, 3) := dk_182 0 124 (dk_at dksX2_take_2 4 rfl rfl)
theorem dX2_take_53 : decode cX2_take 53 = .ok (.iconst 1, 1) := dk_4 (dk_at dksX2_take_2 7 rfl rfl)
theorem dX2_take_54 : decode cX2_take 54 = .ok (.ireturn, 1) := dk_172 (dk_at dksX2_take_2 8 rfl rfl)
abbrev cX2_readPut : ByteArray := prog_25_method_32_code
def yX2_readPut : MethodName := ⟨RX2, "readPut", "()Z"⟩
def dkwX2_readPut_2 : List UInt8 := [182, 0, 139, 96, 46, 167, 0, 4, 3, 60, 42, 16, 20, 27, 100, 182, 0, 153, 4, 172]
abbrev dktX2_readPut_2 : List UInt8 := dkwX2_readPut_2 ++ []
def dkwX2_readPut_1 : List UInt8 := [3, 46, 42, 180, 0, 35, 3, 46, 162, 0, 24, 42, 180, 0, 35, 16, 46, 42, 42, 180, 0, 38, 3, 46]
abbrev dktX2_readPut_1 : List UInt8 := dkwX2_readPut_1 ++ dktX2_readPut_2
def dkwX2_readPut_0 : List UInt8 := [42, 4, 3, 16, 20, 182, 0, 177, 154, 0, 5, 3, 172, 42, 180, 0, 120, 153, 0, 39, 42, 180, 0, 38]
abbrev dktX2_readPut_0 : List UInt8 := dkwX2_readPut_0 ++ dktX2_readPut_1
theorem dksX2_readPut_0 : cX2_readPut.data.toList.drop 0 = dktX2_readPut_0 := by decide +kernel
theorem dksX2_readPut_1 : cX2_readPut.data.toList.drop 24 = dktX2_readPut_1 := dk_seg dksX2_readPut_0 24 rfl rfl
theorem dksX2_readPut_2 : cX2_readPut.data.toList.drop 48 = dktX2_readPut_2 := dk_seg dksX2_readPut_1 24 rfl rfl
theorem dX2_readPut_0 : decode cX2_readPut 0 = .ok (.aload_n 0, 1) := dk_42 (dk_at dksX2_readPut_0 0 rfl rfl)
theorem dX2_readPut_1 : decode cX2_readPut 1 = .ok (.iconst 1, 1) := dk_4 (dk_at dksX2_readPut_0 1 rfl rfl)
theorem dX2_readPut_2 : decode cX2_readPut 2 = .ok (.iconst 0, 1) := dk_3 (dk_at dksX2_readPut_0 2 rfl rfl)
theorem dX2_readPut_3 : decode cX2_readPut 3 = .ok (.bipush 20, 2) := dk_16 20 (dk_at dksX2_readPut_0 3 rfl rfl)
theorem dX2_readPut_5 : decode cX2_readPut 5 = .ok (.invokevirtual 177, 3) := dk_182 0 177 (dk_at dksX2_readPut_0 5 rfl rfl)
theorem dX2_readPut_8 : decode cX2_readPut 8 = .ok (.ifCond .ne 5, 3) := dk_154 0 5 (dk_at dksX2_readPut_0 8 rfl rfl)
theorem dX2_readPut_11 : decode cX2_readPut 11 = .ok (.iconst 0, 1) := dk_3 (dk_at dksX2_readPut_0 11 rfl rfl)
theorem dX2_readPut_12 : decode cX2_readPut 12 = .ok (.ireturn, 1) := dk_172 (dk_at dksX2_readPut_0 12 rfl rfl)
theorem dX2_readPut_13 : decode cX2_readPut 13 = .ok (.aload_n 0, 1) := dk_42 (dk_at dksX2_readPut_0 13 rfl rfl)
theorem dX2_readPut_14 : decode cX2_readPut 14 = .ok (.getfield 120, 3) := dk_180 0 120 (dk_at dksX2_readPut_0 14 rfl rfl)
theorem dX2_readPut_17 : decode cX2_readPut 17 = .ok (.ifCond .eq 39, 3) := dk_153 0 39 (dk_at dksX2_readPut_0 17 rfl rfl)
theorem dX2_readPut_20 : decode cX2_readPut 20 = .ok (.aload_n 0, 1) := dk_42 (dk_at dksX2_readPut_0 20 rfl rfl)
theorem dX2_readPut_21 : decode cX2_readPut 21 = .ok (.getfield 38, 3) := dk_180 0 38 (dk_at dksX2_readPut_0 21 rfl rfl)
theorem dX2_readPut_24 : decode cX2_readPut 24 = .ok (.iconst 0, 1) := dk_3 (dk_at dksX2_readPut_1 0 rfl rfl)
theorem dX2_readPut_25 : decode cX2_readPut 25 = .ok (.iaload, 1) := dk_46 (dk_at dksX2_readPut_1 1 rfl rfl)
theorem dX2_readPut_26 : decode cX2_readPut 26 = .ok (.aload_n 0, 1) := dk_42 (dk_at dksX2_readPut_1 2 rfl rfl)
theorem dX2_readPut_27 : decode cX2_readPut 27 = .ok (.getfield 35, 3) := dk_180 0 35 (dk_at dksX2_readPut_1 3 rfl rfl)
theorem dX2_readPut_30 : decode cX2_readPut 30 = .ok (.iconst 0, 1) := dk_3 (dk_at dksX2_readPut_1 6 rfl rfl)
theorem dX2_readPut_31 : decode cX2_readPut 31 = .ok (.iaload, 1) := dk_46 (dk_at dksX2_readPut_1 7 rfl rfl)
theorem dX2_readPut_32 : decode cX2_readPut 32 = .ok (.if_icmp .ge 24, 3) := dk_162 0 24 (dk_at dksX2_readPut_1 8 rfl rfl)
theorem dX2_readPut_35 : decode cX2_readPut 35 = .ok (.aload_n 0, 1) := dk_42 (dk_at dksX2_readPut_1 11 rfl rfl)
theorem dX2_readPut_36 : decode cX2_readPut 36 = .ok (.getfield 35, 3) := dk_180 0 35 (dk_at dksX2_readPut_1 12 rfl rfl)
theorem dX2_readPut_39 : decode cX2_readPut 39 = .ok (.bipush 46, 2) := dk_16 46 (dk_at dksX2_readPut_1 15 rfl rfl)
theorem dX2_readPut_41 : decode cX2_readPut 41 = .ok (.aload_n 0, 1) := dk_42 (dk_at dksX2_readPut_1 17 rfl rfl)
theorem dX2_readPut_42 : decode cX2_readPut 42 = .ok (.aload_n 0, 1) := dk_42 (dk_at dksX2_readPut_1 18 rfl rfl)
theorem dX2_readPut_43 : decode cX2_readPut 43 = .ok (.getfield 38, 3) := dk_180 0 38 (dk_at dksX2_readPut_1 19 rfl rfl)
theorem dX2_readPut_46 : decode cX2_readPut 46 = .ok (.iconst 0, 1) := dk_3 (dk_at dksX2_readPut_1 22 rfl rfl)
theorem dX2_readPut_47 : decode cX2_readPut 47 = .ok (.iaload, 1) := dk_46 (dk_at dksX2_readPut_1 23 rfl rfl)
theorem dX2_readPut_48 : decode cX2_readPut 48 = .ok (.invokevirtual 139, 3) := dk_182 0 139 (dk_at dksX2_readPut_2 0 rfl rfl)
theorem dX2_readPut_51 : decode cX2_readPut 51 = .ok (.iadd, 1) := dk_96 (dk_at dksX2_readPut_2 3 rfl rfl)
theorem dX2_readPut_52 : decode cX2_readPut 52 = .ok (.iaload, 1) := dk_46 (dk_at dksX2_readPut_2 4 rfl rfl)
theorem dX2_readPut_53 : decode cX2_readPut 53 = .ok (.goto 4, 3) := dk_167 0 4 (dk_at dksX2_readPut_2 5 rfl rfl)
theorem dX2_readPut_56 : decode cX2_readPut 56 = .ok (.iconst 0, 1) := dk_3 (dk_at dksX2_readPut_2 8 rfl rfl)
theorem dX2_readPut_57 : decode cX2_readPut 57 = .ok (.istore_n 1, 1) := dk_60 (dk_at dksX2_readPut_2 9 rfl rfl)
theorem dX2_readPut_58 : decode cX2_readPut 58 = .ok (.aload_n 0, 1) := dk_42 (dk_at dksX2_readPut_2 10 rfl rfl)
theorem dX2_readPut_59 : decode cX2_readPut 59 = .ok (.bipush 20, 2) := dk_16 20 (dk_at dksX2_readPut_2 11 rfl rfl)
theorem dX2_readPut_61 : decode cX2_readPut 61 = .ok (.iload_n 1, 1) := dk_27 (dk_at dksX2_readPut_2 13 rfl rfl)
theorem dX2_readPut_62 : decode cX2_readPut 62 = .ok (.isub, 1) := dk_100 (dk_at dksX2_readPut_2 14 rfl rfl)
theorem dX2_readPut_63 : decode cX2_readPut 63 = .ok (.invokevirtual 153, 3) := dk_182 0 153 (dk_at dksX2_readPut_2 15 rfl rfl)
theorem dX2_readPut_66 : decode cX2_readPut 66 = .ok (.iconst 1, 1) := dk_4 (dk_at dksX2_readPut_2 18 rfl rfl)
theorem dX2_readPut_67 : decode cX2_readPut 67 = .ok (.ireturn, 1) := dk_172 (dk_at dksX2_readPut_2 19 rfl rfl)
abbrev cX2_isThere : ByteArray := prog_25_method_29_code
def yX2_isThere : MethodName := ⟨RX2, "isThere", "(I)Z"⟩
def dkwX2_isThere_5 : List UInt8 := [46, 42, 180, 0, 35, 4, 42, 180, 0, 38, 3, 46, 96, 46, 162, 0, 7, 4, 167, 0, 4, 3, 172]
abbrev dktX2_isThere_5 : List UInt8 := dkwX2_isThere_5 ++ []
def dkwX2_isThere_4 : List UInt8 := [162, 0, 17, 42, 180, 0, 38, 5, 46, 28, 162, 0, 7, 4, 167, 0, 4, 3, 172, 42, 180, 0, 38, 4]
abbrev dktX2_isThere_4 : List UInt8 := dkwX2_isThere_4 ++ dktX2_isThere_5
def dkwX2_isThere_3 : List UInt8 := [180, 0, 38, 5, 46, 96, 28, 163, 0, 7, 4, 167, 0, 4, 3, 172, 42, 180, 0, 38, 4, 46, 28]
abbrev dktX2_isThere_3 : List UInt8 := dkwX2_isThere_3 ++ dktX2_isThere_4
def dkwX2_isThere_2 : List UInt8 := [42, 180, 0, 38, 4, 46, 28, 163, 0, 7, 4, 167, 0, 4, 3, 172, 42, 180, 0, 38, 4, 46, 42]
abbrev dktX2_isThere_2 : List UInt8 := dkwX2_isThere_2 ++ dktX2_isThere_3
def dkwX2_isThere_1 : List UInt8 := [170, 0, 0, 0, 0, 0, 0, 93, 0, 0, 0, 0, 0, 0, 0, 2, 0, 0, 0, 28, 0, 0, 0, 44, 0, 0, 0, 67]
abbrev dktX2_isThere_1 : List UInt8 := dkwX2_isThere_1 ++ dktX2_isThere_2
def dkwX2_isThere_0 : List UInt8 := [42, 180, 0, 35, 16, 46, 42, 42, 180, 0, 38, 3, 46, 182, 0, 139, 96, 46, 61, 27]
abbrev dktX2_isThere_0 : List UInt8 := dkwX2_isThere_0 ++ dktX2_isThere_1
theorem dksX2_isThere_0 : cX2_isThere.data.toList.drop 0 = dktX2_isThere_0 := by decide +kernel
theorem dksX2_isThere_1 : cX2_isThere.data.toList.drop 20 = dktX2_isThere_1 := dk_seg dksX2_isThere_0 20 rfl rfl
theorem dksX2_isThere_2 : cX2_isThere.data.toList.drop 48 = dktX2_isThere_2 := dk_seg dksX2_isThere_1 28 rfl rfl
theorem dksX2_isThere_3 : cX2_isThere.data.toList.drop 71 = dktX2_isThere_3 := dk_seg dksX2_isThere_2 23 rfl rfl
theorem dksX2_isThere_4 : cX2_isThere.data.toList.drop 94 = dktX2_isThere_4 := dk_seg dksX2_isThere_3 23 rfl rfl
theorem dksX2_isThere_5 : cX2_isThere.data.toList.drop 118 = dktX2_isThere_5 := dk_seg dksX2_isThere_4 24 rfl rfl
theorem dX2_isThere_0 : decode cX2_isThere 0 = .ok (.aload_n 0, 1) := dk_42 (dk_at dksX2_isThere_0 0 rfl rfl)
theorem dX2_isThere_1 : decode cX2_isThere 1 = .ok (.getfield 35, 3) := dk_180 0 35 (dk_at dksX2_isThere_0 1 rfl rfl)
theorem dX2_isThere_4 : decode cX2_isThere 4 = .ok (.bipush 46, 2) := dk_16 46 (dk_at dksX2_isThere_0 4 rfl rfl)
theorem dX2_isThere_6 : decode cX2_isThere 6 = .ok (.aload_n 0, 1) := dk_42 (dk_at dksX2_isThere_0 6 rfl rfl)
theorem dX2_isThere_7 : decode cX2_isThere 7 = .ok (.aload_n 0, 1) := dk_42 (dk_at dksX2_isThere_0 7 rfl rfl)
theorem dX2_isThere_8 : decode cX2_isThere 8 = .ok (.getfield 38, 3) := dk_180 0 38 (dk_at dksX2_isThere_0 8 rfl rfl)
theorem dX2_isThere_11 : decode cX2_isThere 11 = .ok (.iconst 0, 1) := dk_3 (dk_at dksX2_isThere_0 11 rfl rfl)
theorem dX2_isThere_12 : decode cX2_isThere 12 = .ok (.iaload, 1) := dk_46 (dk_at dksX2_isThere_0 12 rfl rfl)
theorem dX2_isThere_13 : decode cX2_isThere 13 = .ok (.invokevirtual 139, 3) := dk_182 0 139 (dk_at dksX2_isThere_0 13 rfl rfl)
theorem dX2_isThere_16 : decode cX2_isThere 16 = .ok (.iadd, 1) := dk_96 (dk_at dksX2_isThere_0 16 rfl rfl)
theorem dX2_isThere_17 : decode cX2_isThere 17 = .ok (.iaload, 1) := dk_46 (dk_at dksX2_isThere_0 17 rfl rfl)
theorem dX2_isThere_18 : decode cX2_isThere 18 = .ok (.istore_n 2, 1) := dk_61 (dk_at dksX2_isThere_0 18 rfl rfl)
theorem dX2_isThere_19 : decode cX2_isThere 19 = .ok (.iload_n 1, 1) := dk_27 (dk_at dksX2_isThere_0 19 rfl rfl)
theorem dX2_isThere_20 : decode cX2_isThere 20 = .ok (.tableswitch 93 0 2 #[28, 44, 67], 28) := by decide +kernel
theorem dX2_isThere_48 : decode cX2_isThere 48 = .ok (.aload_n 0, 1) := dk_42 (dk_at dksX2_isThere_2 0 rfl rfl)
theorem dX2_isThere_49 : decode cX2_isThere 49 = .ok (.getfield 38, 3) := dk_180 0 38 (dk_at dksX2_isThere_2 1 rfl rfl)
theorem dX2_isThere_52 : decode cX2_isThere 52 = .ok (.iconst 1, 1) := dk_4 (dk_at dksX2_isThere_2 4 rfl rfl)
theorem dX2_isThere_53 : decode cX2_isThere 53 = .ok (.iaload, 1) := dk_46 (dk_at dksX2_isThere_2 5 rfl rfl)
theorem dX2_isThere_54 : decode cX2_isThere 54 = .ok (.iload_n 2, 1) := dk_28 (dk_at dksX2_isThere_2 6 rfl rfl)
theorem dX2_isThere_55 : decode cX2_isThere 55 = .ok (.if_icmp .gt 7, 3) := dk_163 0 7 (dk_at dksX2_isThere_2 7 rfl rfl)
theorem dX2_isThere_58 : decode cX2_isThere 58 = .ok (.iconst 1, 1) := dk_4 (dk_at dksX2_isThere_2 10 rfl rfl)
theorem dX2_isThere_59 : decode cX2_isThere 59 = .ok (.goto 4, 3) := dk_167 0 4 (dk_at dksX2_isThere_2 11 rfl rfl)
theorem dX2_isThere_62 : decode cX2_isThere 62 = .ok (.iconst 0, 1) := dk_3 (dk_at dksX2_isThere_2 14 rfl rfl)
theorem dX2_isThere_63 : decode cX2_isThere 63 = .ok (.ireturn, 1) := dk_172 (dk_at dksX2_isThere_2 15 rfl rfl)
theorem dX2_isThere_64 : decode cX2_isThere 64 = .ok (.aload_n 0, 1) := dk_42 (dk_at dksX2_isThere_2 16 rfl rfl)
theorem dX2_isThere_65 : decode cX2_isThere 65 = .ok (.getfield 38, 3) := dk_180 0 38 (dk_at dksX2_isThere_2 17 rfl rfl)
theorem dX2_isThere_68 : decode cX2_isThere 68 = .ok (.iconst 1, 1) := dk_4 (dk_at dksX2_isThere_2 20 rfl rfl)
theorem dX2_isThere_69 : decode cX2_isThere 69 = .ok (.iaload, 1) := dk_46 (dk_at dksX2_isThere_2 21 rfl rfl)
theorem dX2_isThere_70 : decode cX2_isThere 70 = .ok (.aload_n 0, 1) := dk_42 (dk_at dksX2_isThere_2 22 rfl rfl)
theorem dX2_isThere_71 : decode cX2_isThere 71 = .ok (.getfield 38, 3) := dk_180 0 38 (dk_at dksX2_isThere_3 0 rfl rfl)
theorem dX2_isThere_74 : decode cX2_isThere 74 = .ok (.iconst 2, 1) := dk_5 (dk_at dksX2_isThere_3 3 rfl rfl)
theorem dX2_isThere_75 : decode cX2_isThere 75 = .ok (.iaload, 1) := dk_46 (dk_at dksX2_isThere_3 4 rfl rfl)
theorem dX2_isThere_76 : decode cX2_isThere 76 = .ok (.iadd, 1) := dk_96 (dk_at dksX2_isThere_3 5 rfl rfl)
theorem dX2_isThere_77 : decode cX2_isThere 77 = .ok (.iload_n 2, 1) := dk_28 (dk_at dksX2_isThere_3 6 rfl rfl)
theorem dX2_isThere_78 : decode cX2_isThere 78 = .ok (.if_icmp .gt 7, 3) := dk_163 0 7 (dk_at dksX2_isThere_3 7 rfl rfl)
theorem dX2_isThere_81 : decode cX2_isThere 81 = .ok (.iconst 1, 1) := dk_4 (dk_at dksX2_isThere_3 10 rfl rfl)
theorem dX2_isThere_82 : decode cX2_isThere 82 = .ok (.goto 4, 3) := dk_167 0 4 (dk_at dksX2_isThere_3 11 rfl rfl)
theorem dX2_isThere_85 : decode cX2_isThere 85 = .ok (.iconst 0, 1) := dk_3 (dk_at dksX2_isThere_3 14 rfl rfl)
theorem dX2_isThere_86 : decode cX2_isThere 86 = .ok (.ireturn, 1) := dk_172 (dk_at dksX2_isThere_3 15 rfl rfl)
theorem dX2_isThere_87 : decode cX2_isThere 87 = .ok (.aload_n 0, 1) := dk_42 (dk_at dksX2_isThere_3 16 rfl rfl)
theorem dX2_isThere_88 : decode cX2_isThere 88 = .ok (.getfield 38, 3) := dk_180 0 38 (dk_at dksX2_isThere_3 17 rfl rfl)
theorem dX2_isThere_91 : decode cX2_isThere 91 = .ok (.iconst 1, 1) := dk_4 (dk_at dksX2_isThere_3 20 rfl rfl)
theorem dX2_isThere_92 : decode cX2_isThere 92 = .ok (.iaload, 1) := dk_46 (dk_at dksX2_isThere_3 21 rfl rfl)
theorem dX2_isThere_93 : decode cX2_isThere 93 = .ok (.iload_n 2, 1) := dk_28 (dk_at dksX2_isThere_3 22 rfl rfl)
theorem dX2_isThere_94 : decode cX2_isThere 94 = .ok (.if_icmp .ge 17, 3) := dk_162 0 17 (dk_at dksX2_isThere_4 0 rfl rfl)
theorem dX2_isThere_97 : decode cX2_isThere 97 = .ok (.aload_n 0, 1) := dk_42 (dk_at dksX2_isThere_4 3 rfl rfl)
theorem dX2_isThere_98 : decode cX2_isThere 98 = .ok (.getfield 38, 3) := dk_180 0 38 (dk_at dksX2_isThere_4 4 rfl rfl)
theorem dX2_isThere_101 : decode cX2_isThere 101 = .ok (.iconst 2, 1) := dk_5 (dk_at dksX2_isThere_4 7 rfl rfl)
theorem dX2_isThere_102 : decode cX2_isThere 102 = .ok (.iaload, 1) := dk_46 (dk_at dksX2_isThere_4 8 rfl rfl)
theorem dX2_isThere_103 : decode cX2_isThere 103 = .ok (.iload_n 2, 1) := dk_28 (dk_at dksX2_isThere_4 9 rfl rfl)
theorem dX2_isThere_104 : decode cX2_isThere 104 = .ok (.if_icmp .ge 7, 3) := dk_162 0 7 (dk_at dksX2_isThere_4 10 rfl rfl)
theorem dX2_isThere_107 : decode cX2_isThere 107 = .ok (.iconst 1, 1) := dk_4 (dk_at dksX2_isThere_4 13 rfl rfl)
theorem dX2_isThere_108 : decode cX2_isThere 108 = .ok (.goto 4, 3) := dk_167 0 4 (dk_at dksX2_isThere_4 14 rfl rfl)
theorem dX2_isThere_111 : decode cX2_isThere 111 = .ok (.iconst 0, 1) := dk_3 (dk_at dksX2_isThere_4 17 rfl rfl)
theorem dX2_isThere_112 : decode cX2_isThere 112 = .ok (.ireturn, 1) := dk_172 (dk_at dksX2_isThere_4 18 rfl rfl)
theorem dX2_isThere_113 : decode cX2_isThere 113 = .ok (.aload_n 0, 1) := dk_42 (dk_at dksX2_isThere_4 19 rfl rfl)
theorem dX2_isThere_114 : decode cX2_isThere 114 = .ok (.getfield 38, 3) := dk_180 0 38 (dk_at dksX2_isThere_4 20 rfl rfl)
theorem dX2_isThere_117 : decode cX2_isThere 117 = .ok (.iconst 1, 1) := dk_4 (dk_at dksX2_isThere_4 23 rfl rfl)
theorem dX2_isThere_118 : decode cX2_isThere 118 = .ok (.iaload, 1) := dk_46 (dk_at dksX2_isThere_5 0 rfl rfl)
theorem dX2_isThere_119 : decode cX2_isThere 119 = .ok (.aload_n 0, 1) := dk_42 (dk_at dksX2_isThere_5 1 rfl rfl)
theorem dX2_isThere_120 : decode cX2_isThere 120 = .ok (.getfield 35, 3) := dk_180 0 35 (dk_at dksX2_isThere_5 2 rfl rfl)
theorem dX2_isThere_123 : decode cX2_isThere 123 = .ok (.iconst 1, 1) := dk_4 (dk_at dksX2_isThere_5 5 rfl rfl)
theorem dX2_isThere_124 : decode cX2_isThere 124 = .ok (.aload_n 0, 1) := dk_42 (dk_at dksX2_isThere_5 6 rfl rfl)
theorem dX2_isThere_125 : decode cX2_isThere 125 = .ok (.getfield 38, 3) := dk_180 0 38 (dk_at dksX2_isThere_5 7 rfl rfl)
theorem dX2_isThere_128 : decode cX2_isThere 128 = .ok (.iconst 0, 1) := dk_3 (dk_at dksX2_isThere_5 10 rfl rfl)
theorem dX2_isThere_129 : decode cX2_isThere 129 = .ok (.iaload, 1) := dk_46 (dk_at dksX2_isThere_5 11 rfl rfl)
theorem dX2_isThere_130 : decode cX2_isThere 130 = .ok (.iadd, 1) := dk_96 (dk_at dksX2_isThere_5 12 rfl rfl)
theorem dX2_isThere_131 : decode cX2_isThere 131 = .ok (.iaload, 1) := dk_46 (dk_at dksX2_isThere_5 13 rfl rfl)
theorem dX2_isThere_132 : decode cX2_isThere 132 = .ok (.if_icmp .ge 7, 3) := dk_162 0 7 (dk_at dksX2_isThere_5 14 rfl rfl)
theorem dX2_isThere_135 : decode cX2_isThere 135 = .ok (.iconst 1, 1) := dk_4 (dk_at dksX2_isThere_5 17 rfl rfl)
theorem dX2_isThere_136 : decode cX2_isThere 136 = .ok (.goto 4, 3) := dk_167 0 4 (dk_at dksX2_isThere_5 18 rfl rfl)
theorem dX2_isThere_139 : decode cX2_isThere 139 = .ok (.iconst 0, 1) := dk_3 (dk_at dksX2_isThere_5 21 rfl rfl)
theorem dX2_isThere_140 : decode cX2_isThere 140 = .ok (.ireturn, 1) := dk_172 (dk_at dksX2_isThere_5 22 rfl rfl)
abbrev cX2_makeVersion : ByteArray := prog_25_method_30_code
def yX2_makeVersion : MethodName := ⟨RX2, "makeVersion", "(I)V"⟩
def dkwX2_makeVersion_8 : List UInt8 := [16, 20, 29, 104, 96, 21, 5, 96, 46, 182, 0, 162, 132, 5, 1, 167, 255, 123, 177]
abbrev dktX2_makeVersion_8 : List UInt8 := dkwX2_makeVersion_8 ++ []
def dkwX2_makeVersion_7 : List UInt8 := [3, 54, 6, 21, 5, 21, 4, 162, 0, 28, 21, 6, 154, 0, 23, 42, 28, 42, 180, 0, 35, 16, 86]
abbrev dktX2_makeVersion_7 : List UInt8 := dkwX2_makeVersion_7 ++ dktX2_makeVersion_8
def dkwX2_makeVersion_6 : List UInt8 := [180, 0, 38, 4, 46, 42, 180, 0, 38, 5, 46, 96, 4, 100, 184, 0, 72, 153, 0, 7, 4, 167, 0, 4]
abbrev dktX2_makeVersion_6 : List UInt8 := dkwX2_makeVersion_6 ++ dktX2_makeVersion_7
def dkwX2_makeVersion_5 : List UInt8 := [182, 0, 162, 132, 6, 1, 167, 255, 212, 27, 4, 160, 0, 36, 21, 5, 42, 180, 0, 38, 4, 46, 42]
abbrev dktX2_makeVersion_5 : List UInt8 := dkwX2_makeVersion_5 ++ dktX2_makeVersion_6
def dkwX2_makeVersion_4 : List UInt8 := [180, 0, 38, 4, 46, 160, 0, 26, 42, 28, 42, 28, 42, 180, 0, 41, 21, 6, 46, 182, 0, 159]
abbrev dktX2_makeVersion_4 : List UInt8 := dkwX2_makeVersion_4 ++ dktX2_makeVersion_5
def dkwX2_makeVersion_3 : List UInt8 := [163, 0, 132, 3, 54, 6, 21, 6, 42, 180, 0, 129, 162, 0, 41, 27, 154, 0, 37, 21, 5, 42]
abbrev dktX2_makeVersion_3 : List UInt8 := dkwX2_makeVersion_3 ++ dktX2_makeVersion_4
def dkwX2_makeVersion_2 : List UInt8 := [182, 0, 156, 27, 5, 160, 0, 12, 42, 28, 29, 21, 4, 182, 0, 173, 177, 3, 54, 5, 21, 5, 21, 4]
abbrev dktX2_makeVersion_2 : List UInt8 := dkwX2_makeVersion_2 ++ dktX2_makeVersion_3
def dkwX2_makeVersion_1 : List UInt8 := [167, 0, 8, 42, 28, 182, 0, 139, 62, 42, 180, 0, 35, 16, 46, 29, 96, 46, 54, 4, 42, 28]
abbrev dktX2_makeVersion_1 : List UInt8 := dkwX2_makeVersion_1 ++ dktX2_makeVersion_2
def dkwX2_makeVersion_0 : List UInt8 := [42, 180, 0, 38, 3, 46, 61, 27, 6, 160, 0, 16, 28, 42, 180, 0, 38, 4, 46, 184, 0, 146]
abbrev dktX2_makeVersion_0 : List UInt8 := dkwX2_makeVersion_0 ++ dktX2_makeVersion_1
theorem dksX2_makeVersion_0 : cX2_makeVersion.data.toList.drop 0 = dktX2_makeVersion_0 := by decide +kernel
theorem dksX2_makeVersion_1 : cX2_makeVersion.data.toList.drop 22 = dktX2_makeVersion_1 := dk_seg dksX2_makeVersion_0 22 rfl rfl
theorem dksX2_makeVersion_2 : cX2_makeVersion.data.toList.drop 44 = dktX2_makeVersion_2 := dk_seg dksX2_makeVersion_1 22 rfl rfl
theorem dksX2_makeVersion_3 : cX2_makeVersion.data.toList.drop 68 = dktX2_makeVersion_3 := dk_seg dksX2_makeVersion_2 24 rfl rfl
theorem dksX2_makeVersion_4 : cX2_makeVersion.data.toList.drop 90 = dktX2_makeVersion_4 := dk_seg dksX2_makeVersion_3 22 rfl rfl
theorem dksX2_makeVersion_5 : cX2_makeVersion.data.toList.drop 112 = dktX2_makeVersion_5 := dk_seg dksX2_makeVersion_4 22 rfl rfl
theorem dksX2_makeVersion_6 : cX2_makeVersion.data.toList.drop 135 = dktX2_makeVersion_6 := dk_seg dksX2_makeVersion_5 23 rfl rfl
theorem dksX2_makeVersion_7 : cX2_makeVersion.data.toList.drop 159 = dktX2_makeVersion_7 := dk_seg dksX2_makeVersion_6 24 rfl rfl
theorem dksX2_makeVersion_8 : cX2_makeVersion.data.toList.drop 182 = dktX2_makeVersion_8 := dk_seg dksX2_makeVersion_7 23 rfl rfl
theorem dX2_makeVersion_0 : decode cX2_makeVersion 0 = .ok (.aload_n 0, 1) := dk_42 (dk_at dksX2_makeVersion_0 0 rfl rfl)
theorem dX2_makeVersion_1 : decode cX2_makeVersion 1 = .ok (.getfield 38, 3) := dk_180 0 38 (dk_at dksX2_makeVersion_0 1 rfl rfl)
theorem dX2_makeVersion_4 : decode cX2_makeVersion 4 = .ok (.iconst 0, 1) := dk_3 (dk_at dksX2_makeVersion_0 4 rfl rfl)
theorem dX2_makeVersion_5 : decode cX2_makeVersion 5 = .ok (.iaload, 1) := dk_46 (dk_at dksX2_makeVersion_0 5 rfl rfl)
theorem dX2_makeVersion_6 : decode cX2_makeVersion 6 = .ok (.istore_n 2, 1) := dk_61 (dk_at dksX2_makeVersion_0 6 rfl rfl)
theorem dX2_makeVersion_7 : decode cX2_makeVersion 7 = .ok (.iload_n 1, 1) := dk_27 (dk_at dksX2_makeVersion_0 7 rfl rfl)
theorem dX2_makeVersion_8 : decode cX2_makeVersion 8 = .ok (.iconst 3, 1) := dk_6 (dk_at dksX2_makeVersion_0 8 rfl rfl)
theorem dX2_makeVersion_9 : decode cX2_makeVersion 9 = .ok (.if_icmp .ne 16, 3) := dk_160 0 16 (dk_at dksX2_makeVersion_0 9 rfl rfl)
theorem dX2_makeVersion_12 : decode cX2_makeVersion 12 = .ok (.iload_n 2, 1) := dk_28 (dk_at dksX2_makeVersion_0 12 rfl rfl)
theorem dX2_makeVersion_13 : decode cX2_makeVersion 13 = .ok (.aload_n 0, 1) := dk_42 (dk_at dksX2_makeVersion_0 13 rfl rfl)
theorem dX2_makeVersion_14 : decode cX2_makeVersion 14 = .ok (.getfield 38, 3) := dk_180 0 38 (dk_at dksX2_makeVersion_0 14 rfl rfl)
theorem dX2_makeVersion_17 : decode cX2_makeVersion 17 = .ok (.iconst 1, 1) := dk_4 (dk_at dksX2_makeVersion_0 17 rfl rfl)
theorem dX2_makeVersion_18 : decode cX2_makeVersion 18 = .ok (.iaload, 1) := dk_46 (dk_at dksX2_makeVersion_0 18 rfl rfl)
theorem dX2_makeVersion_19 : decode cX2_makeVersion 19 = .ok (.invokestatic 146, 3) := dk_184 0 146 (dk_at dksX2_makeVersion_0 19 rfl rfl)
theorem dX2_makeVersion_22 : decode cX2_makeVersion 22 = .ok (.goto 8, 3) := dk_167 0 8 (dk_at dksX2_makeVersion_1 0 rfl rfl)
theorem dX2_makeVersion_25 : decode cX2_makeVersion 25 = .ok (.aload_n 0, 1) := dk_42 (dk_at dksX2_makeVersion_1 3 rfl rfl)
theorem dX2_makeVersion_26 : decode cX2_makeVersion 26 = .ok (.iload_n 2, 1) := dk_28 (dk_at dksX2_makeVersion_1 4 rfl rfl)
theorem dX2_makeVersion_27 : decode cX2_makeVersion 27 = .ok (.invokevirtual 139, 3) := dk_182 0 139 (dk_at dksX2_makeVersion_1 5 rfl rfl)
theorem dX2_makeVersion_30 : decode cX2_makeVersion 30 = .ok (.istore_n 3, 1) := dk_62 (dk_at dksX2_makeVersion_1 8 rfl rfl)
theorem dX2_makeVersion_31 : decode cX2_makeVersion 31 = .ok (.aload_n 0, 1) := dk_42 (dk_at dksX2_makeVersion_1 9 rfl rfl)
theorem dX2_makeVersion_32 : decode cX2_makeVersion 32 = .ok (.getfield 35, 3) := dk_180 0 35 (dk_at dksX2_makeVersion_1 10 rfl rfl)
theorem dX2_makeVersion_35 : decode cX2_makeVersion 35 = .ok (.bipush 46, 2) := dk_16 46 (dk_at dksX2_makeVersion_1 13 rfl rfl)
theorem dX2_makeVersion_37 : decode cX2_makeVersion 37 = .ok (.iload_n 3, 1) := dk_29 (dk_at dksX2_makeVersion_1 15 rfl rfl)
theorem dX2_makeVersion_38 : decode cX2_makeVersion 38 = .ok (.iadd, 1) := dk_96 (dk_at dksX2_makeVersion_1 16 rfl rfl)
theorem dX2_makeVersion_39 : decode cX2_makeVersion 39 = .ok (.iaload, 1) := dk_46 (dk_at dksX2_makeVersion_1 17 rfl rfl)
theorem dX2_makeVersion_40 : decode cX2_makeVersion 40 = .ok (.istore 4, 2) := dk_54 4 (dk_at dksX2_makeVersion_1 18 rfl rfl)
theorem dX2_makeVersion_42 : decode cX2_makeVersion 42 = .ok (.aload_n 0, 1) := dk_42 (dk_at dksX2_makeVersion_1 20 rfl rfl)
theorem dX2_makeVersion_43 : decode cX2_makeVersion 43 = .ok (.iload_n 2, 1) := dk_28 (dk_at dksX2_makeVersion_1 21 rfl rfl)
theorem dX2_makeVersion_44 : decode cX2_makeVersion 44 = .ok (.invokevirtual 156, 3) := dk_182 0 156 (dk_at dksX2_makeVersion_2 0 rfl rfl)
theorem dX2_makeVersion_47 : decode cX2_makeVersion 47 = .ok (.iload_n 1, 1) := dk_27 (dk_at dksX2_makeVersion_2 3 rfl rfl)
theorem dX2_makeVersion_48 : decode cX2_makeVersion 48 = .ok (.iconst 2, 1) := dk_5 (dk_at dksX2_makeVersion_2 4 rfl rfl)
theorem dX2_makeVersion_49 : decode cX2_makeVersion 49 = .ok (.if_icmp .ne 12, 3) := dk_160 0 12 (dk_at dksX2_makeVersion_2 5 rfl rfl)
theorem dX2_makeVersion_52 : decode cX2_makeVersion 52 = .ok (.aload_n 0, 1) := dk_42 (dk_at dksX2_makeVersion_2 8 rfl rfl)
theorem dX2_makeVersion_53 : decode cX2_makeVersion 53 = .ok (.iload_n 2, 1) := dk_28 (dk_at dksX2_makeVersion_2 9 rfl rfl)
theorem dX2_makeVersion_54 : decode cX2_makeVersion 54 = .ok (.iload_n 3, 1) := dk_29 (dk_at dksX2_makeVersion_2 10 rfl rfl)
theorem dX2_makeVersion_55 : decode cX2_makeVersion 55 = .ok (.iload 4, 2) := dk_21 4 (dk_at dksX2_makeVersion_2 11 rfl rfl)
theorem dX2_makeVersion_57 : decode cX2_makeVersion 57 = .ok (.invokevirtual 173, 3) := dk_182 0 173 (dk_at dksX2_makeVersion_2 13 rfl rfl)
theorem dX2_makeVersion_60 : decode cX2_makeVersion 60 = .ok (.return_, 1) := dk_177 (dk_at dksX2_makeVersion_2 16 rfl rfl)
theorem dX2_makeVersion_61 : decode cX2_makeVersion 61 = .ok (.iconst 0, 1) := dk_3 (dk_at dksX2_makeVersion_2 17 rfl rfl)
theorem dX2_makeVersion_62 : decode cX2_makeVersion 62 = .ok (.istore 5, 2) := dk_54 5 (dk_at dksX2_makeVersion_2 18 rfl rfl)
theorem dX2_makeVersion_64 : decode cX2_makeVersion 64 = .ok (.iload 5, 2) := dk_21 5 (dk_at dksX2_makeVersion_2 20 rfl rfl)
theorem dX2_makeVersion_66 : decode cX2_makeVersion 66 = .ok (.iload 4, 2) := dk_21 4 (dk_at dksX2_makeVersion_2 22 rfl rfl)
theorem dX2_makeVersion_68 : decode cX2_makeVersion 68 = .ok (.if_icmp .gt 132, 3) := dk_163 0 132 (dk_at dksX2_makeVersion_3 0 rfl rfl)
theorem dX2_makeVersion_71 : decode cX2_makeVersion 71 = .ok (.iconst 0, 1) := dk_3 (dk_at dksX2_makeVersion_3 3 rfl rfl)
theorem dX2_makeVersion_72 : decode cX2_makeVersion 72 = .ok (.istore 6, 2) := dk_54 6 (dk_at dksX2_makeVersion_3 4 rfl rfl)
theorem dX2_makeVersion_74 : decode cX2_makeVersion 74 = .ok (.iload 6, 2) := dk_21 6 (dk_at dksX2_makeVersion_3 6 rfl rfl)
theorem dX2_makeVersion_76 : decode cX2_makeVersion 76 = .ok (.aload_n 0, 1) := dk_42 (dk_at dksX2_makeVersion_3 8 rfl rfl)
theorem dX2_makeVersion_77 : decode cX2_makeVersion 77 = .ok (.getfield 129, 3) := dk_180 0 129 (dk_at dksX2_makeVersion_3 9 rfl rfl)
theorem dX2_makeVersion_80 : decode cX2_makeVersion 80 = .ok (.if_icmp .ge 41, 3) := dk_162 0 41 (dk_at dksX2_makeVersion_3 12 rfl rfl)
theorem dX2_makeVersion_83 : decode cX2_makeVersion 83 = .ok (.iload_n 1, 1) := dk_27 (dk_at dksX2_makeVersion_3 15 rfl rfl)
theorem dX2_makeVersion_84 : decode cX2_makeVersion 84 = .ok (.ifCond .ne 37, 3) := dk_154 0 37 (dk_at dksX2_makeVersion_3 16 rfl rfl)
theorem dX2_makeVersion_87 : decode cX2_makeVersion 87 = .ok (.iload 5, 2) := dk_21 5 (dk_at dksX2_makeVersion_3 19 rfl rfl)
theorem dX2_makeVersion_89 : decode cX2_makeVersion 89 = .ok (.aload_n 0, 1) := dk_42 (dk_at dksX2_makeVersion_3 21 rfl rfl)
theorem dX2_makeVersion_90 : decode cX2_makeVersion 90 = .ok (.getfield 38, 3) := dk_180 0 38 (dk_at dksX2_makeVersion_4 0 rfl rfl)
theorem dX2_makeVersion_93 : decode cX2_makeVersion 93 = .ok (.iconst 1, 1) := dk_4 (dk_at dksX2_makeVersion_4 3 rfl rfl)
theorem dX2_makeVersion_94 : decode cX2_makeVersion 94 = .ok (.iaload, 1) := dk_46 (dk_at dksX2_makeVersion_4 4 rfl rfl)
theorem dX2_makeVersion_95 : decode cX2_makeVersion 95 = .ok (.if_icmp .ne 26, 3) := dk_160 0 26 (dk_at dksX2_makeVersion_4 5 rfl rfl)
theorem dX2_makeVersion_98 : decode cX2_makeVersion 98 = .ok (.aload_n 0, 1) := dk_42 (dk_at dksX2_makeVersion_4 8 rfl rfl)
theorem dX2_makeVersion_99 : decode cX2_makeVersion 99 = .ok (.iload_n 2, 1) := dk_28 (dk_at dksX2_makeVersion_4 9 rfl rfl)
theorem dX2_makeVersion_100 : decode cX2_makeVersion 100 = .ok (.aload_n 0, 1) := dk_42 (dk_at dksX2_makeVersion_4 10 rfl rfl)
theorem dX2_makeVersion_101 : decode cX2_makeVersion 101 = .ok (.iload_n 2, 1) := dk_28 (dk_at dksX2_makeVersion_4 11 rfl rfl)
theorem dX2_makeVersion_102 : decode cX2_makeVersion 102 = .ok (.aload_n 0, 1) := dk_42 (dk_at dksX2_makeVersion_4 12 rfl rfl)
theorem dX2_makeVersion_103 : decode cX2_makeVersion 103 = .ok (.getfield 41, 3) := dk_180 0 41 (dk_at dksX2_makeVersion_4 13 rfl rfl)
theorem dX2_makeVersion_106 : decode cX2_makeVersion 106 = .ok (.iload 6, 2) := dk_21 6 (dk_at dksX2_makeVersion_4 16 rfl rfl)
theorem dX2_makeVersion_108 : decode cX2_makeVersion 108 = .ok (.iaload, 1) := dk_46 (dk_at dksX2_makeVersion_4 18 rfl rfl)
theorem dX2_makeVersion_109 : decode cX2_makeVersion 109 = .ok (.invokevirtual 159, 3) := dk_182 0 159 (dk_at dksX2_makeVersion_4 19 rfl rfl)
theorem dX2_makeVersion_112 : decode cX2_makeVersion 112 = .ok (.invokevirtual 162, 3) := dk_182 0 162 (dk_at dksX2_makeVersion_5 0 rfl rfl)
theorem dX2_makeVersion_115 : decode cX2_makeVersion 115 = .ok (.iinc 6 1, 3) := dk_132 6 1 (dk_at dksX2_makeVersion_5 3 rfl rfl)
theorem dX2_makeVersion_118 : decode cX2_makeVersion 118 = .ok (.goto (-44), 3) := dk_167 255 212 (dk_at dksX2_makeVersion_5 6 rfl rfl)
theorem dX2_makeVersion_121 : decode cX2_makeVersion 121 = .ok (.iload_n 1, 1) := dk_27 (dk_at dksX2_makeVersion_5 9 rfl rfl)
theorem dX2_makeVersion_122 : decode cX2_makeVersion 122 = .ok (.iconst 1, 1) := dk_4 (dk_at dksX2_makeVersion_5 10 rfl rfl)
theorem dX2_makeVersion_123 : decode cX2_makeVersion 123 = .ok (.if_icmp .ne 36, 3) := dk_160 0 36 (dk_at dksX2_makeVersion_5 11 rfl rfl)
theorem dX2_makeVersion_126 : decode cX2_makeVersion 126 = .ok (.iload 5, 2) := dk_21 5 (dk_at dksX2_makeVersion_5 14 rfl rfl)
theorem dX2_makeVersion_128 : decode cX2_makeVersion 128 = .ok (.aload_n 0, 1) := dk_42 (dk_at dksX2_makeVersion_5 16 rfl rfl)
theorem dX2_makeVersion_129 : decode cX2_makeVersion 129 = .ok (.getfield 38, 3) := dk_180 0 38 (dk_at dksX2_makeVersion_5 17 rfl rfl)
theorem dX2_makeVersion_132 : decode cX2_makeVersion 132 = .ok (.iconst 1, 1) := dk_4 (dk_at dksX2_makeVersion_5 20 rfl rfl)
theorem dX2_makeVersion_133 : decode cX2_makeVersion 133 = .ok (.iaload, 1) := dk_46 (dk_at dksX2_makeVersion_5 21 rfl rfl)
theorem dX2_makeVersion_134 : decode cX2_makeVersion 134 = .ok (.aload_n 0, 1) := dk_42 (dk_at dksX2_makeVersion_5 22 rfl rfl)
theorem dX2_makeVersion_135 : decode cX2_makeVersion 135 = .ok (.getfield 38, 3) := dk_180 0 38 (dk_at dksX2_makeVersion_6 0 rfl rfl)
theorem dX2_makeVersion_138 : decode cX2_makeVersion 138 = .ok (.iconst 1, 1) := dk_4 (dk_at dksX2_makeVersion_6 3 rfl rfl)
theorem dX2_makeVersion_139 : decode cX2_makeVersion 139 = .ok (.iaload, 1) := dk_46 (dk_at dksX2_makeVersion_6 4 rfl rfl)
theorem dX2_makeVersion_140 : decode cX2_makeVersion 140 = .ok (.aload_n 0, 1) := dk_42 (dk_at dksX2_makeVersion_6 5 rfl rfl)
theorem dX2_makeVersion_141 : decode cX2_makeVersion 141 = .ok (.getfield 38, 3) := dk_180 0 38 (dk_at dksX2_makeVersion_6 6 rfl rfl)
theorem dX2_makeVersion_144 : decode cX2_makeVersion 144 = .ok (.iconst 2, 1) := dk_5 (dk_at dksX2_makeVersion_6 9 rfl rfl)
theorem dX2_makeVersion_145 : decode cX2_makeVersion 145 = .ok (.iaload, 1) := dk_46 (dk_at dksX2_makeVersion_6 10 rfl rfl)
theorem dX2_makeVersion_146 : decode cX2_makeVersion 146 = .ok (.iadd, 1) := dk_96 (dk_at dksX2_makeVersion_6 11 rfl rfl)
theorem dX2_makeVersion_147 : decode cX2_makeVersion 147 = .ok (.iconst 1, 1) := dk_4 (dk_at dksX2_makeVersion_6 12 rfl rfl)
theorem dX2_makeVersion_148 : decode cX2_makeVersion 148 = .ok (.isub, 1) := dk_100 (dk_at dksX2_makeVersion_6 13 rfl rfl)
theorem dX2_makeVersion_149 : decode cX2_makeVersion 149 = .ok (.invokestatic 72, 3) := dk_184 0 72 (dk_at dksX2_makeVersion_6 14 rfl rfl)
theorem dX2_makeVersion_152 : decode cX2_makeVersion 152 = .ok (.ifCond .eq 7, 3) := dk_153 0 7 (dk_at dksX2_makeVersion_6 17 rfl rfl)
theorem dX2_makeVersion_155 : decode cX2_makeVersion 155 = .ok (.iconst 1, 1) := dk_4 (dk_at dksX2_makeVersion_6 20 rfl rfl)
theorem dX2_makeVersion_156 : decode cX2_makeVersion 156 = .ok (.goto 4, 3) := dk_167 0 4 (dk_at dksX2_makeVersion_6 21 rfl rfl)
theorem dX2_makeVersion_159 : decode cX2_makeVersion 159 = .ok (.iconst 0, 1) := dk_3 (dk_at dksX2_makeVersion_7 0 rfl rfl)
theorem dX2_makeVersion_160 : decode cX2_makeVersion 160 = .ok (.istore 6, 2) := dk_54 6 (dk_at dksX2_makeVersion_7 1 rfl rfl)
theorem dX2_makeVersion_162 : decode cX2_makeVersion 162 = .ok (.iload 5, 2) := dk_21 5 (dk_at dksX2_makeVersion_7 3 rfl rfl)
theorem dX2_makeVersion_164 : decode cX2_makeVersion 164 = .ok (.iload 4, 2) := dk_21 4 (dk_at dksX2_makeVersion_7 5 rfl rfl)
theorem dX2_makeVersion_166 : decode cX2_makeVersion 166 = .ok (.if_icmp .ge 28, 3) := dk_162 0 28 (dk_at dksX2_makeVersion_7 7 rfl rfl)
theorem dX2_makeVersion_169 : decode cX2_makeVersion 169 = .ok (.iload 6, 2) := dk_21 6 (dk_at dksX2_makeVersion_7 10 rfl rfl)
theorem dX2_makeVersion_171 : decode cX2_makeVersion 171 = .ok (.ifCond .ne 23, 3) := dk_154 0 23 (dk_at dksX2_makeVersion_7 12 rfl rfl)
theorem dX2_makeVersion_174 : decode cX2_makeVersion 174 = .ok (.aload_n 0, 1) := dk_42 (dk_at dksX2_makeVersion_7 15 rfl rfl)
theorem dX2_makeVersion_175 : decode cX2_makeVersion 175 = .ok (.iload_n 2, 1) := dk_28 (dk_at dksX2_makeVersion_7 16 rfl rfl)
theorem dX2_makeVersion_176 : decode cX2_makeVersion 176 = .ok (.aload_n 0, 1) := dk_42 (dk_at dksX2_makeVersion_7 17 rfl rfl)
theorem dX2_makeVersion_177 : decode cX2_makeVersion 177 = .ok (.getfield 35, 3) := dk_180 0 35 (dk_at dksX2_makeVersion_7 18 rfl rfl)
theorem dX2_makeVersion_180 : decode cX2_makeVersion 180 = .ok (.bipush 86, 2) := dk_16 86 (dk_at dksX2_makeVersion_7 21 rfl rfl)
theorem dX2_makeVersion_182 : decode cX2_makeVersion 182 = .ok (.bipush 20, 2) := dk_16 20 (dk_at dksX2_makeVersion_8 0 rfl rfl)
theorem dX2_makeVersion_184 : decode cX2_makeVersion 184 = .ok (.iload_n 3, 1) := dk_29 (dk_at dksX2_makeVersion_8 2 rfl rfl)
theorem dX2_makeVersion_185 : decode cX2_makeVersion 185 = .ok (.imul, 1) := dk_104 (dk_at dksX2_makeVersion_8 3 rfl rfl)
theorem dX2_makeVersion_186 : decode cX2_makeVersion 186 = .ok (.iadd, 1) := dk_96 (dk_at dksX2_makeVersion_8 4 rfl rfl)
theorem dX2_makeVersion_187 : decode cX2_makeVersion 187 = .ok (.iload 5, 2) := dk_21 5 (dk_at dksX2_makeVersion_8 5 rfl rfl)
theorem dX2_makeVersion_189 : decode cX2_makeVersion 189 = .ok (.iadd, 1) := dk_96 (dk_at dksX2_makeVersion_8 7 rfl rfl)
theorem dX2_makeVersion_190 : decode cX2_makeVersion 190 = .ok (.iaload, 1) := dk_46 (dk_at dksX2_makeVersion_8 8 rfl rfl)
theorem dX2_makeVersion_191 : decode cX2_makeVersion 191 = .ok (.invokevirtual 162, 3) := dk_182 0 162 (dk_at dksX2_makeVersion_8 9 rfl rfl)
theorem dX2_makeVersion_194 : decode cX2_makeVersion 194 = .ok (.iinc 5 1, 3) := dk_132 5 1 (dk_at dksX2_makeVersion_8 12 rfl rfl)
theorem dX2_makeVersion_197 : decode cX2_makeVersion 197 = .ok (.goto (-133), 3) := dk_167 255 123 (dk_at dksX2_makeVersion_8 15 rfl rfl)
theorem dX2_makeVersion_200 : decode cX2_makeVersion 200 = .ok (.return_, 1) := dk_177 (dk_at dksX2_makeVersion_8 18 rfl rfl)
abbrev cX2_moves : ByteArray := prog_25_method_31_code
def yX2_moves : MethodName := ⟨RX2, "moves", "(III)V"⟩
def dkwX2_moves_4 : List UInt8 := [132, 4, 1, 132, 5, 1, 167, 255, 165, 177]
abbrev dktX2_moves_4 : List UInt8 := dkwX2_moves_4 ++ []
def dkwX2_moves_3 : List UInt8 := [167, 0, 26, 42, 27, 42, 180, 0, 35, 16, 86, 16, 20, 28, 104, 96, 21, 4, 96, 46, 182, 0, 162]
abbrev dktX2_moves_3 : List UInt8 := dkwX2_moves_3 ++ dktX2_moves_4
def dkwX2_moves_2 : List UInt8 := [42, 180, 0, 35, 16, 86, 16, 20, 28, 104, 96, 42, 180, 0, 38, 4, 46, 96, 46, 182, 0, 162]
abbrev dktX2_moves_2 : List UInt8 := dkwX2_moves_2 ++ dktX2_moves_3
def dkwX2_moves_1 : List UInt8 := [160, 0, 7, 4, 167, 0, 4, 3, 96, 54, 4, 21, 5, 42, 180, 0, 38, 5, 46, 160, 0, 30, 42, 27]
abbrev dktX2_moves_1 : List UInt8 := dkwX2_moves_1 ++ dktX2_moves_2
def dkwX2_moves_0 : List UInt8 := [3, 54, 4, 3, 54, 5, 21, 5, 29, 162, 0, 91, 21, 4, 21, 4, 42, 180, 0, 38, 4, 46]
abbrev dktX2_moves_0 : List UInt8 := dkwX2_moves_0 ++ dktX2_moves_1
theorem dksX2_moves_0 : cX2_moves.data.toList.drop 0 = dktX2_moves_0 := by decide +kernel
theorem dksX2_moves_1 : cX2_moves.data.toList.drop 22 = dktX2_moves_1 := dk_seg dksX2_moves_0 22 rfl rfl
theorem dksX2_moves_2 : cX2_moves.data.toList.drop 46 = dktX2_moves_2 := dk_seg dksX2_moves_1 24 rfl rfl
theorem dksX2_moves_3 : cX2_moves.data.toList.drop 68 = dktX2_moves_3 := dk_seg dksX2_moves_2 22 rfl rfl
theorem dksX2_moves_4 : cX2_moves.data.toList.drop 91 = dktX2_moves_4 := dk_seg dksX2_moves_3 23 rfl rfl
theorem dX2_moves_0 : decode cX2_moves 0 = .ok (.iconst 0, 1) := dk_3 (dk_at dksX2_moves_0 0 rfl rfl)
theorem dX2_moves_1 : decode cX2_moves 1 = .ok (.istore 4, 2) := dk_54 4 (dk_at dksX2_moves_0 1 rfl rfl)
theorem dX2_moves_3 : decode cX2_moves 3 = .ok (.iconst 0, 1) := dk_3 (dk_at dksX2_moves_0 3 rfl rfl)
theorem dX2_moves_4 : decode cX2_moves 4 = .ok (.istore 5, 2) := dk_54 5 (dk_at dksX2_moves_0 4 rfl rfl)
theorem dX2_moves_6 : decode cX2_moves 6 = .ok (.iload 5, 2) := dk_21 5 (dk_at dksX2_moves_0 6 rfl rfl)
theorem dX2_moves_8 : decode cX2_moves 8 = .ok (.iload_n 3, 1) := dk_29 (dk_at dksX2_moves_0 8 rfl rfl)
theorem dX2_moves_9 : decode cX2_moves 9 = .ok (.if_icmp .ge 91, 3) := dk_162 0 91 (dk_at dksX2_moves_0 9 rfl rfl)
theorem dX2_moves_12 : decode cX2_moves 12 = .ok (.iload 4, 2) := dk_21 4 (dk_at dksX2_moves_0 12 rfl rfl)
theorem dX2_moves_14 : decode cX2_moves 14 = .ok (.iload 4, 2) := dk_21 4 (dk_at dksX2_moves_0 14 rfl rfl)
theorem dX2_moves_16 : decode cX2_moves 16 = .ok (.aload_n 0, 1) := dk_42 (dk_at dksX2_moves_0 16 rfl rfl)
theorem dX2_moves_17 : decode cX2_moves 17 = .ok (.getfield 38, 3) := dk_180 0 38 (dk_at dksX2_moves_0 17 rfl rfl)
theorem dX2_moves_20 : decode cX2_moves 20 = .ok (.iconst 1, 1) := dk_4 (dk_at dksX2_moves_0 20 rfl rfl)
theorem dX2_moves_21 : decode cX2_moves 21 = .ok (.iaload, 1) := dk_46 (dk_at dksX2_moves_0 21 rfl rfl)
theorem dX2_moves_22 : decode cX2_moves 22 = .ok (.if_icmp .ne 7, 3) := dk_160 0 7 (dk_at dksX2_moves_1 0 rfl rfl)
theorem dX2_moves_25 : decode cX2_moves 25 = .ok (.iconst 1, 1) := dk_4 (dk_at dksX2_moves_1 3 rfl rfl)
theorem dX2_moves_26 : decode cX2_moves 26 = .ok (.goto 4, 3) := dk_167 0 4 (dk_at dksX2_moves_1 4 rfl rfl)
theorem dX2_moves_29 : decode cX2_moves 29 = .ok (.iconst 0, 1) := dk_3 (dk_at dksX2_moves_1 7 rfl rfl)
theorem dX2_moves_30 : decode cX2_moves 30 = .ok (.iadd, 1) := dk_96 (dk_at dksX2_moves_1 8 rfl rfl)
theorem dX2_moves_31 : decode cX2_moves 31 = .ok (.istore 4, 2) := dk_54 4 (dk_at dksX2_moves_1 9 rfl rfl)
theorem dX2_moves_33 : decode cX2_moves 33 = .ok (.iload 5, 2) := dk_21 5 (dk_at dksX2_moves_1 11 rfl rfl)
theorem dX2_moves_35 : decode cX2_moves 35 = .ok (.aload_n 0, 1) := dk_42 (dk_at dksX2_moves_1 13 rfl rfl)
theorem dX2_moves_36 : decode cX2_moves 36 = .ok (.getfield 38, 3) := dk_180 0 38 (dk_at dksX2_moves_1 14 rfl rfl)
theorem dX2_moves_39 : decode cX2_moves 39 = .ok (.iconst 2, 1) := dk_5 (dk_at dksX2_moves_1 17 rfl rfl)
theorem dX2_moves_40 : decode cX2_moves 40 = .ok (.iaload, 1) := dk_46 (dk_at dksX2_moves_1 18 rfl rfl)
theorem dX2_moves_41 : decode cX2_moves 41 = .ok (.if_icmp .ne 30, 3) := dk_160 0 30 (dk_at dksX2_moves_1 19 rfl rfl)
theorem dX2_moves_44 : decode cX2_moves 44 = .ok (.aload_n 0, 1) := dk_42 (dk_at dksX2_moves_1 22 rfl rfl)
theorem dX2_moves_45 : decode cX2_moves 45 = .ok (.iload_n 1, 1) := dk_27 (dk_at dksX2_moves_1 23 rfl rfl)
theorem dX2_moves_46 : decode cX2_moves 46 = .ok (.aload_n 0, 1) := dk_42 (dk_at dksX2_moves_2 0 rfl rfl)
theorem dX2_moves_47 : decode cX2_moves 47 = .ok (.getfield 35, 3) := dk_180 0 35 (dk_at dksX2_moves_2 1 rfl rfl)
theorem dX2_moves_50 : decode cX2_moves 50 = .ok (.bipush 86, 2) := dk_16 86 (dk_at dksX2_moves_2 4 rfl rfl)
theorem dX2_moves_52 : decode cX2_moves 52 = .ok (.bipush 20, 2) := dk_16 20 (dk_at dksX2_moves_2 6 rfl rfl)
theorem dX2_moves_54 : decode cX2_moves 54 = .ok (.iload_n 2, 1) := dk_28 (dk_at dksX2_moves_2 8 rfl rfl)
theorem dX2_moves_55 : decode cX2_moves 55 = .ok (.imul, 1) := dk_104 (dk_at dksX2_moves_2 9 rfl rfl)
theorem dX2_moves_56 : decode cX2_moves 56 = .ok (.iadd, 1) := dk_96 (dk_at dksX2_moves_2 10 rfl rfl)
theorem dX2_moves_57 : decode cX2_moves 57 = .ok (.aload_n 0, 1) := dk_42 (dk_at dksX2_moves_2 11 rfl rfl)
theorem dX2_moves_58 : decode cX2_moves 58 = .ok (.getfield 38, 3) := dk_180 0 38 (dk_at dksX2_moves_2 12 rfl rfl)
theorem dX2_moves_61 : decode cX2_moves 61 = .ok (.iconst 1, 1) := dk_4 (dk_at dksX2_moves_2 15 rfl rfl)
theorem dX2_moves_62 : decode cX2_moves 62 = .ok (.iaload, 1) := dk_46 (dk_at dksX2_moves_2 16 rfl rfl)
theorem dX2_moves_63 : decode cX2_moves 63 = .ok (.iadd, 1) := dk_96 (dk_at dksX2_moves_2 17 rfl rfl)
theorem dX2_moves_64 : decode cX2_moves 64 = .ok (.iaload, 1) := dk_46 (dk_at dksX2_moves_2 18 rfl rfl)
theorem dX2_moves_65 : decode cX2_moves 65 = .ok (.invokevirtual 162, 3) := dk_182 0 162 (dk_at dksX2_moves_2 19 rfl rfl)
theorem dX2_moves_68 : decode cX2_moves 68 = .ok (.goto 26, 3) := dk_167 0 26 (dk_at dksX2_moves_3 0 rfl rfl)
theorem dX2_moves_71 : decode cX2_moves 71 = .ok (.aload_n 0, 1) := dk_42 (dk_at dksX2_moves_3 3 rfl rfl)
theorem dX2_moves_72 : decode cX2_moves 72 = .ok (.iload_n 1, 1) := dk_27 (dk_at dksX2_moves_3 4 rfl rfl)
theorem dX2_moves_73 : decode cX2_moves 73 = .ok (.aload_n 0, 1) := dk_42 (dk_at dksX2_moves_3 5 rfl rfl)
theorem dX2_moves_74 : decode cX2_moves 74 = .ok (.getfield 35, 3) := dk_180 0 35 (dk_at dksX2_moves_3 6 rfl rfl)
theorem dX2_moves_77 : decode cX2_moves 77 = .ok (.bipush 86, 2) := dk_16 86 (dk_at dksX2_moves_3 9 rfl rfl)
theorem dX2_moves_79 : decode cX2_moves 79 = .ok (.bipush 20, 2) := dk_16 20 (dk_at dksX2_moves_3 11 rfl rfl)
theorem dX2_moves_81 : decode cX2_moves 81 = .ok (.iload_n 2, 1) := dk_28 (dk_at dksX2_moves_3 13 rfl rfl)
theorem dX2_moves_82 : decode cX2_moves 82 = .ok (.imul, 1) := dk_104 (dk_at dksX2_moves_3 14 rfl rfl)
theorem dX2_moves_83 : decode cX2_moves 83 = .ok (.iadd, 1) := dk_96 (dk_at dksX2_moves_3 15 rfl rfl)
theorem dX2_moves_84 : decode cX2_moves 84 = .ok (.iload 4, 2) := dk_21 4 (dk_at dksX2_moves_3 16 rfl rfl)
theorem dX2_moves_86 : decode cX2_moves 86 = .ok (.iadd, 1) := dk_96 (dk_at dksX2_moves_3 18 rfl rfl)
theorem dX2_moves_87 : decode cX2_moves 87 = .ok (.iaload, 1) := dk_46 (dk_at dksX2_moves_3 19 rfl rfl)
theorem dX2_moves_88 : decode cX2_moves 88 = .ok (.invokevirtual 162, 3) := dk_182 0 162 (dk_at dksX2_moves_3 20 rfl rfl)
theorem dX2_moves_91 : decode cX2_moves 91 = .ok (.iinc 4 1, 3) := dk_132 4 1 (dk_at dksX2_moves_4 0 rfl rfl)
theorem dX2_moves_94 : decode cX2_moves 94 = .ok (.iinc 5 1, 3) := dk_132 5 1 (dk_at dksX2_moves_4 3 rfl rfl)
theorem dX2_moves_97 : decode cX2_moves 97 = .ok (.goto (-91), 3) := dk_167 255 165 (dk_at dksX2_moves_4 6 rfl rfl)
theorem dX2_moves_100 : decode cX2_moves 100 = .ok (.return_, 1) := dk_177 (dk_at dksX2_moves_4 9 rfl rfl)
abbrev cX2_askingLine : ByteArray := prog_25_method_38_code
def yX2_askingLine : MethodName := ⟨RX2, "askingLine", "(JI)Z"⟩
def dkwX2_askingLine_7 : List UInt8 := [21, 5, 4, 96, 184, 0, 150, 79, 4, 172]
abbrev dktX2_askingLine_7 : List UInt8 := dkwX2_askingLine_7 ++ []
def dkwX2_askingLine_6 : List UInt8 := [21, 6, 6, 100, 46, 167, 0, 4, 3, 79, 132, 6, 1, 167, 255, 174, 42, 180, 0, 35, 3, 16, 8]
abbrev dktX2_askingLine_6 : List UInt8 := dkwX2_askingLine_6 ++ dktX2_askingLine_7
def dkwX2_askingLine_5 : List UInt8 := [180, 0, 38, 21, 6, 46, 167, 0, 27, 21, 6, 6, 100, 42, 180, 0, 129, 162, 0, 15, 42, 180, 0, 41]
abbrev dktX2_askingLine_5 : List UInt8 := dkwX2_askingLine_5 ++ dktX2_askingLine_6
def dkwX2_askingLine_4 : List UInt8 := [21, 5, 104, 96, 21, 6, 96, 21, 6, 154, 0, 8, 21, 4, 167, 0, 43, 21, 6, 6, 162, 0, 13, 42]
abbrev dktX2_askingLine_4 : List UInt8 := dkwX2_askingLine_4 ++ dktX2_askingLine_5
def dkwX2_askingLine_3 : List UInt8 := [54, 6, 21, 6, 16, 7, 162, 0, 81, 21, 5, 16, 8, 162, 0, 74, 42, 180, 0, 35, 4, 16, 7]
abbrev dktX2_askingLine_3 : List UInt8 := dkwX2_askingLine_3 ++ dktX2_askingLine_4
def dkwX2_askingLine_2 : List UInt8 := [2, 79, 42, 180, 0, 38, 5, 2, 79, 42, 21, 4, 21, 5, 182, 0, 223, 154, 0, 5, 3, 172, 3]
abbrev dktX2_askingLine_2 : List UInt8 := dkwX2_askingLine_2 ++ dktX2_askingLine_3
def dkwX2_askingLine_1 : List UInt8 := [54, 5, 21, 5, 16, 8, 160, 0, 9, 42, 6, 29, 182, 0, 116, 42, 182, 0, 124, 42, 180, 0, 38, 4]
abbrev dktX2_askingLine_1 : List UInt8 := dkwX2_askingLine_1 ++ dktX2_askingLine_2
def dkwX2_askingLine_0 : List UInt8 := [42, 31, 182, 0, 220, 54, 4, 21, 4, 2, 160, 0, 8, 42, 182, 0, 112, 172, 42, 180, 0, 35, 3, 46]
abbrev dktX2_askingLine_0 : List UInt8 := dkwX2_askingLine_0 ++ dktX2_askingLine_1
theorem dksX2_askingLine_0 : cX2_askingLine.data.toList.drop 0 = dktX2_askingLine_0 := by decide +kernel
theorem dksX2_askingLine_1 : cX2_askingLine.data.toList.drop 24 = dktX2_askingLine_1 := dk_seg dksX2_askingLine_0 24 rfl rfl
theorem dksX2_askingLine_2 : cX2_askingLine.data.toList.drop 48 = dktX2_askingLine_2 := dk_seg dksX2_askingLine_1 24 rfl rfl
theorem dksX2_askingLine_3 : cX2_askingLine.data.toList.drop 71 = dktX2_askingLine_3 := dk_seg dksX2_askingLine_2 23 rfl rfl
theorem dksX2_askingLine_4 : cX2_askingLine.data.toList.drop 94 = dktX2_askingLine_4 := dk_seg dksX2_askingLine_3 23 rfl rfl
theorem dksX2_askingLine_5 : cX2_askingLine.data.toList.drop 118 = dktX2_askingLine_5 := dk_seg dksX2_askingLine_4 24 rfl rfl
theorem dksX2_askingLine_6 : cX2_askingLine.data.toList.drop 142 = dktX2_askingLine_6 := dk_seg dksX2_askingLine_5 24 rfl rfl
theorem dksX2_askingLine_7 : cX2_askingLine.data.toList.drop 165 = dktX2_askingLine_7 := dk_seg dksX2_askingLine_6 23 rfl rfl
theorem dX2_askingLine_0 : decode cX2_askingLine 0 = .ok (.aload_n 0, 1) := dk_42 (dk_at dksX2_askingLine_0 0 rfl rfl)
theorem dX2_askingLine_1 : decode cX2_askingLine 1 = .ok (.lload_n 1, 1) := dk_31 (dk_at dksX2_askingLine_0 1 rfl rfl)
theorem dX2_askingLine_2 : decode cX2_askingLine 2 = .ok (.invokevirtual 220, 3) := dk_182 0 220 (dk_at dksX2_askingLine_0 2 rfl rfl)
theorem dX2_askingLine_5 : decode cX2_askingLine 5 = .ok (.istore 4, 2) := dk_54 4 (dk_at dksX2_askingLine_0 5 rfl rfl)
theorem dX2_askingLine_7 : decode cX2_askingLine 7 = .ok (.iload 4, 2) := dk_21 4 (dk_at dksX2_askingLine_0 7 rfl rfl)
theorem dX2_askingLine_9 : decode cX2_askingLine 9 = .ok (.iconst (-1), 1) := dk_2 (dk_at dksX2_askingLine_0 9 rfl rfl)
theorem dX2_askingLine_10 : decode cX2_askingLine 10 = .ok (.if_icmp .ne 8, 3) := dk_160 0 8 (dk_at dksX2_askingLine_0 10 rfl rfl)
theorem dX2_askingLine_13 : decode cX2_askingLine 13 = .ok (.aload_n 0, 1) := dk_42 (dk_at dksX2_askingLine_0 13 rfl rfl)
theorem dX2_askingLine_14 : decode cX2_askingLine 14 = .ok (.invokevirtual 112, 3) := dk_182 0 112 (dk_at dksX2_askingLine_0 14 rfl rfl)
theorem dX2_askingLine_17 : decode cX2_askingLine 17 = .ok (.ireturn, 1) := dk_172 (dk_at dksX2_askingLine_0 17 rfl rfl)
theorem dX2_askingLine_18 : decode cX2_askingLine 18 = .ok (.aload_n 0, 1) := dk_42 (dk_at dksX2_askingLine_0 18 rfl rfl)
theorem dX2_askingLine_19 : decode cX2_askingLine 19 = .ok (.getfield 35, 3) := dk_180 0 35 (dk_at dksX2_askingLine_0 19 rfl rfl)
theorem dX2_askingLine_22 : decode cX2_askingLine 22 = .ok (.iconst 0, 1) := dk_3 (dk_at dksX2_askingLine_0 22 rfl rfl)
theorem dX2_askingLine_23 : decode cX2_askingLine 23 = .ok (.iaload, 1) := dk_46 (dk_at dksX2_askingLine_0 23 rfl rfl)
theorem dX2_askingLine_24 : decode cX2_askingLine 24 = .ok (.istore 5, 2) := dk_54 5 (dk_at dksX2_askingLine_1 0 rfl rfl)
theorem dX2_askingLine_26 : decode cX2_askingLine 26 = .ok (.iload 5, 2) := dk_21 5 (dk_at dksX2_askingLine_1 2 rfl rfl)
theorem dX2_askingLine_28 : decode cX2_askingLine 28 = .ok (.bipush 8, 2) := dk_16 8 (dk_at dksX2_askingLine_1 4 rfl rfl)
theorem dX2_askingLine_30 : decode cX2_askingLine 30 = .ok (.if_icmp .ne 9, 3) := dk_160 0 9 (dk_at dksX2_askingLine_1 6 rfl rfl)
theorem dX2_askingLine_33 : decode cX2_askingLine 33 = .ok (.aload_n 0, 1) := dk_42 (dk_at dksX2_askingLine_1 9 rfl rfl)
theorem dX2_askingLine_34 : decode cX2_askingLine 34 = .ok (.iconst 3, 1) := dk_6 (dk_at dksX2_askingLine_1 10 rfl rfl)
theorem dX2_askingLine_35 : decode cX2_askingLine 35 = .ok (.iload_n 3, 1) := dk_29 (dk_at dksX2_askingLine_1 11 rfl rfl)
theorem dX2_askingLine_36 : decode cX2_askingLine 36 = .ok (.invokevirtual 116, 3) := dk_182 0 116 (dk_at dksX2_askingLine_1 12 rfl rfl)
theorem dX2_askingLine_39 : decode cX2_askingLine 39 = .ok (.aload_n 0, 1) := dk_42 (dk_at dksX2_askingLine_1 15 rfl rfl)
theorem dX2_askingLine_40 : decode cX2_askingLine 40 = .ok (.invokevirtual 124, 3) := dk_182 0 124 (dk_at dksX2_askingLine_1 16 rfl rfl)
theorem dX2_askingLine_43 : decode cX2_askingLine 43 = .ok (.aload_n 0, 1) := dk_42 (dk_at dksX2_askingLine_1 19 rfl rfl)
theorem dX2_askingLine_44 : decode cX2_askingLine 44 = .ok (.getfield 38, 3) := dk_180 0 38 (dk_at dksX2_askingLine_1 20 rfl rfl)
theorem dX2_askingLine_47 : decode cX2_askingLine 47 = .ok (.iconst 1, 1) := dk_4 (dk_at dksX2_askingLine_1 23 rfl rfl)
theorem dX2_askingLine_48 : decode cX2_askingLine 48 = .ok (.iconst (-1), 1) := dk_2 (dk_at dksX2_askingLine_2 0 rfl rfl)
theorem dX2_askingLine_49 : decode cX2_askingLine 49 = .ok (.iastore, 1) := dk_79 (dk_at dksX2_askingLine_2 1 rfl rfl)
theorem dX2_askingLine_50 : decode cX2_askingLine 50 = .ok (.aload_n 0, 1) := dk_42 (dk_at dksX2_askingLine_2 2 rfl rfl)
theorem dX2_askingLine_51 : decode cX2_askingLine 51 = .ok (.getfield 38, 3) := dk_180 0 38 (dk_at dksX2_askingLine_2 3 rfl rfl)
theorem dX2_askingLine_54 : decode cX2_askingLine 54 = .ok (.iconst 2, 1) := dk_5 (dk_at dksX2_askingLine_2 6 rfl rfl)
theorem dX2_askingLine_55 : decode cX2_askingLine 55 = .ok (.iconst (-1), 1) := dk_2 (dk_at dksX2_askingLine_2 7 rfl rfl)
theorem dX2_askingLine_56 : decode cX2_askingLine 56 = .ok (.iastore, 1) := dk_79 (dk_at dksX2_askingLine_2 8 rfl rfl)
theorem dX2_askingLine_57 : decode cX2_askingLine 57 = .ok (.aload_n 0, 1) := dk_42 (dk_at dksX2_askingLine_2 9 rfl rfl)
theorem dX2_askingLine_58 : decode cX2_askingLine 58 = .ok (.iload 4, 2) := dk_21 4 (dk_at dksX2_askingLine_2 10 rfl rfl)
theorem dX2_askingLine_60 : decode cX2_askingLine 60 = .ok (.iload 5, 2) := dk_21 5 (dk_at dksX2_askingLine_2 12 rfl rfl)
theorem dX2_askingLine_62 : decode cX2_askingLine 62 = .ok (.invokevirtual 223, 3) := dk_182 0 223 (dk_at dksX2_askingLine_2 14 rfl rfl)
theorem dX2_askingLine_65 : decode cX2_askingLine 65 = .ok (.ifCond .ne 5, 3) := dk_154 0 5 (dk_at dksX2_askingLine_2 17 rfl rfl)
theorem dX2_askingLine_68 : decode cX2_askingLine 68 = .ok (.iconst 0, 1) := dk_3 (dk_at dksX2_askingLine_2 20 rfl rfl)
theorem dX2_askingLine_69 : decode cX2_askingLine 69 = .ok (.ireturn, 1) := dk_172 (dk_at dksX2_askingLine_2 21 rfl rfl)
theorem dX2_askingLine_70 : decode cX2_askingLine 70 = .ok (.iconst 0, 1) := dk_3 (dk_at dksX2_askingLine_2 22 rfl rfl)
theorem dX2_askingLine_71 : decode cX2_askingLine 71 = .ok (.istore 6, 2) := dk_54 6 (dk_at dksX2_askingLine_3 0 rfl rfl)
theorem dX2_askingLine_73 : decode cX2_askingLine 73 = .ok (.iload 6, 2) := dk_21 6 (dk_at dksX2_askingLine_3 2 rfl rfl)
theorem dX2_askingLine_75 : decode cX2_askingLine 75 = .ok (.bipush 7, 2) := dk_16 7 (dk_at dksX2_askingLine_3 4 rfl rfl)
theorem dX2_askingLine_77 : decode cX2_askingLine 77 = .ok (.if_icmp .ge 81, 3) := dk_162 0 81 (dk_at dksX2_askingLine_3 6 rfl rfl)
theorem dX2_askingLine_80 : decode cX2_askingLine 80 = .ok (.iload 5, 2) := dk_21 5 (dk_at dksX2_askingLine_3 9 rfl rfl)
theorem dX2_askingLine_82 : decode cX2_askingLine 82 = .ok (.bipush 8, 2) := dk_16 8 (dk_at dksX2_askingLine_3 11 rfl rfl)
theorem dX2_askingLine_84 : decode cX2_askingLine 84 = .ok (.if_icmp .ge 74, 3) := dk_162 0 74 (dk_at dksX2_askingLine_3 13 rfl rfl)
theorem dX2_askingLine_87 : decode cX2_askingLine 87 = .ok (.aload_n 0, 1) := dk_42 (dk_at dksX2_askingLine_3 16 rfl rfl)
theorem dX2_askingLine_88 : decode cX2_askingLine 88 = .ok (.getfield 35, 3) := dk_180 0 35 (dk_at dksX2_askingLine_3 17 rfl rfl)
theorem dX2_askingLine_91 : decode cX2_askingLine 91 = .ok (.iconst 1, 1) := dk_4 (dk_at dksX2_askingLine_3 20 rfl rfl)
theorem dX2_askingLine_92 : decode cX2_askingLine 92 = .ok (.bipush 7, 2) := dk_16 7 (dk_at dksX2_askingLine_3 21 rfl rfl)
theorem dX2_askingLine_94 : decode cX2_askingLine 94 = .ok (.iload 5, 2) := dk_21 5 (dk_at dksX2_askingLine_4 0 rfl rfl)
theorem dX2_askingLine_96 : decode cX2_askingLine 96 = .ok (.imul, 1) := dk_104 (dk_at dksX2_askingLine_4 2 rfl rfl)
theorem dX2_askingLine_97 : decode cX2_askingLine 97 = .ok (.iadd, 1) := dk_96 (dk_at dksX2_askingLine_4 3 rfl rfl)
theorem dX2_askingLine_98 : decode cX2_askingLine 98 = .ok (.iload 6, 2) := dk_21 6 (dk_at dksX2_askingLine_4 4 rfl rfl)
theorem dX2_askingLine_100 : decode cX2_askingLine 100 = .ok (.iadd, 1) := dk_96 (dk_at dksX2_askingLine_4 6 rfl rfl)
theorem dX2_askingLine_101 : decode cX2_askingLine 101 = .ok (.iload 6, 2) := dk_21 6 (dk_at dksX2_askingLine_4 7 rfl rfl)
theorem dX2_askingLine_103 : decode cX2_askingLine 103 = .ok (.ifCond .ne 8, 3) := dk_154 0 8 (dk_at dksX2_askingLine_4 9 rfl rfl)
theorem dX2_askingLine_106 : decode cX2_askingLine 106 = .ok (.iload 4, 2) := dk_21 4 (dk_at dksX2_askingLine_4 12 rfl rfl)
theorem dX2_askingLine_108 : decode cX2_askingLine 108 = .ok (.goto 43, 3) := dk_167 0 43 (dk_at dksX2_askingLine_4 14 rfl rfl)
theorem dX2_askingLine_111 : decode cX2_askingLine 111 = .ok (.iload 6, 2) := dk_21 6 (dk_at dksX2_askingLine_4 17 rfl rfl)
theorem dX2_askingLine_113 : decode cX2_askingLine 113 = .ok (.iconst 3, 1) := dk_6 (dk_at dksX2_askingLine_4 19 rfl rfl)
theorem dX2_askingLine_114 : decode cX2_askingLine 114 = .ok (.if_icmp .ge 13, 3) := dk_162 0 13 (dk_at dksX2_askingLine_4 20 rfl rfl)
theorem dX2_askingLine_117 : decode cX2_askingLine 117 = .ok (.aload_n 0, 1) := dk_42 (dk_at dksX2_askingLine_4 23 rfl rfl)
theorem dX2_askingLine_118 : decode cX2_askingLine 118 = .ok (.getfield 38, 3) := dk_180 0 38 (dk_at dksX2_askingLine_5 0 rfl rfl)
theorem dX2_askingLine_121 : decode cX2_askingLine 121 = .ok (.iload 6, 2) := dk_21 6 (dk_at dksX2_askingLine_5 3 rfl rfl)
theorem dX2_askingLine_123 : decode cX2_askingLine 123 = .ok (.iaload, 1) := dk_46 (dk_at dksX2_askingLine_5 5 rfl rfl)
theorem dX2_askingLine_124 : decode cX2_askingLine 124 = .ok (.goto 27, 3) := dk_167 0 27 (dk_at dksX2_askingLine_5 6 rfl rfl)
theorem dX2_askingLine_127 : decode cX2_askingLine 127 = .ok (.iload 6, 2) := dk_21 6 (dk_at dksX2_askingLine_5 9 rfl rfl)
theorem dX2_askingLine_129 : decode cX2_askingLine 129 = .ok (.iconst 3, 1) := dk_6 (dk_at dksX2_askingLine_5 11 rfl rfl)
theorem dX2_askingLine_130 : decode cX2_askingLine 130 = .ok (.isub, 1) := dk_100 (dk_at dksX2_askingLine_5 12 rfl rfl)
theorem dX2_askingLine_131 : decode cX2_askingLine 131 = .ok (.aload_n 0, 1) := dk_42 (dk_at dksX2_askingLine_5 13 rfl rfl)
theorem dX2_askingLine_132 : decode cX2_askingLine 132 = .ok (.getfield 129, 3) := dk_180 0 129 (dk_at dksX2_askingLine_5 14 rfl rfl)
theorem dX2_askingLine_135 : decode cX2_askingLine 135 = .ok (.if_icmp .ge 15, 3) := dk_162 0 15 (dk_at dksX2_askingLine_5 17 rfl rfl)
theorem dX2_askingLine_138 : decode cX2_askingLine 138 = .ok (.aload_n 0, 1) := dk_42 (dk_at dksX2_askingLine_5 20 rfl rfl)
theorem dX2_askingLine_139 : decode cX2_askingLine 139 = .ok (.getfield 41, 3) := dk_180 0 41 (dk_at dksX2_askingLine_5 21 rfl rfl)
theorem dX2_askingLine_142 : decode cX2_askingLine 142 = .ok (.iload 6, 2) := dk_21 6 (dk_at dksX2_askingLine_6 0 rfl rfl)
theorem dX2_askingLine_144 : decode cX2_askingLine 144 = .ok (.iconst 3, 1) := dk_6 (dk_at dksX2_askingLine_6 2 rfl rfl)
theorem dX2_askingLine_145 : decode cX2_askingLine 145 = .ok (.isub, 1) := dk_100 (dk_at dksX2_askingLine_6 3 rfl rfl)
theorem dX2_askingLine_146 : decode cX2_askingLine 146 = .ok (.iaload, 1) := dk_46 (dk_at dksX2_askingLine_6 4 rfl rfl)
theorem dX2_askingLine_147 : decode cX2_askingLine 147 = .ok (.goto 4, 3) := dk_167 0 4 (dk_at dksX2_askingLine_6 5 rfl rfl)
theorem dX2_askingLine_150 : decode cX2_askingLine 150 = .ok (.iconst 0, 1) := dk_3 (dk_at dksX2_askingLine_6 8 rfl rfl)
theorem dX2_askingLine_151 : decode cX2_askingLine 151 = .ok (.iastore, 1) := dk_79 (dk_at dksX2_askingLine_6 9 rfl rfl)
theorem dX2_askingLine_152 : decode cX2_askingLine 152 = .ok (.iinc 6 1, 3) := dk_132 6 1 (dk_at dksX2_askingLine_6 10 rfl rfl)
theorem dX2_askingLine_155 : decode cX2_askingLine 155 = .ok (.goto (-82), 3) := dk_167 255 174 (dk_at dksX2_askingLine_6 13 rfl rfl)
theorem dX2_askingLine_158 : decode cX2_askingLine 158 = .ok (.aload_n 0, 1) := dk_42 (dk_at dksX2_askingLine_6 16 rfl rfl)
theorem dX2_askingLine_159 : decode cX2_askingLine 159 = .ok (.getfield 35, 3) := dk_180 0 35 (dk_at dksX2_askingLine_6 17 rfl rfl)
theorem dX2_askingLine_162 : decode cX2_askingLine 162 = .ok (.iconst 0, 1) := dk_3 (dk_at dksX2_askingLine_6 20 rfl rfl)
theorem dX2_askingLine_163 : decode cX2_askingLine 163 = .ok (.bipush 8, 2) := dk_16 8 (dk_at dksX2_askingLine_6 21 rfl rfl)
theorem dX2_askingLine_165 : decode cX2_askingLine 165 = .ok (.iload 5, 2) := dk_21 5 (dk_at dksX2_askingLine_7 0 rfl rfl)
theorem dX2_askingLine_167 : decode cX2_askingLine 167 = .ok (.iconst 1, 1) := dk_4 (dk_at dksX2_askingLine_7 2 rfl rfl)
theorem dX2_askingLine_168 : decode cX2_askingLine 168 = .ok (.iadd, 1) := dk_96 (dk_at dksX2_askingLine_7 3 rfl rfl)
theorem dX2_askingLine_169 : decode cX2_askingLine 169 = .ok (.invokestatic 150, 3) := dk_184 0 150 (dk_at dksX2_askingLine_7 4 rfl rfl)
theorem dX2_askingLine_172 : decode cX2_askingLine 172 = .ok (.iastore, 1) := dk_79 (dk_at dksX2_askingLine_7 7 rfl rfl)
theorem dX2_askingLine_173 : decode cX2_askingLine 173 = .ok (.iconst 1, 1) := dk_4 (dk_at dksX2_askingLine_7 8 rfl rfl)
theorem dX2_askingLine_174 : decode cX2_askingLine 174 = .ok (.ireturn, 1) := dk_172 (dk_at dksX2_askingLine_7 9 rfl rfl)
abbrev cX2_askingBy : ByteArray := prog_25_method_36_code
def yX2_askingBy : MethodName := ⟨RX2, "askingBy", "(J)I"⟩
def dkwX2_askingBy_4 : List UInt8 := [167, 0, 4, 2, 172]
abbrev dktX2_askingBy_4 : List UInt8 := dkwX2_askingBy_4 ++ []
def dkwX2_askingBy_3 : List UInt8 := [31, 20, 0, 216, 148, 154, 0, 8, 16, 6, 167, 0, 17, 31, 20, 0, 218, 148, 154, 0, 8, 16, 7]
abbrev dktX2_askingBy_3 : List UInt8 := dkwX2_askingBy_3 ++ dktX2_askingBy_4
def dkwX2_askingBy_2 : List UInt8 := [31, 20, 0, 212, 148, 154, 0, 7, 7, 167, 0, 42, 31, 20, 0, 214, 148, 154, 0, 7, 8, 167, 0, 30]
abbrev dktX2_askingBy_2 : List UInt8 := dkwX2_askingBy_2 ++ dktX2_askingBy_3
def dkwX2_askingBy_1 : List UInt8 := [31, 20, 0, 208, 148, 154, 0, 7, 5, 167, 0, 66, 31, 20, 0, 210, 148, 154, 0, 7, 6, 167, 0, 54]
abbrev dktX2_askingBy_1 : List UInt8 := dkwX2_askingBy_1 ++ dktX2_askingBy_2
def dkwX2_askingBy_0 : List UInt8 := [31, 20, 0, 204, 148, 154, 0, 7, 3, 167, 0, 90, 31, 20, 0, 206, 148, 154, 0, 7, 4, 167, 0, 78]
abbrev dktX2_askingBy_0 : List UInt8 := dkwX2_askingBy_0 ++ dktX2_askingBy_1
theorem dksX2_askingBy_0 : cX2_askingBy.data.toList.drop 0 = dktX2_askingBy_0 := by decide +kernel
theorem dksX2_askingBy_1 : cX2_askingBy.data.toList.drop 24 = dktX2_askingBy_1 := dk_seg dksX2_askingBy_0 24 rfl rfl
theorem dksX2_askingBy_2 : cX2_askingBy.data.toList.drop 48 = dktX2_askingBy_2 := dk_seg dksX2_askingBy_1 24 rfl rfl
theorem dksX2_askingBy_3 : cX2_askingBy.data.toList.drop 72 = dktX2_askingBy_3 := dk_seg dksX2_askingBy_2 24 rfl rfl
theorem dksX2_askingBy_4 : cX2_askingBy.data.toList.drop 95 = dktX2_askingBy_4 := dk_seg dksX2_askingBy_3 23 rfl rfl
theorem dX2_askingBy_0 : decode cX2_askingBy 0 = .ok (.lload_n 1, 1) := dk_31 (dk_at dksX2_askingBy_0 0 rfl rfl)
theorem dX2_askingBy_1 : decode cX2_askingBy 1 = .ok (.ldc2_w 204, 3) := dk_20 0 204 (dk_at dksX2_askingBy_0 1 rfl rfl)
theorem dX2_askingBy_4 : decode cX2_askingBy 4 = .ok (.lcmp, 1) := dk_148 (dk_at dksX2_askingBy_0 4 rfl rfl)
theorem dX2_askingBy_5 : decode cX2_askingBy 5 = .ok (.ifCond .ne 7, 3) := dk_154 0 7 (dk_at dksX2_askingBy_0 5 rfl rfl)
theorem dX2_askingBy_8 : decode cX2_askingBy 8 = .ok (.iconst 0, 1) := dk_3 (dk_at dksX2_askingBy_0 8 rfl rfl)
theorem dX2_askingBy_9 : decode cX2_askingBy 9 = .ok (.goto 90, 3) := dk_167 0 90 (dk_at dksX2_askingBy_0 9 rfl rfl)
theorem dX2_askingBy_12 : decode cX2_askingBy 12 = .ok (.lload_n 1, 1) := dk_31 (dk_at dksX2_askingBy_0 12 rfl rfl)
theorem dX2_askingBy_13 : decode cX2_askingBy 13 = .ok (.ldc2_w 206, 3) := dk_20 0 206 (dk_at dksX2_askingBy_0 13 rfl rfl)
theorem dX2_askingBy_16 : decode cX2_askingBy 16 = .ok (.lcmp, 1) := dk_148 (dk_at dksX2_askingBy_0 16 rfl rfl)
theorem dX2_askingBy_17 : decode cX2_askingBy 17 = .ok (.ifCond .ne 7, 3) := dk_154 0 7 (dk_at dksX2_askingBy_0 17 rfl rfl)
theorem dX2_askingBy_20 : decode cX2_askingBy 20 = .ok (.iconst 1, 1) := dk_4 (dk_at dksX2_askingBy_0 20 rfl rfl)
theorem dX2_askingBy_21 : decode cX2_askingBy 21 = .ok (.goto 78, 3) := dk_167 0 78 (dk_at dksX2_askingBy_0 21 rfl rfl)
theorem dX2_askingBy_24 : decode cX2_askingBy 24 = .ok (.lload_n 1, 1) := dk_31 (dk_at dksX2_askingBy_1 0 rfl rfl)
theorem dX2_askingBy_25 : decode cX2_askingBy 25 = .ok (.ldc2_w 208, 3) := dk_20 0 208 (dk_at dksX2_askingBy_1 1 rfl rfl)
theorem dX2_askingBy_28 : decode cX2_askingBy 28 = .ok (.lcmp, 1) := dk_148 (dk_at dksX2_askingBy_1 4 rfl rfl)
theorem dX2_askingBy_29 : decode cX2_askingBy 29 = .ok (.ifCond .ne 7, 3) := dk_154 0 7 (dk_at dksX2_askingBy_1 5 rfl rfl)
theorem dX2_askingBy_32 : decode cX2_askingBy 32 = .ok (.iconst 2, 1) := dk_5 (dk_at dksX2_askingBy_1 8 rfl rfl)
theorem dX2_askingBy_33 : decode cX2_askingBy 33 = .ok (.goto 66, 3) := dk_167 0 66 (dk_at dksX2_askingBy_1 9 rfl rfl)
theorem dX2_askingBy_36 : decode cX2_askingBy 36 = .ok (.lload_n 1, 1) := dk_31 (dk_at dksX2_askingBy_1 12 rfl rfl)
theorem dX2_askingBy_37 : decode cX2_askingBy 37 = .ok (.ldc2_w 210, 3) := dk_20 0 210 (dk_at dksX2_askingBy_1 13 rfl rfl)
theorem dX2_askingBy_40 : decode cX2_askingBy 40 = .ok (.lcmp, 1) := dk_148 (dk_at dksX2_askingBy_1 16 rfl rfl)
theorem dX2_askingBy_41 : decode cX2_askingBy 41 = .ok (.ifCond .ne 7, 3) := dk_154 0 7 (dk_at dksX2_askingBy_1 17 rfl rfl)
theorem dX2_askingBy_44 : decode cX2_askingBy 44 = .ok (.iconst 3, 1) := dk_6 (dk_at dksX2_askingBy_1 20 rfl rfl)
theorem dX2_askingBy_45 : decode cX2_askingBy 45 = .ok (.goto 54, 3) := dk_167 0 54 (dk_at dksX2_askingBy_1 21 rfl rfl)
theorem dX2_askingBy_48 : decode cX2_askingBy 48 = .ok (.lload_n 1, 1) := dk_31 (dk_at dksX2_askingBy_2 0 rfl rfl)
theorem dX2_askingBy_49 : decode cX2_askingBy 49 = .ok (.ldc2_w 212, 3) := dk_20 0 212 (dk_at dksX2_askingBy_2 1 rfl rfl)
theorem dX2_askingBy_52 : decode cX2_askingBy 52 = .ok (.lcmp, 1) := dk_148 (dk_at dksX2_askingBy_2 4 rfl rfl)
theorem dX2_askingBy_53 : decode cX2_askingBy 53 = .ok (.ifCond .ne 7, 3) := dk_154 0 7 (dk_at dksX2_askingBy_2 5 rfl rfl)
theorem dX2_askingBy_56 : decode cX2_askingBy 56 = .ok (.iconst 4, 1) := dk_7 (dk_at dksX2_askingBy_2 8 rfl rfl)
theorem dX2_askingBy_57 : decode cX2_askingBy 57 = .ok (.goto 42, 3) := dk_167 0 42 (dk_at dksX2_askingBy_2 9 rfl rfl)
theorem dX2_askingBy_60 : decode cX2_askingBy 60 = .ok (.lload_n 1, 1) := dk_31 (dk_at dksX2_askingBy_2 12 rfl rfl)
theorem dX2_askingBy_61 : decode cX2_askingBy 61 = .ok (.ldc2_w 214, 3) := dk_20 0 214 (dk_at dksX2_askingBy_2 13 rfl rfl)
theorem dX2_askingBy_64 : decode cX2_askingBy 64 = .ok (.lcmp, 1) := dk_148 (dk_at dksX2_askingBy_2 16 rfl rfl)
theorem dX2_askingBy_65 : decode cX2_askingBy 65 = .ok (.ifCond .ne 7, 3) := dk_154 0 7 (dk_at dksX2_askingBy_2 17 rfl rfl)
theorem dX2_askingBy_68 : decode cX2_askingBy 68 = .ok (.iconst 5, 1) := dk_8 (dk_at dksX2_askingBy_2 20 rfl rfl)
theorem dX2_askingBy_69 : decode cX2_askingBy 69 = .ok (.goto 30, 3) := dk_167 0 30 (dk_at dksX2_askingBy_2 21 rfl rfl)
theorem dX2_askingBy_72 : decode cX2_askingBy 72 = .ok (.lload_n 1, 1) := dk_31 (dk_at dksX2_askingBy_3 0 rfl rfl)
theorem dX2_askingBy_73 : decode cX2_askingBy 73 = .ok (.ldc2_w 216, 3) := dk_20 0 216 (dk_at dksX2_askingBy_3 1 rfl rfl)
theorem dX2_askingBy_76 : decode cX2_askingBy 76 = .ok (.lcmp, 1) := dk_148 (dk_at dksX2_askingBy_3 4 rfl rfl)
theorem dX2_askingBy_77 : decode cX2_askingBy 77 = .ok (.ifCond .ne 8, 3) := dk_154 0 8 (dk_at dksX2_askingBy_3 5 rfl rfl)
theorem dX2_askingBy_80 : decode cX2_askingBy 80 = .ok (.bipush 6, 2) := dk_16 6 (dk_at dksX2_askingBy_3 8 rfl rfl)
theorem dX2_askingBy_82 : decode cX2_askingBy 82 = .ok (.goto 17, 3) := dk_167 0 17 (dk_at dksX2_askingBy_3 10 rfl rfl)
theorem dX2_askingBy_85 : decode cX2_askingBy 85 = .ok (.lload_n 1, 1) := dk_31 (dk_at dksX2_askingBy_3 13 rfl rfl)
theorem dX2_askingBy_86 : decode cX2_askingBy 86 = .ok (.ldc2_w 218, 3) := dk_20 0 218 (dk_at dksX2_askingBy_3 14 rfl rfl)
theorem dX2_askingBy_89 : decode cX2_askingBy 89 = .ok (.lcmp, 1) := dk_148 (dk_at dksX2_askingBy_3 17 rfl rfl)
theorem dX2_askingBy_90 : decode cX2_askingBy 90 = .ok (.ifCond .ne 8, 3) := dk_154 0 8 (dk_at dksX2_askingBy_3 18 rfl rfl)
theorem dX2_askingBy_93 : decode cX2_askingBy 93 = .ok (.bipush 7, 2) := dk_16 7 (dk_at dksX2_askingBy_3 21 rfl rfl)
theorem dX2_askingBy_95 : decode cX2_askingBy 95 = .ok (.goto 4, 3) := dk_167 0 4 (dk_at dksX2_askingBy_4 0 rfl rfl)
theorem dX2_askingBy_98 : decode cX2_askingBy 98 = .ok (.iconst (-1), 1) := dk_2 (dk_at dksX2_askingBy_4 3 rfl rfl)
theorem dX2_askingBy_99 : decode cX2_askingBy 99 = .ok (.ireturn, 1) := dk_172 (dk_at dksX2_askingBy_4 4 rfl rfl)
abbrev cX2_readAsking : ByteArray := prog_25_method_37_code
def yX2_readAsking : MethodName := ⟨RX2, "readAsking", "(II)Z"⟩
def dkwX2_readAsking_7 : List UInt8 := [172]
abbrev dktX2_readAsking_7 : List UInt8 := dkwX2_readAsking_7 ++ []
def dkwX2_readAsking_6 : List UInt8 := [28, 4, 100, 182, 0, 177, 153, 0, 7, 4, 167, 0, 4, 3, 172, 42, 4, 3, 28, 4, 100, 182, 0, 177]
abbrev dktX2_readAsking_6 : List UInt8 := dkwX2_readAsking_6 ++ dktX2_readAsking_7
def dkwX2_readAsking_5 : List UInt8 := [153, 0, 7, 4, 167, 0, 4, 3, 172, 42, 4, 3, 28, 4, 100, 182, 0, 177, 153, 0, 19, 42, 5, 3]
abbrev dktX2_readAsking_5 : List UInt8 := dkwX2_readAsking_5 ++ dktX2_readAsking_6
def dkwX2_readAsking_4 : List UInt8 := [153, 0, 7, 4, 167, 0, 4, 3, 172, 42, 182, 0, 136, 153, 0, 18, 42, 4, 4, 16, 9, 182, 0, 177]
abbrev dktX2_readAsking_4 : List UInt8 := dkwX2_readAsking_4 ++ dktX2_readAsking_5
def dkwX2_readAsking_3 : List UInt8 := [4, 172, 42, 182, 0, 136, 153, 0, 25, 42, 182, 0, 136, 153, 0, 18, 42, 4, 4, 16, 9, 182, 0, 177]
abbrev dktX2_readAsking_3 : List UInt8 := dkwX2_readAsking_3 ++ dktX2_readAsking_4
def dkwX2_readAsking_2 : List UInt8 := [42, 182, 0, 136, 154, 0, 5, 3, 172, 42, 7, 182, 0, 153, 42, 180, 0, 38, 4, 42, 180, 0, 129, 79]
abbrev dktX2_readAsking_2 : List UInt8 := dkwX2_readAsking_2 ++ dktX2_readAsking_3
def dkwX2_readAsking_1 : List UInt8 := [170, 0, 0, 0, 0, 0, 158, 0, 0, 0, 0, 0, 0, 0, 7, 0, 0, 0, 47, 0, 0, 0, 73, 0, 0, 0, 104, 0, 0, 0, 158, 0, 0, 0, 158, 0, 0, 0, 158, 0, 0, 0, 128, 0, 0, 0, 128]
abbrev dktX2_readAsking_1 : List UInt8 := dkwX2_readAsking_1 ++ dktX2_readAsking_2
def dkwX2_readAsking_0 : List UInt8 := [27]
abbrev dktX2_readAsking_0 : List UInt8 := dkwX2_readAsking_0 ++ dktX2_readAsking_1
theorem dksX2_readAsking_0 : cX2_readAsking.data.toList.drop 0 = dktX2_readAsking_0 := by decide +kernel
theorem dksX2_readAsking_1 : cX2_readAsking.data.toList.drop 1 = dktX2_readAsking_1 := dk_seg dksX2_readAsking_0 1 rfl rfl
theorem dksX2_readAsking_2 : cX2_readAsking.data.toList.drop 48 = dktX2_readAsking_2 := dk_seg dksX2_readAsking_1 47 rfl rfl
theorem dksX2_readAsking_3 : cX2_readAsking.data.toList.drop 72 = dktX2_readAsking_3 := dk_seg dksX2_readAsking_2 24 rfl rfl
theorem dksX2_readAsking_4 : cX2_readAsking.data.toList.drop 96 = dktX2_readAsking_4 := dk_seg dksX2_readAsking_3 24 rfl rfl
theorem dksX2_readAsking_5 : cX2_readAsking.data.toList.drop 120 = dktX2_readAsking_5 := dk_seg dksX2_readAsking_4 24 rfl rfl
theorem dksX2_readAsking_6 : cX2_readAsking.data.toList.drop 144 = dktX2_readAsking_6 := dk_seg dksX2_readAsking_5 24 rfl rfl
theorem dksX2_readAsking_7 : cX2_readAsking.data.toList.drop 168 = dktX2_readAsking_7 := dk_seg dksX2_readAsking_6 24 rfl rfl
theorem dX2_readAsking_0 : decode cX2_readAsking 0 = .ok (.iload_n 1, 1) := dk_27 (dk_at dksX2_readAsking_0 0 rfl rfl)
theorem dX2_readAsking_1 : decode cX2_readAsking 1 = .ok (.tableswitch 158 0 7 #[47, 73, 104, 158, 158, 158, 128, 128], 47) := by decide +kernel
theorem dX2_readAsking_48 : decode cX2_readAsking 48 = .ok (.aload_n 0, 1) := dk_42 (dk_at dksX2_readAsking_2 0 rfl rfl)
theorem dX2_readAsking_49 : decode cX2_readAsking 49 = .ok (.invokevirtual 136, 3) := dk_182 0 136 (dk_at dksX2_readAsking_2 1 rfl rfl)
theorem dX2_readAsking_52 : decode cX2_readAsking 52 = .ok (.ifCond .ne 5, 3) := dk_154 0 5 (dk_at dksX2_readAsking_2 4 rfl rfl)
theorem dX2_readAsking_55 : decode cX2_readAsking 55 = .ok (.iconst 0, 1) := dk_3 (dk_at dksX2_readAsking_2 7 rfl rfl)
theorem dX2_readAsking_56 : decode cX2_readAsking 56 = .ok (.ireturn, 1) := dk_172 (dk_at dksX2_readAsking_2 8 rfl rfl)
theorem dX2_readAsking_57 : decode cX2_readAsking 57 = .ok (.aload_n 0, 1) := dk_42 (dk_at dksX2_readAsking_2 9 rfl rfl)
theorem dX2_readAsking_58 : decode cX2_readAsking 58 = .ok (.iconst 4, 1) := dk_7 (dk_at dksX2_readAsking_2 10 rfl rfl)
theorem dX2_readAsking_59 : decode cX2_readAsking 59 = .ok (.invokevirtual 153, 3) := dk_182 0 153 (dk_at dksX2_readAsking_2 11 rfl rfl)
theorem dX2_readAsking_62 : decode cX2_readAsking 62 = .ok (.aload_n 0, 1) := dk_42 (dk_at dksX2_readAsking_2 14 rfl rfl)
theorem dX2_readAsking_63 : decode cX2_readAsking 63 = .ok (.getfield 38, 3) := dk_180 0 38 (dk_at dksX2_readAsking_2 15 rfl rfl)
theorem dX2_readAsking_66 : decode cX2_readAsking 66 = .ok (.iconst 1, 1) := dk_4 (dk_at dksX2_readAsking_2 18 rfl rfl)
theorem dX2_readAsking_67 : decode cX2_readAsking 67 = .ok (.aload_n 0, 1) := dk_42 (dk_at dksX2_readAsking_2 19 rfl rfl)
theorem dX2_readAsking_68 : decode cX2_readAsking 68 = .ok (.getfield 129, 3) := dk_180 0 129 (dk_at dksX2_readAsking_2 20 rfl rfl)
theorem dX2_readAsking_71 : decode cX2_readAsking 71 = .ok (.iastore, 1) := dk_79 (dk_at dksX2_readAsking_2 23 rfl rfl)
theorem dX2_readAsking_72 : decode cX2_readAsking 72 = .ok (.iconst 1, 1) := dk_4 (dk_at dksX2_readAsking_3 0 rfl rfl)
theorem dX2_readAsking_73 : decode cX2_readAsking 73 = .ok (.ireturn, 1) := dk_172 (dk_at dksX2_readAsking_3 1 rfl rfl)
theorem dX2_readAsking_74 : decode cX2_readAsking 74 = .ok (.aload_n 0, 1) := dk_42 (dk_at dksX2_readAsking_3 2 rfl rfl)
theorem dX2_readAsking_75 : decode cX2_readAsking 75 = .ok (.invokevirtual 136, 3) := dk_182 0 136 (dk_at dksX2_readAsking_3 3 rfl rfl)
theorem dX2_readAsking_78 : decode cX2_readAsking 78 = .ok (.ifCond .eq 25, 3) := dk_153 0 25 (dk_at dksX2_readAsking_3 6 rfl rfl)
theorem dX2_readAsking_81 : decode cX2_readAsking 81 = .ok (.aload_n 0, 1) := dk_42 (dk_at dksX2_readAsking_3 9 rfl rfl)
theorem dX2_readAsking_82 : decode cX2_readAsking 82 = .ok (.invokevirtual 136, 3) := dk_182 0 136 (dk_at dksX2_readAsking_3 10 rfl rfl)
theorem dX2_readAsking_85 : decode cX2_readAsking 85 = .ok (.ifCond .eq 18, 3) := dk_153 0 18 (dk_at dksX2_readAsking_3 13 rfl rfl)
theorem dX2_readAsking_88 : decode cX2_readAsking 88 = .ok (.aload_n 0, 1) := dk_42 (dk_at dksX2_readAsking_3 16 rfl rfl)
theorem dX2_readAsking_89 : decode cX2_readAsking 89 = .ok (.iconst 1, 1) := dk_4 (dk_at dksX2_readAsking_3 17 rfl rfl)
theorem dX2_readAsking_90 : decode cX2_readAsking 90 = .ok (.iconst 1, 1) := dk_4 (dk_at dksX2_readAsking_3 18 rfl rfl)
theorem dX2_readAsking_91 : decode cX2_readAsking 91 = .ok (.bipush 9, 2) := dk_16 9 (dk_at dksX2_readAsking_3 19 rfl rfl)
theorem dX2_readAsking_93 : decode cX2_readAsking 93 = .ok (.invokevirtual 177, 3) := dk_182 0 177 (dk_at dksX2_readAsking_3 21 rfl rfl)
theorem dX2_readAsking_96 : decode cX2_readAsking 96 = .ok (.ifCond .eq 7, 3) := dk_153 0 7 (dk_at dksX2_readAsking_4 0 rfl rfl)
theorem dX2_readAsking_99 : decode cX2_readAsking 99 = .ok (.iconst 1, 1) := dk_4 (dk_at dksX2_readAsking_4 3 rfl rfl)
theorem dX2_readAsking_100 : decode cX2_readAsking 100 = .ok (.goto 4, 3) := dk_167 0 4 (dk_at dksX2_readAsking_4 4 rfl rfl)
theorem dX2_readAsking_103 : decode cX2_readAsking 103 = .ok (.iconst 0, 1) := dk_3 (dk_at dksX2_readAsking_4 7 rfl rfl)
theorem dX2_readAsking_104 : decode cX2_readAsking 104 = .ok (.ireturn, 1) := dk_172 (dk_at dksX2_readAsking_4 8 rfl rfl)
theorem dX2_readAsking_105 : decode cX2_readAsking 105 = .ok (.aload_n 0, 1) := dk_42 (dk_at dksX2_readAsking_4 9 rfl rfl)
theorem dX2_readAsking_106 : decode cX2_readAsking 106 = .ok (.invokevirtual 136, 3) := dk_182 0 136 (dk_at dksX2_readAsking_4 10 rfl rfl)
theorem dX2_readAsking_109 : decode cX2_readAsking 109 = .ok (.ifCond .eq 18, 3) := dk_153 0 18 (dk_at dksX2_readAsking_4 13 rfl rfl)
theorem dX2_readAsking_112 : decode cX2_readAsking 112 = .ok (.aload_n 0, 1) := dk_42 (dk_at dksX2_readAsking_4 16 rfl rfl)
theorem dX2_readAsking_113 : decode cX2_readAsking 113 = .ok (.iconst 1, 1) := dk_4 (dk_at dksX2_readAsking_4 17 rfl rfl)
theorem dX2_readAsking_114 : decode cX2_readAsking 114 = .ok (.iconst 1, 1) := dk_4 (dk_at dksX2_readAsking_4 18 rfl rfl)
theorem dX2_readAsking_115 : decode cX2_readAsking 115 = .ok (.bipush 9, 2) := dk_16 9 (dk_at dksX2_readAsking_4 19 rfl rfl)
theorem dX2_readAsking_117 : decode cX2_readAsking 117 = .ok (.invokevirtual 177, 3) := dk_182 0 177 (dk_at dksX2_readAsking_4 21 rfl rfl)
theorem dX2_readAsking_120 : decode cX2_readAsking 120 = .ok (.ifCond .eq 7, 3) := dk_153 0 7 (dk_at dksX2_readAsking_5 0 rfl rfl)
theorem dX2_readAsking_123 : decode cX2_readAsking 123 = .ok (.iconst 1, 1) := dk_4 (dk_at dksX2_readAsking_5 3 rfl rfl)
theorem dX2_readAsking_124 : decode cX2_readAsking 124 = .ok (.goto 4, 3) := dk_167 0 4 (dk_at dksX2_readAsking_5 4 rfl rfl)
theorem dX2_readAsking_127 : decode cX2_readAsking 127 = .ok (.iconst 0, 1) := dk_3 (dk_at dksX2_readAsking_5 7 rfl rfl)
theorem dX2_readAsking_128 : decode cX2_readAsking 128 = .ok (.ireturn, 1) := dk_172 (dk_at dksX2_readAsking_5 8 rfl rfl)
theorem dX2_readAsking_129 : decode cX2_readAsking 129 = .ok (.aload_n 0, 1) := dk_42 (dk_at dksX2_readAsking_5 9 rfl rfl)
theorem dX2_readAsking_130 : decode cX2_readAsking 130 = .ok (.iconst 1, 1) := dk_4 (dk_at dksX2_readAsking_5 10 rfl rfl)
theorem dX2_readAsking_131 : decode cX2_readAsking 131 = .ok (.iconst 0, 1) := dk_3 (dk_at dksX2_readAsking_5 11 rfl rfl)
theorem dX2_readAsking_132 : decode cX2_readAsking 132 = .ok (.iload_n 2, 1) := dk_28 (dk_at dksX2_readAsking_5 12 rfl rfl)
theorem dX2_readAsking_133 : decode cX2_readAsking 133 = .ok (.iconst 1, 1) := dk_4 (dk_at dksX2_readAsking_5 13 rfl rfl)
theorem dX2_readAsking_134 : decode cX2_readAsking 134 = .ok (.isub, 1) := dk_100 (dk_at dksX2_readAsking_5 14 rfl rfl)
theorem dX2_readAsking_135 : decode cX2_readAsking 135 = .ok (.invokevirtual 177, 3) := dk_182 0 177 (dk_at dksX2_readAsking_5 15 rfl rfl)
theorem dX2_readAsking_138 : decode cX2_readAsking 138 = .ok (.ifCond .eq 19, 3) := dk_153 0 19 (dk_at dksX2_readAsking_5 18 rfl rfl)
theorem dX2_readAsking_141 : decode cX2_readAsking 141 = .ok (.aload_n 0, 1) := dk_42 (dk_at dksX2_readAsking_5 21 rfl rfl)
theorem dX2_readAsking_142 : decode cX2_readAsking 142 = .ok (.iconst 2, 1) := dk_5 (dk_at dksX2_readAsking_5 22 rfl rfl)
theorem dX2_readAsking_143 : decode cX2_readAsking 143 = .ok (.iconst 0, 1) := dk_3 (dk_at dksX2_readAsking_5 23 rfl rfl)
theorem dX2_readAsking_144 : decode cX2_readAsking 144 = .ok (.iload_n 2, 1) := dk_28 (dk_at dksX2_readAsking_6 0 rfl rfl)
theorem dX2_readAsking_145 : decode cX2_readAsking 145 = .ok (.iconst 1, 1) := dk_4 (dk_at dksX2_readAsking_6 1 rfl rfl)
theorem dX2_readAsking_146 : decode cX2_readAsking 146 = .ok (.isub, 1) := dk_100 (dk_at dksX2_readAsking_6 2 rfl rfl)
theorem dX2_readAsking_147 : decode cX2_readAsking 147 = .ok (.invokevirtual 177, 3) := dk_182 0 177 (dk_at dksX2_readAsking_6 3 rfl rfl)
theorem dX2_readAsking_150 : decode cX2_readAsking 150 = .ok (.ifCond .eq 7, 3) := dk_153 0 7 (dk_at dksX2_readAsking_6 6 rfl rfl)
theorem dX2_readAsking_153 : decode cX2_readAsking 153 = .ok (.iconst 1, 1) := dk_4 (dk_at dksX2_readAsking_6 9 rfl rfl)
theorem dX2_readAsking_154 : decode cX2_readAsking 154 = .ok (.goto 4, 3) := dk_167 0 4 (dk_at dksX2_readAsking_6 10 rfl rfl)
theorem dX2_readAsking_157 : decode cX2_readAsking 157 = .ok (.iconst 0, 1) := dk_3 (dk_at dksX2_readAsking_6 13 rfl rfl)
theorem dX2_readAsking_158 : decode cX2_readAsking 158 = .ok (.ireturn, 1) := dk_172 (dk_at dksX2_readAsking_6 14 rfl rfl)
theorem dX2_readAsking_159 : decode cX2_readAsking 159 = .ok (.aload_n 0, 1) := dk_42 (dk_at dksX2_readAsking_6 15 rfl rfl)
theorem dX2_readAsking_160 : decode cX2_readAsking 160 = .ok (.iconst 1, 1) := dk_4 (dk_at dksX2_readAsking_6 16 rfl rfl)
theorem dX2_readAsking_161 : decode cX2_readAsking 161 = .ok (.iconst 0, 1) := dk_3 (dk_at dksX2_readAsking_6 17 rfl rfl)
theorem dX2_readAsking_162 : decode cX2_readAsking 162 = .ok (.iload_n 2, 1) := dk_28 (dk_at dksX2_readAsking_6 18 rfl rfl)
theorem dX2_readAsking_163 : decode cX2_readAsking 163 = .ok (.iconst 1, 1) := dk_4 (dk_at dksX2_readAsking_6 19 rfl rfl)
theorem dX2_readAsking_164 : decode cX2_readAsking 164 = .ok (.isub, 1) := dk_100 (dk_at dksX2_readAsking_6 20 rfl rfl)
theorem dX2_readAsking_165 : decode cX2_readAsking 165 = .ok (.invokevirtual 177, 3) := dk_182 0 177 (dk_at dksX2_readAsking_6 21 rfl rfl)
theorem dX2_readAsking_168 : decode cX2_readAsking 168 = .ok (.ireturn, 1) := dk_172 (dk_at dksX2_readAsking_7 0 rfl rfl)
abbrev cX2_huntLine : ByteArray := prog_25_method_39_code
def yX2_huntLine : MethodName := ⟨RX2, "huntLine", "(JI)Z"⟩
def dkwX2_huntLine_6 : List UInt8 := [184, 0, 150, 79, 4, 172]
abbrev dktX2_huntLine_6 : List UInt8 := dkwX2_huntLine_6 ++ []
def dkwX2_huntLine_5 : List UInt8 := [180, 0, 38, 21, 5, 46, 79, 132, 5, 1, 167, 255, 219, 42, 180, 0, 35, 3, 16, 8, 21, 4, 4, 96]
abbrev dktX2_huntLine_5 : List UInt8 := dkwX2_huntLine_5 ++ dktX2_huntLine_6
def dkwX2_huntLine_4 : List UInt8 := [162, 0, 37, 21, 4, 16, 8, 162, 0, 30, 42, 180, 0, 35, 4, 6, 21, 4, 104, 96, 21, 5, 96, 42]
abbrev dktX2_huntLine_4 : List UInt8 := dkwX2_huntLine_4 ++ dktX2_huntLine_5
def dkwX2_huntLine_3 : List UInt8 := [180, 0, 38, 3, 31, 20, 0, 226, 148, 154, 0, 7, 4, 167, 0, 4, 3, 79, 3, 54, 5, 21, 5, 6]
abbrev dktX2_huntLine_3 : List UInt8 := dkwX2_huntLine_3 ++ dktX2_huntLine_4
def dkwX2_huntLine_2 : List UInt8 := [42, 4, 3, 6, 182, 0, 177, 153, 0, 14, 42, 5, 3, 16, 9, 182, 0, 177, 154, 0, 5, 3, 172, 42]
abbrev dktX2_huntLine_2 : List UInt8 := dkwX2_huntLine_2 ++ dktX2_huntLine_3
def dkwX2_huntLine_1 : List UInt8 := [180, 0, 35, 3, 46, 54, 4, 21, 4, 16, 8, 160, 0, 9, 42, 6, 29, 182, 0, 116, 42, 182, 0, 124]
abbrev dktX2_huntLine_1 : List UInt8 := dkwX2_huntLine_1 ++ dktX2_huntLine_2
def dkwX2_huntLine_0 : List UInt8 := [31, 20, 0, 226, 148, 153, 0, 16, 31, 20, 0, 228, 148, 153, 0, 8, 42, 182, 0, 112, 172, 42]
abbrev dktX2_huntLine_0 : List UInt8 := dkwX2_huntLine_0 ++ dktX2_huntLine_1
theorem dksX2_huntLine_0 : cX2_huntLine.data.toList.drop 0 = dktX2_huntLine_0 := by decide +kernel
theorem dksX2_huntLine_1 : cX2_huntLine.data.toList.drop 22 = dktX2_huntLine_1 := dk_seg dksX2_huntLine_0 22 rfl rfl
theorem dksX2_huntLine_2 : cX2_huntLine.data.toList.drop 46 = dktX2_huntLine_2 := dk_seg dksX2_huntLine_1 24 rfl rfl
theorem dksX2_huntLine_3 : cX2_huntLine.data.toList.drop 70 = dktX2_huntLine_3 := dk_seg dksX2_huntLine_2 24 rfl rfl
theorem dksX2_huntLine_4 : cX2_huntLine.data.toList.drop 94 = dktX2_huntLine_4 := dk_seg dksX2_huntLine_3 24 rfl rfl
theorem dksX2_huntLine_5 : cX2_huntLine.data.toList.drop 118 = dktX2_huntLine_5 := dk_seg dksX2_huntLine_4 24 rfl rfl
theorem dksX2_huntLine_6 : cX2_huntLine.data.toList.drop 142 = dktX2_huntLine_6 := dk_seg dksX2_huntLine_5 24 rfl rfl
theorem dX2_huntLine_0 : decode cX2_huntLine 0 = .ok (.lload_n 1, 1) := dk_31 (dk_at dksX2_huntLine_0 0 rfl rfl)
theorem dX2_huntLine_1 : decode cX2_huntLine 1 = .ok (.ldc2_w 226, 3) := dk_20 0 226 (dk_at dksX2_huntLine_0 1 rfl rfl)
theorem dX2_huntLine_4 : decode cX2_huntLine 4 = .ok (.lcmp, 1) := dk_148 (dk_at dksX2_huntLine_0 4 rfl rfl)
theorem dX2_huntLine_5 : decode cX2_huntLine 5 = .ok (.ifCond .eq 16, 3) := dk_153 0 16 (dk_at dksX2_huntLine_0 5 rfl rfl)
theorem dX2_huntLine_8 : decode cX2_huntLine 8 = .ok (.lload_n 1, 1) := dk_31 (dk_at dksX2_huntLine_0 8 rfl rfl)
theorem dX2_huntLine_9 : decode cX2_huntLine 9 = .ok (.ldc2_w 228, 3) := dk_20 0 228 (dk_at dksX2_huntLine_0 9 rfl rfl)
theorem dX2_huntLine_12 : decode cX2_huntLine 12 = .ok (.lcmp, 1) := dk_148 (dk_at dksX2_huntLine_0 12 rfl rfl)
theorem dX2_huntLine_13 : decode cX2_huntLine 13 = .ok (.ifCond .eq 8, 3) := dk_153 0 8 (dk_at dksX2_huntLine_0 13 rfl rfl)
theorem dX2_huntLine_16 : decode cX2_huntLine 16 = .ok (.aload_n 0, 1) := dk_42 (dk_at dksX2_huntLine_0 16 rfl rfl)
theorem dX2_huntLine_17 : decode cX2_huntLine 17 = .ok (.invokevirtual 112, 3) := dk_182 0 112 (dk_at dksX2_huntLine_0 17 rfl rfl)
theorem dX2_huntLine_20 : decode cX2_huntLine 20 = .ok (.ireturn, 1) := dk_172 (dk_at dksX2_huntLine_0 20 rfl rfl)
theorem dX2_huntLine_21 : decode cX2_huntLine 21 = .ok (.aload_n 0, 1) := dk_42 (dk_at dksX2_huntLine_0 21 rfl rfl)
theorem dX2_huntLine_22 : decode cX2_huntLine 22 = .ok (.getfield 35, 3) := dk_180 0 35 (dk_at dksX2_huntLine_1 0 rfl rfl)
theorem dX2_huntLine_25 : decode cX2_huntLine 25 = .ok (.iconst 0, 1) := dk_3 (dk_at dksX2_huntLine_1 3 rfl rfl)
theorem dX2_huntLine_26 : decode cX2_huntLine 26 = .ok (.iaload, 1) := dk_46 (dk_at dksX2_huntLine_1 4 rfl rfl)
theorem dX2_huntLine_27 : decode cX2_huntLine 27 = .ok (.istore 4, 2) := dk_54 4 (dk_at dksX2_huntLine_1 5 rfl rfl)
theorem dX2_huntLine_29 : decode cX2_huntLine 29 = .ok (.iload 4, 2) := dk_21 4 (dk_at dksX2_huntLine_1 7 rfl rfl)
theorem dX2_huntLine_31 : decode cX2_huntLine 31 = .ok (.bipush 8, 2) := dk_16 8 (dk_at dksX2_huntLine_1 9 rfl rfl)
theorem dX2_huntLine_33 : decode cX2_huntLine 33 = .ok (.if_icmp .ne 9, 3) := dk_160 0 9 (dk_at dksX2_huntLine_1 11 rfl rfl)
theorem dX2_huntLine_36 : decode cX2_huntLine 36 = .ok (.aload_n 0, 1) := dk_42 (dk_at dksX2_huntLine_1 14 rfl rfl)
theorem dX2_huntLine_37 : decode cX2_huntLine 37 = .ok (.iconst 3, 1) := dk_6 (dk_at dksX2_huntLine_1 15 rfl rfl)
theorem dX2_huntLine_38 : decode cX2_huntLine 38 = .ok (.iload_n 3, 1) := dk_29 (dk_at dksX2_huntLine_1 16 rfl rfl)
theorem dX2_huntLine_39 : decode cX2_huntLine 39 = .ok (.invokevirtual 116, 3) := dk_182 0 116 (dk_at dksX2_huntLine_1 17 rfl rfl)
theorem dX2_huntLine_42 : decode cX2_huntLine 42 = .ok (.aload_n 0, 1) := dk_42 (dk_at dksX2_huntLine_1 20 rfl rfl)
theorem dX2_huntLine_43 : decode cX2_huntLine 43 = .ok (.invokevirtual 124, 3) := dk_182 0 124 (dk_at dksX2_huntLine_1 21 rfl rfl)
theorem dX2_huntLine_46 : decode cX2_huntLine 46 = .ok (.aload_n 0, 1) := dk_42 (dk_at dksX2_huntLine_2 0 rfl rfl)
theorem dX2_huntLine_47 : decode cX2_huntLine 47 = .ok (.iconst 1, 1) := dk_4 (dk_at dksX2_huntLine_2 1 rfl rfl)
theorem dX2_huntLine_48 : decode cX2_huntLine 48 = .ok (.iconst 0, 1) := dk_3 (dk_at dksX2_huntLine_2 2 rfl rfl)
theorem dX2_huntLine_49 : decode cX2_huntLine 49 = .ok (.iconst 3, 1) := dk_6 (dk_at dksX2_huntLine_2 3 rfl rfl)
theorem dX2_huntLine_50 : decode cX2_huntLine 50 = .ok (.invokevirtual 177, 3) := dk_182 0 177 (dk_at dksX2_huntLine_2 4 rfl rfl)
theorem dX2_huntLine_53 : decode cX2_huntLine 53 = .ok (.ifCond .eq 14, 3) := dk_153 0 14 (dk_at dksX2_huntLine_2 7 rfl rfl)
theorem dX2_huntLine_56 : decode cX2_huntLine 56 = .ok (.aload_n 0, 1) := dk_42 (dk_at dksX2_huntLine_2 10 rfl rfl)
theorem dX2_huntLine_57 : decode cX2_huntLine 57 = .ok (.iconst 2, 1) := dk_5 (dk_at dksX2_huntLine_2 11 rfl rfl)
theorem dX2_huntLine_58 : decode cX2_huntLine 58 = .ok (.iconst 0, 1) := dk_3 (dk_at dksX2_huntLine_2 12 rfl rfl)
theorem dX2_huntLine_59 : decode cX2_huntLine 59 = .ok (.bipush 9, 2) := dk_16 9 (dk_at dksX2_huntLine_2 13 rfl rfl)
theorem dX2_huntLine_61 : decode cX2_huntLine 61 = .ok (.invokevirtual 177, 3) := dk_182 0 177 (dk_at dksX2_huntLine_2 15 rfl rfl)
theorem dX2_huntLine_64 : decode cX2_huntLine 64 = .ok (.ifCond .ne 5, 3) := dk_154 0 5 (dk_at dksX2_huntLine_2 18 rfl rfl)
theorem dX2_huntLine_67 : decode cX2_huntLine 67 = .ok (.iconst 0, 1) := dk_3 (dk_at dksX2_huntLine_2 21 rfl rfl)
theorem dX2_huntLine_68 : decode cX2_huntLine 68 = .ok (.ireturn, 1) := dk_172 (dk_at dksX2_huntLine_2 22 rfl rfl)
theorem dX2_huntLine_69 : decode cX2_huntLine 69 = .ok (.aload_n 0, 1) := dk_42 (dk_at dksX2_huntLine_2 23 rfl rfl)
theorem dX2_huntLine_70 : decode cX2_huntLine 70 = .ok (.getfield 38, 3) := dk_180 0 38 (dk_at dksX2_huntLine_3 0 rfl rfl)
theorem dX2_huntLine_73 : decode cX2_huntLine 73 = .ok (.iconst 0, 1) := dk_3 (dk_at dksX2_huntLine_3 3 rfl rfl)
theorem dX2_huntLine_74 : decode cX2_huntLine 74 = .ok (.lload_n 1, 1) := dk_31 (dk_at dksX2_huntLine_3 4 rfl rfl)
theorem dX2_huntLine_75 : decode cX2_huntLine 75 = .ok (.ldc2_w 226, 3) := dk_20 0 226 (dk_at dksX2_huntLine_3 5 rfl rfl)
theorem dX2_huntLine_78 : decode cX2_huntLine 78 = .ok (.lcmp, 1) := dk_148 (dk_at dksX2_huntLine_3 8 rfl rfl)
theorem dX2_huntLine_79 : decode cX2_huntLine 79 = .ok (.ifCond .ne 7, 3) := dk_154 0 7 (dk_at dksX2_huntLine_3 9 rfl rfl)
theorem dX2_huntLine_82 : decode cX2_huntLine 82 = .ok (.iconst 1, 1) := dk_4 (dk_at dksX2_huntLine_3 12 rfl rfl)
theorem dX2_huntLine_83 : decode cX2_huntLine 83 = .ok (.goto 4, 3) := dk_167 0 4 (dk_at dksX2_huntLine_3 13 rfl rfl)
theorem dX2_huntLine_86 : decode cX2_huntLine 86 = .ok (.iconst 0, 1) := dk_3 (dk_at dksX2_huntLine_3 16 rfl rfl)
theorem dX2_huntLine_87 : decode cX2_huntLine 87 = .ok (.iastore, 1) := dk_79 (dk_at dksX2_huntLine_3 17 rfl rfl)
theorem dX2_huntLine_88 : decode cX2_huntLine 88 = .ok (.iconst 0, 1) := dk_3 (dk_at dksX2_huntLine_3 18 rfl rfl)
theorem dX2_huntLine_89 : decode cX2_huntLine 89 = .ok (.istore 5, 2) := dk_54 5 (dk_at dksX2_huntLine_3 19 rfl rfl)
theorem dX2_huntLine_91 : decode cX2_huntLine 91 = .ok (.iload 5, 2) := dk_21 5 (dk_at dksX2_huntLine_3 21 rfl rfl)
theorem dX2_huntLine_93 : decode cX2_huntLine 93 = .ok (.iconst 3, 1) := dk_6 (dk_at dksX2_huntLine_3 23 rfl rfl)
theorem dX2_huntLine_94 : decode cX2_huntLine 94 = .ok (.if_icmp .ge 37, 3) := dk_162 0 37 (dk_at dksX2_huntLine_4 0 rfl rfl)
theorem dX2_huntLine_97 : decode cX2_huntLine 97 = .ok (.iload 4, 2) := dk_21 4 (dk_at dksX2_huntLine_4 3 rfl rfl)
theorem dX2_huntLine_99 : decode cX2_huntLine 99 = .ok (.bipush 8, 2) := dk_16 8 (dk_at dksX2_huntLine_4 5 rfl rfl)
theorem dX2_huntLine_101 : decode cX2_huntLine 101 = .ok (.if_icmp .ge 30, 3) := dk_162 0 30 (dk_at dksX2_huntLine_4 7 rfl rfl)
theorem dX2_huntLine_104 : decode cX2_huntLine 104 = .ok (.aload_n 0, 1) := dk_42 (dk_at dksX2_huntLine_4 10 rfl rfl)
theorem dX2_huntLine_105 : decode cX2_huntLine 105 = .ok (.getfield 35, 3) := dk_180 0 35 (dk_at dksX2_huntLine_4 11 rfl rfl)
theorem dX2_huntLine_108 : decode cX2_huntLine 108 = .ok (.iconst 1, 1) := dk_4 (dk_at dksX2_huntLine_4 14 rfl rfl)
theorem dX2_huntLine_109 : decode cX2_huntLine 109 = .ok (.iconst 3, 1) := dk_6 (dk_at dksX2_huntLine_4 15 rfl rfl)
theorem dX2_huntLine_110 : decode cX2_huntLine 110 = .ok (.iload 4, 2) := dk_21 4 (dk_at dksX2_huntLine_4 16 rfl rfl)
theorem dX2_huntLine_112 : decode cX2_huntLine 112 = .ok (.imul, 1) := dk_104 (dk_at dksX2_huntLine_4 18 rfl rfl)
theorem dX2_huntLine_113 : decode cX2_huntLine 113 = .ok (.iadd, 1) := dk_96 (dk_at dksX2_huntLine_4 19 rfl rfl)
theorem dX2_huntLine_114 : decode cX2_huntLine 114 = .ok (.iload 5, 2) := dk_21 5 (dk_at dksX2_huntLine_4 20 rfl rfl)
theorem dX2_huntLine_116 : decode cX2_huntLine 116 = .ok (.iadd, 1) := dk_96 (dk_at dksX2_huntLine_4 22 rfl rfl)
theorem dX2_huntLine_117 : decode cX2_huntLine 117 = .ok (.aload_n 0, 1) := dk_42 (dk_at dksX2_huntLine_4 23 rfl rfl)
theorem dX2_huntLine_118 : decode cX2_huntLine 118 = .ok (.getfield 38, 3) := dk_180 0 38 (dk_at dksX2_huntLine_5 0 rfl rfl)
theorem dX2_huntLine_121 : decode cX2_huntLine 121 = .ok (.iload 5, 2) := dk_21 5 (dk_at dksX2_huntLine_5 3 rfl rfl)
theorem dX2_huntLine_123 : decode cX2_huntLine 123 = .ok (.iaload, 1) := dk_46 (dk_at dksX2_huntLine_5 5 rfl rfl)
theorem dX2_huntLine_124 : decode cX2_huntLine 124 = .ok (.iastore, 1) := dk_79 (dk_at dksX2_huntLine_5 6 rfl rfl)
theorem dX2_huntLine_125 : decode cX2_huntLine 125 = .ok (.iinc 5 1, 3) := dk_132 5 1 (dk_at dksX2_huntLine_5 7 rfl rfl)
theorem dX2_huntLine_128 : decode cX2_huntLine 128 = .ok (.goto (-37), 3) := dk_167 255 219 (dk_at dksX2_huntLine_5 10 rfl rfl)
theorem dX2_huntLine_131 : decode cX2_huntLine 131 = .ok (.aload_n 0, 1) := dk_42 (dk_at dksX2_huntLine_5 13 rfl rfl)
theorem dX2_huntLine_132 : decode cX2_huntLine 132 = .ok (.getfield 35, 3) := dk_180 0 35 (dk_at dksX2_huntLine_5 14 rfl rfl)
theorem dX2_huntLine_135 : decode cX2_huntLine 135 = .ok (.iconst 0, 1) := dk_3 (dk_at dksX2_huntLine_5 17 rfl rfl)
theorem dX2_huntLine_136 : decode cX2_huntLine 136 = .ok (.bipush 8, 2) := dk_16 8 (dk_at dksX2_huntLine_5 18 rfl rfl)
theorem dX2_huntLine_138 : decode cX2_huntLine 138 = .ok (.iload 4, 2) := dk_21 4 (dk_at dksX2_huntLine_5 20 rfl rfl)
theorem dX2_huntLine_140 : decode cX2_huntLine 140 = .ok (.iconst 1, 1) := dk_4 (dk_at dksX2_huntLine_5 22 rfl rfl)
theorem dX2_huntLine_141 : decode cX2_huntLine 141 = .ok (.iadd, 1) := dk_96 (dk_at dksX2_huntLine_5 23 rfl rfl)
theorem dX2_huntLine_142 : decode cX2_huntLine 142 = .ok (.invokestatic 150, 3) := dk_184 0 150 (dk_at dksX2_huntLine_6 0 rfl rfl)
theorem dX2_huntLine_145 : decode cX2_huntLine 145 = .ok (.iastore, 1) := dk_79 (dk_at dksX2_huntLine_6 3 rfl rfl)
theorem dX2_huntLine_146 : decode cX2_huntLine 146 = .ok (.iconst 1, 1) := dk_4 (dk_at dksX2_huntLine_6 4 rfl rfl)
theorem dX2_huntLine_147 : decode cX2_huntLine 147 = .ok (.ireturn, 1) := dk_172 (dk_at dksX2_huntLine_6 5 rfl rfl)
abbrev cX2_store : ByteArray := prog_25_method_42_code
def yX2_store : MethodName := ⟨RX2, "store", "([III)V"⟩
def dkwX2_store_1 : List UInt8 := [132, 4, 1, 167, 255, 232, 177]
abbrev dktX2_store_1 : List UInt8 := dkwX2_store_1 ++ []
def dkwX2_store_0 : List UInt8 := [3, 54, 4, 21, 4, 28, 162, 0, 24, 43, 28, 29, 104, 21, 4, 96, 42, 180, 0, 35, 21, 4, 46, 79]
abbrev dktX2_store_0 : List UInt8 := dkwX2_store_0 ++ dktX2_store_1
theorem dksX2_store_0 : cX2_store.data.toList.drop 0 = dktX2_store_0 := by decide +kernel
theorem dksX2_store_1 : cX2_store.data.toList.drop 24 = dktX2_store_1 := dk_seg dksX2_store_0 24 rfl rfl
theorem dX2_store_0 : decode cX2_store 0 = .ok (.iconst 0, 1) := dk_3 (dk_at dksX2_store_0 0 rfl rfl)
theorem dX2_store_1 : decode cX2_store 1 = .ok (.istore 4, 2) := dk_54 4 (dk_at dksX2_store_0 1 rfl rfl)
theorem dX2_store_3 : decode cX2_store 3 = .ok (.iload 4, 2) := dk_21 4 (dk_at dksX2_store_0 3 rfl rfl)
theorem dX2_store_5 : decode cX2_store 5 = .ok (.iload_n 2, 1) := dk_28 (dk_at dksX2_store_0 5 rfl rfl)
theorem dX2_store_6 : decode cX2_store 6 = .ok (.if_icmp .ge 24, 3) := dk_162 0 24 (dk_at dksX2_store_0 6 rfl rfl)
theorem dX2_store_9 : decode cX2_store 9 = .ok (.aload_n 1, 1) := dk_43 (dk_at dksX2_store_0 9 rfl rfl)
theorem dX2_store_10 : decode cX2_store 10 = .ok (.iload_n 2, 1) := dk_28 (dk_at dksX2_store_0 10 rfl rfl)
theorem dX2_store_11 : decode cX2_store 11 = .ok (.iload_n 3, 1) := dk_29 (dk_at dksX2_store_0 11 rfl rfl)
theorem dX2_store_12 : decode cX2_store 12 = .ok (.imul, 1) := dk_104 (dk_at dksX2_store_0 12 rfl rfl)
theorem dX2_store_13 : decode cX2_store 13 = .ok (.iload 4, 2) := dk_21 4 (dk_at dksX2_store_0 13 rfl rfl)
theorem dX2_store_15 : decode cX2_store 15 = .ok (.iadd, 1) := dk_96 (dk_at dksX2_store_0 15 rfl rfl)
theorem dX2_store_16 : decode cX2_store 16 = .ok (.aload_n 0, 1) := dk_42 (dk_at dksX2_store_0 16 rfl rfl)
theorem dX2_store_17 : decode cX2_store 17 = .ok (.getfield 35, 3) := dk_180 0 35 (dk_at dksX2_store_0 17 rfl rfl)
theorem dX2_store_20 : decode cX2_store 20 = .ok (.iload 4, 2) := dk_21 4 (dk_at dksX2_store_0 20 rfl rfl)
theorem dX2_store_22 : decode cX2_store 22 = .ok (.iaload, 1) := dk_46 (dk_at dksX2_store_0 22 rfl rfl)
theorem dX2_store_23 : decode cX2_store 23 = .ok (.iastore, 1) := dk_79 (dk_at dksX2_store_0 23 rfl rfl)
theorem dX2_store_24 : decode cX2_store 24 = .ok (.iinc 4 1, 3) := dk_132 4 1 (dk_at dksX2_store_1 0 rfl rfl)
theorem dX2_store_27 : decode cX2_store 27 = .ok (.goto (-24), 3) := dk_167 255 232 (dk_at dksX2_store_1 3 rfl rfl)
theorem dX2_store_30 : decode cX2_store 30 = .ok (.return_, 1) := dk_177 (dk_at dksX2_store_1 6 rfl rfl)
abbrev cX2_fault : ByteArray := prog_25_method_44_code
def yX2_fault : MethodName := ⟨RX2, "fault", "(I)I"⟩
def dkwX2_fault_1 : List UInt8 := [180, 0, 20, 3, 46, 167, 0, 4, 2, 172]
abbrev dktX2_fault_1 : List UInt8 := dkwX2_fault_1 ++ []
def dkwX2_fault_0 : List UInt8 := [42, 3, 181, 0, 60, 27, 154, 0, 12, 42, 180, 0, 17, 3, 46, 167, 0, 18, 27, 4, 160, 0, 12, 42]
abbrev dktX2_fault_0 : List UInt8 := dkwX2_fault_0 ++ dktX2_fault_1
theorem dksX2_fault_0 : cX2_fault.data.toList.drop 0 = dktX2_fault_0 := by decide +kernel
theorem dksX2_fault_1 : cX2_fault.data.toList.drop 24 = dktX2_fault_1 := dk_seg dksX2_fault_0 24 rfl rfl
theorem dX2_fault_0 : decode cX2_fault 0 = .ok (.aload_n 0, 1) := dk_42 (dk_at dksX2_fault_0 0 rfl rfl)
theorem dX2_fault_1 : decode cX2_fault 1 = .ok (.iconst 0, 1) := dk_3 (dk_at dksX2_fault_0 1 rfl rfl)
theorem dX2_fault_2 : decode cX2_fault 2 = .ok (.putfield 60, 3) := dk_181 0 60 (dk_at dksX2_fault_0 2 rfl rfl)
theorem dX2_fault_5 : decode cX2_fault 5 = .ok (.iload_n 1, 1) := dk_27 (dk_at dksX2_fault_0 5 rfl rfl)
theorem dX2_fault_6 : decode cX2_fault 6 = .ok (.ifCond .ne 12, 3) := dk_154 0 12 (dk_at dksX2_fault_0 6 rfl rfl)
theorem dX2_fault_9 : decode cX2_fault 9 = .ok (.aload_n 0, 1) := dk_42 (dk_at dksX2_fault_0 9 rfl rfl)
theorem dX2_fault_10 : decode cX2_fault 10 = .ok (.getfield 17, 3) := dk_180 0 17 (dk_at dksX2_fault_0 10 rfl rfl)
theorem dX2_fault_13 : decode cX2_fault 13 = .ok (.iconst 0, 1) := dk_3 (dk_at dksX2_fault_0 13 rfl rfl)
theorem dX2_fault_14 : decode cX2_fault 14 = .ok (.iaload, 1) := dk_46 (dk_at dksX2_fault_0 14 rfl rfl)
theorem dX2_fault_15 : decode cX2_fault 15 = .ok (.goto 18, 3) := dk_167 0 18 (dk_at dksX2_fault_0 15 rfl rfl)
theorem dX2_fault_18 : decode cX2_fault 18 = .ok (.iload_n 1, 1) := dk_27 (dk_at dksX2_fault_0 18 rfl rfl)
theorem dX2_fault_19 : decode cX2_fault 19 = .ok (.iconst 1, 1) := dk_4 (dk_at dksX2_fault_0 19 rfl rfl)
theorem dX2_fault_20 : decode cX2_fault 20 = .ok (.if_icmp .ne 12, 3) := dk_160 0 12 (dk_at dksX2_fault_0 20 rfl rfl)
theorem dX2_fault_23 : decode cX2_fault 23 = .ok (.aload_n 0, 1) := dk_42 (dk_at dksX2_fault_0 23 rfl rfl)
theorem dX2_fault_24 : decode cX2_fault 24 = .ok (.getfield 20, 3) := dk_180 0 20 (dk_at dksX2_fault_1 0 rfl rfl)
theorem dX2_fault_27 : decode cX2_fault 27 = .ok (.iconst 0, 1) := dk_3 (dk_at dksX2_fault_1 3 rfl rfl)
theorem dX2_fault_28 : decode cX2_fault 28 = .ok (.iaload, 1) := dk_46 (dk_at dksX2_fault_1 4 rfl rfl)
theorem dX2_fault_29 : decode cX2_fault 29 = .ok (.goto 4, 3) := dk_167 0 4 (dk_at dksX2_fault_1 5 rfl rfl)
theorem dX2_fault_32 : decode cX2_fault 32 = .ok (.iconst (-1), 1) := dk_2 (dk_at dksX2_fault_1 8 rfl rfl)
theorem dX2_fault_33 : decode cX2_fault 33 = .ok (.ireturn, 1) := dk_172 (dk_at dksX2_fault_1 9 rfl rfl)
abbrev cX2_archive : ByteArray := prog_25_method_70_code
def yX2_archive : MethodName := ⟨RX2, "archive", "(II)I"⟩
def dkwX2_archive_5 : List UInt8 := [16, 254, 172]
abbrev dktX2_archive_5 : List UInt8 := dkwX2_archive_5 ++ []
def dkwX2_archive_4 : List UInt8 := [182, 1, 69, 172, 42, 182, 1, 72, 172, 42, 182, 1, 75, 172, 42, 182, 1, 78, 42, 180, 1, 81, 172]
abbrev dktX2_archive_4 : List UInt8 := dkwX2_archive_4 ++ dktX2_archive_5
def dkwX2_archive_3 : List UInt8 := [42, 180, 0, 35, 3, 46, 172, 42, 182, 1, 63, 172, 42, 182, 1, 66, 172, 42, 180, 0, 253, 172, 42]
abbrev dktX2_archive_3 : List UInt8 := dkwX2_archive_3 ++ dktX2_archive_4
def dkwX2_archive_2 : List UInt8 := [170, 0, 0, 0, 0, 0, 0, 94, 0, 0, 0, 0, 0, 0, 0, 7, 0, 0, 0, 48, 0, 0, 0, 55, 0, 0, 0, 60, 0, 0, 0, 65, 0, 0, 0, 70, 0, 0, 0, 75, 0, 0, 0, 80, 0, 0, 0, 85]
abbrev dktX2_archive_2 : List UInt8 := dkwX2_archive_2 ++ dktX2_archive_3
def dkwX2_archive_1 : List UInt8 := [16, 10, 112, 28, 16, 10, 108, 182, 1, 60, 172, 28]
abbrev dktX2_archive_1 : List UInt8 := dkwX2_archive_1 ++ dktX2_archive_2
def dkwX2_archive_0 : List UInt8 := [42, 3, 181, 0, 60, 42, 27, 182, 1, 57, 154, 0, 6, 16, 254, 172, 28, 16, 10, 161, 0, 16, 42, 28]
abbrev dktX2_archive_0 : List UInt8 := dkwX2_archive_0 ++ dktX2_archive_1
theorem dksX2_archive_0 : cX2_archive.data.toList.drop 0 = dktX2_archive_0 := by decide +kernel
theorem dksX2_archive_1 : cX2_archive.data.toList.drop 24 = dktX2_archive_1 := dk_seg dksX2_archive_0 24 rfl rfl
theorem dksX2_archive_2 : cX2_archive.data.toList.drop 36 = dktX2_archive_2 := dk_seg dksX2_archive_1 12 rfl rfl
theorem dksX2_archive_3 : cX2_archive.data.toList.drop 84 = dktX2_archive_3 := dk_seg dksX2_archive_2 48 rfl rfl
theorem dksX2_archive_4 : cX2_archive.data.toList.drop 107 = dktX2_archive_4 := dk_seg dksX2_archive_3 23 rfl rfl
theorem dksX2_archive_5 : cX2_archive.data.toList.drop 130 = dktX2_archive_5 := dk_seg dksX2_archive_4 23 rfl rfl
theorem dX2_archive_0 : decode cX2_archive 0 = .ok (.aload_n 0, 1) := dk_42 (dk_at dksX2_archive_0 0 rfl rfl)
theorem dX2_archive_1 : decode cX2_archive 1 = .ok (.iconst 0, 1) := dk_3 (dk_at dksX2_archive_0 1 rfl rfl)
theorem dX2_archive_2 : decode cX2_archive 2 = .ok (.putfield 60, 3) := dk_181 0 60 (dk_at dksX2_archive_0 2 rfl rfl)
theorem dX2_archive_5 : decode cX2_archive 5 = .ok (.aload_n 0, 1) := dk_42 (dk_at dksX2_archive_0 5 rfl rfl)
theorem dX2_archive_6 : decode cX2_archive 6 = .ok (.iload_n 1, 1) := dk_27 (dk_at dksX2_archive_0 6 rfl rfl)
theorem dX2_archive_7 : decode cX2_archive 7 = .ok (.invokevirtual 313, 3) := dk_182 1 57 (dk_at dksX2_archive_0 7 rfl rfl)
theorem dX2_archive_10 : decode cX2_archive 10 = .ok (.ifCond .ne 6, 3) := dk_154 0 6 (dk_at dksX2_archive_0 10 rfl rfl)
theorem dX2_archive_13 : decode cX2_archive 13 = .ok (.bipush (-2), 2) := dk_16 254 (dk_at dksX2_archive_0 13 rfl rfl)
theorem dX2_archive_15 : decode cX2_archive 15 = .ok (.ireturn, 1) := dk_172 (dk_at dksX2_archive_0 15 rfl rfl)
theorem dX2_archive_16 : decode cX2_archive 16 = .ok (.iload_n 2, 1) := dk_28 (dk_at dksX2_archive_0 16 rfl rfl)
theorem dX2_archive_17 : decode cX2_archive 17 = .ok (.bipush 10, 2) := dk_16 10 (dk_at dksX2_archive_0 17 rfl rfl)
theorem dX2_archive_19 : decode cX2_archive 19 = .ok (.if_icmp .lt 16, 3) := dk_161 0 16 (dk_at dksX2_archive_0 19 rfl rfl)
theorem dX2_archive_22 : decode cX2_archive 22 = .ok (.aload_n 0, 1) := dk_42 (dk_at dksX2_archive_0 22 rfl rfl)
theorem dX2_archive_23 : decode cX2_archive 23 = .ok (.iload_n 2, 1) := dk_28 (dk_at dksX2_archive_0 23 rfl rfl)
theorem dX2_archive_24 : decode cX2_archive 24 = .ok (.bipush 10, 2) := dk_16 10 (dk_at dksX2_archive_1 0 rfl rfl)
theorem dX2_archive_26 : decode cX2_archive 26 = .ok (.irem, 1) := dk_112 (dk_at dksX2_archive_1 2 rfl rfl)
theorem dX2_archive_27 : decode cX2_archive 27 = .ok (.iload_n 2, 1) := dk_28 (dk_at dksX2_archive_1 3 rfl rfl)
theorem dX2_archive_28 : decode cX2_archive 28 = .ok (.bipush 10, 2) := dk_16 10 (dk_at dksX2_archive_1 4 rfl rfl)
theorem dX2_archive_30 : decode cX2_archive 30 = .ok (.idiv, 1) := dk_108 (dk_at dksX2_archive_1 6 rfl rfl)
theorem dX2_archive_31 : decode cX2_archive 31 = .ok (.invokevirtual 316, 3) := dk_182 1 60 (dk_at dksX2_archive_1 7 rfl rfl)
theorem dX2_archive_34 : decode cX2_archive 34 = .ok (.ireturn, 1) := dk_172 (dk_at dksX2_archive_1 10 rfl rfl)
theorem dX2_archive_35 : decode cX2_archive 35 = .ok (.iload_n 2, 1) := dk_28 (dk_at dksX2_archive_1 11 rfl rfl)
theorem dX2_archive_36 : decode cX2_archive 36 = .ok (.tableswitch 94 0 7 #[48, 55, 60, 65, 70, 75, 80, 85], 48) := by decide +kernel
theorem dX2_archive_84 : decode cX2_archive 84 = .ok (.aload_n 0, 1) := dk_42 (dk_at dksX2_archive_3 0 rfl rfl)
theorem dX2_archive_85 : decode cX2_archive 85 = .ok (.getfield 35, 3) := dk_180 0 35 (dk_at dksX2_archive_3 1 rfl rfl)
theorem dX2_archive_88 : decode cX2_archive 88 = .ok (.iconst 0, 1) := dk_3 (dk_at dksX2_archive_3 4 rfl rfl)
theorem dX2_archive_89 : decode cX2_archive 89 = .ok (.iaload, 1) := dk_46 (dk_at dksX2_archive_3 5 rfl rfl)
theorem dX2_archive_90 : decode cX2_archive 90 = .ok (.ireturn, 1) := dk_172 (dk_at dksX2_archive_3 6 rfl rfl)
theorem dX2_archive_91 : decode cX2_archive 91 = .ok (.aload_n 0, 1) := dk_42 (dk_at dksX2_archive_3 7 rfl rfl)
theorem dX2_archive_92 : decode cX2_archive 92 = .ok (.invokevirtual 319, 3) := dk_182 1 63 (dk_at dksX2_archive_3 8 rfl rfl)
theorem dX2_archive_95 : decode cX2_archive 95 = .ok (.ireturn, 1) := dk_172 (dk_at dksX2_archive_3 11 rfl rfl)
theorem dX2_archive_96 : decode cX2_archive 96 = .ok (.aload_n 0, 1) := dk_42 (dk_at dksX2_archive_3 12 rfl rfl)
theorem dX2_archive_97 : decode cX2_archive 97 = .ok (.invokevirtual 322, 3) := dk_182 1 66 (dk_at dksX2_archive_3 13 rfl rfl)
theorem dX2_archive_100 : decode cX2_archive 100 = .ok (.ireturn, 1) := dk_172 (dk_at dksX2_archive_3 16 rfl rfl)
theorem dX2_archive_101 : decode cX2_archive 101 = .ok (.aload_n 0, 1) := dk_42 (dk_at dksX2_archive_3 17 rfl rfl)
theorem dX2_archive_102 : decode cX2_archive 102 = .ok (.getfield 253, 3) := dk_180 0 253 (dk_at dksX2_archive_3 18 rfl rfl)
theorem dX2_archive_105 : decode cX2_archive 105 = .ok (.ireturn, 1) := dk_172 (dk_at dksX2_archive_3 21 rfl rfl)
theorem dX2_archive_106 : decode cX2_archive 106 = .ok (.aload_n 0, 1) := dk_42 (dk_at dksX2_archive_3 22 rfl rfl)
theorem dX2_archive_107 : decode cX2_archive 107 = .ok (.invokevirtual 325, 3) := dk_182 1 69 (dk_at dksX2_archive_4 0 rfl rfl)
theorem dX2_archive_110 : decode cX2_archive 110 = .ok (.ireturn, 1) := dk_172 (dk_at dksX2_archive_4 3 rfl rfl)
theorem dX2_archive_111 : decode cX2_archive 111 = .ok (.aload_n 0, 1) := dk_42 (dk_at dksX2_archive_4 4 rfl rfl)
theorem dX2_archive_112 : decode cX2_archive 112 = .ok (.invokevirtual 328, 3) := dk_182 1 72 (dk_at dksX2_archive_4 5 rfl rfl)
theorem dX2_archive_115 : decode cX2_archive 115 = .ok (.ireturn, 1) := dk_172 (dk_at dksX2_archive_4 8 rfl rfl)
theorem dX2_archive_116 : decode cX2_archive 116 = .ok (.aload_n 0, 1) := dk_42 (dk_at dksX2_archive_4 9 rfl rfl)
theorem dX2_archive_117 : decode cX2_archive 117 = .ok (.invokevirtual 331, 3) := dk_182 1 75 (dk_at dksX2_archive_4 10 rfl rfl)
theorem dX2_archive_120 : decode cX2_archive 120 = .ok (.ireturn, 1) := dk_172 (dk_at dksX2_archive_4 13 rfl rfl)
theorem dX2_archive_121 : decode cX2_archive 121 = .ok (.aload_n 0, 1) := dk_42 (dk_at dksX2_archive_4 14 rfl rfl)
theorem dX2_archive_122 : decode cX2_archive 122 = .ok (.invokevirtual 334, 3) := dk_182 1 78 (dk_at dksX2_archive_4 15 rfl rfl)
theorem dX2_archive_125 : decode cX2_archive 125 = .ok (.aload_n 0, 1) := dk_42 (dk_at dksX2_archive_4 18 rfl rfl)
theorem dX2_archive_126 : decode cX2_archive 126 = .ok (.getfield 337, 3) := dk_180 1 81 (dk_at dksX2_archive_4 19 rfl rfl)
theorem dX2_archive_129 : decode cX2_archive 129 = .ok (.ireturn, 1) := dk_172 (dk_at dksX2_archive_4 22 rfl rfl)
theorem dX2_archive_130 : decode cX2_archive 130 = .ok (.bipush (-2), 2) := dk_16 254 (dk_at dksX2_archive_5 0 rfl rfl)
theorem dX2_archive_132 : decode cX2_archive 132 = .ok (.ireturn, 1) := dk_172 (dk_at dksX2_archive_5 2 rfl rfl)
abbrev cX2_hand : ByteArray := prog_25_method_45_code
def yX2_hand : MethodName := ⟨RX2, "hand", "(I)Z"⟩
def dkwX2_hand_2 : List UInt8 := [180, 0, 35, 8, 46, 181, 0, 253, 4, 172]
abbrev dktX2_hand_2 : List UInt8 := dkwX2_hand_2 ++ []
def dkwX2_hand_1 : List UInt8 := [28, 42, 180, 0, 26, 17, 5, 246, 27, 104, 28, 96, 46, 79, 132, 2, 1, 167, 255, 228, 42, 42]
abbrev dktX2_hand_1 : List UInt8 := dkwX2_hand_1 ++ dktX2_hand_2
def dkwX2_hand_0 : List UInt8 := [42, 3, 27, 182, 0, 243, 154, 0, 5, 3, 172, 3, 61, 28, 17, 5, 246, 162, 0, 27, 42, 180, 0, 35]
abbrev dktX2_hand_0 : List UInt8 := dkwX2_hand_0 ++ dktX2_hand_1
theorem dksX2_hand_0 : cX2_hand.data.toList.drop 0 = dktX2_hand_0 := by decide +kernel
theorem dksX2_hand_1 : cX2_hand.data.toList.drop 24 = dktX2_hand_1 := dk_seg dksX2_hand_0 24 rfl rfl
theorem dksX2_hand_2 : cX2_hand.data.toList.drop 46 = dktX2_hand_2 := dk_seg dksX2_hand_1 22 rfl rfl
theorem dX2_hand_0 : decode cX2_hand 0 = .ok (.aload_n 0, 1) := dk_42 (dk_at dksX2_hand_0 0 rfl rfl)
theorem dX2_hand_1 : decode cX2_hand 1 = .ok (.iconst 0, 1) := dk_3 (dk_at dksX2_hand_0 1 rfl rfl)
theorem dX2_hand_2 : decode cX2_hand 2 = .ok (.iload_n 1, 1) := dk_27 (dk_at dksX2_hand_0 2 rfl rfl)
theorem dX2_hand_3 : decode cX2_hand 3 = .ok (.invokevirtual 243, 3) := dk_182 0 243 (dk_at dksX2_hand_0 3 rfl rfl)
theorem dX2_hand_6 : decode cX2_hand 6 = .ok (.ifCond .ne 5, 3) := dk_154 0 5 (dk_at dksX2_hand_0 6 rfl rfl)
theorem dX2_hand_9 : decode cX2_hand 9 = .ok (.iconst 0, 1) := dk_3 (dk_at dksX2_hand_0 9 rfl rfl)
theorem dX2_hand_10 : decode cX2_hand 10 = .ok (.ireturn, 1) := dk_172 (dk_at dksX2_hand_0 10 rfl rfl)
theorem dX2_hand_11 : decode cX2_hand 11 = .ok (.iconst 0, 1) := dk_3 (dk_at dksX2_hand_0 11 rfl rfl)
theorem dX2_hand_12 : decode cX2_hand 12 = .ok (.istore_n 2, 1) := dk_61 (dk_at dksX2_hand_0 12 rfl rfl)
theorem dX2_hand_13 : decode cX2_hand 13 = .ok (.iload_n 2, 1) := dk_28 (dk_at dksX2_hand_0 13 rfl rfl)
theorem dX2_hand_14 : decode cX2_hand 14 = .ok (.sipush 1526, 3) := dk_17 5 246 (dk_at dksX2_hand_0 14 rfl rfl)
theorem dX2_hand_17 : decode cX2_hand 17 = .ok (.if_icmp .ge 27, 3) := dk_162 0 27 (dk_at dksX2_hand_0 17 rfl rfl)
theorem dX2_hand_20 : decode cX2_hand 20 = .ok (.aload_n 0, 1) := dk_42 (dk_at dksX2_hand_0 20 rfl rfl)
theorem dX2_hand_21 : decode cX2_hand 21 = .ok (.getfield 35, 3) := dk_180 0 35 (dk_at dksX2_hand_0 21 rfl rfl)
theorem dX2_hand_24 : decode cX2_hand 24 = .ok (.iload_n 2, 1) := dk_28 (dk_at dksX2_hand_1 0 rfl rfl)
theorem dX2_hand_25 : decode cX2_hand 25 = .ok (.aload_n 0, 1) := dk_42 (dk_at dksX2_hand_1 1 rfl rfl)
theorem dX2_hand_26 : decode cX2_hand 26 = .ok (.getfield 26, 3) := dk_180 0 26 (dk_at dksX2_hand_1 2 rfl rfl)
theorem dX2_hand_29 : decode cX2_hand 29 = .ok (.sipush 1526, 3) := dk_17 5 246 (dk_at dksX2_hand_1 5 rfl rfl)
theorem dX2_hand_32 : decode cX2_hand 32 = .ok (.iload_n 1, 1) := dk_27 (dk_at dksX2_hand_1 8 rfl rfl)
theorem dX2_hand_33 : decode cX2_hand 33 = .ok (.imul, 1) := dk_104 (dk_at dksX2_hand_1 9 rfl rfl)
theorem dX2_hand_34 : decode cX2_hand 34 = .ok (.iload_n 2, 1) := dk_28 (dk_at dksX2_hand_1 10 rfl rfl)
theorem dX2_hand_35 : decode cX2_hand 35 = .ok (.iadd, 1) := dk_96 (dk_at dksX2_hand_1 11 rfl rfl)
theorem dX2_hand_36 : decode cX2_hand 36 = .ok (.iaload, 1) := dk_46 (dk_at dksX2_hand_1 12 rfl rfl)
theorem dX2_hand_37 : decode cX2_hand 37 = .ok (.iastore, 1) := dk_79 (dk_at dksX2_hand_1 13 rfl rfl)
theorem dX2_hand_38 : decode cX2_hand 38 = .ok (.iinc 2 1, 3) := dk_132 2 1 (dk_at dksX2_hand_1 14 rfl rfl)
theorem dX2_hand_41 : decode cX2_hand 41 = .ok (.goto (-28), 3) := dk_167 255 228 (dk_at dksX2_hand_1 17 rfl rfl)
theorem dX2_hand_44 : decode cX2_hand 44 = .ok (.aload_n 0, 1) := dk_42 (dk_at dksX2_hand_1 20 rfl rfl)
theorem dX2_hand_45 : decode cX2_hand 45 = .ok (.aload_n 0, 1) := dk_42 (dk_at dksX2_hand_1 21 rfl rfl)
theorem dX2_hand_46 : decode cX2_hand 46 = .ok (.getfield 35, 3) := dk_180 0 35 (dk_at dksX2_hand_2 0 rfl rfl)
theorem dX2_hand_49 : decode cX2_hand 49 = .ok (.iconst 5, 1) := dk_8 (dk_at dksX2_hand_2 3 rfl rfl)
theorem dX2_hand_50 : decode cX2_hand 50 = .ok (.iaload, 1) := dk_46 (dk_at dksX2_hand_2 4 rfl rfl)
theorem dX2_hand_51 : decode cX2_hand 51 = .ok (.putfield 253, 3) := dk_181 0 253 (dk_at dksX2_hand_2 5 rfl rfl)
theorem dX2_hand_54 : decode cX2_hand 54 = .ok (.iconst 1, 1) := dk_4 (dk_at dksX2_hand_2 8 rfl rfl)
theorem dX2_hand_55 : decode cX2_hand 55 = .ok (.ireturn, 1) := dk_172 (dk_at dksX2_hand_2 9 rfl rfl)
abbrev cX2_ofDoc : ByteArray := prog_25_method_69_code
def yX2_ofDoc : MethodName := ⟨RX2, "ofDoc", "(II)I"⟩
def dkwX2_ofDoc_3 : List UInt8 := [182, 1, 51, 172, 42, 27, 182, 1, 54, 172, 16, 254, 172]
abbrev dktX2_ofDoc_3 : List UInt8 := dkwX2_ofDoc_3 ++ []
def dkwX2_ofDoc_2 : List UInt8 := [42, 27, 182, 1, 3, 172, 42, 27, 28, 6, 160, 0, 7, 4, 167, 0, 4, 3, 182, 1, 47, 172, 42, 27]
abbrev dktX2_ofDoc_2 : List UInt8 := dkwX2_ofDoc_2 ++ dktX2_ofDoc_3
def dkwX2_ofDoc_1 : List UInt8 := [170, 0, 0, 0, 0, 0, 0, 70, 0, 0, 0, 1, 0, 0, 0, 5, 0, 0, 0, 36, 0, 0, 0, 42, 0, 0, 0, 42, 0, 0, 0, 58, 0, 0, 0, 64]
abbrev dktX2_ofDoc_1 : List UInt8 := dkwX2_ofDoc_1 ++ dktX2_ofDoc_2
def dkwX2_ofDoc_0 : List UInt8 := [42, 27, 182, 1, 0, 154, 0, 6, 16, 254, 172, 28]
abbrev dktX2_ofDoc_0 : List UInt8 := dkwX2_ofDoc_0 ++ dktX2_ofDoc_1
theorem dksX2_ofDoc_0 : cX2_ofDoc.data.toList.drop 0 = dktX2_ofDoc_0 := by decide +kernel
theorem dksX2_ofDoc_1 : cX2_ofDoc.data.toList.drop 12 = dktX2_ofDoc_1 := dk_seg dksX2_ofDoc_0 12 rfl rfl
theorem dksX2_ofDoc_2 : cX2_ofDoc.data.toList.drop 48 = dktX2_ofDoc_2 := dk_seg dksX2_ofDoc_1 36 rfl rfl
theorem dksX2_ofDoc_3 : cX2_ofDoc.data.toList.drop 72 = dktX2_ofDoc_3 := dk_seg dksX2_ofDoc_2 24 rfl rfl
theorem dX2_ofDoc_0 : decode cX2_ofDoc 0 = .ok (.aload_n 0, 1) := dk_42 (dk_at dksX2_ofDoc_0 0 rfl rfl)
theorem dX2_ofDoc_1 : decode cX2_ofDoc 1 = .ok (.iload_n 1, 1) := dk_27 (dk_at dksX2_ofDoc_0 1 rfl rfl)
theorem dX2_ofDoc_2 : decode cX2_ofDoc 2 = .ok (.invokevirtual 256, 3) := dk_182 1 0 (dk_at dksX2_ofDoc_0 2 rfl rfl)
theorem dX2_ofDoc_5 : decode cX2_ofDoc 5 = .ok (.ifCond .ne 6, 3) := dk_154 0 6 (dk_at dksX2_ofDoc_0 5 rfl rfl)
theorem dX2_ofDoc_8 : decode cX2_ofDoc 8 = .ok (.bipush (-2), 2) := dk_16 254 (dk_at dksX2_ofDoc_0 8 rfl rfl)
theorem dX2_ofDoc_10 : decode cX2_ofDoc 10 = .ok (.ireturn, 1) := dk_172 (dk_at dksX2_ofDoc_0 10 rfl rfl)
theorem dX2_ofDoc_11 : decode cX2_ofDoc 11 = .ok (.iload_n 2, 1) := dk_28 (dk_at dksX2_ofDoc_0 11 rfl rfl)
theorem dX2_ofDoc_12 : decode cX2_ofDoc 12 = .ok (.tableswitch 70 1 5 #[36, 42, 42, 58, 64], 36) := by decide +kernel
theorem dX2_ofDoc_48 : decode cX2_ofDoc 48 = .ok (.aload_n 0, 1) := dk_42 (dk_at dksX2_ofDoc_2 0 rfl rfl)
theorem dX2_ofDoc_49 : decode cX2_ofDoc 49 = .ok (.iload_n 1, 1) := dk_27 (dk_at dksX2_ofDoc_2 1 rfl rfl)
theorem dX2_ofDoc_50 : decode cX2_ofDoc 50 = .ok (.invokevirtual 259, 3) := dk_182 1 3 (dk_at dksX2_ofDoc_2 2 rfl rfl)
theorem dX2_ofDoc_53 : decode cX2_ofDoc 53 = .ok (.ireturn, 1) := dk_172 (dk_at dksX2_ofDoc_2 5 rfl rfl)
theorem dX2_ofDoc_54 : decode cX2_ofDoc 54 = .ok (.aload_n 0, 1) := dk_42 (dk_at dksX2_ofDoc_2 6 rfl rfl)
theorem dX2_ofDoc_55 : decode cX2_ofDoc 55 = .ok (.iload_n 1, 1) := dk_27 (dk_at dksX2_ofDoc_2 7 rfl rfl)
theorem dX2_ofDoc_56 : decode cX2_ofDoc 56 = .ok (.iload_n 2, 1) := dk_28 (dk_at dksX2_ofDoc_2 8 rfl rfl)
theorem dX2_ofDoc_57 : decode cX2_ofDoc 57 = .ok (.iconst 3, 1) := dk_6 (dk_at dksX2_ofDoc_2 9 rfl rfl)
theorem dX2_ofDoc_58 : decode cX2_ofDoc 58 = .ok (.if_icmp .ne 7, 3) := dk_160 0 7 (dk_at dksX2_ofDoc_2 10 rfl rfl)
theorem dX2_ofDoc_61 : decode cX2_ofDoc 61 = .ok (.iconst 1, 1) := dk_4 (dk_at dksX2_ofDoc_2 13 rfl rfl)
theorem dX2_ofDoc_62 : decode cX2_ofDoc 62 = .ok (.goto 4, 3) := dk_167 0 4 (dk_at dksX2_ofDoc_2 14 rfl rfl)
theorem dX2_ofDoc_65 : decode cX2_ofDoc 65 = .ok (.iconst 0, 1) := dk_3 (dk_at dksX2_ofDoc_2 17 rfl rfl)
theorem dX2_ofDoc_66 : decode cX2_ofDoc 66 = .ok (.invokevirtual 303, 3) := dk_182 1 47 (dk_at dksX2_ofDoc_2 18 rfl rfl)
theorem dX2_ofDoc_69 : decode cX2_ofDoc 69 = .ok (.ireturn, 1) := dk_172 (dk_at dksX2_ofDoc_2 21 rfl rfl)
theorem dX2_ofDoc_70 : decode cX2_ofDoc 70 = .ok (.aload_n 0, 1) := dk_42 (dk_at dksX2_ofDoc_2 22 rfl rfl)
theorem dX2_ofDoc_71 : decode cX2_ofDoc 71 = .ok (.iload_n 1, 1) := dk_27 (dk_at dksX2_ofDoc_2 23 rfl rfl)
theorem dX2_ofDoc_72 : decode cX2_ofDoc 72 = .ok (.invokevirtual 307, 3) := dk_182 1 51 (dk_at dksX2_ofDoc_3 0 rfl rfl)
theorem dX2_ofDoc_75 : decode cX2_ofDoc 75 = .ok (.ireturn, 1) := dk_172 (dk_at dksX2_ofDoc_3 3 rfl rfl)
theorem dX2_ofDoc_76 : decode cX2_ofDoc 76 = .ok (.aload_n 0, 1) := dk_42 (dk_at dksX2_ofDoc_3 4 rfl rfl)
theorem dX2_ofDoc_77 : decode cX2_ofDoc 77 = .ok (.iload_n 1, 1) := dk_27 (dk_at dksX2_ofDoc_3 5 rfl rfl)
theorem dX2_ofDoc_78 : decode cX2_ofDoc 78 = .ok (.invokevirtual 310, 3) := dk_182 1 54 (dk_at dksX2_ofDoc_3 6 rfl rfl)
theorem dX2_ofDoc_81 : decode cX2_ofDoc 81 = .ok (.ireturn, 1) := dk_172 (dk_at dksX2_ofDoc_3 9 rfl rfl)
theorem dX2_ofDoc_82 : decode cX2_ofDoc 82 = .ok (.bipush (-2), 2) := dk_16 254 (dk_at dksX2_ofDoc_3 10 rfl rfl)
theorem dX2_ofDoc_84 : decode cX2_ofDoc 84 = .ok (.ireturn, 1) := dk_172 (dk_at dksX2_ofDoc_3 12 rfl rfl)
abbrev cX2_isDoc : ByteArray := prog_25_method_46_code
def yX2_isDoc : MethodName := ⟨RX2, "isDoc", "(I)Z"⟩
def dkwX2_isDoc_0 : List UInt8 := [27, 3, 42, 180, 0, 35, 3, 46, 4, 100, 184, 0, 72, 172]
abbrev dktX2_isDoc_0 : List UInt8 := dkwX2_isDoc_0 ++ []
theorem dksX2_isDoc_0 : cX2_isDoc.data.toList.drop 0 = dktX2_isDoc_0 := by decide +kernel
theorem dX2_isDoc_0 : decode cX2_isDoc 0 = .ok (.iload_n 1, 1) := dk_27 (dk_at dksX2_isDoc_0 0 rfl rfl)
theorem dX2_isDoc_1 : decode cX2_isDoc 1 = .ok (.iconst 0, 1) := dk_3 (dk_at dksX2_isDoc_0 1 rfl rfl)
theorem dX2_isDoc_2 : decode cX2_isDoc 2 = .ok (.aload_n 0, 1) := dk_42 (dk_at dksX2_isDoc_0 2 rfl rfl)
theorem dX2_isDoc_3 : decode cX2_isDoc 3 = .ok (.getfield 35, 3) := dk_180 0 35 (dk_at dksX2_isDoc_0 3 rfl rfl)
theorem dX2_isDoc_6 : decode cX2_isDoc 6 = .ok (.iconst 0, 1) := dk_3 (dk_at dksX2_isDoc_0 6 rfl rfl)
theorem dX2_isDoc_7 : decode cX2_isDoc 7 = .ok (.iaload, 1) := dk_46 (dk_at dksX2_isDoc_0 7 rfl rfl)
theorem dX2_isDoc_8 : decode cX2_isDoc 8 = .ok (.iconst 1, 1) := dk_4 (dk_at dksX2_isDoc_0 8 rfl rfl)
theorem dX2_isDoc_9 : decode cX2_isDoc 9 = .ok (.isub, 1) := dk_100 (dk_at dksX2_isDoc_0 9 rfl rfl)
theorem dX2_isDoc_10 : decode cX2_isDoc 10 = .ok (.invokestatic 72, 3) := dk_184 0 72 (dk_at dksX2_isDoc_0 10 rfl rfl)
theorem dX2_isDoc_13 : decode cX2_isDoc 13 = .ok (.ireturn, 1) := dk_172 (dk_at dksX2_isDoc_0 13 rfl rfl)
abbrev cX2_versions : ByteArray := prog_25_method_47_code
def yX2_versions : MethodName := ⟨RX2, "versions", "(I)I"⟩
def dkwX2_versions_0 : List UInt8 := [42, 180, 0, 35, 4, 27, 96, 46, 172]
abbrev dktX2_versions_0 : List UInt8 := dkwX2_versions_0 ++ []
theorem dksX2_versions_0 : cX2_versions.data.toList.drop 0 = dktX2_versions_0 := by decide +kernel
theorem dX2_versions_0 : decode cX2_versions 0 = .ok (.aload_n 0, 1) := dk_42 (dk_at dksX2_versions_0 0 rfl rfl)
theorem dX2_versions_1 : decode cX2_versions 1 = .ok (.getfield 35, 3) := dk_180 0 35 (dk_at dksX2_versions_0 1 rfl rfl)
theorem dX2_versions_4 : decode cX2_versions 4 = .ok (.iconst 1, 1) := dk_4 (dk_at dksX2_versions_0 4 rfl rfl)
theorem dX2_versions_5 : decode cX2_versions 5 = .ok (.iload_n 1, 1) := dk_27 (dk_at dksX2_versions_0 5 rfl rfl)
theorem dX2_versions_6 : decode cX2_versions 6 = .ok (.iadd, 1) := dk_96 (dk_at dksX2_versions_0 6 rfl rfl)
theorem dX2_versions_7 : decode cX2_versions 7 = .ok (.iaload, 1) := dk_46 (dk_at dksX2_versions_0 7 rfl rfl)
theorem dX2_versions_8 : decode cX2_versions 8 = .ok (.ireturn, 1) := dk_172 (dk_at dksX2_versions_0 8 rfl rfl)
abbrev cX2_passages : ByteArray := prog_25_method_66_code
def yX2_passages : MethodName := ⟨RX2, "passages", "(IZ)I"⟩
def dkwX2_passages_5 : List UInt8 := [167, 0, 4, 29, 172]
abbrev dktX2_passages_5 : List UInt8 := dkwX2_passages_5 ++ []
def dkwX2_passages_4 : List UInt8 := [167, 255, 236, 21, 4, 21, 7, 184, 1, 41, 54, 4, 132, 5, 1, 167, 255, 158, 28, 153, 0, 8, 21, 4]
abbrev dktX2_passages_4 : List UInt8 := dkwX2_passages_4 ++ dktX2_passages_5
def dkwX2_passages_3 : List UInt8 := [54, 8, 21, 8, 2, 159, 0, 20, 132, 7, 1, 42, 27, 21, 8, 21, 6, 182, 1, 35, 54, 8]
abbrev dktX2_passages_3 : List UInt8 := dkwX2_passages_3 ++ dktX2_passages_4
def dkwX2_passages_2 : List UInt8 := [153, 0, 57, 42, 27, 21, 5, 21, 6, 182, 1, 38, 154, 0, 45, 132, 3, 1, 3, 54, 7, 21, 5]
abbrev dktX2_passages_2 : List UInt8 := dkwX2_passages_2 ++ dktX2_passages_3
def dkwX2_passages_1 : List UInt8 := [21, 5, 96, 46, 27, 160, 0, 12, 42, 21, 5, 182, 1, 22, 167, 0, 4, 3, 54, 6, 21, 6]
abbrev dktX2_passages_1 : List UInt8 := dkwX2_passages_1 ++ dktX2_passages_2
def dkwX2_passages_0 : List UInt8 := [3, 62, 3, 54, 4, 3, 54, 5, 21, 5, 42, 180, 0, 253, 162, 0, 95, 42, 180, 0, 35, 17, 4, 182]
abbrev dktX2_passages_0 : List UInt8 := dkwX2_passages_0 ++ dktX2_passages_1
theorem dksX2_passages_0 : cX2_passages.data.toList.drop 0 = dktX2_passages_0 := by decide +kernel
theorem dksX2_passages_1 : cX2_passages.data.toList.drop 24 = dktX2_passages_1 := dk_seg dksX2_passages_0 24 rfl rfl
theorem dksX2_passages_2 : cX2_passages.data.toList.drop 46 = dktX2_passages_2 := dk_seg dksX2_passages_1 22 rfl rfl
theorem dksX2_passages_3 : cX2_passages.data.toList.drop 69 = dktX2_passages_3 := dk_seg dksX2_passages_2 23 rfl rfl
theorem dksX2_passages_4 : cX2_passages.data.toList.drop 91 = dktX2_passages_4 := dk_seg dksX2_passages_3 22 rfl rfl
theorem dksX2_passages_5 : cX2_passages.data.toList.drop 115 = dktX2_passages_5 := dk_seg dksX2_passages_4 24 rfl rfl
theorem dX2_passages_0 : decode cX2_passages 0 = .ok (.iconst 0, 1) := dk_3 (dk_at dksX2_passages_0 0 rfl rfl)
theorem dX2_passages_1 : decode cX2_passages 1 = .ok (.istore_n 3, 1) := dk_62 (dk_at dksX2_passages_0 1 rfl rfl)
theorem dX2_passages_2 : decode cX2_passages 2 = .ok (.iconst 0, 1) := dk_3 (dk_at dksX2_passages_0 2 rfl rfl)
theorem dX2_passages_3 : decode cX2_passages 3 = .ok (.istore 4, 2) := dk_54 4 (dk_at dksX2_passages_0 3 rfl rfl)
theorem dX2_passages_5 : decode cX2_passages 5 = .ok (.iconst 0, 1) := dk_3 (dk_at dksX2_passages_0 5 rfl rfl)
theorem dX2_passages_6 : decode cX2_passages 6 = .ok (.istore 5, 2) := dk_54 5 (dk_at dksX2_passages_0 6 rfl rfl)
theorem dX2_passages_8 : decode cX2_passages 8 = .ok (.iload 5, 2) := dk_21 5 (dk_at dksX2_passages_0 8 rfl rfl)
theorem dX2_passages_10 : decode cX2_passages 10 = .ok (.aload_n 0, 1) := dk_42 (dk_at dksX2_passages_0 10 rfl rfl)
theorem dX2_passages_11 : decode cX2_passages 11 = .ok (.getfield 253, 3) := dk_180 0 253 (dk_at dksX2_passages_0 11 rfl rfl)
theorem dX2_passages_14 : decode cX2_passages 14 = .ok (.if_icmp .ge 95, 3) := dk_162 0 95 (dk_at dksX2_passages_0 14 rfl rfl)
theorem dX2_passages_17 : decode cX2_passages 17 = .ok (.aload_n 0, 1) := dk_42 (dk_at dksX2_passages_0 17 rfl rfl)
theorem dX2_passages_18 : decode cX2_passages 18 = .ok (.getfield 35, 3) := dk_180 0 35 (dk_at dksX2_passages_0 18 rfl rfl)
theorem dX2_passages_21 : decode cX2_passages 21 = .ok (.sipush 1206, 3) := dk_17 4 182 (dk_at dksX2_passages_0 21 rfl rfl)
theorem dX2_passages_24 : decode cX2_passages 24 = .ok (.iload 5, 2) := dk_21 5 (dk_at dksX2_passages_1 0 rfl rfl)
theorem dX2_passages_26 : decode cX2_passages 26 = .ok (.iadd, 1) := dk_96 (dk_at dksX2_passages_1 2 rfl rfl)
theorem dX2_passages_27 : decode cX2_passages 27 = .ok (.iaload, 1) := dk_46 (dk_at dksX2_passages_1 3 rfl rfl)
theorem dX2_passages_28 : decode cX2_passages 28 = .ok (.iload_n 1, 1) := dk_27 (dk_at dksX2_passages_1 4 rfl rfl)
theorem dX2_passages_29 : decode cX2_passages 29 = .ok (.if_icmp .ne 12, 3) := dk_160 0 12 (dk_at dksX2_passages_1 5 rfl rfl)
theorem dX2_passages_32 : decode cX2_passages 32 = .ok (.aload_n 0, 1) := dk_42 (dk_at dksX2_passages_1 8 rfl rfl)
theorem dX2_passages_33 : decode cX2_passages 33 = .ok (.iload 5, 2) := dk_21 5 (dk_at dksX2_passages_1 9 rfl rfl)
theorem dX2_passages_35 : decode cX2_passages 35 = .ok (.invokevirtual 278, 3) := dk_182 1 22 (dk_at dksX2_passages_1 11 rfl rfl)
theorem dX2_passages_38 : decode cX2_passages 38 = .ok (.goto 4, 3) := dk_167 0 4 (dk_at dksX2_passages_1 14 rfl rfl)
theorem dX2_passages_41 : decode cX2_passages 41 = .ok (.iconst 0, 1) := dk_3 (dk_at dksX2_passages_1 17 rfl rfl)
theorem dX2_passages_42 : decode cX2_passages 42 = .ok (.istore 6, 2) := dk_54 6 (dk_at dksX2_passages_1 18 rfl rfl)
theorem dX2_passages_44 : decode cX2_passages 44 = .ok (.iload 6, 2) := dk_21 6 (dk_at dksX2_passages_1 20 rfl rfl)
theorem dX2_passages_46 : decode cX2_passages 46 = .ok (.ifCond .eq 57, 3) := dk_153 0 57 (dk_at dksX2_passages_2 0 rfl rfl)
theorem dX2_passages_49 : decode cX2_passages 49 = .ok (.aload_n 0, 1) := dk_42 (dk_at dksX2_passages_2 3 rfl rfl)
theorem dX2_passages_50 : decode cX2_passages 50 = .ok (.iload_n 1, 1) := dk_27 (dk_at dksX2_passages_2 4 rfl rfl)
theorem dX2_passages_51 : decode cX2_passages 51 = .ok (.iload 5, 2) := dk_21 5 (dk_at dksX2_passages_2 5 rfl rfl)
theorem dX2_passages_53 : decode cX2_passages 53 = .ok (.iload 6, 2) := dk_21 6 (dk_at dksX2_passages_2 7 rfl rfl)
theorem dX2_passages_55 : decode cX2_passages 55 = .ok (.invokevirtual 294, 3) := dk_182 1 38 (dk_at dksX2_passages_2 9 rfl rfl)
theorem dX2_passages_58 : decode cX2_passages 58 = .ok (.ifCond .ne 45, 3) := dk_154 0 45 (dk_at dksX2_passages_2 12 rfl rfl)
theorem dX2_passages_61 : decode cX2_passages 61 = .ok (.iinc 3 1, 3) := dk_132 3 1 (dk_at dksX2_passages_2 15 rfl rfl)
theorem dX2_passages_64 : decode cX2_passages 64 = .ok (.iconst 0, 1) := dk_3 (dk_at dksX2_passages_2 18 rfl rfl)
theorem dX2_passages_65 : decode cX2_passages 65 = .ok (.istore 7, 2) := dk_54 7 (dk_at dksX2_passages_2 19 rfl rfl)
theorem dX2_passages_67 : decode cX2_passages 67 = .ok (.iload 5, 2) := dk_21 5 (dk_at dksX2_passages_2 21 rfl rfl)
theorem dX2_passages_69 : decode cX2_passages 69 = .ok (.istore 8, 2) := dk_54 8 (dk_at dksX2_passages_3 0 rfl rfl)
theorem dX2_passages_71 : decode cX2_passages 71 = .ok (.iload 8, 2) := dk_21 8 (dk_at dksX2_passages_3 2 rfl rfl)
theorem dX2_passages_73 : decode cX2_passages 73 = .ok (.iconst (-1), 1) := dk_2 (dk_at dksX2_passages_3 4 rfl rfl)
theorem dX2_passages_74 : decode cX2_passages 74 = .ok (.if_icmp .eq 20, 3) := dk_159 0 20 (dk_at dksX2_passages_3 5 rfl rfl)
theorem dX2_passages_77 : decode cX2_passages 77 = .ok (.iinc 7 1, 3) := dk_132 7 1 (dk_at dksX2_passages_3 8 rfl rfl)
theorem dX2_passages_80 : decode cX2_passages 80 = .ok (.aload_n 0, 1) := dk_42 (dk_at dksX2_passages_3 11 rfl rfl)
theorem dX2_passages_81 : decode cX2_passages 81 = .ok (.iload_n 1, 1) := dk_27 (dk_at dksX2_passages_3 12 rfl rfl)
theorem dX2_passages_82 : decode cX2_passages 82 = .ok (.iload 8, 2) := dk_21 8 (dk_at dksX2_passages_3 13 rfl rfl)
theorem dX2_passages_84 : decode cX2_passages 84 = .ok (.iload 6, 2) := dk_21 6 (dk_at dksX2_passages_3 15 rfl rfl)
theorem dX2_passages_86 : decode cX2_passages 86 = .ok (.invokevirtual 291, 3) := dk_182 1 35 (dk_at dksX2_passages_3 17 rfl rfl)
theorem dX2_passages_89 : decode cX2_passages 89 = .ok (.istore 8, 2) := dk_54 8 (dk_at dksX2_passages_3 20 rfl rfl)
theorem dX2_passages_91 : decode cX2_passages 91 = .ok (.goto (-20), 3) := dk_167 255 236 (dk_at dksX2_passages_4 0 rfl rfl)
theorem dX2_passages_94 : decode cX2_passages 94 = .ok (.iload 4, 2) := dk_21 4 (dk_at dksX2_passages_4 3 rfl rfl)
theorem dX2_passages_96 : decode cX2_passages 96 = .ok (.iload 7, 2) := dk_21 7 (dk_at dksX2_passages_4 5 rfl rfl)
theorem dX2_passages_98 : decode cX2_passages 98 = .ok (.invokestatic 297, 3) := dk_184 1 41 (dk_at dksX2_passages_4 7 rfl rfl)
theorem dX2_passages_101 : decode cX2_passages 101 = .ok (.istore 4, 2) := dk_54 4 (dk_at dksX2_passages_4 10 rfl rfl)
theorem dX2_passages_103 : decode cX2_passages 103 = .ok (.iinc 5 1, 3) := dk_132 5 1 (dk_at dksX2_passages_4 12 rfl rfl)
theorem dX2_passages_106 : decode cX2_passages 106 = .ok (.goto (-98), 3) := dk_167 255 158 (dk_at dksX2_passages_4 15 rfl rfl)
theorem dX2_passages_109 : decode cX2_passages 109 = .ok (.iload_n 2, 1) := dk_28 (dk_at dksX2_passages_4 18 rfl rfl)
theorem dX2_passages_110 : decode cX2_passages 110 = .ok (.ifCond .eq 8, 3) := dk_153 0 8 (dk_at dksX2_passages_4 19 rfl rfl)
theorem dX2_passages_113 : decode cX2_passages 113 = .ok (.iload 4, 2) := dk_21 4 (dk_at dksX2_passages_4 22 rfl rfl)
theorem dX2_passages_115 : decode cX2_passages 115 = .ok (.goto 4, 3) := dk_167 0 4 (dk_at dksX2_passages_5 0 rfl rfl)
theorem dX2_passages_118 : decode cX2_passages 118 = .ok (.iload_n 3, 1) := dk_29 (dk_at dksX2_passages_5 3 rfl rfl)
theorem dX2_passages_119 : decode cX2_passages 119 = .ok (.ireturn, 1) := dk_172 (dk_at dksX2_passages_5 4 rfl rfl)
abbrev cX2_whereIs : ByteArray := prog_25_method_54_code
def yX2_whereIs : MethodName := ⟨RX2, "whereIs", "(I)I"⟩
def dkwX2_whereIs_2 : List UInt8 := [128, 62, 132, 4, 1, 167, 255, 220, 29, 172]
abbrev dktX2_whereIs_2 : List UInt8 := dkwX2_whereIs_2 ++ []
def dkwX2_whereIs_1 : List UInt8 := [162, 0, 32, 29, 42, 28, 21, 4, 27, 182, 1, 16, 2, 160, 0, 7, 3, 167, 0, 7, 4, 21, 4, 120]
abbrev dktX2_whereIs_1 : List UInt8 := dkwX2_whereIs_1 ++ dktX2_whereIs_2
def dkwX2_whereIs_0 : List UInt8 := [42, 180, 0, 35, 17, 4, 182, 27, 96, 46, 61, 3, 62, 3, 54, 4, 21, 4, 42, 28, 182, 1, 3]
abbrev dktX2_whereIs_0 : List UInt8 := dkwX2_whereIs_0 ++ dktX2_whereIs_1
theorem dksX2_whereIs_0 : cX2_whereIs.data.toList.drop 0 = dktX2_whereIs_0 := by decide +kernel
theorem dksX2_whereIs_1 : cX2_whereIs.data.toList.drop 23 = dktX2_whereIs_1 := dk_seg dksX2_whereIs_0 23 rfl rfl
theorem dksX2_whereIs_2 : cX2_whereIs.data.toList.drop 47 = dktX2_whereIs_2 := dk_seg dksX2_whereIs_1 24 rfl rfl
theorem dX2_whereIs_0 : decode cX2_whereIs 0 = .ok (.aload_n 0, 1) := dk_42 (dk_at dksX2_whereIs_0 0 rfl rfl)
theorem dX2_whereIs_1 : decode cX2_whereIs 1 = .ok (.getfield 35, 3) := dk_180 0 35 (dk_at dksX2_whereIs_0 1 rfl rfl)
theorem dX2_whereIs_4 : decode cX2_whereIs 4 = .ok (.sipush 1206, 3) := dk_17 4 182 (dk_at dksX2_whereIs_0 4 rfl rfl)
theorem dX2_whereIs_7 : decode cX2_whereIs 7 = .ok (.iload_n 1, 1) := dk_27 (dk_at dksX2_whereIs_0 7 rfl rfl)
theorem dX2_whereIs_8 : decode cX2_whereIs 8 = .ok (.iadd, 1) := dk_96 (dk_at dksX2_whereIs_0 8 rfl rfl)
theorem dX2_whereIs_9 : decode cX2_whereIs 9 = .ok (.iaload, 1) := dk_46 (dk_at dksX2_whereIs_0 9 rfl rfl)
theorem dX2_whereIs_10 : decode cX2_whereIs 10 = .ok (.istore_n 2, 1) := dk_61 (dk_at dksX2_whereIs_0 10 rfl rfl)
theorem dX2_whereIs_11 : decode cX2_whereIs 11 = .ok (.iconst 0, 1) := dk_3 (dk_at dksX2_whereIs_0 11 rfl rfl)
theorem dX2_whereIs_12 : decode cX2_whereIs 12 = .ok (.istore_n 3, 1) := dk_62 (dk_at dksX2_whereIs_0 12 rfl rfl)
theorem dX2_whereIs_13 : decode cX2_whereIs 13 = .ok (.iconst 0, 1) := dk_3 (dk_at dksX2_whereIs_0 13 rfl rfl)
theorem dX2_whereIs_14 : decode cX2_whereIs 14 = .ok (.istore 4, 2) := dk_54 4 (dk_at dksX2_whereIs_0 14 rfl rfl)
theorem dX2_whereIs_16 : decode cX2_whereIs 16 = .ok (.iload 4, 2) := dk_21 4 (dk_at dksX2_whereIs_0 16 rfl rfl)
theorem dX2_whereIs_18 : decode cX2_whereIs 18 = .ok (.aload_n 0, 1) := dk_42 (dk_at dksX2_whereIs_0 18 rfl rfl)
theorem dX2_whereIs_19 : decode cX2_whereIs 19 = .ok (.iload_n 2, 1) := dk_28 (dk_at dksX2_whereIs_0 19 rfl rfl)
theorem dX2_whereIs_20 : decode cX2_whereIs 20 = .ok (.invokevirtual 259, 3) := dk_182 1 3 (dk_at dksX2_whereIs_0 20 rfl rfl)
theorem dX2_whereIs_23 : decode cX2_whereIs 23 = .ok (.if_icmp .ge 32, 3) := dk_162 0 32 (dk_at dksX2_whereIs_1 0 rfl rfl)
theorem dX2_whereIs_26 : decode cX2_whereIs 26 = .ok (.iload_n 3, 1) := dk_29 (dk_at dksX2_whereIs_1 3 rfl rfl)
theorem dX2_whereIs_27 : decode cX2_whereIs 27 = .ok (.aload_n 0, 1) := dk_42 (dk_at dksX2_whereIs_1 4 rfl rfl)
theorem dX2_whereIs_28 : decode cX2_whereIs 28 = .ok (.iload_n 2, 1) := dk_28 (dk_at dksX2_whereIs_1 5 rfl rfl)
theorem dX2_whereIs_29 : decode cX2_whereIs 29 = .ok (.iload 4, 2) := dk_21 4 (dk_at dksX2_whereIs_1 6 rfl rfl)
theorem dX2_whereIs_31 : decode cX2_whereIs 31 = .ok (.iload_n 1, 1) := dk_27 (dk_at dksX2_whereIs_1 8 rfl rfl)
theorem dX2_whereIs_32 : decode cX2_whereIs 32 = .ok (.invokevirtual 272, 3) := dk_182 1 16 (dk_at dksX2_whereIs_1 9 rfl rfl)
theorem dX2_whereIs_35 : decode cX2_whereIs 35 = .ok (.iconst (-1), 1) := dk_2 (dk_at dksX2_whereIs_1 12 rfl rfl)
theorem dX2_whereIs_36 : decode cX2_whereIs 36 = .ok (.if_icmp .ne 7, 3) := dk_160 0 7 (dk_at dksX2_whereIs_1 13 rfl rfl)
theorem dX2_whereIs_39 : decode cX2_whereIs 39 = .ok (.iconst 0, 1) := dk_3 (dk_at dksX2_whereIs_1 16 rfl rfl)
theorem dX2_whereIs_40 : decode cX2_whereIs 40 = .ok (.goto 7, 3) := dk_167 0 7 (dk_at dksX2_whereIs_1 17 rfl rfl)
theorem dX2_whereIs_43 : decode cX2_whereIs 43 = .ok (.iconst 1, 1) := dk_4 (dk_at dksX2_whereIs_1 20 rfl rfl)
theorem dX2_whereIs_44 : decode cX2_whereIs 44 = .ok (.iload 4, 2) := dk_21 4 (dk_at dksX2_whereIs_1 21 rfl rfl)
theorem dX2_whereIs_46 : decode cX2_whereIs 46 = .ok (.ishl, 1) := dk_120 (dk_at dksX2_whereIs_1 23 rfl rfl)
theorem dX2_whereIs_47 : decode cX2_whereIs 47 = .ok (.ior, 1) := dk_128 (dk_at dksX2_whereIs_2 0 rfl rfl)
theorem dX2_whereIs_48 : decode cX2_whereIs 48 = .ok (.istore_n 3, 1) := dk_62 (dk_at dksX2_whereIs_2 1 rfl rfl)
theorem dX2_whereIs_49 : decode cX2_whereIs 49 = .ok (.iinc 4 1, 3) := dk_132 4 1 (dk_at dksX2_whereIs_2 2 rfl rfl)
theorem dX2_whereIs_52 : decode cX2_whereIs 52 = .ok (.goto (-36), 3) := dk_167 255 220 (dk_at dksX2_whereIs_2 5 rfl rfl)
theorem dX2_whereIs_55 : decode cX2_whereIs 55 = .ok (.iload_n 3, 1) := dk_29 (dk_at dksX2_whereIs_2 8 rfl rfl)
theorem dX2_whereIs_56 : decode cX2_whereIs 56 = .ok (.ireturn, 1) := dk_172 (dk_at dksX2_whereIs_2 9 rfl rfl)
abbrev cX2_placeOf : ByteArray := prog_25_method_53_code
def yX2_placeOf : MethodName := ⟨RX2, "placeOf", "(III)I"⟩
def dkwX2_placeOf_2 : List UInt8 := [172]
abbrev dktX2_placeOf_2 : List UInt8 := dkwX2_placeOf_2 ++ []
def dkwX2_placeOf_1 : List UInt8 := [182, 1, 6, 29, 160, 0, 8, 21, 5, 167, 0, 5, 21, 4, 54, 4, 132, 5, 1, 167, 255, 221, 21, 4]
abbrev dktX2_placeOf_1 : List UInt8 := dkwX2_placeOf_1 ++ dktX2_placeOf_2
def dkwX2_placeOf_0 : List UInt8 := [2, 54, 4, 3, 54, 5, 21, 5, 42, 27, 28, 182, 1, 13, 162, 0, 30, 42, 27, 28, 21, 5]
abbrev dktX2_placeOf_0 : List UInt8 := dkwX2_placeOf_0 ++ dktX2_placeOf_1
theorem dksX2_placeOf_0 : cX2_placeOf.data.toList.drop 0 = dktX2_placeOf_0 := by decide +kernel
theorem dksX2_placeOf_1 : cX2_placeOf.data.toList.drop 22 = dktX2_placeOf_1 := dk_seg dksX2_placeOf_0 22 rfl rfl
theorem dksX2_placeOf_2 : cX2_placeOf.data.toList.drop 46 = dktX2_placeOf_2 := dk_seg dksX2_placeOf_1 24 rfl rfl
theorem dX2_placeOf_0 : decode cX2_placeOf 0 = .ok (.iconst (-1), 1) := dk_2 (dk_at dksX2_placeOf_0 0 rfl rfl)
theorem dX2_placeOf_1 : decode cX2_placeOf 1 = .ok (.istore 4, 2) := dk_54 4 (dk_at dksX2_placeOf_0 1 rfl rfl)
theorem dX2_placeOf_3 : decode cX2_placeOf 3 = .ok (.iconst 0, 1) := dk_3 (dk_at dksX2_placeOf_0 3 rfl rfl)
theorem dX2_placeOf_4 : decode cX2_placeOf 4 = .ok (.istore 5, 2) := dk_54 5 (dk_at dksX2_placeOf_0 4 rfl rfl)
theorem dX2_placeOf_6 : decode cX2_placeOf 6 = .ok (.iload 5, 2) := dk_21 5 (dk_at dksX2_placeOf_0 6 rfl rfl)
theorem dX2_placeOf_8 : decode cX2_placeOf 8 = .ok (.aload_n 0, 1) := dk_42 (dk_at dksX2_placeOf_0 8 rfl rfl)
theorem dX2_placeOf_9 : decode cX2_placeOf 9 = .ok (.iload_n 1, 1) := dk_27 (dk_at dksX2_placeOf_0 9 rfl rfl)
theorem dX2_placeOf_10 : decode cX2_placeOf 10 = .ok (.iload_n 2, 1) := dk_28 (dk_at dksX2_placeOf_0 10 rfl rfl)
theorem dX2_placeOf_11 : decode cX2_placeOf 11 = .ok (.invokevirtual 269, 3) := dk_182 1 13 (dk_at dksX2_placeOf_0 11 rfl rfl)
theorem dX2_placeOf_14 : decode cX2_placeOf 14 = .ok (.if_icmp .ge 30, 3) := dk_162 0 30 (dk_at dksX2_placeOf_0 14 rfl rfl)
theorem dX2_placeOf_17 : decode cX2_placeOf 17 = .ok (.aload_n 0, 1) := dk_42 (dk_at dksX2_placeOf_0 17 rfl rfl)
theorem dX2_placeOf_18 : decode cX2_placeOf 18 = .ok (.iload_n 1, 1) := dk_27 (dk_at dksX2_placeOf_0 18 rfl rfl)
theorem dX2_placeOf_19 : decode cX2_placeOf 19 = .ok (.iload_n 2, 1) := dk_28 (dk_at dksX2_placeOf_0 19 rfl rfl)
theorem dX2_placeOf_20 : decode cX2_placeOf 20 = .ok (.iload 5, 2) := dk_21 5 (dk_at dksX2_placeOf_0 20 rfl rfl)
theorem dX2_placeOf_22 : decode cX2_placeOf 22 = .ok (.invokevirtual 262, 3) := dk_182 1 6 (dk_at dksX2_placeOf_1 0 rfl rfl)
theorem dX2_placeOf_25 : decode cX2_placeOf 25 = .ok (.iload_n 3, 1) := dk_29 (dk_at dksX2_placeOf_1 3 rfl rfl)
theorem dX2_placeOf_26 : decode cX2_placeOf 26 = .ok (.if_icmp .ne 8, 3) := dk_160 0 8 (dk_at dksX2_placeOf_1 4 rfl rfl)
theorem dX2_placeOf_29 : decode cX2_placeOf 29 = .ok (.iload 5, 2) := dk_21 5 (dk_at dksX2_placeOf_1 7 rfl rfl)
theorem dX2_placeOf_31 : decode cX2_placeOf 31 = .ok (.goto 5, 3) := dk_167 0 5 (dk_at dksX2_placeOf_1 9 rfl rfl)
theorem dX2_placeOf_34 : decode cX2_placeOf 34 = .ok (.iload 4, 2) := dk_21 4 (dk_at dksX2_placeOf_1 12 rfl rfl)
theorem dX2_placeOf_36 : decode cX2_placeOf 36 = .ok (.istore 4, 2) := dk_54 4 (dk_at dksX2_placeOf_1 14 rfl rfl)
theorem dX2_placeOf_38 : decode cX2_placeOf 38 = .ok (.iinc 5 1, 3) := dk_132 5 1 (dk_at dksX2_placeOf_1 16 rfl rfl)
theorem dX2_placeOf_41 : decode cX2_placeOf 41 = .ok (.goto (-35), 3) := dk_167 255 221 (dk_at dksX2_placeOf_1 19 rfl rfl)
theorem dX2_placeOf_44 : decode cX2_placeOf 44 = .ok (.iload 4, 2) := dk_21 4 (dk_at dksX2_placeOf_1 22 rfl rfl)
theorem dX2_placeOf_46 : decode cX2_placeOf 46 = .ok (.ireturn, 1) := dk_172 (dk_at dksX2_placeOf_2 0 rfl rfl)
abbrev cX2_longOf : ByteArray := prog_25_method_49_code
def yX2_longOf : MethodName := ⟨RX2, "longOf", "(II)I"⟩
def dkwX2_longOf_0 : List UInt8 := [42, 180, 0, 35, 16, 46, 27, 28, 184, 0, 146, 96, 46, 172]
abbrev dktX2_longOf_0 : List UInt8 := dkwX2_longOf_0 ++ []
theorem dksX2_longOf_0 : cX2_longOf.data.toList.drop 0 = dktX2_longOf_0 := by decide +kernel
theorem dX2_longOf_0 : decode cX2_longOf 0 = .ok (.aload_n 0, 1) := dk_42 (dk_at dksX2_longOf_0 0 rfl rfl)
theorem dX2_longOf_1 : decode cX2_longOf 1 = .ok (.getfield 35, 3) := dk_180 0 35 (dk_at dksX2_longOf_0 1 rfl rfl)
theorem dX2_longOf_4 : decode cX2_longOf 4 = .ok (.bipush 46, 2) := dk_16 46 (dk_at dksX2_longOf_0 4 rfl rfl)
theorem dX2_longOf_6 : decode cX2_longOf 6 = .ok (.iload_n 1, 1) := dk_27 (dk_at dksX2_longOf_0 6 rfl rfl)
theorem dX2_longOf_7 : decode cX2_longOf 7 = .ok (.iload_n 2, 1) := dk_28 (dk_at dksX2_longOf_0 7 rfl rfl)
theorem dX2_longOf_8 : decode cX2_longOf 8 = .ok (.invokestatic 146, 3) := dk_184 0 146 (dk_at dksX2_longOf_0 8 rfl rfl)
theorem dX2_longOf_11 : decode cX2_longOf 11 = .ok (.iadd, 1) := dk_96 (dk_at dksX2_longOf_0 11 rfl rfl)
theorem dX2_longOf_12 : decode cX2_longOf 12 = .ok (.iaload, 1) := dk_46 (dk_at dksX2_longOf_0 12 rfl rfl)
theorem dX2_longOf_13 : decode cX2_longOf 13 = .ok (.ireturn, 1) := dk_172 (dk_at dksX2_longOf_0 13 rfl rfl)
abbrev cX2_tokenAt : ByteArray := prog_25_method_50_code
def yX2_tokenAt : MethodName := ⟨RX2, "tokenAt", "(III)I"⟩
def dkwX2_tokenAt_0 : List UInt8 := [42, 180, 0, 35, 16, 86, 16, 20, 27, 28, 184, 0, 146, 104, 96, 29, 96, 46, 172]
abbrev dktX2_tokenAt_0 : List UInt8 := dkwX2_tokenAt_0 ++ []
theorem dksX2_tokenAt_0 : cX2_tokenAt.data.toList.drop 0 = dktX2_tokenAt_0 := by decide +kernel
theorem dX2_tokenAt_0 : decode cX2_tokenAt 0 = .ok (.aload_n 0, 1) := dk_42 (dk_at dksX2_tokenAt_0 0 rfl rfl)
theorem dX2_tokenAt_1 : decode cX2_tokenAt 1 = .ok (.getfield 35, 3) := dk_180 0 35 (dk_at dksX2_tokenAt_0 1 rfl rfl)
theorem dX2_tokenAt_4 : decode cX2_tokenAt 4 = .ok (.bipush 86, 2) := dk_16 86 (dk_at dksX2_tokenAt_0 4 rfl rfl)
theorem dX2_tokenAt_6 : decode cX2_tokenAt 6 = .ok (.bipush 20, 2) := dk_16 20 (dk_at dksX2_tokenAt_0 6 rfl rfl)
theorem dX2_tokenAt_8 : decode cX2_tokenAt 8 = .ok (.iload_n 1, 1) := dk_27 (dk_at dksX2_tokenAt_0 8 rfl rfl)
theorem dX2_tokenAt_9 : decode cX2_tokenAt 9 = .ok (.iload_n 2, 1) := dk_28 (dk_at dksX2_tokenAt_0 9 rfl rfl)
theorem dX2_tokenAt_10 : decode cX2_tokenAt 10 = .ok (.invokestatic 146, 3) := dk_184 0 146 (dk_at dksX2_tokenAt_0 10 rfl rfl)
theorem dX2_tokenAt_13 : decode cX2_tokenAt 13 = .ok (.imul, 1) := dk_104 (dk_at dksX2_tokenAt_0 13 rfl rfl)
theorem dX2_tokenAt_14 : decode cX2_tokenAt 14 = .ok (.iadd, 1) := dk_96 (dk_at dksX2_tokenAt_0 14 rfl rfl)
theorem dX2_tokenAt_15 : decode cX2_tokenAt 15 = .ok (.iload_n 3, 1) := dk_29 (dk_at dksX2_tokenAt_0 15 rfl rfl)
theorem dX2_tokenAt_16 : decode cX2_tokenAt 16 = .ok (.iadd, 1) := dk_96 (dk_at dksX2_tokenAt_0 16 rfl rfl)
theorem dX2_tokenAt_17 : decode cX2_tokenAt 17 = .ok (.iaload, 1) := dk_46 (dk_at dksX2_tokenAt_0 17 rfl rfl)
theorem dX2_tokenAt_18 : decode cX2_tokenAt 18 = .ok (.ireturn, 1) := dk_172 (dk_at dksX2_tokenAt_0 18 rfl rfl)
abbrev cX2_hasAhead : ByteArray := prog_25_method_65_code
def yX2_hasAhead : MethodName := ⟨RX2, "hasAhead", "(III)Z"⟩
def dkwX2_hasAhead_2 : List UInt8 := [160, 0, 5, 4, 172, 132, 4, 1, 167, 255, 205, 3, 172]
abbrev dktX2_hasAhead_2 : List UInt8 := dkwX2_hasAhead_2 ++ []
def dkwX2_hasAhead_1 : List UInt8 := [160, 0, 27, 42, 21, 4, 182, 1, 22, 29, 160, 0, 17, 42, 27, 21, 4, 29, 182, 1, 35, 28]
abbrev dktX2_hasAhead_1 : List UInt8 := dkwX2_hasAhead_1 ++ dktX2_hasAhead_2
def dkwX2_hasAhead_0 : List UInt8 := [3, 54, 4, 21, 4, 42, 180, 0, 253, 162, 0, 48, 42, 180, 0, 35, 17, 4, 182, 21, 4, 96, 46, 27]
abbrev dktX2_hasAhead_0 : List UInt8 := dkwX2_hasAhead_0 ++ dktX2_hasAhead_1
theorem dksX2_hasAhead_0 : cX2_hasAhead.data.toList.drop 0 = dktX2_hasAhead_0 := by decide +kernel
theorem dksX2_hasAhead_1 : cX2_hasAhead.data.toList.drop 24 = dktX2_hasAhead_1 := dk_seg dksX2_hasAhead_0 24 rfl rfl
theorem dksX2_hasAhead_2 : cX2_hasAhead.data.toList.drop 46 = dktX2_hasAhead_2 := dk_seg dksX2_hasAhead_1 22 rfl rfl
theorem dX2_hasAhead_0 : decode cX2_hasAhead 0 = .ok (.iconst 0, 1) := dk_3 (dk_at dksX2_hasAhead_0 0 rfl rfl)
theorem dX2_hasAhead_1 : decode cX2_hasAhead 1 = .ok (.istore 4, 2) := dk_54 4 (dk_at dksX2_hasAhead_0 1 rfl rfl)
theorem dX2_hasAhead_3 : decode cX2_hasAhead 3 = .ok (.iload 4, 2) := dk_21 4 (dk_at dksX2_hasAhead_0 3 rfl rfl)
theorem dX2_hasAhead_5 : decode cX2_hasAhead 5 = .ok (.aload_n 0, 1) := dk_42 (dk_at dksX2_hasAhead_0 5 rfl rfl)
theorem dX2_hasAhead_6 : decode cX2_hasAhead 6 = .ok (.getfield 253, 3) := dk_180 0 253 (dk_at dksX2_hasAhead_0 6 rfl rfl)
theorem dX2_hasAhead_9 : decode cX2_hasAhead 9 = .ok (.if_icmp .ge 48, 3) := dk_162 0 48 (dk_at dksX2_hasAhead_0 9 rfl rfl)
theorem dX2_hasAhead_12 : decode cX2_hasAhead 12 = .ok (.aload_n 0, 1) := dk_42 (dk_at dksX2_hasAhead_0 12 rfl rfl)
theorem dX2_hasAhead_13 : decode cX2_hasAhead 13 = .ok (.getfield 35, 3) := dk_180 0 35 (dk_at dksX2_hasAhead_0 13 rfl rfl)
theorem dX2_hasAhead_16 : decode cX2_hasAhead 16 = .ok (.sipush 1206, 3) := dk_17 4 182 (dk_at dksX2_hasAhead_0 16 rfl rfl)
theorem dX2_hasAhead_19 : decode cX2_hasAhead 19 = .ok (.iload 4, 2) := dk_21 4 (dk_at dksX2_hasAhead_0 19 rfl rfl)
theorem dX2_hasAhead_21 : decode cX2_hasAhead 21 = .ok (.iadd, 1) := dk_96 (dk_at dksX2_hasAhead_0 21 rfl rfl)
theorem dX2_hasAhead_22 : decode cX2_hasAhead 22 = .ok (.iaload, 1) := dk_46 (dk_at dksX2_hasAhead_0 22 rfl rfl)
theorem dX2_hasAhead_23 : decode cX2_hasAhead 23 = .ok (.iload_n 1, 1) := dk_27 (dk_at dksX2_hasAhead_0 23 rfl rfl)
theorem dX2_hasAhead_24 : decode cX2_hasAhead 24 = .ok (.if_icmp .ne 27, 3) := dk_160 0 27 (dk_at dksX2_hasAhead_1 0 rfl rfl)
theorem dX2_hasAhead_27 : decode cX2_hasAhead 27 = .ok (.aload_n 0, 1) := dk_42 (dk_at dksX2_hasAhead_1 3 rfl rfl)
theorem dX2_hasAhead_28 : decode cX2_hasAhead 28 = .ok (.iload 4, 2) := dk_21 4 (dk_at dksX2_hasAhead_1 4 rfl rfl)
theorem dX2_hasAhead_30 : decode cX2_hasAhead 30 = .ok (.invokevirtual 278, 3) := dk_182 1 22 (dk_at dksX2_hasAhead_1 6 rfl rfl)
theorem dX2_hasAhead_33 : decode cX2_hasAhead 33 = .ok (.iload_n 3, 1) := dk_29 (dk_at dksX2_hasAhead_1 9 rfl rfl)
theorem dX2_hasAhead_34 : decode cX2_hasAhead 34 = .ok (.if_icmp .ne 17, 3) := dk_160 0 17 (dk_at dksX2_hasAhead_1 10 rfl rfl)
theorem dX2_hasAhead_37 : decode cX2_hasAhead 37 = .ok (.aload_n 0, 1) := dk_42 (dk_at dksX2_hasAhead_1 13 rfl rfl)
theorem dX2_hasAhead_38 : decode cX2_hasAhead 38 = .ok (.iload_n 1, 1) := dk_27 (dk_at dksX2_hasAhead_1 14 rfl rfl)
theorem dX2_hasAhead_39 : decode cX2_hasAhead 39 = .ok (.iload 4, 2) := dk_21 4 (dk_at dksX2_hasAhead_1 15 rfl rfl)
theorem dX2_hasAhead_41 : decode cX2_hasAhead 41 = .ok (.iload_n 3, 1) := dk_29 (dk_at dksX2_hasAhead_1 17 rfl rfl)
theorem dX2_hasAhead_42 : decode cX2_hasAhead 42 = .ok (.invokevirtual 291, 3) := dk_182 1 35 (dk_at dksX2_hasAhead_1 18 rfl rfl)
theorem dX2_hasAhead_45 : decode cX2_hasAhead 45 = .ok (.iload_n 2, 1) := dk_28 (dk_at dksX2_hasAhead_1 21 rfl rfl)
theorem dX2_hasAhead_46 : decode cX2_hasAhead 46 = .ok (.if_icmp .ne 5, 3) := dk_160 0 5 (dk_at dksX2_hasAhead_2 0 rfl rfl)
theorem dX2_hasAhead_49 : decode cX2_hasAhead 49 = .ok (.iconst 1, 1) := dk_4 (dk_at dksX2_hasAhead_2 3 rfl rfl)
theorem dX2_hasAhead_50 : decode cX2_hasAhead 50 = .ok (.ireturn, 1) := dk_172 (dk_at dksX2_hasAhead_2 4 rfl rfl)
theorem dX2_hasAhead_51 : decode cX2_hasAhead 51 = .ok (.iinc 4 1, 3) := dk_132 4 1 (dk_at dksX2_hasAhead_2 5 rfl rfl)
theorem dX2_hasAhead_54 : decode cX2_hasAhead 54 = .ok (.goto (-51), 3) := dk_167 255 205 (dk_at dksX2_hasAhead_2 8 rfl rfl)
theorem dX2_hasAhead_57 : decode cX2_hasAhead 57 = .ok (.iconst 0, 1) := dk_3 (dk_at dksX2_hasAhead_2 11 rfl rfl)
theorem dX2_hasAhead_58 : decode cX2_hasAhead 58 = .ok (.ireturn, 1) := dk_172 (dk_at dksX2_hasAhead_2 12 rfl rfl)
abbrev cX2_behindOf : ByteArray := prog_25_method_64_code
def yX2_behindOf : MethodName := ⟨RX2, "behindOf", "(III)I"⟩
def dkwX2_behindOf_6 : List UInt8 := [182, 1, 22, 29, 160, 0, 8, 21, 4, 167, 0, 4, 2, 172]
abbrev dktX2_behindOf_6 : List UInt8 := dkwX2_behindOf_6 ++ []
def dkwX2_behindOf_5 : List UInt8 := [167, 0, 5, 21, 4, 54, 4, 132, 5, 1, 167, 255, 135, 21, 4, 2, 159, 0, 18, 42, 21, 4]
abbrev dktX2_behindOf_5 : List UInt8 := dkwX2_behindOf_5 ++ dktX2_behindOf_6
def dkwX2_behindOf_4 : List UInt8 := [2, 159, 0, 12, 21, 7, 21, 4, 159, 0, 5, 2, 172, 29, 21, 5, 184, 0, 64, 153, 0, 8, 21, 7]
abbrev dktX2_behindOf_4 : List UInt8 := dkwX2_behindOf_4 ++ dktX2_behindOf_5
def dkwX2_behindOf_3 : List UInt8 := [4, 96, 182, 1, 6, 54, 7, 29, 21, 5, 184, 0, 64, 153, 0, 24, 21, 7, 2, 159, 0, 16, 21, 4]
abbrev dktX2_behindOf_3 : List UInt8 := dkwX2_behindOf_3 ++ dktX2_behindOf_4
def dkwX2_behindOf_2 : List UInt8 := [21, 6, 4, 96, 42, 27, 21, 5, 182, 1, 13, 161, 0, 7, 2, 167, 0, 14, 42, 27, 21, 5, 21, 6]
abbrev dktX2_behindOf_2 : List UInt8 := dkwX2_behindOf_2 ++ dktX2_behindOf_3
def dkwX2_behindOf_1 : List UInt8 := [153, 0, 14, 42, 27, 21, 5, 28, 182, 1, 16, 167, 0, 4, 2, 54, 6, 21, 6, 2, 159, 0, 17]
abbrev dktX2_behindOf_1 : List UInt8 := dkwX2_behindOf_1 ++ dktX2_behindOf_2
def dkwX2_behindOf_0 : List UInt8 := [2, 54, 4, 3, 54, 5, 21, 5, 42, 27, 182, 1, 3, 162, 0, 117, 29, 21, 5, 184, 0, 64]
abbrev dktX2_behindOf_0 : List UInt8 := dkwX2_behindOf_0 ++ dktX2_behindOf_1
theorem dksX2_behindOf_0 : cX2_behindOf.data.toList.drop 0 = dktX2_behindOf_0 := by decide +kernel
theorem dksX2_behindOf_1 : cX2_behindOf.data.toList.drop 22 = dktX2_behindOf_1 := dk_seg dksX2_behindOf_0 22 rfl rfl
theorem dksX2_behindOf_2 : cX2_behindOf.data.toList.drop 45 = dktX2_behindOf_2 := dk_seg dksX2_behindOf_1 23 rfl rfl
theorem dksX2_behindOf_3 : cX2_behindOf.data.toList.drop 69 = dktX2_behindOf_3 := dk_seg dksX2_behindOf_2 24 rfl rfl
theorem dksX2_behindOf_4 : cX2_behindOf.data.toList.drop 93 = dktX2_behindOf_4 := dk_seg dksX2_behindOf_3 24 rfl rfl
theorem dksX2_behindOf_5 : cX2_behindOf.data.toList.drop 117 = dktX2_behindOf_5 := dk_seg dksX2_behindOf_4 24 rfl rfl
theorem dksX2_behindOf_6 : cX2_behindOf.data.toList.drop 139 = dktX2_behindOf_6 := dk_seg dksX2_behindOf_5 22 rfl rfl
theorem dX2_behindOf_0 : decode cX2_behindOf 0 = .ok (.iconst (-1), 1) := dk_2 (dk_at dksX2_behindOf_0 0 rfl rfl)
theorem dX2_behindOf_1 : decode cX2_behindOf 1 = .ok (.istore 4, 2) := dk_54 4 (dk_at dksX2_behindOf_0 1 rfl rfl)
theorem dX2_behindOf_3 : decode cX2_behindOf 3 = .ok (.iconst 0, 1) := dk_3 (dk_at dksX2_behindOf_0 3 rfl rfl)
theorem dX2_behindOf_4 : decode cX2_behindOf 4 = .ok (.istore 5, 2) := dk_54 5 (dk_at dksX2_behindOf_0 4 rfl rfl)
theorem dX2_behindOf_6 : decode cX2_behindOf 6 = .ok (.iload 5, 2) := dk_21 5 (dk_at dksX2_behindOf_0 6 rfl rfl)
theorem dX2_behindOf_8 : decode cX2_behindOf 8 = .ok (.aload_n 0, 1) := dk_42 (dk_at dksX2_behindOf_0 8 rfl rfl)
theorem dX2_behindOf_9 : decode cX2_behindOf 9 = .ok (.iload_n 1, 1) := dk_27 (dk_at dksX2_behindOf_0 9 rfl rfl)
theorem dX2_behindOf_10 : decode cX2_behindOf 10 = .ok (.invokevirtual 259, 3) := dk_182 1 3 (dk_at dksX2_behindOf_0 10 rfl rfl)
theorem dX2_behindOf_13 : decode cX2_behindOf 13 = .ok (.if_icmp .ge 117, 3) := dk_162 0 117 (dk_at dksX2_behindOf_0 13 rfl rfl)
theorem dX2_behindOf_16 : decode cX2_behindOf 16 = .ok (.iload_n 3, 1) := dk_29 (dk_at dksX2_behindOf_0 16 rfl rfl)
theorem dX2_behindOf_17 : decode cX2_behindOf 17 = .ok (.iload 5, 2) := dk_21 5 (dk_at dksX2_behindOf_0 17 rfl rfl)
theorem dX2_behindOf_19 : decode cX2_behindOf 19 = .ok (.invokestatic 64, 3) := dk_184 0 64 (dk_at dksX2_behindOf_0 19 rfl rfl)
theorem dX2_behindOf_22 : decode cX2_behindOf 22 = .ok (.ifCond .eq 14, 3) := dk_153 0 14 (dk_at dksX2_behindOf_1 0 rfl rfl)
theorem dX2_behindOf_25 : decode cX2_behindOf 25 = .ok (.aload_n 0, 1) := dk_42 (dk_at dksX2_behindOf_1 3 rfl rfl)
theorem dX2_behindOf_26 : decode cX2_behindOf 26 = .ok (.iload_n 1, 1) := dk_27 (dk_at dksX2_behindOf_1 4 rfl rfl)
theorem dX2_behindOf_27 : decode cX2_behindOf 27 = .ok (.iload 5, 2) := dk_21 5 (dk_at dksX2_behindOf_1 5 rfl rfl)
theorem dX2_behindOf_29 : decode cX2_behindOf 29 = .ok (.iload_n 2, 1) := dk_28 (dk_at dksX2_behindOf_1 7 rfl rfl)
theorem dX2_behindOf_30 : decode cX2_behindOf 30 = .ok (.invokevirtual 272, 3) := dk_182 1 16 (dk_at dksX2_behindOf_1 8 rfl rfl)
theorem dX2_behindOf_33 : decode cX2_behindOf 33 = .ok (.goto 4, 3) := dk_167 0 4 (dk_at dksX2_behindOf_1 11 rfl rfl)
theorem dX2_behindOf_36 : decode cX2_behindOf 36 = .ok (.iconst (-1), 1) := dk_2 (dk_at dksX2_behindOf_1 14 rfl rfl)
theorem dX2_behindOf_37 : decode cX2_behindOf 37 = .ok (.istore 6, 2) := dk_54 6 (dk_at dksX2_behindOf_1 15 rfl rfl)
theorem dX2_behindOf_39 : decode cX2_behindOf 39 = .ok (.iload 6, 2) := dk_21 6 (dk_at dksX2_behindOf_1 17 rfl rfl)
theorem dX2_behindOf_41 : decode cX2_behindOf 41 = .ok (.iconst (-1), 1) := dk_2 (dk_at dksX2_behindOf_1 19 rfl rfl)
theorem dX2_behindOf_42 : decode cX2_behindOf 42 = .ok (.if_icmp .eq 17, 3) := dk_159 0 17 (dk_at dksX2_behindOf_1 20 rfl rfl)
theorem dX2_behindOf_45 : decode cX2_behindOf 45 = .ok (.iload 6, 2) := dk_21 6 (dk_at dksX2_behindOf_2 0 rfl rfl)
theorem dX2_behindOf_47 : decode cX2_behindOf 47 = .ok (.iconst 1, 1) := dk_4 (dk_at dksX2_behindOf_2 2 rfl rfl)
theorem dX2_behindOf_48 : decode cX2_behindOf 48 = .ok (.iadd, 1) := dk_96 (dk_at dksX2_behindOf_2 3 rfl rfl)
theorem dX2_behindOf_49 : decode cX2_behindOf 49 = .ok (.aload_n 0, 1) := dk_42 (dk_at dksX2_behindOf_2 4 rfl rfl)
theorem dX2_behindOf_50 : decode cX2_behindOf 50 = .ok (.iload_n 1, 1) := dk_27 (dk_at dksX2_behindOf_2 5 rfl rfl)
theorem dX2_behindOf_51 : decode cX2_behindOf 51 = .ok (.iload 5, 2) := dk_21 5 (dk_at dksX2_behindOf_2 6 rfl rfl)
theorem dX2_behindOf_53 : decode cX2_behindOf 53 = .ok (.invokevirtual 269, 3) := dk_182 1 13 (dk_at dksX2_behindOf_2 8 rfl rfl)
theorem dX2_behindOf_56 : decode cX2_behindOf 56 = .ok (.if_icmp .lt 7, 3) := dk_161 0 7 (dk_at dksX2_behindOf_2 11 rfl rfl)
theorem dX2_behindOf_59 : decode cX2_behindOf 59 = .ok (.iconst (-1), 1) := dk_2 (dk_at dksX2_behindOf_2 14 rfl rfl)
theorem dX2_behindOf_60 : decode cX2_behindOf 60 = .ok (.goto 14, 3) := dk_167 0 14 (dk_at dksX2_behindOf_2 15 rfl rfl)
theorem dX2_behindOf_63 : decode cX2_behindOf 63 = .ok (.aload_n 0, 1) := dk_42 (dk_at dksX2_behindOf_2 18 rfl rfl)
theorem dX2_behindOf_64 : decode cX2_behindOf 64 = .ok (.iload_n 1, 1) := dk_27 (dk_at dksX2_behindOf_2 19 rfl rfl)
theorem dX2_behindOf_65 : decode cX2_behindOf 65 = .ok (.iload 5, 2) := dk_21 5 (dk_at dksX2_behindOf_2 20 rfl rfl)
theorem dX2_behindOf_67 : decode cX2_behindOf 67 = .ok (.iload 6, 2) := dk_21 6 (dk_at dksX2_behindOf_2 22 rfl rfl)
theorem dX2_behindOf_69 : decode cX2_behindOf 69 = .ok (.iconst 1, 1) := dk_4 (dk_at dksX2_behindOf_3 0 rfl rfl)
theorem dX2_behindOf_70 : decode cX2_behindOf 70 = .ok (.iadd, 1) := dk_96 (dk_at dksX2_behindOf_3 1 rfl rfl)
theorem dX2_behindOf_71 : decode cX2_behindOf 71 = .ok (.invokevirtual 262, 3) := dk_182 1 6 (dk_at dksX2_behindOf_3 2 rfl rfl)
theorem dX2_behindOf_74 : decode cX2_behindOf 74 = .ok (.istore 7, 2) := dk_54 7 (dk_at dksX2_behindOf_3 5 rfl rfl)
theorem dX2_behindOf_76 : decode cX2_behindOf 76 = .ok (.iload_n 3, 1) := dk_29 (dk_at dksX2_behindOf_3 7 rfl rfl)
theorem dX2_behindOf_77 : decode cX2_behindOf 77 = .ok (.iload 5, 2) := dk_21 5 (dk_at dksX2_behindOf_3 8 rfl rfl)
theorem dX2_behindOf_79 : decode cX2_behindOf 79 = .ok (.invokestatic 64, 3) := dk_184 0 64 (dk_at dksX2_behindOf_3 10 rfl rfl)
theorem dX2_behindOf_82 : decode cX2_behindOf 82 = .ok (.ifCond .eq 24, 3) := dk_153 0 24 (dk_at dksX2_behindOf_3 13 rfl rfl)
theorem dX2_behindOf_85 : decode cX2_behindOf 85 = .ok (.iload 7, 2) := dk_21 7 (dk_at dksX2_behindOf_3 16 rfl rfl)
theorem dX2_behindOf_87 : decode cX2_behindOf 87 = .ok (.iconst (-1), 1) := dk_2 (dk_at dksX2_behindOf_3 18 rfl rfl)
theorem dX2_behindOf_88 : decode cX2_behindOf 88 = .ok (.if_icmp .eq 16, 3) := dk_159 0 16 (dk_at dksX2_behindOf_3 19 rfl rfl)
theorem dX2_behindOf_91 : decode cX2_behindOf 91 = .ok (.iload 4, 2) := dk_21 4 (dk_at dksX2_behindOf_3 22 rfl rfl)
theorem dX2_behindOf_93 : decode cX2_behindOf 93 = .ok (.iconst (-1), 1) := dk_2 (dk_at dksX2_behindOf_4 0 rfl rfl)
theorem dX2_behindOf_94 : decode cX2_behindOf 94 = .ok (.if_icmp .eq 12, 3) := dk_159 0 12 (dk_at dksX2_behindOf_4 1 rfl rfl)
theorem dX2_behindOf_97 : decode cX2_behindOf 97 = .ok (.iload 7, 2) := dk_21 7 (dk_at dksX2_behindOf_4 4 rfl rfl)
theorem dX2_behindOf_99 : decode cX2_behindOf 99 = .ok (.iload 4, 2) := dk_21 4 (dk_at dksX2_behindOf_4 6 rfl rfl)
theorem dX2_behindOf_101 : decode cX2_behindOf 101 = .ok (.if_icmp .eq 5, 3) := dk_159 0 5 (dk_at dksX2_behindOf_4 8 rfl rfl)
theorem dX2_behindOf_104 : decode cX2_behindOf 104 = .ok (.iconst (-1), 1) := dk_2 (dk_at dksX2_behindOf_4 11 rfl rfl)
theorem dX2_behindOf_105 : decode cX2_behindOf 105 = .ok (.ireturn, 1) := dk_172 (dk_at dksX2_behindOf_4 12 rfl rfl)
theorem dX2_behindOf_106 : decode cX2_behindOf 106 = .ok (.iload_n 3, 1) := dk_29 (dk_at dksX2_behindOf_4 13 rfl rfl)
theorem dX2_behindOf_107 : decode cX2_behindOf 107 = .ok (.iload 5, 2) := dk_21 5 (dk_at dksX2_behindOf_4 14 rfl rfl)
theorem dX2_behindOf_109 : decode cX2_behindOf 109 = .ok (.invokestatic 64, 3) := dk_184 0 64 (dk_at dksX2_behindOf_4 16 rfl rfl)
theorem dX2_behindOf_112 : decode cX2_behindOf 112 = .ok (.ifCond .eq 8, 3) := dk_153 0 8 (dk_at dksX2_behindOf_4 19 rfl rfl)
theorem dX2_behindOf_115 : decode cX2_behindOf 115 = .ok (.iload 7, 2) := dk_21 7 (dk_at dksX2_behindOf_4 22 rfl rfl)
theorem dX2_behindOf_117 : decode cX2_behindOf 117 = .ok (.goto 5, 3) := dk_167 0 5 (dk_at dksX2_behindOf_5 0 rfl rfl)
theorem dX2_behindOf_120 : decode cX2_behindOf 120 = .ok (.iload 4, 2) := dk_21 4 (dk_at dksX2_behindOf_5 3 rfl rfl)
theorem dX2_behindOf_122 : decode cX2_behindOf 122 = .ok (.istore 4, 2) := dk_54 4 (dk_at dksX2_behindOf_5 5 rfl rfl)
theorem dX2_behindOf_124 : decode cX2_behindOf 124 = .ok (.iinc 5 1, 3) := dk_132 5 1 (dk_at dksX2_behindOf_5 7 rfl rfl)
theorem dX2_behindOf_127 : decode cX2_behindOf 127 = .ok (.goto (-121), 3) := dk_167 255 135 (dk_at dksX2_behindOf_5 10 rfl rfl)
theorem dX2_behindOf_130 : decode cX2_behindOf 130 = .ok (.iload 4, 2) := dk_21 4 (dk_at dksX2_behindOf_5 13 rfl rfl)
theorem dX2_behindOf_132 : decode cX2_behindOf 132 = .ok (.iconst (-1), 1) := dk_2 (dk_at dksX2_behindOf_5 15 rfl rfl)
theorem dX2_behindOf_133 : decode cX2_behindOf 133 = .ok (.if_icmp .eq 18, 3) := dk_159 0 18 (dk_at dksX2_behindOf_5 16 rfl rfl)
theorem dX2_behindOf_136 : decode cX2_behindOf 136 = .ok (.aload_n 0, 1) := dk_42 (dk_at dksX2_behindOf_5 19 rfl rfl)
theorem dX2_behindOf_137 : decode cX2_behindOf 137 = .ok (.iload 4, 2) := dk_21 4 (dk_at dksX2_behindOf_5 20 rfl rfl)
theorem dX2_behindOf_139 : decode cX2_behindOf 139 = .ok (.invokevirtual 278, 3) := dk_182 1 22 (dk_at dksX2_behindOf_6 0 rfl rfl)
theorem dX2_behindOf_142 : decode cX2_behindOf 142 = .ok (.iload_n 3, 1) := dk_29 (dk_at dksX2_behindOf_6 3 rfl rfl)
theorem dX2_behindOf_143 : decode cX2_behindOf 143 = .ok (.if_icmp .ne 8, 3) := dk_160 0 8 (dk_at dksX2_behindOf_6 4 rfl rfl)
theorem dX2_behindOf_146 : decode cX2_behindOf 146 = .ok (.iload 4, 2) := dk_21 4 (dk_at dksX2_behindOf_6 7 rfl rfl)
theorem dX2_behindOf_148 : decode cX2_behindOf 148 = .ok (.goto 4, 3) := dk_167 0 4 (dk_at dksX2_behindOf_6 9 rfl rfl)
theorem dX2_behindOf_151 : decode cX2_behindOf 151 = .ok (.iconst (-1), 1) := dk_2 (dk_at dksX2_behindOf_6 12 rfl rfl)
theorem dX2_behindOf_152 : decode cX2_behindOf 152 = .ok (.ireturn, 1) := dk_172 (dk_at dksX2_behindOf_6 13 rfl rfl)
abbrev cX2_has : ByteArray := prog_25_method_4_code
def yX2_has : MethodName := ⟨RX2, "has", "(II)Z"⟩
def dkwX2_has_0 : List UInt8 := [26, 27, 122, 4, 126, 4, 160, 0, 7, 4, 167, 0, 4, 3, 172]
abbrev dktX2_has_0 : List UInt8 := dkwX2_has_0 ++ []
theorem dksX2_has_0 : cX2_has.data.toList.drop 0 = dktX2_has_0 := by decide +kernel
theorem dX2_has_0 : decode cX2_has 0 = .ok (.iload_n 0, 1) := dk_26 (dk_at dksX2_has_0 0 rfl rfl)
theorem dX2_has_1 : decode cX2_has 1 = .ok (.iload_n 1, 1) := dk_27 (dk_at dksX2_has_0 1 rfl rfl)
theorem dX2_has_2 : decode cX2_has 2 = .ok (.ishr, 1) := dk_122 (dk_at dksX2_has_0 2 rfl rfl)
theorem dX2_has_3 : decode cX2_has 3 = .ok (.iconst 1, 1) := dk_4 (dk_at dksX2_has_0 3 rfl rfl)
theorem dX2_has_4 : decode cX2_has 4 = .ok (.iand, 1) := dk_126 (dk_at dksX2_has_0 4 rfl rfl)
theorem dX2_has_5 : decode cX2_has 5 = .ok (.iconst 1, 1) := dk_4 (dk_at dksX2_has_0 5 rfl rfl)
theorem dX2_has_6 : decode cX2_has 6 = .ok (.if_icmp .ne 7, 3) := dk_160 0 7 (dk_at dksX2_has_0 6 rfl rfl)
theorem dX2_has_9 : decode cX2_has 9 = .ok (.iconst 1, 1) := dk_4 (dk_at dksX2_has_0 9 rfl rfl)
theorem dX2_has_10 : decode cX2_has 10 = .ok (.goto 4, 3) := dk_167 0 4 (dk_at dksX2_has_0 10 rfl rfl)
theorem dX2_has_13 : decode cX2_has 13 = .ok (.iconst 0, 1) := dk_3 (dk_at dksX2_has_0 13 rfl rfl)
theorem dX2_has_14 : decode cX2_has 14 = .ok (.ireturn, 1) := dk_172 (dk_at dksX2_has_0 14 rfl rfl)
abbrev cX2_greater : ByteArray := prog_25_method_5_code
def yX2_greater : MethodName := ⟨RX2, "greater", "(II)I"⟩
def dkwX2_greater_0 : List UInt8 := [26, 27, 164, 0, 7, 26, 167, 0, 4, 27, 172]
abbrev dktX2_greater_0 : List UInt8 := dkwX2_greater_0 ++ []
theorem dksX2_greater_0 : cX2_greater.data.toList.drop 0 = dktX2_greater_0 := by decide +kernel
theorem dX2_greater_0 : decode cX2_greater 0 = .ok (.iload_n 0, 1) := dk_26 (dk_at dksX2_greater_0 0 rfl rfl)
theorem dX2_greater_1 : decode cX2_greater 1 = .ok (.iload_n 1, 1) := dk_27 (dk_at dksX2_greater_0 1 rfl rfl)
theorem dX2_greater_2 : decode cX2_greater 2 = .ok (.if_icmp .le 7, 3) := dk_164 0 7 (dk_at dksX2_greater_0 2 rfl rfl)
theorem dX2_greater_5 : decode cX2_greater 5 = .ok (.iload_n 0, 1) := dk_26 (dk_at dksX2_greater_0 5 rfl rfl)
theorem dX2_greater_6 : decode cX2_greater 6 = .ok (.goto 4, 3) := dk_167 0 4 (dk_at dksX2_greater_0 6 rfl rfl)
theorem dX2_greater_9 : decode cX2_greater 9 = .ok (.iload_n 1, 1) := dk_27 (dk_at dksX2_greater_0 9 rfl rfl)
theorem dX2_greater_10 : decode cX2_greater 10 = .ok (.ireturn, 1) := dk_172 (dk_at dksX2_greater_0 10 rfl rfl)
abbrev cX2_keptIn : ByteArray := prog_25_method_67_code
def yX2_keptIn : MethodName := ⟨RX2, "keptIn", "(I)I"⟩
def dkwX2_keptIn_2 : List UInt8 := [96, 61, 132, 3, 1, 167, 255, 207, 28, 172]
abbrev dktX2_keptIn_2 : List UInt8 := dkwX2_keptIn_2 ++ []
def dkwX2_keptIn_1 : List UInt8 := [160, 0, 23, 42, 29, 182, 1, 22, 184, 1, 44, 42, 27, 182, 1, 3, 160, 0, 7, 4, 167, 0, 4, 3]
abbrev dktX2_keptIn_1 : List UInt8 := dkwX2_keptIn_1 ++ dktX2_keptIn_2
def dkwX2_keptIn_0 : List UInt8 := [3, 61, 3, 62, 29, 42, 180, 0, 253, 162, 0, 47, 28, 42, 180, 0, 35, 17, 4, 182, 29, 96, 46, 27]
abbrev dktX2_keptIn_0 : List UInt8 := dkwX2_keptIn_0 ++ dktX2_keptIn_1
theorem dksX2_keptIn_0 : cX2_keptIn.data.toList.drop 0 = dktX2_keptIn_0 := by decide +kernel
theorem dksX2_keptIn_1 : cX2_keptIn.data.toList.drop 24 = dktX2_keptIn_1 := dk_seg dksX2_keptIn_0 24 rfl rfl
theorem dksX2_keptIn_2 : cX2_keptIn.data.toList.drop 48 = dktX2_keptIn_2 := dk_seg dksX2_keptIn_1 24 rfl rfl
theorem dX2_keptIn_0 : decode cX2_keptIn 0 = .ok (.iconst 0, 1) := dk_3 (dk_at dksX2_keptIn_0 0 rfl rfl)
theorem dX2_keptIn_1 : decode cX2_keptIn 1 = .ok (.istore_n 2, 1) := dk_61 (dk_at dksX2_keptIn_0 1 rfl rfl)
theorem dX2_keptIn_2 : decode cX2_keptIn 2 = .ok (.iconst 0, 1) := dk_3 (dk_at dksX2_keptIn_0 2 rfl rfl)
theorem dX2_keptIn_3 : decode cX2_keptIn 3 = .ok (.istore_n 3, 1) := dk_62 (dk_at dksX2_keptIn_0 3 rfl rfl)
theorem dX2_keptIn_4 : decode cX2_keptIn 4 = .ok (.iload_n 3, 1) := dk_29 (dk_at dksX2_keptIn_0 4 rfl rfl)
theorem dX2_keptIn_5 : decode cX2_keptIn 5 = .ok (.aload_n 0, 1) := dk_42 (dk_at dksX2_keptIn_0 5 rfl rfl)
theorem dX2_keptIn_6 : decode cX2_keptIn 6 = .ok (.getfield 253, 3) := dk_180 0 253 (dk_at dksX2_keptIn_0 6 rfl rfl)
theorem dX2_keptIn_9 : decode cX2_keptIn 9 = .ok (.if_icmp .ge 47, 3) := dk_162 0 47 (dk_at dksX2_keptIn_0 9 rfl rfl)
theorem dX2_keptIn_12 : decode cX2_keptIn 12 = .ok (.iload_n 2, 1) := dk_28 (dk_at dksX2_keptIn_0 12 rfl rfl)
theorem dX2_keptIn_13 : decode cX2_keptIn 13 = .ok (.aload_n 0, 1) := dk_42 (dk_at dksX2_keptIn_0 13 rfl rfl)
theorem dX2_keptIn_14 : decode cX2_keptIn 14 = .ok (.getfield 35, 3) := dk_180 0 35 (dk_at dksX2_keptIn_0 14 rfl rfl)
theorem dX2_keptIn_17 : decode cX2_keptIn 17 = .ok (.sipush 1206, 3) := dk_17 4 182 (dk_at dksX2_keptIn_0 17 rfl rfl)
theorem dX2_keptIn_20 : decode cX2_keptIn 20 = .ok (.iload_n 3, 1) := dk_29 (dk_at dksX2_keptIn_0 20 rfl rfl)
theorem dX2_keptIn_21 : decode cX2_keptIn 21 = .ok (.iadd, 1) := dk_96 (dk_at dksX2_keptIn_0 21 rfl rfl)
theorem dX2_keptIn_22 : decode cX2_keptIn 22 = .ok (.iaload, 1) := dk_46 (dk_at dksX2_keptIn_0 22 rfl rfl)
theorem dX2_keptIn_23 : decode cX2_keptIn 23 = .ok (.iload_n 1, 1) := dk_27 (dk_at dksX2_keptIn_0 23 rfl rfl)
theorem dX2_keptIn_24 : decode cX2_keptIn 24 = .ok (.if_icmp .ne 23, 3) := dk_160 0 23 (dk_at dksX2_keptIn_1 0 rfl rfl)
theorem dX2_keptIn_27 : decode cX2_keptIn 27 = .ok (.aload_n 0, 1) := dk_42 (dk_at dksX2_keptIn_1 3 rfl rfl)
theorem dX2_keptIn_28 : decode cX2_keptIn 28 = .ok (.iload_n 3, 1) := dk_29 (dk_at dksX2_keptIn_1 4 rfl rfl)
theorem dX2_keptIn_29 : decode cX2_keptIn 29 = .ok (.invokevirtual 278, 3) := dk_182 1 22 (dk_at dksX2_keptIn_1 5 rfl rfl)
theorem dX2_keptIn_32 : decode cX2_keptIn 32 = .ok (.invokestatic 300, 3) := dk_184 1 44 (dk_at dksX2_keptIn_1 8 rfl rfl)
theorem dX2_keptIn_35 : decode cX2_keptIn 35 = .ok (.aload_n 0, 1) := dk_42 (dk_at dksX2_keptIn_1 11 rfl rfl)
theorem dX2_keptIn_36 : decode cX2_keptIn 36 = .ok (.iload_n 1, 1) := dk_27 (dk_at dksX2_keptIn_1 12 rfl rfl)
theorem dX2_keptIn_37 : decode cX2_keptIn 37 = .ok (.invokevirtual 259, 3) := dk_182 1 3 (dk_at dksX2_keptIn_1 13 rfl rfl)
theorem dX2_keptIn_40 : decode cX2_keptIn 40 = .ok (.if_icmp .ne 7, 3) := dk_160 0 7 (dk_at dksX2_keptIn_1 16 rfl rfl)
theorem dX2_keptIn_43 : decode cX2_keptIn 43 = .ok (.iconst 1, 1) := dk_4 (dk_at dksX2_keptIn_1 19 rfl rfl)
theorem dX2_keptIn_44 : decode cX2_keptIn 44 = .ok (.goto 4, 3) := dk_167 0 4 (dk_at dksX2_keptIn_1 20 rfl rfl)
theorem dX2_keptIn_47 : decode cX2_keptIn 47 = .ok (.iconst 0, 1) := dk_3 (dk_at dksX2_keptIn_1 23 rfl rfl)
theorem dX2_keptIn_48 : decode cX2_keptIn 48 = .ok (.iadd, 1) := dk_96 (dk_at dksX2_keptIn_2 0 rfl rfl)
theorem dX2_keptIn_49 : decode cX2_keptIn 49 = .ok (.istore_n 2, 1) := dk_61 (dk_at dksX2_keptIn_2 1 rfl rfl)
theorem dX2_keptIn_50 : decode cX2_keptIn 50 = .ok (.iinc 3 1, 3) := dk_132 3 1 (dk_at dksX2_keptIn_2 2 rfl rfl)
theorem dX2_keptIn_53 : decode cX2_keptIn 53 = .ok (.goto (-49), 3) := dk_167 255 207 (dk_at dksX2_keptIn_2 5 rfl rfl)
theorem dX2_keptIn_56 : decode cX2_keptIn 56 = .ok (.iload_n 2, 1) := dk_28 (dk_at dksX2_keptIn_2 8 rfl rfl)
theorem dX2_keptIn_57 : decode cX2_keptIn 57 = .ok (.ireturn, 1) := dk_172 (dk_at dksX2_keptIn_2 9 rfl rfl)
abbrev cX2_ones : ByteArray := prog_25_method_7_code
def yX2_ones : MethodName := ⟨RX2, "ones", "(I)I"⟩
def dkwX2_ones_1 : List UInt8 := [96, 60, 132, 2, 1, 167, 255, 231, 27, 172]
abbrev dktX2_ones_1 : List UInt8 := dkwX2_ones_1 ++ []
def dkwX2_ones_0 : List UInt8 := [3, 60, 3, 61, 28, 16, 10, 162, 0, 25, 27, 26, 28, 184, 0, 64, 153, 0, 7, 4, 167, 0, 4, 3]
abbrev dktX2_ones_0 : List UInt8 := dkwX2_ones_0 ++ dktX2_ones_1
theorem dksX2_ones_0 : cX2_ones.data.toList.drop 0 = dktX2_ones_0 := by decide +kernel
theorem dksX2_ones_1 : cX2_ones.data.toList.drop 24 = dktX2_ones_1 := dk_seg dksX2_ones_0 24 rfl rfl
theorem dX2_ones_0 : decode cX2_ones 0 = .ok (.iconst 0, 1) := dk_3 (dk_at dksX2_ones_0 0 rfl rfl)
theorem dX2_ones_1 : decode cX2_ones 1 = .ok (.istore_n 1, 1) := dk_60 (dk_at dksX2_ones_0 1 rfl rfl)
theorem dX2_ones_2 : decode cX2_ones 2 = .ok (.iconst 0, 1) := dk_3 (dk_at dksX2_ones_0 2 rfl rfl)
theorem dX2_ones_3 : decode cX2_ones 3 = .ok (.istore_n 2, 1) := dk_61 (dk_at dksX2_ones_0 3 rfl rfl)
theorem dX2_ones_4 : decode cX2_ones 4 = .ok (.iload_n 2, 1) := dk_28 (dk_at dksX2_ones_0 4 rfl rfl)
theorem dX2_ones_5 : decode cX2_ones 5 = .ok (.bipush 10, 2) := dk_16 10 (dk_at dksX2_ones_0 5 rfl rfl)
theorem dX2_ones_7 : decode cX2_ones 7 = .ok (.if_icmp .ge 25, 3) := dk_162 0 25 (dk_at dksX2_ones_0 7 rfl rfl)
theorem dX2_ones_10 : decode cX2_ones 10 = .ok (.iload_n 1, 1) := dk_27 (dk_at dksX2_ones_0 10 rfl rfl)
theorem dX2_ones_11 : decode cX2_ones 11 = .ok (.iload_n 0, 1) := dk_26 (dk_at dksX2_ones_0 11 rfl rfl)
theorem dX2_ones_12 : decode cX2_ones 12 = .ok (.iload_n 2, 1) := dk_28 (dk_at dksX2_ones_0 12 rfl rfl)
theorem dX2_ones_13 : decode cX2_ones 13 = .ok (.invokestatic 64, 3) := dk_184 0 64 (dk_at dksX2_ones_0 13 rfl rfl)
theorem dX2_ones_16 : decode cX2_ones 16 = .ok (.ifCond .eq 7, 3) := dk_153 0 7 (dk_at dksX2_ones_0 16 rfl rfl)
theorem dX2_ones_19 : decode cX2_ones 19 = .ok (.iconst 1, 1) := dk_4 (dk_at dksX2_ones_0 19 rfl rfl)
theorem dX2_ones_20 : decode cX2_ones 20 = .ok (.goto 4, 3) := dk_167 0 4 (dk_at dksX2_ones_0 20 rfl rfl)
theorem dX2_ones_23 : decode cX2_ones 23 = .ok (.iconst 0, 1) := dk_3 (dk_at dksX2_ones_0 23 rfl rfl)
theorem dX2_ones_24 : decode cX2_ones 24 = .ok (.iadd, 1) := dk_96 (dk_at dksX2_ones_1 0 rfl rfl)
theorem dX2_ones_25 : decode cX2_ones 25 = .ok (.istore_n 1, 1) := dk_60 (dk_at dksX2_ones_1 1 rfl rfl)
theorem dX2_ones_26 : decode cX2_ones 26 = .ok (.iinc 2 1, 3) := dk_132 2 1 (dk_at dksX2_ones_1 2 rfl rfl)
theorem dX2_ones_29 : decode cX2_ones 29 = .ok (.goto (-25), 3) := dk_167 255 231 (dk_at dksX2_ones_1 5 rfl rfl)
theorem dX2_ones_32 : decode cX2_ones 32 = .ok (.iload_n 1, 1) := dk_27 (dk_at dksX2_ones_1 8 rfl rfl)
theorem dX2_ones_33 : decode cX2_ones 33 = .ok (.ireturn, 1) := dk_172 (dk_at dksX2_ones_1 9 rfl rfl)
abbrev cX2_returns : ByteArray := prog_25_method_68_code
def yX2_returns : MethodName := ⟨RX2, "returns", "(I)I"⟩
def dkwX2_returns_3 : List UInt8 := [182, 1, 31, 154, 0, 7, 4, 167, 0, 4, 3, 96, 61, 132, 3, 1, 167, 255, 176, 28, 172]
abbrev dktX2_returns_3 : List UInt8 := dkwX2_returns_3 ++ []
def dkwX2_returns_2 : List UInt8 := [3, 54, 4, 132, 5, 1, 167, 255, 223, 28, 21, 4, 153, 0, 20, 42, 27, 29, 27, 29, 4, 100]
abbrev dktX2_returns_2 : List UInt8 := dkwX2_returns_2 ++ dktX2_returns_3
def dkwX2_returns_1 : List UInt8 := [162, 0, 33, 21, 4, 154, 0, 15, 42, 27, 29, 27, 21, 5, 182, 1, 31, 153, 0, 7, 4, 167, 0, 4]
abbrev dktX2_returns_1 : List UInt8 := dkwX2_returns_1 ++ dktX2_returns_2
def dkwX2_returns_0 : List UInt8 := [3, 61, 4, 62, 29, 42, 27, 182, 1, 3, 162, 0, 77, 3, 54, 4, 3, 54, 5, 21, 5, 29]
abbrev dktX2_returns_0 : List UInt8 := dkwX2_returns_0 ++ dktX2_returns_1
theorem dksX2_returns_0 : cX2_returns.data.toList.drop 0 = dktX2_returns_0 := by decide +kernel
theorem dksX2_returns_1 : cX2_returns.data.toList.drop 22 = dktX2_returns_1 := dk_seg dksX2_returns_0 22 rfl rfl
theorem dksX2_returns_2 : cX2_returns.data.toList.drop 46 = dktX2_returns_2 := dk_seg dksX2_returns_1 24 rfl rfl
theorem dksX2_returns_3 : cX2_returns.data.toList.drop 68 = dktX2_returns_3 := dk_seg dksX2_returns_2 22 rfl rfl
theorem dX2_returns_0 : decode cX2_returns 0 = .ok (.iconst 0, 1) := dk_3 (dk_at dksX2_returns_0 0 rfl rfl)
theorem dX2_returns_1 : decode cX2_returns 1 = .ok (.istore_n 2, 1) := dk_61 (dk_at dksX2_returns_0 1 rfl rfl)
theorem dX2_returns_2 : decode cX2_returns 2 = .ok (.iconst 1, 1) := dk_4 (dk_at dksX2_returns_0 2 rfl rfl)
theorem dX2_returns_3 : decode cX2_returns 3 = .ok (.istore_n 3, 1) := dk_62 (dk_at dksX2_returns_0 3 rfl rfl)
theorem dX2_returns_4 : decode cX2_returns 4 = .ok (.iload_n 3, 1) := dk_29 (dk_at dksX2_returns_0 4 rfl rfl)
theorem dX2_returns_5 : decode cX2_returns 5 = .ok (.aload_n 0, 1) := dk_42 (dk_at dksX2_returns_0 5 rfl rfl)
theorem dX2_returns_6 : decode cX2_returns 6 = .ok (.iload_n 1, 1) := dk_27 (dk_at dksX2_returns_0 6 rfl rfl)
theorem dX2_returns_7 : decode cX2_returns 7 = .ok (.invokevirtual 259, 3) := dk_182 1 3 (dk_at dksX2_returns_0 7 rfl rfl)
theorem dX2_returns_10 : decode cX2_returns 10 = .ok (.if_icmp .ge 77, 3) := dk_162 0 77 (dk_at dksX2_returns_0 10 rfl rfl)
theorem dX2_returns_13 : decode cX2_returns 13 = .ok (.iconst 0, 1) := dk_3 (dk_at dksX2_returns_0 13 rfl rfl)
theorem dX2_returns_14 : decode cX2_returns 14 = .ok (.istore 4, 2) := dk_54 4 (dk_at dksX2_returns_0 14 rfl rfl)
theorem dX2_returns_16 : decode cX2_returns 16 = .ok (.iconst 0, 1) := dk_3 (dk_at dksX2_returns_0 16 rfl rfl)
theorem dX2_returns_17 : decode cX2_returns 17 = .ok (.istore 5, 2) := dk_54 5 (dk_at dksX2_returns_0 17 rfl rfl)
theorem dX2_returns_19 : decode cX2_returns 19 = .ok (.iload 5, 2) := dk_21 5 (dk_at dksX2_returns_0 19 rfl rfl)
theorem dX2_returns_21 : decode cX2_returns 21 = .ok (.iload_n 3, 1) := dk_29 (dk_at dksX2_returns_0 21 rfl rfl)
theorem dX2_returns_22 : decode cX2_returns 22 = .ok (.if_icmp .ge 33, 3) := dk_162 0 33 (dk_at dksX2_returns_1 0 rfl rfl)
theorem dX2_returns_25 : decode cX2_returns 25 = .ok (.iload 4, 2) := dk_21 4 (dk_at dksX2_returns_1 3 rfl rfl)
theorem dX2_returns_27 : decode cX2_returns 27 = .ok (.ifCond .ne 15, 3) := dk_154 0 15 (dk_at dksX2_returns_1 5 rfl rfl)
theorem dX2_returns_30 : decode cX2_returns 30 = .ok (.aload_n 0, 1) := dk_42 (dk_at dksX2_returns_1 8 rfl rfl)
theorem dX2_returns_31 : decode cX2_returns 31 = .ok (.iload_n 1, 1) := dk_27 (dk_at dksX2_returns_1 9 rfl rfl)
theorem dX2_returns_32 : decode cX2_returns 32 = .ok (.iload_n 3, 1) := dk_29 (dk_at dksX2_returns_1 10 rfl rfl)
theorem dX2_returns_33 : decode cX2_returns 33 = .ok (.iload_n 1, 1) := dk_27 (dk_at dksX2_returns_1 11 rfl rfl)
theorem dX2_returns_34 : decode cX2_returns 34 = .ok (.iload 5, 2) := dk_21 5 (dk_at dksX2_returns_1 12 rfl rfl)
theorem dX2_returns_36 : decode cX2_returns 36 = .ok (.invokevirtual 287, 3) := dk_182 1 31 (dk_at dksX2_returns_1 14 rfl rfl)
theorem dX2_returns_39 : decode cX2_returns 39 = .ok (.ifCond .eq 7, 3) := dk_153 0 7 (dk_at dksX2_returns_1 17 rfl rfl)
theorem dX2_returns_42 : decode cX2_returns 42 = .ok (.iconst 1, 1) := dk_4 (dk_at dksX2_returns_1 20 rfl rfl)
theorem dX2_returns_43 : decode cX2_returns 43 = .ok (.goto 4, 3) := dk_167 0 4 (dk_at dksX2_returns_1 21 rfl rfl)
theorem dX2_returns_46 : decode cX2_returns 46 = .ok (.iconst 0, 1) := dk_3 (dk_at dksX2_returns_2 0 rfl rfl)
theorem dX2_returns_47 : decode cX2_returns 47 = .ok (.istore 4, 2) := dk_54 4 (dk_at dksX2_returns_2 1 rfl rfl)
theorem dX2_returns_49 : decode cX2_returns 49 = .ok (.iinc 5 1, 3) := dk_132 5 1 (dk_at dksX2_returns_2 3 rfl rfl)
theorem dX2_returns_52 : decode cX2_returns 52 = .ok (.goto (-33), 3) := dk_167 255 223 (dk_at dksX2_returns_2 6 rfl rfl)
theorem dX2_returns_55 : decode cX2_returns 55 = .ok (.iload_n 2, 1) := dk_28 (dk_at dksX2_returns_2 9 rfl rfl)
theorem dX2_returns_56 : decode cX2_returns 56 = .ok (.iload 4, 2) := dk_21 4 (dk_at dksX2_returns_2 10 rfl rfl)
theorem dX2_returns_58 : decode cX2_returns 58 = .ok (.ifCond .eq 20, 3) := dk_153 0 20 (dk_at dksX2_returns_2 12 rfl rfl)
theorem dX2_returns_61 : decode cX2_returns 61 = .ok (.aload_n 0, 1) := dk_42 (dk_at dksX2_returns_2 15 rfl rfl)
theorem dX2_returns_62 : decode cX2_returns 62 = .ok (.iload_n 1, 1) := dk_27 (dk_at dksX2_returns_2 16 rfl rfl)
theorem dX2_returns_63 : decode cX2_returns 63 = .ok (.iload_n 3, 1) := dk_29 (dk_at dksX2_returns_2 17 rfl rfl)
theorem dX2_returns_64 : decode cX2_returns 64 = .ok (.iload_n 1, 1) := dk_27 (dk_at dksX2_returns_2 18 rfl rfl)
theorem dX2_returns_65 : decode cX2_returns 65 = .ok (.iload_n 3, 1) := dk_29 (dk_at dksX2_returns_2 19 rfl rfl)
theorem dX2_returns_66 : decode cX2_returns 66 = .ok (.iconst 1, 1) := dk_4 (dk_at dksX2_returns_2 20 rfl rfl)
theorem dX2_returns_67 : decode cX2_returns 67 = .ok (.isub, 1) := dk_100 (dk_at dksX2_returns_2 21 rfl rfl)
theorem dX2_returns_68 : decode cX2_returns 68 = .ok (.invokevirtual 287, 3) := dk_182 1 31 (dk_at dksX2_returns_3 0 rfl rfl)
theorem dX2_returns_71 : decode cX2_returns 71 = .ok (.ifCond .ne 7, 3) := dk_154 0 7 (dk_at dksX2_returns_3 3 rfl rfl)
theorem dX2_returns_74 : decode cX2_returns 74 = .ok (.iconst 1, 1) := dk_4 (dk_at dksX2_returns_3 6 rfl rfl)
theorem dX2_returns_75 : decode cX2_returns 75 = .ok (.goto 4, 3) := dk_167 0 4 (dk_at dksX2_returns_3 7 rfl rfl)
theorem dX2_returns_78 : decode cX2_returns 78 = .ok (.iconst 0, 1) := dk_3 (dk_at dksX2_returns_3 10 rfl rfl)
theorem dX2_returns_79 : decode cX2_returns 79 = .ok (.iadd, 1) := dk_96 (dk_at dksX2_returns_3 11 rfl rfl)
theorem dX2_returns_80 : decode cX2_returns 80 = .ok (.istore_n 2, 1) := dk_61 (dk_at dksX2_returns_3 12 rfl rfl)
theorem dX2_returns_81 : decode cX2_returns 81 = .ok (.iinc 3 1, 3) := dk_132 3 1 (dk_at dksX2_returns_3 13 rfl rfl)
theorem dX2_returns_84 : decode cX2_returns 84 = .ok (.goto (-80), 3) := dk_167 255 176 (dk_at dksX2_returns_3 16 rfl rfl)
theorem dX2_returns_87 : decode cX2_returns 87 = .ok (.iload_n 2, 1) := dk_28 (dk_at dksX2_returns_3 19 rfl rfl)
theorem dX2_returns_88 : decode cX2_returns 88 = .ok (.ireturn, 1) := dk_172 (dk_at dksX2_returns_3 20 rfl rfl)
abbrev cX2_areAlike : ByteArray := prog_25_method_58_code
def yX2_areAlike : MethodName := ⟨RX2, "areAlike", "(IIII)Z"⟩
def dkwX2_areAlike_3 : List UInt8 := [132, 6, 1, 167, 255, 210, 21, 5, 172]
abbrev dktX2_areAlike_3 : List UInt8 := dkwX2_areAlike_3 ++ []
def dkwX2_areAlike_2 : List UInt8 := [182, 1, 19, 42, 29, 21, 4, 21, 6, 182, 1, 19, 160, 0, 7, 4, 167, 0, 4, 3, 54, 5]
abbrev dktX2_areAlike_2 : List UInt8 := dkwX2_areAlike_2 ++ dktX2_areAlike_3
def dkwX2_areAlike_1 : List UInt8 := [54, 6, 21, 6, 42, 27, 28, 182, 1, 13, 162, 0, 41, 21, 5, 153, 0, 36, 42, 27, 28, 21, 6]
abbrev dktX2_areAlike_1 : List UInt8 := dkwX2_areAlike_1 ++ dktX2_areAlike_2
def dkwX2_areAlike_0 : List UInt8 := [42, 27, 28, 182, 1, 13, 42, 29, 21, 4, 182, 1, 13, 160, 0, 7, 4, 167, 0, 4, 3, 54, 5, 3]
abbrev dktX2_areAlike_0 : List UInt8 := dkwX2_areAlike_0 ++ dktX2_areAlike_1
theorem dksX2_areAlike_0 : cX2_areAlike.data.toList.drop 0 = dktX2_areAlike_0 := by decide +kernel
theorem dksX2_areAlike_1 : cX2_areAlike.data.toList.drop 24 = dktX2_areAlike_1 := dk_seg dksX2_areAlike_0 24 rfl rfl
theorem dksX2_areAlike_2 : cX2_areAlike.data.toList.drop 47 = dktX2_areAlike_2 := dk_seg dksX2_areAlike_1 23 rfl rfl
theorem dksX2_areAlike_3 : cX2_areAlike.data.toList.drop 69 = dktX2_areAlike_3 := dk_seg dksX2_areAlike_2 22 rfl rfl
theorem dX2_areAlike_0 : decode cX2_areAlike 0 = .ok (.aload_n 0, 1) := dk_42 (dk_at dksX2_areAlike_0 0 rfl rfl)
theorem dX2_areAlike_1 : decode cX2_areAlike 1 = .ok (.iload_n 1, 1) := dk_27 (dk_at dksX2_areAlike_0 1 rfl rfl)
theorem dX2_areAlike_2 : decode cX2_areAlike 2 = .ok (.iload_n 2, 1) := dk_28 (dk_at dksX2_areAlike_0 2 rfl rfl)
theorem dX2_areAlike_3 : decode cX2_areAlike 3 = .ok (.invokevirtual 269, 3) := dk_182 1 13 (dk_at dksX2_areAlike_0 3 rfl rfl)
theorem dX2_areAlike_6 : decode cX2_areAlike 6 = .ok (.aload_n 0, 1) := dk_42 (dk_at dksX2_areAlike_0 6 rfl rfl)
theorem dX2_areAlike_7 : decode cX2_areAlike 7 = .ok (.iload_n 3, 1) := dk_29 (dk_at dksX2_areAlike_0 7 rfl rfl)
theorem dX2_areAlike_8 : decode cX2_areAlike 8 = .ok (.iload 4, 2) := dk_21 4 (dk_at dksX2_areAlike_0 8 rfl rfl)
theorem dX2_areAlike_10 : decode cX2_areAlike 10 = .ok (.invokevirtual 269, 3) := dk_182 1 13 (dk_at dksX2_areAlike_0 10 rfl rfl)
theorem dX2_areAlike_13 : decode cX2_areAlike 13 = .ok (.if_icmp .ne 7, 3) := dk_160 0 7 (dk_at dksX2_areAlike_0 13 rfl rfl)
theorem dX2_areAlike_16 : decode cX2_areAlike 16 = .ok (.iconst 1, 1) := dk_4 (dk_at dksX2_areAlike_0 16 rfl rfl)
theorem dX2_areAlike_17 : decode cX2_areAlike 17 = .ok (.goto 4, 3) := dk_167 0 4 (dk_at dksX2_areAlike_0 17 rfl rfl)
theorem dX2_areAlike_20 : decode cX2_areAlike 20 = .ok (.iconst 0, 1) := dk_3 (dk_at dksX2_areAlike_0 20 rfl rfl)
theorem dX2_areAlike_21 : decode cX2_areAlike 21 = .ok (.istore 5, 2) := dk_54 5 (dk_at dksX2_areAlike_0 21 rfl rfl)
theorem dX2_areAlike_23 : decode cX2_areAlike 23 = .ok (.iconst 0, 1) := dk_3 (dk_at dksX2_areAlike_0 23 rfl rfl)
theorem dX2_areAlike_24 : decode cX2_areAlike 24 = .ok (.istore 6, 2) := dk_54 6 (dk_at dksX2_areAlike_1 0 rfl rfl)
theorem dX2_areAlike_26 : decode cX2_areAlike 26 = .ok (.iload 6, 2) := dk_21 6 (dk_at dksX2_areAlike_1 2 rfl rfl)
theorem dX2_areAlike_28 : decode cX2_areAlike 28 = .ok (.aload_n 0, 1) := dk_42 (dk_at dksX2_areAlike_1 4 rfl rfl)
theorem dX2_areAlike_29 : decode cX2_areAlike 29 = .ok (.iload_n 1, 1) := dk_27 (dk_at dksX2_areAlike_1 5 rfl rfl)
theorem dX2_areAlike_30 : decode cX2_areAlike 30 = .ok (.iload_n 2, 1) := dk_28 (dk_at dksX2_areAlike_1 6 rfl rfl)
theorem dX2_areAlike_31 : decode cX2_areAlike 31 = .ok (.invokevirtual 269, 3) := dk_182 1 13 (dk_at dksX2_areAlike_1 7 rfl rfl)
theorem dX2_areAlike_34 : decode cX2_areAlike 34 = .ok (.if_icmp .ge 41, 3) := dk_162 0 41 (dk_at dksX2_areAlike_1 10 rfl rfl)
theorem dX2_areAlike_37 : decode cX2_areAlike 37 = .ok (.iload 5, 2) := dk_21 5 (dk_at dksX2_areAlike_1 13 rfl rfl)
theorem dX2_areAlike_39 : decode cX2_areAlike 39 = .ok (.ifCond .eq 36, 3) := dk_153 0 36 (dk_at dksX2_areAlike_1 15 rfl rfl)
theorem dX2_areAlike_42 : decode cX2_areAlike 42 = .ok (.aload_n 0, 1) := dk_42 (dk_at dksX2_areAlike_1 18 rfl rfl)
theorem dX2_areAlike_43 : decode cX2_areAlike 43 = .ok (.iload_n 1, 1) := dk_27 (dk_at dksX2_areAlike_1 19 rfl rfl)
theorem dX2_areAlike_44 : decode cX2_areAlike 44 = .ok (.iload_n 2, 1) := dk_28 (dk_at dksX2_areAlike_1 20 rfl rfl)
theorem dX2_areAlike_45 : decode cX2_areAlike 45 = .ok (.iload 6, 2) := dk_21 6 (dk_at dksX2_areAlike_1 21 rfl rfl)
theorem dX2_areAlike_47 : decode cX2_areAlike 47 = .ok (.invokevirtual 275, 3) := dk_182 1 19 (dk_at dksX2_areAlike_2 0 rfl rfl)
theorem dX2_areAlike_50 : decode cX2_areAlike 50 = .ok (.aload_n 0, 1) := dk_42 (dk_at dksX2_areAlike_2 3 rfl rfl)
theorem dX2_areAlike_51 : decode cX2_areAlike 51 = .ok (.iload_n 3, 1) := dk_29 (dk_at dksX2_areAlike_2 4 rfl rfl)
theorem dX2_areAlike_52 : decode cX2_areAlike 52 = .ok (.iload 4, 2) := dk_21 4 (dk_at dksX2_areAlike_2 5 rfl rfl)
theorem dX2_areAlike_54 : decode cX2_areAlike 54 = .ok (.iload 6, 2) := dk_21 6 (dk_at dksX2_areAlike_2 7 rfl rfl)
theorem dX2_areAlike_56 : decode cX2_areAlike 56 = .ok (.invokevirtual 275, 3) := dk_182 1 19 (dk_at dksX2_areAlike_2 9 rfl rfl)
theorem dX2_areAlike_59 : decode cX2_areAlike 59 = .ok (.if_icmp .ne 7, 3) := dk_160 0 7 (dk_at dksX2_areAlike_2 12 rfl rfl)
theorem dX2_areAlike_62 : decode cX2_areAlike 62 = .ok (.iconst 1, 1) := dk_4 (dk_at dksX2_areAlike_2 15 rfl rfl)
theorem dX2_areAlike_63 : decode cX2_areAlike 63 = .ok (.goto 4, 3) := dk_167 0 4 (dk_at dksX2_areAlike_2 16 rfl rfl)
theorem dX2_areAlike_66 : decode cX2_areAlike 66 = .ok (.iconst 0, 1) := dk_3 (dk_at dksX2_areAlike_2 19 rfl rfl)
theorem dX2_areAlike_67 : decode cX2_areAlike 67 = .ok (.istore 5, 2) := dk_54 5 (dk_at dksX2_areAlike_2 20 rfl rfl)
theorem dX2_areAlike_69 : decode cX2_areAlike 69 = .ok (.iinc 6 1, 3) := dk_132 6 1 (dk_at dksX2_areAlike_3 0 rfl rfl)
theorem dX2_areAlike_72 : decode cX2_areAlike 72 = .ok (.goto (-46), 3) := dk_167 255 210 (dk_at dksX2_areAlike_3 3 rfl rfl)
theorem dX2_areAlike_75 : decode cX2_areAlike 75 = .ok (.iload 5, 2) := dk_21 5 (dk_at dksX2_areAlike_3 6 rfl rfl)
theorem dX2_areAlike_77 : decode cX2_areAlike 77 = .ok (.ireturn, 1) := dk_172 (dk_at dksX2_areAlike_3 8 rfl rfl)
abbrev cX2_wordAt : ByteArray := prog_25_method_52_code
def yX2_wordAt : MethodName := ⟨RX2, "wordAt", "(III)I"⟩
def dkwX2_wordAt_0 : List UInt8 := [42, 42, 27, 28, 29, 182, 1, 6, 182, 1, 10, 172]
abbrev dktX2_wordAt_0 : List UInt8 := dkwX2_wordAt_0 ++ []
theorem dksX2_wordAt_0 : cX2_wordAt.data.toList.drop 0 = dktX2_wordAt_0 := by decide +kernel
theorem dX2_wordAt_0 : decode cX2_wordAt 0 = .ok (.aload_n 0, 1) := dk_42 (dk_at dksX2_wordAt_0 0 rfl rfl)
theorem dX2_wordAt_1 : decode cX2_wordAt 1 = .ok (.aload_n 0, 1) := dk_42 (dk_at dksX2_wordAt_0 1 rfl rfl)
theorem dX2_wordAt_2 : decode cX2_wordAt 2 = .ok (.iload_n 1, 1) := dk_27 (dk_at dksX2_wordAt_0 2 rfl rfl)
theorem dX2_wordAt_3 : decode cX2_wordAt 3 = .ok (.iload_n 2, 1) := dk_28 (dk_at dksX2_wordAt_0 3 rfl rfl)
theorem dX2_wordAt_4 : decode cX2_wordAt 4 = .ok (.iload_n 3, 1) := dk_29 (dk_at dksX2_wordAt_0 4 rfl rfl)
theorem dX2_wordAt_5 : decode cX2_wordAt 5 = .ok (.invokevirtual 262, 3) := dk_182 1 6 (dk_at dksX2_wordAt_0 5 rfl rfl)
theorem dX2_wordAt_8 : decode cX2_wordAt 8 = .ok (.invokevirtual 266, 3) := dk_182 1 10 (dk_at dksX2_wordAt_0 8 rfl rfl)
theorem dX2_wordAt_11 : decode cX2_wordAt 11 = .ok (.ireturn, 1) := dk_172 (dk_at dksX2_wordAt_0 11 rfl rfl)
abbrev cX2_wordOf : ByteArray := prog_25_method_51_code
def yX2_wordOf : MethodName := ⟨RX2, "wordOf", "(I)I"⟩
def dkwX2_wordOf_0 : List UInt8 := [42, 180, 0, 35, 17, 3, 118, 27, 96, 46, 172]
abbrev dktX2_wordOf_0 : List UInt8 := dkwX2_wordOf_0 ++ []
theorem dksX2_wordOf_0 : cX2_wordOf.data.toList.drop 0 = dktX2_wordOf_0 := by decide +kernel
theorem dX2_wordOf_0 : decode cX2_wordOf 0 = .ok (.aload_n 0, 1) := dk_42 (dk_at dksX2_wordOf_0 0 rfl rfl)
theorem dX2_wordOf_1 : decode cX2_wordOf 1 = .ok (.getfield 35, 3) := dk_180 0 35 (dk_at dksX2_wordOf_0 1 rfl rfl)
theorem dX2_wordOf_4 : decode cX2_wordOf 4 = .ok (.sipush 886, 3) := dk_17 3 118 (dk_at dksX2_wordOf_0 4 rfl rfl)
theorem dX2_wordOf_7 : decode cX2_wordOf 7 = .ok (.iload_n 1, 1) := dk_27 (dk_at dksX2_wordOf_0 7 rfl rfl)
theorem dX2_wordOf_8 : decode cX2_wordOf 8 = .ok (.iadd, 1) := dk_96 (dk_at dksX2_wordOf_0 8 rfl rfl)
theorem dX2_wordOf_9 : decode cX2_wordOf 9 = .ok (.iaload, 1) := dk_46 (dk_at dksX2_wordOf_0 9 rfl rfl)
theorem dX2_wordOf_10 : decode cX2_wordOf 10 = .ok (.ireturn, 1) := dk_172 (dk_at dksX2_wordOf_0 10 rfl rfl)
abbrev cX2_versionsAll : ByteArray := prog_25_method_59_code
def yX2_versionsAll : MethodName := ⟨RX2, "versionsAll", "()I"⟩
def dkwX2_versionsAll_1 : List UInt8 := [132, 2, 1, 167, 255, 235, 27, 172]
abbrev dktX2_versionsAll_1 : List UInt8 := dkwX2_versionsAll_1 ++ []
def dkwX2_versionsAll_0 : List UInt8 := [3, 60, 3, 61, 28, 42, 180, 0, 35, 3, 46, 162, 0, 17, 27, 42, 28, 182, 1, 3, 96, 60]
abbrev dktX2_versionsAll_0 : List UInt8 := dkwX2_versionsAll_0 ++ dktX2_versionsAll_1
theorem dksX2_versionsAll_0 : cX2_versionsAll.data.toList.drop 0 = dktX2_versionsAll_0 := by decide +kernel
theorem dksX2_versionsAll_1 : cX2_versionsAll.data.toList.drop 22 = dktX2_versionsAll_1 := dk_seg dksX2_versionsAll_0 22 rfl rfl
theorem dX2_versionsAll_0 : decode cX2_versionsAll 0 = .ok (.iconst 0, 1) := dk_3 (dk_at dksX2_versionsAll_0 0 rfl rfl)
theorem dX2_versionsAll_1 : decode cX2_versionsAll 1 = .ok (.istore_n 1, 1) := dk_60 (dk_at dksX2_versionsAll_0 1 rfl rfl)
theorem dX2_versionsAll_2 : decode cX2_versionsAll 2 = .ok (.iconst 0, 1) := dk_3 (dk_at dksX2_versionsAll_0 2 rfl rfl)
theorem dX2_versionsAll_3 : decode cX2_versionsAll 3 = .ok (.istore_n 2, 1) := dk_61 (dk_at dksX2_versionsAll_0 3 rfl rfl)
theorem dX2_versionsAll_4 : decode cX2_versionsAll 4 = .ok (.iload_n 2, 1) := dk_28 (dk_at dksX2_versionsAll_0 4 rfl rfl)
theorem dX2_versionsAll_5 : decode cX2_versionsAll 5 = .ok (.aload_n 0, 1) := dk_42 (dk_at dksX2_versionsAll_0 5 rfl rfl)
theorem dX2_versionsAll_6 : decode cX2_versionsAll 6 = .ok (.getfield 35, 3) := dk_180 0 35 (dk_at dksX2_versionsAll_0 6 rfl rfl)
theorem dX2_versionsAll_9 : decode cX2_versionsAll 9 = .ok (.iconst 0, 1) := dk_3 (dk_at dksX2_versionsAll_0 9 rfl rfl)
theorem dX2_versionsAll_10 : decode cX2_versionsAll 10 = .ok (.iaload, 1) := dk_46 (dk_at dksX2_versionsAll_0 10 rfl rfl)
theorem dX2_versionsAll_11 : decode cX2_versionsAll 11 = .ok (.if_icmp .ge 17, 3) := dk_162 0 17 (dk_at dksX2_versionsAll_0 11 rfl rfl)
theorem dX2_versionsAll_14 : decode cX2_versionsAll 14 = .ok (.iload_n 1, 1) := dk_27 (dk_at dksX2_versionsAll_0 14 rfl rfl)
theorem dX2_versionsAll_15 : decode cX2_versionsAll 15 = .ok (.aload_n 0, 1) := dk_42 (dk_at dksX2_versionsAll_0 15 rfl rfl)
theorem dX2_versionsAll_16 : decode cX2_versionsAll 16 = .ok (.iload_n 2, 1) := dk_28 (dk_at dksX2_versionsAll_0 16 rfl rfl)
theorem dX2_versionsAll_17 : decode cX2_versionsAll 17 = .ok (.invokevirtual 259, 3) := dk_182 1 3 (dk_at dksX2_versionsAll_0 17 rfl rfl)
theorem dX2_versionsAll_20 : decode cX2_versionsAll 20 = .ok (.iadd, 1) := dk_96 (dk_at dksX2_versionsAll_0 20 rfl rfl)
theorem dX2_versionsAll_21 : decode cX2_versionsAll 21 = .ok (.istore_n 1, 1) := dk_60 (dk_at dksX2_versionsAll_0 21 rfl rfl)
theorem dX2_versionsAll_22 : decode cX2_versionsAll 22 = .ok (.iinc 2 1, 3) := dk_132 2 1 (dk_at dksX2_versionsAll_1 0 rfl rfl)
theorem dX2_versionsAll_25 : decode cX2_versionsAll 25 = .ok (.goto (-21), 3) := dk_167 255 235 (dk_at dksX2_versionsAll_1 3 rfl rfl)
theorem dX2_versionsAll_28 : decode cX2_versionsAll 28 = .ok (.iload_n 1, 1) := dk_27 (dk_at dksX2_versionsAll_1 6 rfl rfl)
theorem dX2_versionsAll_29 : decode cX2_versionsAll 29 = .ok (.ireturn, 1) := dk_172 (dk_at dksX2_versionsAll_1 7 rfl rfl)
abbrev cX2_sizeAll : ByteArray := prog_25_method_60_code
def yX2_sizeAll : MethodName := ⟨RX2, "sizeAll", "()I"⟩
def dkwX2_sizeAll_2 : List UInt8 := [27, 172]
abbrev dktX2_sizeAll_2 : List UInt8 := dkwX2_sizeAll_2 ++ []
def dkwX2_sizeAll_1 : List UInt8 := [162, 0, 18, 27, 42, 28, 29, 182, 1, 13, 96, 60, 132, 3, 1, 167, 255, 235, 132, 2, 1, 167, 255, 217]
abbrev dktX2_sizeAll_1 : List UInt8 := dkwX2_sizeAll_1 ++ dktX2_sizeAll_2
def dkwX2_sizeAll_0 : List UInt8 := [3, 60, 3, 61, 28, 42, 180, 0, 35, 3, 46, 162, 0, 35, 3, 62, 29, 42, 28, 182, 1, 3]
abbrev dktX2_sizeAll_0 : List UInt8 := dkwX2_sizeAll_0 ++ dktX2_sizeAll_1
theorem dksX2_sizeAll_0 : cX2_sizeAll.data.toList.drop 0 = dktX2_sizeAll_0 := by decide +kernel
theorem dksX2_sizeAll_1 : cX2_sizeAll.data.toList.drop 22 = dktX2_sizeAll_1 := dk_seg dksX2_sizeAll_0 22 rfl rfl
theorem dksX2_sizeAll_2 : cX2_sizeAll.data.toList.drop 46 = dktX2_sizeAll_2 := dk_seg dksX2_sizeAll_1 24 rfl rfl
theorem dX2_sizeAll_0 : decode cX2_sizeAll 0 = .ok (.iconst 0, 1) := dk_3 (dk_at dksX2_sizeAll_0 0 rfl rfl)
theorem dX2_sizeAll_1 : decode cX2_sizeAll 1 = .ok (.istore_n 1, 1) := dk_60 (dk_at dksX2_sizeAll_0 1 rfl rfl)
theorem dX2_sizeAll_2 : decode cX2_sizeAll 2 = .ok (.iconst 0, 1) := dk_3 (dk_at dksX2_sizeAll_0 2 rfl rfl)
theorem dX2_sizeAll_3 : decode cX2_sizeAll 3 = .ok (.istore_n 2, 1) := dk_61 (dk_at dksX2_sizeAll_0 3 rfl rfl)
theorem dX2_sizeAll_4 : decode cX2_sizeAll 4 = .ok (.iload_n 2, 1) := dk_28 (dk_at dksX2_sizeAll_0 4 rfl rfl)
theorem dX2_sizeAll_5 : decode cX2_sizeAll 5 = .ok (.aload_n 0, 1) := dk_42 (dk_at dksX2_sizeAll_0 5 rfl rfl)
theorem dX2_sizeAll_6 : decode cX2_sizeAll 6 = .ok (.getfield 35, 3) := dk_180 0 35 (dk_at dksX2_sizeAll_0 6 rfl rfl)
theorem dX2_sizeAll_9 : decode cX2_sizeAll 9 = .ok (.iconst 0, 1) := dk_3 (dk_at dksX2_sizeAll_0 9 rfl rfl)
theorem dX2_sizeAll_10 : decode cX2_sizeAll 10 = .ok (.iaload, 1) := dk_46 (dk_at dksX2_sizeAll_0 10 rfl rfl)
theorem dX2_sizeAll_11 : decode cX2_sizeAll 11 = .ok (.if_icmp .ge 35, 3) := dk_162 0 35 (dk_at dksX2_sizeAll_0 11 rfl rfl)
theorem dX2_sizeAll_14 : decode cX2_sizeAll 14 = .ok (.iconst 0, 1) := dk_3 (dk_at dksX2_sizeAll_0 14 rfl rfl)
theorem dX2_sizeAll_15 : decode cX2_sizeAll 15 = .ok (.istore_n 3, 1) := dk_62 (dk_at dksX2_sizeAll_0 15 rfl rfl)
theorem dX2_sizeAll_16 : decode cX2_sizeAll 16 = .ok (.iload_n 3, 1) := dk_29 (dk_at dksX2_sizeAll_0 16 rfl rfl)
theorem dX2_sizeAll_17 : decode cX2_sizeAll 17 = .ok (.aload_n 0, 1) := dk_42 (dk_at dksX2_sizeAll_0 17 rfl rfl)
theorem dX2_sizeAll_18 : decode cX2_sizeAll 18 = .ok (.iload_n 2, 1) := dk_28 (dk_at dksX2_sizeAll_0 18 rfl rfl)
theorem dX2_sizeAll_19 : decode cX2_sizeAll 19 = .ok (.invokevirtual 259, 3) := dk_182 1 3 (dk_at dksX2_sizeAll_0 19 rfl rfl)
theorem dX2_sizeAll_22 : decode cX2_sizeAll 22 = .ok (.if_icmp .ge 18, 3) := dk_162 0 18 (dk_at dksX2_sizeAll_1 0 rfl rfl)
theorem dX2_sizeAll_25 : decode cX2_sizeAll 25 = .ok (.iload_n 1, 1) := dk_27 (dk_at dksX2_sizeAll_1 3 rfl rfl)
theorem dX2_sizeAll_26 : decode cX2_sizeAll 26 = .ok (.aload_n 0, 1) := dk_42 (dk_at dksX2_sizeAll_1 4 rfl rfl)
theorem dX2_sizeAll_27 : decode cX2_sizeAll 27 = .ok (.iload_n 2, 1) := dk_28 (dk_at dksX2_sizeAll_1 5 rfl rfl)
theorem dX2_sizeAll_28 : decode cX2_sizeAll 28 = .ok (.iload_n 3, 1) := dk_29 (dk_at dksX2_sizeAll_1 6 rfl rfl)
theorem dX2_sizeAll_29 : decode cX2_sizeAll 29 = .ok (.invokevirtual 269, 3) := dk_182 1 13 (dk_at dksX2_sizeAll_1 7 rfl rfl)
theorem dX2_sizeAll_32 : decode cX2_sizeAll 32 = .ok (.iadd, 1) := dk_96 (dk_at dksX2_sizeAll_1 10 rfl rfl)
theorem dX2_sizeAll_33 : decode cX2_sizeAll 33 = .ok (.istore_n 1, 1) := dk_60 (dk_at dksX2_sizeAll_1 11 rfl rfl)
theorem dX2_sizeAll_34 : decode cX2_sizeAll 34 = .ok (.iinc 3 1, 3) := dk_132 3 1 (dk_at dksX2_sizeAll_1 12 rfl rfl)
theorem dX2_sizeAll_37 : decode cX2_sizeAll 37 = .ok (.goto (-21), 3) := dk_167 255 235 (dk_at dksX2_sizeAll_1 15 rfl rfl)
theorem dX2_sizeAll_40 : decode cX2_sizeAll 40 = .ok (.iinc 2 1, 3) := dk_132 2 1 (dk_at dksX2_sizeAll_1 18 rfl rfl)
theorem dX2_sizeAll_43 : decode cX2_sizeAll 43 = .ok (.goto (-39), 3) := dk_167 255 217 (dk_at dksX2_sizeAll_1 21 rfl rfl)
theorem dX2_sizeAll_46 : decode cX2_sizeAll 46 = .ok (.iload_n 1, 1) := dk_27 (dk_at dksX2_sizeAll_2 0 rfl rfl)
theorem dX2_sizeAll_47 : decode cX2_sizeAll 47 = .ok (.ireturn, 1) := dk_172 (dk_at dksX2_sizeAll_2 1 rfl rfl)
abbrev cX2_postings : ByteArray := prog_25_method_61_code
def yX2_postings : MethodName := ⟨RX2, "postings", "()I"⟩
def dkwX2_postings_1 : List UInt8 := [132, 2, 1, 167, 255, 234, 27, 172]
abbrev dktX2_postings_1 : List UInt8 := dkwX2_postings_1 ++ []
def dkwX2_postings_0 : List UInt8 := [3, 60, 3, 61, 28, 42, 180, 0, 253, 162, 0, 20, 27, 42, 28, 182, 1, 22, 184, 1, 25, 96, 60]
abbrev dktX2_postings_0 : List UInt8 := dkwX2_postings_0 ++ dktX2_postings_1
theorem dksX2_postings_0 : cX2_postings.data.toList.drop 0 = dktX2_postings_0 := by decide +kernel
theorem dksX2_postings_1 : cX2_postings.data.toList.drop 23 = dktX2_postings_1 := dk_seg dksX2_postings_0 23 rfl rfl
theorem dX2_postings_0 : decode cX2_postings 0 = .ok (.iconst 0, 1) := dk_3 (dk_at dksX2_postings_0 0 rfl rfl)
theorem dX2_postings_1 : decode cX2_postings 1 = .ok (.istore_n 1, 1) := dk_60 (dk_at dksX2_postings_0 1 rfl rfl)
theorem dX2_postings_2 : decode cX2_postings 2 = .ok (.iconst 0, 1) := dk_3 (dk_at dksX2_postings_0 2 rfl rfl)
theorem dX2_postings_3 : decode cX2_postings 3 = .ok (.istore_n 2, 1) := dk_61 (dk_at dksX2_postings_0 3 rfl rfl)
theorem dX2_postings_4 : decode cX2_postings 4 = .ok (.iload_n 2, 1) := dk_28 (dk_at dksX2_postings_0 4 rfl rfl)
theorem dX2_postings_5 : decode cX2_postings 5 = .ok (.aload_n 0, 1) := dk_42 (dk_at dksX2_postings_0 5 rfl rfl)
theorem dX2_postings_6 : decode cX2_postings 6 = .ok (.getfield 253, 3) := dk_180 0 253 (dk_at dksX2_postings_0 6 rfl rfl)
theorem dX2_postings_9 : decode cX2_postings 9 = .ok (.if_icmp .ge 20, 3) := dk_162 0 20 (dk_at dksX2_postings_0 9 rfl rfl)
theorem dX2_postings_12 : decode cX2_postings 12 = .ok (.iload_n 1, 1) := dk_27 (dk_at dksX2_postings_0 12 rfl rfl)
theorem dX2_postings_13 : decode cX2_postings 13 = .ok (.aload_n 0, 1) := dk_42 (dk_at dksX2_postings_0 13 rfl rfl)
theorem dX2_postings_14 : decode cX2_postings 14 = .ok (.iload_n 2, 1) := dk_28 (dk_at dksX2_postings_0 14 rfl rfl)
theorem dX2_postings_15 : decode cX2_postings 15 = .ok (.invokevirtual 278, 3) := dk_182 1 22 (dk_at dksX2_postings_0 15 rfl rfl)
theorem dX2_postings_18 : decode cX2_postings 18 = .ok (.invokestatic 281, 3) := dk_184 1 25 (dk_at dksX2_postings_0 18 rfl rfl)
theorem dX2_postings_21 : decode cX2_postings 21 = .ok (.iadd, 1) := dk_96 (dk_at dksX2_postings_0 21 rfl rfl)
theorem dX2_postings_22 : decode cX2_postings 22 = .ok (.istore_n 1, 1) := dk_60 (dk_at dksX2_postings_0 22 rfl rfl)
theorem dX2_postings_23 : decode cX2_postings 23 = .ok (.iinc 2 1, 3) := dk_132 2 1 (dk_at dksX2_postings_1 0 rfl rfl)
theorem dX2_postings_26 : decode cX2_postings 26 = .ok (.goto (-22), 3) := dk_167 255 234 (dk_at dksX2_postings_1 3 rfl rfl)
theorem dX2_postings_29 : decode cX2_postings 29 = .ok (.iload_n 1, 1) := dk_27 (dk_at dksX2_postings_1 6 rfl rfl)
theorem dX2_postings_30 : decode cX2_postings 30 = .ok (.ireturn, 1) := dk_172 (dk_at dksX2_postings_1 7 rfl rfl)
abbrev cX2_rowsIn : ByteArray := prog_25_method_55_code
def yX2_rowsIn : MethodName := ⟨RX2, "rowsIn", "(I)I"⟩
def dkwX2_rowsIn_1 : List UInt8 := [28, 4, 100, 184, 0, 64, 154, 0, 7, 4, 167, 0, 4, 3, 96, 60, 132, 2, 1, 167, 255, 217, 27, 172]
abbrev dktX2_rowsIn_1 : List UInt8 := dkwX2_rowsIn_1 ++ []
def dkwX2_rowsIn_0 : List UInt8 := [3, 60, 3, 61, 28, 16, 10, 162, 0, 39, 27, 26, 28, 184, 0, 64, 153, 0, 21, 28, 153, 0, 13, 26]
abbrev dktX2_rowsIn_0 : List UInt8 := dkwX2_rowsIn_0 ++ dktX2_rowsIn_1
theorem dksX2_rowsIn_0 : cX2_rowsIn.data.toList.drop 0 = dktX2_rowsIn_0 := by decide +kernel
theorem dksX2_rowsIn_1 : cX2_rowsIn.data.toList.drop 24 = dktX2_rowsIn_1 := dk_seg dksX2_rowsIn_0 24 rfl rfl
theorem dX2_rowsIn_0 : decode cX2_rowsIn 0 = .ok (.iconst 0, 1) := dk_3 (dk_at dksX2_rowsIn_0 0 rfl rfl)
theorem dX2_rowsIn_1 : decode cX2_rowsIn 1 = .ok (.istore_n 1, 1) := dk_60 (dk_at dksX2_rowsIn_0 1 rfl rfl)
theorem dX2_rowsIn_2 : decode cX2_rowsIn 2 = .ok (.iconst 0, 1) := dk_3 (dk_at dksX2_rowsIn_0 2 rfl rfl)
theorem dX2_rowsIn_3 : decode cX2_rowsIn 3 = .ok (.istore_n 2, 1) := dk_61 (dk_at dksX2_rowsIn_0 3 rfl rfl)
theorem dX2_rowsIn_4 : decode cX2_rowsIn 4 = .ok (.iload_n 2, 1) := dk_28 (dk_at dksX2_rowsIn_0 4 rfl rfl)
theorem dX2_rowsIn_5 : decode cX2_rowsIn 5 = .ok (.bipush 10, 2) := dk_16 10 (dk_at dksX2_rowsIn_0 5 rfl rfl)
theorem dX2_rowsIn_7 : decode cX2_rowsIn 7 = .ok (.if_icmp .ge 39, 3) := dk_162 0 39 (dk_at dksX2_rowsIn_0 7 rfl rfl)
theorem dX2_rowsIn_10 : decode cX2_rowsIn 10 = .ok (.iload_n 1, 1) := dk_27 (dk_at dksX2_rowsIn_0 10 rfl rfl)
theorem dX2_rowsIn_11 : decode cX2_rowsIn 11 = .ok (.iload_n 0, 1) := dk_26 (dk_at dksX2_rowsIn_0 11 rfl rfl)
theorem dX2_rowsIn_12 : decode cX2_rowsIn 12 = .ok (.iload_n 2, 1) := dk_28 (dk_at dksX2_rowsIn_0 12 rfl rfl)
theorem dX2_rowsIn_13 : decode cX2_rowsIn 13 = .ok (.invokestatic 64, 3) := dk_184 0 64 (dk_at dksX2_rowsIn_0 13 rfl rfl)
theorem dX2_rowsIn_16 : decode cX2_rowsIn 16 = .ok (.ifCond .eq 21, 3) := dk_153 0 21 (dk_at dksX2_rowsIn_0 16 rfl rfl)
theorem dX2_rowsIn_19 : decode cX2_rowsIn 19 = .ok (.iload_n 2, 1) := dk_28 (dk_at dksX2_rowsIn_0 19 rfl rfl)
theorem dX2_rowsIn_20 : decode cX2_rowsIn 20 = .ok (.ifCond .eq 13, 3) := dk_153 0 13 (dk_at dksX2_rowsIn_0 20 rfl rfl)
theorem dX2_rowsIn_23 : decode cX2_rowsIn 23 = .ok (.iload_n 0, 1) := dk_26 (dk_at dksX2_rowsIn_0 23 rfl rfl)
theorem dX2_rowsIn_24 : decode cX2_rowsIn 24 = .ok (.iload_n 2, 1) := dk_28 (dk_at dksX2_rowsIn_1 0 rfl rfl)
theorem dX2_rowsIn_25 : decode cX2_rowsIn 25 = .ok (.iconst 1, 1) := dk_4 (dk_at dksX2_rowsIn_1 1 rfl rfl)
theorem dX2_rowsIn_26 : decode cX2_rowsIn 26 = .ok (.isub, 1) := dk_100 (dk_at dksX2_rowsIn_1 2 rfl rfl)
theorem dX2_rowsIn_27 : decode cX2_rowsIn 27 = .ok (.invokestatic 64, 3) := dk_184 0 64 (dk_at dksX2_rowsIn_1 3 rfl rfl)
theorem dX2_rowsIn_30 : decode cX2_rowsIn 30 = .ok (.ifCond .ne 7, 3) := dk_154 0 7 (dk_at dksX2_rowsIn_1 6 rfl rfl)
theorem dX2_rowsIn_33 : decode cX2_rowsIn 33 = .ok (.iconst 1, 1) := dk_4 (dk_at dksX2_rowsIn_1 9 rfl rfl)
theorem dX2_rowsIn_34 : decode cX2_rowsIn 34 = .ok (.goto 4, 3) := dk_167 0 4 (dk_at dksX2_rowsIn_1 10 rfl rfl)
theorem dX2_rowsIn_37 : decode cX2_rowsIn 37 = .ok (.iconst 0, 1) := dk_3 (dk_at dksX2_rowsIn_1 13 rfl rfl)
theorem dX2_rowsIn_38 : decode cX2_rowsIn 38 = .ok (.iadd, 1) := dk_96 (dk_at dksX2_rowsIn_1 14 rfl rfl)
theorem dX2_rowsIn_39 : decode cX2_rowsIn 39 = .ok (.istore_n 1, 1) := dk_60 (dk_at dksX2_rowsIn_1 15 rfl rfl)
theorem dX2_rowsIn_40 : decode cX2_rowsIn 40 = .ok (.iinc 2 1, 3) := dk_132 2 1 (dk_at dksX2_rowsIn_1 16 rfl rfl)
theorem dX2_rowsIn_43 : decode cX2_rowsIn 43 = .ok (.goto (-39), 3) := dk_167 255 217 (dk_at dksX2_rowsIn_1 19 rfl rfl)
theorem dX2_rowsIn_46 : decode cX2_rowsIn 46 = .ok (.iload_n 1, 1) := dk_27 (dk_at dksX2_rowsIn_1 22 rfl rfl)
theorem dX2_rowsIn_47 : decode cX2_rowsIn 47 = .ok (.ireturn, 1) := dk_172 (dk_at dksX2_rowsIn_1 23 rfl rfl)
abbrev cX2_longest : ByteArray := prog_25_method_62_code
def yX2_longest : MethodName := ⟨RX2, "longest", "()I"⟩
def dkwX2_longest_2 : List UInt8 := [167, 0, 4, 27, 60, 132, 2, 1, 167, 255, 205, 27, 172]
abbrev dktX2_longest_2 : List UInt8 := dkwX2_longest_2 ++ []
def dkwX2_longest_1 : List UInt8 := [182, 1, 3, 4, 100, 182, 1, 13, 42, 27, 42, 27, 182, 1, 3, 4, 100, 182, 1, 13, 164, 0, 7, 28]
abbrev dktX2_longest_1 : List UInt8 := dkwX2_longest_1 ++ dktX2_longest_2
def dkwX2_longest_0 : List UInt8 := [2, 60, 3, 61, 28, 42, 180, 0, 35, 3, 46, 162, 0, 47, 27, 2, 159, 0, 30, 42, 28, 42, 28]
abbrev dktX2_longest_0 : List UInt8 := dkwX2_longest_0 ++ dktX2_longest_1
theorem dksX2_longest_0 : cX2_longest.data.toList.drop 0 = dktX2_longest_0 := by decide +kernel
theorem dksX2_longest_1 : cX2_longest.data.toList.drop 23 = dktX2_longest_1 := dk_seg dksX2_longest_0 23 rfl rfl
theorem dksX2_longest_2 : cX2_longest.data.toList.drop 47 = dktX2_longest_2 := dk_seg dksX2_longest_1 24 rfl rfl
theorem dX2_longest_0 : decode cX2_longest 0 = .ok (.iconst (-1), 1) := dk_2 (dk_at dksX2_longest_0 0 rfl rfl)
theorem dX2_longest_1 : decode cX2_longest 1 = .ok (.istore_n 1, 1) := dk_60 (dk_at dksX2_longest_0 1 rfl rfl)
theorem dX2_longest_2 : decode cX2_longest 2 = .ok (.iconst 0, 1) := dk_3 (dk_at dksX2_longest_0 2 rfl rfl)
theorem dX2_longest_3 : decode cX2_longest 3 = .ok (.istore_n 2, 1) := dk_61 (dk_at dksX2_longest_0 3 rfl rfl)
theorem dX2_longest_4 : decode cX2_longest 4 = .ok (.iload_n 2, 1) := dk_28 (dk_at dksX2_longest_0 4 rfl rfl)
theorem dX2_longest_5 : decode cX2_longest 5 = .ok (.aload_n 0, 1) := dk_42 (dk_at dksX2_longest_0 5 rfl rfl)
theorem dX2_longest_6 : decode cX2_longest 6 = .ok (.getfield 35, 3) := dk_180 0 35 (dk_at dksX2_longest_0 6 rfl rfl)
theorem dX2_longest_9 : decode cX2_longest 9 = .ok (.iconst 0, 1) := dk_3 (dk_at dksX2_longest_0 9 rfl rfl)
theorem dX2_longest_10 : decode cX2_longest 10 = .ok (.iaload, 1) := dk_46 (dk_at dksX2_longest_0 10 rfl rfl)
theorem dX2_longest_11 : decode cX2_longest 11 = .ok (.if_icmp .ge 47, 3) := dk_162 0 47 (dk_at dksX2_longest_0 11 rfl rfl)
theorem dX2_longest_14 : decode cX2_longest 14 = .ok (.iload_n 1, 1) := dk_27 (dk_at dksX2_longest_0 14 rfl rfl)
theorem dX2_longest_15 : decode cX2_longest 15 = .ok (.iconst (-1), 1) := dk_2 (dk_at dksX2_longest_0 15 rfl rfl)
theorem dX2_longest_16 : decode cX2_longest 16 = .ok (.if_icmp .eq 30, 3) := dk_159 0 30 (dk_at dksX2_longest_0 16 rfl rfl)
theorem dX2_longest_19 : decode cX2_longest 19 = .ok (.aload_n 0, 1) := dk_42 (dk_at dksX2_longest_0 19 rfl rfl)
theorem dX2_longest_20 : decode cX2_longest 20 = .ok (.iload_n 2, 1) := dk_28 (dk_at dksX2_longest_0 20 rfl rfl)
theorem dX2_longest_21 : decode cX2_longest 21 = .ok (.aload_n 0, 1) := dk_42 (dk_at dksX2_longest_0 21 rfl rfl)
theorem dX2_longest_22 : decode cX2_longest 22 = .ok (.iload_n 2, 1) := dk_28 (dk_at dksX2_longest_0 22 rfl rfl)
theorem dX2_longest_23 : decode cX2_longest 23 = .ok (.invokevirtual 259, 3) := dk_182 1 3 (dk_at dksX2_longest_1 0 rfl rfl)
theorem dX2_longest_26 : decode cX2_longest 26 = .ok (.iconst 1, 1) := dk_4 (dk_at dksX2_longest_1 3 rfl rfl)
theorem dX2_longest_27 : decode cX2_longest 27 = .ok (.isub, 1) := dk_100 (dk_at dksX2_longest_1 4 rfl rfl)
theorem dX2_longest_28 : decode cX2_longest 28 = .ok (.invokevirtual 269, 3) := dk_182 1 13 (dk_at dksX2_longest_1 5 rfl rfl)
theorem dX2_longest_31 : decode cX2_longest 31 = .ok (.aload_n 0, 1) := dk_42 (dk_at dksX2_longest_1 8 rfl rfl)
theorem dX2_longest_32 : decode cX2_longest 32 = .ok (.iload_n 1, 1) := dk_27 (dk_at dksX2_longest_1 9 rfl rfl)
theorem dX2_longest_33 : decode cX2_longest 33 = .ok (.aload_n 0, 1) := dk_42 (dk_at dksX2_longest_1 10 rfl rfl)
theorem dX2_longest_34 : decode cX2_longest 34 = .ok (.iload_n 1, 1) := dk_27 (dk_at dksX2_longest_1 11 rfl rfl)
theorem dX2_longest_35 : decode cX2_longest 35 = .ok (.invokevirtual 259, 3) := dk_182 1 3 (dk_at dksX2_longest_1 12 rfl rfl)
theorem dX2_longest_38 : decode cX2_longest 38 = .ok (.iconst 1, 1) := dk_4 (dk_at dksX2_longest_1 15 rfl rfl)
theorem dX2_longest_39 : decode cX2_longest 39 = .ok (.isub, 1) := dk_100 (dk_at dksX2_longest_1 16 rfl rfl)
theorem dX2_longest_40 : decode cX2_longest 40 = .ok (.invokevirtual 269, 3) := dk_182 1 13 (dk_at dksX2_longest_1 17 rfl rfl)
theorem dX2_longest_43 : decode cX2_longest 43 = .ok (.if_icmp .le 7, 3) := dk_164 0 7 (dk_at dksX2_longest_1 20 rfl rfl)
theorem dX2_longest_46 : decode cX2_longest 46 = .ok (.iload_n 2, 1) := dk_28 (dk_at dksX2_longest_1 23 rfl rfl)
theorem dX2_longest_47 : decode cX2_longest 47 = .ok (.goto 4, 3) := dk_167 0 4 (dk_at dksX2_longest_2 0 rfl rfl)
theorem dX2_longest_50 : decode cX2_longest 50 = .ok (.iload_n 1, 1) := dk_27 (dk_at dksX2_longest_2 3 rfl rfl)
theorem dX2_longest_51 : decode cX2_longest 51 = .ok (.istore_n 1, 1) := dk_60 (dk_at dksX2_longest_2 4 rfl rfl)
theorem dX2_longest_52 : decode cX2_longest 52 = .ok (.iinc 2 1, 3) := dk_132 2 1 (dk_at dksX2_longest_2 5 rfl rfl)
theorem dX2_longest_55 : decode cX2_longest 55 = .ok (.goto (-51), 3) := dk_167 255 205 (dk_at dksX2_longest_2 8 rfl rfl)
theorem dX2_longest_58 : decode cX2_longest 58 = .ok (.iload_n 1, 1) := dk_27 (dk_at dksX2_longest_2 11 rfl rfl)
theorem dX2_longest_59 : decode cX2_longest 59 = .ok (.ireturn, 1) := dk_172 (dk_at dksX2_longest_2 12 rfl rfl)
abbrev cX2_twins : ByteArray := prog_25_method_63_code
def yX2_twins : MethodName := ⟨RX2, "twins", "()I"⟩
def dkwX2_twins_4 : List UInt8 := [167, 255, 175, 132, 2, 1, 167, 255, 161, 27, 172]
abbrev dktX2_twins_4 : List UInt8 := dkwX2_twins_4 ++ []
def dkwX2_twins_3 : List UInt8 := [16, 10, 108, 29, 16, 10, 112, 182, 1, 31, 153, 0, 7, 4, 167, 0, 4, 3, 96, 60, 132, 3, 1]
abbrev dktX2_twins_3 : List UInt8 := dkwX2_twins_3 ++ dktX2_twins_4
def dkwX2_twins_2 : List UInt8 := [4, 167, 0, 4, 3, 54, 4, 27, 21, 4, 153, 0, 30, 42, 28, 16, 10, 108, 28, 16, 10, 112, 29]
abbrev dktX2_twins_2 : List UInt8 := dkwX2_twins_2 ++ dktX2_twins_3
def dkwX2_twins_1 : List UInt8 := [16, 10, 112, 182, 1, 28, 153, 0, 22, 42, 29, 16, 10, 108, 29, 16, 10, 112, 182, 1, 28, 153, 0, 7]
abbrev dktX2_twins_1 : List UInt8 := dkwX2_twins_1 ++ dktX2_twins_2
def dkwX2_twins_0 : List UInt8 := [3, 60, 3, 61, 28, 16, 40, 162, 0, 95, 3, 62, 29, 28, 162, 0, 82, 42, 28, 16, 10, 108, 28]
abbrev dktX2_twins_0 : List UInt8 := dkwX2_twins_0 ++ dktX2_twins_1
theorem dksX2_twins_0 : cX2_twins.data.toList.drop 0 = dktX2_twins_0 := by decide +kernel
theorem dksX2_twins_1 : cX2_twins.data.toList.drop 23 = dktX2_twins_1 := dk_seg dksX2_twins_0 23 rfl rfl
theorem dksX2_twins_2 : cX2_twins.data.toList.drop 47 = dktX2_twins_2 := dk_seg dksX2_twins_1 24 rfl rfl
theorem dksX2_twins_3 : cX2_twins.data.toList.drop 70 = dktX2_twins_3 := dk_seg dksX2_twins_2 23 rfl rfl
theorem dksX2_twins_4 : cX2_twins.data.toList.drop 93 = dktX2_twins_4 := dk_seg dksX2_twins_3 23 rfl rfl
theorem dX2_twins_0 : decode cX2_twins 0 = .ok (.iconst 0, 1) := dk_3 (dk_at dksX2_twins_0 0 rfl rfl)
theorem dX2_twins_1 : decode cX2_twins 1 = .ok (.istore_n 1, 1) := dk_60 (dk_at dksX2_twins_0 1 rfl rfl)
theorem dX2_twins_2 : decode cX2_twins 2 = .ok (.iconst 0, 1) := dk_3 (dk_at dksX2_twins_0 2 rfl rfl)
theorem dX2_twins_3 : decode cX2_twins 3 = .ok (.istore_n 2, 1) := dk_61 (dk_at dksX2_twins_0 3 rfl rfl)
theorem dX2_twins_4 : decode cX2_twins 4 = .ok (.iload_n 2, 1) := dk_28 (dk_at dksX2_twins_0 4 rfl rfl)
theorem dX2_twins_5 : decode cX2_twins 5 = .ok (.bipush 40, 2) := dk_16 40 (dk_at dksX2_twins_0 5 rfl rfl)
theorem dX2_twins_7 : decode cX2_twins 7 = .ok (.if_icmp .ge 95, 3) := dk_162 0 95 (dk_at dksX2_twins_0 7 rfl rfl)
theorem dX2_twins_10 : decode cX2_twins 10 = .ok (.iconst 0, 1) := dk_3 (dk_at dksX2_twins_0 10 rfl rfl)
theorem dX2_twins_11 : decode cX2_twins 11 = .ok (.istore_n 3, 1) := dk_62 (dk_at dksX2_twins_0 11 rfl rfl)
theorem dX2_twins_12 : decode cX2_twins 12 = .ok (.iload_n 3, 1) := dk_29 (dk_at dksX2_twins_0 12 rfl rfl)
theorem dX2_twins_13 : decode cX2_twins 13 = .ok (.iload_n 2, 1) := dk_28 (dk_at dksX2_twins_0 13 rfl rfl)
theorem dX2_twins_14 : decode cX2_twins 14 = .ok (.if_icmp .ge 82, 3) := dk_162 0 82 (dk_at dksX2_twins_0 14 rfl rfl)
theorem dX2_twins_17 : decode cX2_twins 17 = .ok (.aload_n 0, 1) := dk_42 (dk_at dksX2_twins_0 17 rfl rfl)
theorem dX2_twins_18 : decode cX2_twins 18 = .ok (.iload_n 2, 1) := dk_28 (dk_at dksX2_twins_0 18 rfl rfl)
theorem dX2_twins_19 : decode cX2_twins 19 = .ok (.bipush 10, 2) := dk_16 10 (dk_at dksX2_twins_0 19 rfl rfl)
theorem dX2_twins_21 : decode cX2_twins 21 = .ok (.idiv, 1) := dk_108 (dk_at dksX2_twins_0 21 rfl rfl)
theorem dX2_twins_22 : decode cX2_twins 22 = .ok (.iload_n 2, 1) := dk_28 (dk_at dksX2_twins_0 22 rfl rfl)
theorem dX2_twins_23 : decode cX2_twins 23 = .ok (.bipush 10, 2) := dk_16 10 (dk_at dksX2_twins_1 0 rfl rfl)
theorem dX2_twins_25 : decode cX2_twins 25 = .ok (.irem, 1) := dk_112 (dk_at dksX2_twins_1 2 rfl rfl)
theorem dX2_twins_26 : decode cX2_twins 26 = .ok (.invokevirtual 284, 3) := dk_182 1 28 (dk_at dksX2_twins_1 3 rfl rfl)
theorem dX2_twins_29 : decode cX2_twins 29 = .ok (.ifCond .eq 22, 3) := dk_153 0 22 (dk_at dksX2_twins_1 6 rfl rfl)
theorem dX2_twins_32 : decode cX2_twins 32 = .ok (.aload_n 0, 1) := dk_42 (dk_at dksX2_twins_1 9 rfl rfl)
theorem dX2_twins_33 : decode cX2_twins 33 = .ok (.iload_n 3, 1) := dk_29 (dk_at dksX2_twins_1 10 rfl rfl)
theorem dX2_twins_34 : decode cX2_twins 34 = .ok (.bipush 10, 2) := dk_16 10 (dk_at dksX2_twins_1 11 rfl rfl)
theorem dX2_twins_36 : decode cX2_twins 36 = .ok (.idiv, 1) := dk_108 (dk_at dksX2_twins_1 13 rfl rfl)
theorem dX2_twins_37 : decode cX2_twins 37 = .ok (.iload_n 3, 1) := dk_29 (dk_at dksX2_twins_1 14 rfl rfl)
theorem dX2_twins_38 : decode cX2_twins 38 = .ok (.bipush 10, 2) := dk_16 10 (dk_at dksX2_twins_1 15 rfl rfl)
theorem dX2_twins_40 : decode cX2_twins 40 = .ok (.irem, 1) := dk_112 (dk_at dksX2_twins_1 17 rfl rfl)
theorem dX2_twins_41 : decode cX2_twins 41 = .ok (.invokevirtual 284, 3) := dk_182 1 28 (dk_at dksX2_twins_1 18 rfl rfl)
theorem dX2_twins_44 : decode cX2_twins 44 = .ok (.ifCond .eq 7, 3) := dk_153 0 7 (dk_at dksX2_twins_1 21 rfl rfl)
theorem dX2_twins_47 : decode cX2_twins 47 = .ok (.iconst 1, 1) := dk_4 (dk_at dksX2_twins_2 0 rfl rfl)
theorem dX2_twins_48 : decode cX2_twins 48 = .ok (.goto 4, 3) := dk_167 0 4 (dk_at dksX2_twins_2 1 rfl rfl)
theorem dX2_twins_51 : decode cX2_twins 51 = .ok (.iconst 0, 1) := dk_3 (dk_at dksX2_twins_2 4 rfl rfl)
theorem dX2_twins_52 : decode cX2_twins 52 = .ok (.istore 4, 2) := dk_54 4 (dk_at dksX2_twins_2 5 rfl rfl)
theorem dX2_twins_54 : decode cX2_twins 54 = .ok (.iload_n 1, 1) := dk_27 (dk_at dksX2_twins_2 7 rfl rfl)
theorem dX2_twins_55 : decode cX2_twins 55 = .ok (.iload 4, 2) := dk_21 4 (dk_at dksX2_twins_2 8 rfl rfl)
theorem dX2_twins_57 : decode cX2_twins 57 = .ok (.ifCond .eq 30, 3) := dk_153 0 30 (dk_at dksX2_twins_2 10 rfl rfl)
theorem dX2_twins_60 : decode cX2_twins 60 = .ok (.aload_n 0, 1) := dk_42 (dk_at dksX2_twins_2 13 rfl rfl)
theorem dX2_twins_61 : decode cX2_twins 61 = .ok (.iload_n 2, 1) := dk_28 (dk_at dksX2_twins_2 14 rfl rfl)
theorem dX2_twins_62 : decode cX2_twins 62 = .ok (.bipush 10, 2) := dk_16 10 (dk_at dksX2_twins_2 15 rfl rfl)
theorem dX2_twins_64 : decode cX2_twins 64 = .ok (.idiv, 1) := dk_108 (dk_at dksX2_twins_2 17 rfl rfl)
theorem dX2_twins_65 : decode cX2_twins 65 = .ok (.iload_n 2, 1) := dk_28 (dk_at dksX2_twins_2 18 rfl rfl)
theorem dX2_twins_66 : decode cX2_twins 66 = .ok (.bipush 10, 2) := dk_16 10 (dk_at dksX2_twins_2 19 rfl rfl)
theorem dX2_twins_68 : decode cX2_twins 68 = .ok (.irem, 1) := dk_112 (dk_at dksX2_twins_2 21 rfl rfl)
theorem dX2_twins_69 : decode cX2_twins 69 = .ok (.iload_n 3, 1) := dk_29 (dk_at dksX2_twins_2 22 rfl rfl)
theorem dX2_twins_70 : decode cX2_twins 70 = .ok (.bipush 10, 2) := dk_16 10 (dk_at dksX2_twins_3 0 rfl rfl)
theorem dX2_twins_72 : decode cX2_twins 72 = .ok (.idiv, 1) := dk_108 (dk_at dksX2_twins_3 2 rfl rfl)
theorem dX2_twins_73 : decode cX2_twins 73 = .ok (.iload_n 3, 1) := dk_29 (dk_at dksX2_twins_3 3 rfl rfl)
theorem dX2_twins_74 : decode cX2_twins 74 = .ok (.bipush 10, 2) := dk_16 10 (dk_at dksX2_twins_3 4 rfl rfl)
theorem dX2_twins_76 : decode cX2_twins 76 = .ok (.irem, 1) := dk_112 (dk_at dksX2_twins_3 6 rfl rfl)
theorem dX2_twins_77 : decode cX2_twins 77 = .ok (.invokevirtual 287, 3) := dk_182 1 31 (dk_at dksX2_twins_3 7 rfl rfl)
theorem dX2_twins_80 : decode cX2_twins 80 = .ok (.ifCond .eq 7, 3) := dk_153 0 7 (dk_at dksX2_twins_3 10 rfl rfl)
theorem dX2_twins_83 : decode cX2_twins 83 = .ok (.iconst 1, 1) := dk_4 (dk_at dksX2_twins_3 13 rfl rfl)
theorem dX2_twins_84 : decode cX2_twins 84 = .ok (.goto 4, 3) := dk_167 0 4 (dk_at dksX2_twins_3 14 rfl rfl)
theorem dX2_twins_87 : decode cX2_twins 87 = .ok (.iconst 0, 1) := dk_3 (dk_at dksX2_twins_3 17 rfl rfl)
theorem dX2_twins_88 : decode cX2_twins 88 = .ok (.iadd, 1) := dk_96 (dk_at dksX2_twins_3 18 rfl rfl)
theorem dX2_twins_89 : decode cX2_twins 89 = .ok (.istore_n 1, 1) := dk_60 (dk_at dksX2_twins_3 19 rfl rfl)
theorem dX2_twins_90 : decode cX2_twins 90 = .ok (.iinc 3 1, 3) := dk_132 3 1 (dk_at dksX2_twins_3 20 rfl rfl)
theorem dX2_twins_93 : decode cX2_twins 93 = .ok (.goto (-81), 3) := dk_167 255 175 (dk_at dksX2_twins_4 0 rfl rfl)
theorem dX2_twins_96 : decode cX2_twins 96 = .ok (.iinc 2 1, 3) := dk_132 2 1 (dk_at dksX2_twins_4 3 rfl rfl)
theorem dX2_twins_99 : decode cX2_twins 99 = .ok (.goto (-95), 3) := dk_167 255 161 (dk_at dksX2_twins_4 6 rfl rfl)
theorem dX2_twins_102 : decode cX2_twins 102 = .ok (.iload_n 1, 1) := dk_27 (dk_at dksX2_twins_4 9 rfl rfl)
theorem dX2_twins_103 : decode cX2_twins 103 = .ok (.ireturn, 1) := dk_172 (dk_at dksX2_twins_4 10 rfl rfl)
abbrev cX2_isVersion : ByteArray := prog_25_method_48_code
def yX2_isVersion : MethodName := ⟨RX2, "isVersion", "(II)Z"⟩
def dkwX2_isVersion_1 : List UInt8 := [167, 0, 4, 3, 172]
abbrev dktX2_isVersion_1 : List UInt8 := dkwX2_isVersion_1 ++ []
def dkwX2_isVersion_0 : List UInt8 := [42, 27, 182, 1, 0, 153, 0, 22, 28, 3, 42, 27, 182, 1, 3, 4, 100, 184, 0, 72, 153, 0, 7, 4]
abbrev dktX2_isVersion_0 : List UInt8 := dkwX2_isVersion_0 ++ dktX2_isVersion_1
theorem dksX2_isVersion_0 : cX2_isVersion.data.toList.drop 0 = dktX2_isVersion_0 := by decide +kernel
theorem dksX2_isVersion_1 : cX2_isVersion.data.toList.drop 24 = dktX2_isVersion_1 := dk_seg dksX2_isVersion_0 24 rfl rfl
theorem dX2_isVersion_0 : decode cX2_isVersion 0 = .ok (.aload_n 0, 1) := dk_42 (dk_at dksX2_isVersion_0 0 rfl rfl)
theorem dX2_isVersion_1 : decode cX2_isVersion 1 = .ok (.iload_n 1, 1) := dk_27 (dk_at dksX2_isVersion_0 1 rfl rfl)
theorem dX2_isVersion_2 : decode cX2_isVersion 2 = .ok (.invokevirtual 256, 3) := dk_182 1 0 (dk_at dksX2_isVersion_0 2 rfl rfl)
theorem dX2_isVersion_5 : decode cX2_isVersion 5 = .ok (.ifCond .eq 22, 3) := dk_153 0 22 (dk_at dksX2_isVersion_0 5 rfl rfl)
theorem dX2_isVersion_8 : decode cX2_isVersion 8 = .ok (.iload_n 2, 1) := dk_28 (dk_at dksX2_isVersion_0 8 rfl rfl)
theorem dX2_isVersion_9 : decode cX2_isVersion 9 = .ok (.iconst 0, 1) := dk_3 (dk_at dksX2_isVersion_0 9 rfl rfl)
theorem dX2_isVersion_10 : decode cX2_isVersion 10 = .ok (.aload_n 0, 1) := dk_42 (dk_at dksX2_isVersion_0 10 rfl rfl)
theorem dX2_isVersion_11 : decode cX2_isVersion 11 = .ok (.iload_n 1, 1) := dk_27 (dk_at dksX2_isVersion_0 11 rfl rfl)
theorem dX2_isVersion_12 : decode cX2_isVersion 12 = .ok (.invokevirtual 259, 3) := dk_182 1 3 (dk_at dksX2_isVersion_0 12 rfl rfl)
theorem dX2_isVersion_15 : decode cX2_isVersion 15 = .ok (.iconst 1, 1) := dk_4 (dk_at dksX2_isVersion_0 15 rfl rfl)
theorem dX2_isVersion_16 : decode cX2_isVersion 16 = .ok (.isub, 1) := dk_100 (dk_at dksX2_isVersion_0 16 rfl rfl)
theorem dX2_isVersion_17 : decode cX2_isVersion 17 = .ok (.invokestatic 72, 3) := dk_184 0 72 (dk_at dksX2_isVersion_0 17 rfl rfl)
theorem dX2_isVersion_20 : decode cX2_isVersion 20 = .ok (.ifCond .eq 7, 3) := dk_153 0 7 (dk_at dksX2_isVersion_0 20 rfl rfl)
theorem dX2_isVersion_23 : decode cX2_isVersion 23 = .ok (.iconst 1, 1) := dk_4 (dk_at dksX2_isVersion_0 23 rfl rfl)
theorem dX2_isVersion_24 : decode cX2_isVersion 24 = .ok (.goto 4, 3) := dk_167 0 4 (dk_at dksX2_isVersion_1 0 rfl rfl)
theorem dX2_isVersion_27 : decode cX2_isVersion 27 = .ok (.iconst 0, 1) := dk_3 (dk_at dksX2_isVersion_1 3 rfl rfl)
theorem dX2_isVersion_28 : decode cX2_isVersion 28 = .ok (.ireturn, 1) := dk_172 (dk_at dksX2_isVersion_1 4 rfl rfl)
abbrev cX2_layWords : ByteArray := prog_25_method_78_code
def yX2_layWords : MethodName := ⟨RX2, "layWords", "()V"⟩
def dkwX2_layWords_6 : List UInt8 := [180, 1, 81, 21, 4, 153, 0, 7, 3, 167, 0, 4, 4, 96, 181, 1, 81, 132, 1, 1, 167, 255, 103, 177]
abbrev dktX2_layWords_6 : List UInt8 := dkwX2_layWords_6 ++ []
def dkwX2_layWords_5 : List UInt8 := [180, 0, 44, 29, 21, 4, 153, 0, 12, 42, 180, 0, 44, 29, 46, 167, 0, 4, 28, 79, 42, 89]
abbrev dktX2_layWords_5 : List UInt8 := dkwX2_layWords_5 ++ dktX2_layWords_6
def dkwX2_layWords_4 : List UInt8 := [42, 180, 0, 44, 21, 5, 42, 180, 0, 44, 21, 5, 4, 100, 46, 79, 132, 5, 255, 167, 255, 226, 42]
abbrev dktX2_layWords_4 : List UInt8 := dkwX2_layWords_4 ++ dktX2_layWords_5
def dkwX2_layWords_3 : List UInt8 := [4, 167, 0, 4, 3, 54, 4, 42, 180, 1, 81, 54, 5, 21, 5, 29, 164, 0, 30, 21, 4, 154, 0, 25]
abbrev dktX2_layWords_3 : List UInt8 := dkwX2_layWords_3 ++ dktX2_layWords_4
def dkwX2_layWords_2 : List UInt8 := [132, 3, 1, 167, 255, 229, 29, 42, 180, 1, 81, 162, 0, 17, 42, 180, 0, 44, 29, 46, 28, 160, 0, 7]
abbrev dktX2_layWords_2 : List UInt8 := dkwX2_layWords_2 ++ dktX2_layWords_3
def dkwX2_layWords_1 : List UInt8 := [42, 180, 1, 81, 162, 0, 25, 42, 180, 0, 44, 29, 46, 184, 1, 102, 28, 184, 1, 102, 162, 0, 9]
abbrev dktX2_layWords_1 : List UInt8 := dkwX2_layWords_1 ++ dktX2_layWords_2
def dkwX2_layWords_0 : List UInt8 := [42, 3, 181, 1, 81, 3, 60, 27, 42, 180, 0, 253, 162, 0, 151, 42, 27, 182, 1, 10, 61, 3, 62, 29]
abbrev dktX2_layWords_0 : List UInt8 := dkwX2_layWords_0 ++ dktX2_layWords_1
theorem dksX2_layWords_0 : cX2_layWords.data.toList.drop 0 = dktX2_layWords_0 := by decide +kernel
theorem dksX2_layWords_1 : cX2_layWords.data.toList.drop 24 = dktX2_layWords_1 := dk_seg dksX2_layWords_0 24 rfl rfl
theorem dksX2_layWords_2 : cX2_layWords.data.toList.drop 47 = dktX2_layWords_2 := dk_seg dksX2_layWords_1 23 rfl rfl
theorem dksX2_layWords_3 : cX2_layWords.data.toList.drop 71 = dktX2_layWords_3 := dk_seg dksX2_layWords_2 24 rfl rfl
theorem dksX2_layWords_4 : cX2_layWords.data.toList.drop 95 = dktX2_layWords_4 := dk_seg dksX2_layWords_3 24 rfl rfl
theorem dksX2_layWords_5 : cX2_layWords.data.toList.drop 118 = dktX2_layWords_5 := dk_seg dksX2_layWords_4 23 rfl rfl
theorem dksX2_layWords_6 : cX2_layWords.data.toList.drop 140 = dktX2_layWords_6 := dk_seg dksX2_layWords_5 22 rfl rfl
theorem dX2_layWords_0 : decode cX2_layWords 0 = .ok (.aload_n 0, 1) := dk_42 (dk_at dksX2_layWords_0 0 rfl rfl)
theorem dX2_layWords_1 : decode cX2_layWords 1 = .ok (.iconst 0, 1) := dk_3 (dk_at dksX2_layWords_0 1 rfl rfl)
theorem dX2_layWords_2 : decode cX2_layWords 2 = .ok (.putfield 337, 3) := dk_181 1 81 (dk_at dksX2_layWords_0 2 rfl rfl)
theorem dX2_layWords_5 : decode cX2_layWords 5 = .ok (.iconst 0, 1) := dk_3 (dk_at dksX2_layWords_0 5 rfl rfl)
theorem dX2_layWords_6 : decode cX2_layWords 6 = .ok (.istore_n 1, 1) := dk_60 (dk_at dksX2_layWords_0 6 rfl rfl)
theorem dX2_layWords_7 : decode cX2_layWords 7 = .ok (.iload_n 1, 1) := dk_27 (dk_at dksX2_layWords_0 7 rfl rfl)
theorem dX2_layWords_8 : decode cX2_layWords 8 = .ok (.aload_n 0, 1) := dk_42 (dk_at dksX2_layWords_0 8 rfl rfl)
theorem dX2_layWords_9 : decode cX2_layWords 9 = .ok (.getfield 253, 3) := dk_180 0 253 (dk_at dksX2_layWords_0 9 rfl rfl)
theorem dX2_layWords_12 : decode cX2_layWords 12 = .ok (.if_icmp .ge 151, 3) := dk_162 0 151 (dk_at dksX2_layWords_0 12 rfl rfl)
theorem dX2_layWords_15 : decode cX2_layWords 15 = .ok (.aload_n 0, 1) := dk_42 (dk_at dksX2_layWords_0 15 rfl rfl)
theorem dX2_layWords_16 : decode cX2_layWords 16 = .ok (.iload_n 1, 1) := dk_27 (dk_at dksX2_layWords_0 16 rfl rfl)
theorem dX2_layWords_17 : decode cX2_layWords 17 = .ok (.invokevirtual 266, 3) := dk_182 1 10 (dk_at dksX2_layWords_0 17 rfl rfl)
theorem dX2_layWords_20 : decode cX2_layWords 20 = .ok (.istore_n 2, 1) := dk_61 (dk_at dksX2_layWords_0 20 rfl rfl)
theorem dX2_layWords_21 : decode cX2_layWords 21 = .ok (.iconst 0, 1) := dk_3 (dk_at dksX2_layWords_0 21 rfl rfl)
theorem dX2_layWords_22 : decode cX2_layWords 22 = .ok (.istore_n 3, 1) := dk_62 (dk_at dksX2_layWords_0 22 rfl rfl)
theorem dX2_layWords_23 : decode cX2_layWords 23 = .ok (.iload_n 3, 1) := dk_29 (dk_at dksX2_layWords_0 23 rfl rfl)
theorem dX2_layWords_24 : decode cX2_layWords 24 = .ok (.aload_n 0, 1) := dk_42 (dk_at dksX2_layWords_1 0 rfl rfl)
theorem dX2_layWords_25 : decode cX2_layWords 25 = .ok (.getfield 337, 3) := dk_180 1 81 (dk_at dksX2_layWords_1 1 rfl rfl)
theorem dX2_layWords_28 : decode cX2_layWords 28 = .ok (.if_icmp .ge 25, 3) := dk_162 0 25 (dk_at dksX2_layWords_1 4 rfl rfl)
theorem dX2_layWords_31 : decode cX2_layWords 31 = .ok (.aload_n 0, 1) := dk_42 (dk_at dksX2_layWords_1 7 rfl rfl)
theorem dX2_layWords_32 : decode cX2_layWords 32 = .ok (.getfield 44, 3) := dk_180 0 44 (dk_at dksX2_layWords_1 8 rfl rfl)
theorem dX2_layWords_35 : decode cX2_layWords 35 = .ok (.iload_n 3, 1) := dk_29 (dk_at dksX2_layWords_1 11 rfl rfl)
theorem dX2_layWords_36 : decode cX2_layWords 36 = .ok (.iaload, 1) := dk_46 (dk_at dksX2_layWords_1 12 rfl rfl)
theorem dX2_layWords_37 : decode cX2_layWords 37 = .ok (.invokestatic 358, 3) := dk_184 1 102 (dk_at dksX2_layWords_1 13 rfl rfl)
theorem dX2_layWords_40 : decode cX2_layWords 40 = .ok (.iload_n 2, 1) := dk_28 (dk_at dksX2_layWords_1 16 rfl rfl)
theorem dX2_layWords_41 : decode cX2_layWords 41 = .ok (.invokestatic 358, 3) := dk_184 1 102 (dk_at dksX2_layWords_1 17 rfl rfl)
theorem dX2_layWords_44 : decode cX2_layWords 44 = .ok (.if_icmp .ge 9, 3) := dk_162 0 9 (dk_at dksX2_layWords_1 20 rfl rfl)
theorem dX2_layWords_47 : decode cX2_layWords 47 = .ok (.iinc 3 1, 3) := dk_132 3 1 (dk_at dksX2_layWords_2 0 rfl rfl)
theorem dX2_layWords_50 : decode cX2_layWords 50 = .ok (.goto (-27), 3) := dk_167 255 229 (dk_at dksX2_layWords_2 3 rfl rfl)
theorem dX2_layWords_53 : decode cX2_layWords 53 = .ok (.iload_n 3, 1) := dk_29 (dk_at dksX2_layWords_2 6 rfl rfl)
theorem dX2_layWords_54 : decode cX2_layWords 54 = .ok (.aload_n 0, 1) := dk_42 (dk_at dksX2_layWords_2 7 rfl rfl)
theorem dX2_layWords_55 : decode cX2_layWords 55 = .ok (.getfield 337, 3) := dk_180 1 81 (dk_at dksX2_layWords_2 8 rfl rfl)
theorem dX2_layWords_58 : decode cX2_layWords 58 = .ok (.if_icmp .ge 17, 3) := dk_162 0 17 (dk_at dksX2_layWords_2 11 rfl rfl)
theorem dX2_layWords_61 : decode cX2_layWords 61 = .ok (.aload_n 0, 1) := dk_42 (dk_at dksX2_layWords_2 14 rfl rfl)
theorem dX2_layWords_62 : decode cX2_layWords 62 = .ok (.getfield 44, 3) := dk_180 0 44 (dk_at dksX2_layWords_2 15 rfl rfl)
theorem dX2_layWords_65 : decode cX2_layWords 65 = .ok (.iload_n 3, 1) := dk_29 (dk_at dksX2_layWords_2 18 rfl rfl)
theorem dX2_layWords_66 : decode cX2_layWords 66 = .ok (.iaload, 1) := dk_46 (dk_at dksX2_layWords_2 19 rfl rfl)
theorem dX2_layWords_67 : decode cX2_layWords 67 = .ok (.iload_n 2, 1) := dk_28 (dk_at dksX2_layWords_2 20 rfl rfl)
theorem dX2_layWords_68 : decode cX2_layWords 68 = .ok (.if_icmp .ne 7, 3) := dk_160 0 7 (dk_at dksX2_layWords_2 21 rfl rfl)
theorem dX2_layWords_71 : decode cX2_layWords 71 = .ok (.iconst 1, 1) := dk_4 (dk_at dksX2_layWords_3 0 rfl rfl)
theorem dX2_layWords_72 : decode cX2_layWords 72 = .ok (.goto 4, 3) := dk_167 0 4 (dk_at dksX2_layWords_3 1 rfl rfl)
theorem dX2_layWords_75 : decode cX2_layWords 75 = .ok (.iconst 0, 1) := dk_3 (dk_at dksX2_layWords_3 4 rfl rfl)
theorem dX2_layWords_76 : decode cX2_layWords 76 = .ok (.istore 4, 2) := dk_54 4 (dk_at dksX2_layWords_3 5 rfl rfl)
theorem dX2_layWords_78 : decode cX2_layWords 78 = .ok (.aload_n 0, 1) := dk_42 (dk_at dksX2_layWords_3 7 rfl rfl)
theorem dX2_layWords_79 : decode cX2_layWords 79 = .ok (.getfield 337, 3) := dk_180 1 81 (dk_at dksX2_layWords_3 8 rfl rfl)
theorem dX2_layWords_82 : decode cX2_layWords 82 = .ok (.istore 5, 2) := dk_54 5 (dk_at dksX2_layWords_3 11 rfl rfl)
theorem dX2_layWords_84 : decode cX2_layWords 84 = .ok (.iload 5, 2) := dk_21 5 (dk_at dksX2_layWords_3 13 rfl rfl)
theorem dX2_layWords_86 : decode cX2_layWords 86 = .ok (.iload_n 3, 1) := dk_29 (dk_at dksX2_layWords_3 15 rfl rfl)
theorem dX2_layWords_87 : decode cX2_layWords 87 = .ok (.if_icmp .le 30, 3) := dk_164 0 30 (dk_at dksX2_layWords_3 16 rfl rfl)
theorem dX2_layWords_90 : decode cX2_layWords 90 = .ok (.iload 4, 2) := dk_21 4 (dk_at dksX2_layWords_3 19 rfl rfl)
theorem dX2_layWords_92 : decode cX2_layWords 92 = .ok (.ifCond .ne 25, 3) := dk_154 0 25 (dk_at dksX2_layWords_3 21 rfl rfl)
theorem dX2_layWords_95 : decode cX2_layWords 95 = .ok (.aload_n 0, 1) := dk_42 (dk_at dksX2_layWords_4 0 rfl rfl)
theorem dX2_layWords_96 : decode cX2_layWords 96 = .ok (.getfield 44, 3) := dk_180 0 44 (dk_at dksX2_layWords_4 1 rfl rfl)
theorem dX2_layWords_99 : decode cX2_layWords 99 = .ok (.iload 5, 2) := dk_21 5 (dk_at dksX2_layWords_4 4 rfl rfl)
theorem dX2_layWords_101 : decode cX2_layWords 101 = .ok (.aload_n 0, 1) := dk_42 (dk_at dksX2_layWords_4 6 rfl rfl)
theorem dX2_layWords_102 : decode cX2_layWords 102 = .ok (.getfield 44, 3) := dk_180 0 44 (dk_at dksX2_layWords_4 7 rfl rfl)
theorem dX2_layWords_105 : decode cX2_layWords 105 = .ok (.iload 5, 2) := dk_21 5 (dk_at dksX2_layWords_4 10 rfl rfl)
theorem dX2_layWords_107 : decode cX2_layWords 107 = .ok (.iconst 1, 1) := dk_4 (dk_at dksX2_layWords_4 12 rfl rfl)
theorem dX2_layWords_108 : decode cX2_layWords 108 = .ok (.isub, 1) := dk_100 (dk_at dksX2_layWords_4 13 rfl rfl)
theorem dX2_layWords_109 : decode cX2_layWords 109 = .ok (.iaload, 1) := dk_46 (dk_at dksX2_layWords_4 14 rfl rfl)
theorem dX2_layWords_110 : decode cX2_layWords 110 = .ok (.iastore, 1) := dk_79 (dk_at dksX2_layWords_4 15 rfl rfl)
theorem dX2_layWords_111 : decode cX2_layWords 111 = .ok (.iinc 5 (-1), 3) := dk_132 5 255 (dk_at dksX2_layWords_4 16 rfl rfl)
theorem dX2_layWords_114 : decode cX2_layWords 114 = .ok (.goto (-30), 3) := dk_167 255 226 (dk_at dksX2_layWords_4 19 rfl rfl)
theorem dX2_layWords_117 : decode cX2_layWords 117 = .ok (.aload_n 0, 1) := dk_42 (dk_at dksX2_layWords_4 22 rfl rfl)
theorem dX2_layWords_118 : decode cX2_layWords 118 = .ok (.getfield 44, 3) := dk_180 0 44 (dk_at dksX2_layWords_5 0 rfl rfl)
theorem dX2_layWords_121 : decode cX2_layWords 121 = .ok (.iload_n 3, 1) := dk_29 (dk_at dksX2_layWords_5 3 rfl rfl)
theorem dX2_layWords_122 : decode cX2_layWords 122 = .ok (.iload 4, 2) := dk_21 4 (dk_at dksX2_layWords_5 4 rfl rfl)
theorem dX2_layWords_124 : decode cX2_layWords 124 = .ok (.ifCond .eq 12, 3) := dk_153 0 12 (dk_at dksX2_layWords_5 6 rfl rfl)
theorem dX2_layWords_127 : decode cX2_layWords 127 = .ok (.aload_n 0, 1) := dk_42 (dk_at dksX2_layWords_5 9 rfl rfl)
theorem dX2_layWords_128 : decode cX2_layWords 128 = .ok (.getfield 44, 3) := dk_180 0 44 (dk_at dksX2_layWords_5 10 rfl rfl)
theorem dX2_layWords_131 : decode cX2_layWords 131 = .ok (.iload_n 3, 1) := dk_29 (dk_at dksX2_layWords_5 13 rfl rfl)
theorem dX2_layWords_132 : decode cX2_layWords 132 = .ok (.iaload, 1) := dk_46 (dk_at dksX2_layWords_5 14 rfl rfl)
theorem dX2_layWords_133 : decode cX2_layWords 133 = .ok (.goto 4, 3) := dk_167 0 4 (dk_at dksX2_layWords_5 15 rfl rfl)
theorem dX2_layWords_136 : decode cX2_layWords 136 = .ok (.iload_n 2, 1) := dk_28 (dk_at dksX2_layWords_5 18 rfl rfl)
theorem dX2_layWords_137 : decode cX2_layWords 137 = .ok (.iastore, 1) := dk_79 (dk_at dksX2_layWords_5 19 rfl rfl)
theorem dX2_layWords_138 : decode cX2_layWords 138 = .ok (.aload_n 0, 1) := dk_42 (dk_at dksX2_layWords_5 20 rfl rfl)
theorem dX2_layWords_139 : decode cX2_layWords 139 = .ok (.dup, 1) := dk_89 (dk_at dksX2_layWords_5 21 rfl rfl)
theorem dX2_layWords_140 : decode cX2_layWords 140 = .ok (.getfield 337, 3) := dk_180 1 81 (dk_at dksX2_layWords_6 0 rfl rfl)
theorem dX2_layWords_143 : decode cX2_layWords 143 = .ok (.iload 4, 2) := dk_21 4 (dk_at dksX2_layWords_6 3 rfl rfl)
theorem dX2_layWords_145 : decode cX2_layWords 145 = .ok (.ifCond .eq 7, 3) := dk_153 0 7 (dk_at dksX2_layWords_6 5 rfl rfl)
theorem dX2_layWords_148 : decode cX2_layWords 148 = .ok (.iconst 0, 1) := dk_3 (dk_at dksX2_layWords_6 8 rfl rfl)
theorem dX2_layWords_149 : decode cX2_layWords 149 = .ok (.goto 4, 3) := dk_167 0 4 (dk_at dksX2_layWords_6 9 rfl rfl)
theorem dX2_layWords_152 : decode cX2_layWords 152 = .ok (.iconst 1, 1) := dk_4 (dk_at dksX2_layWords_6 12 rfl rfl)
theorem dX2_layWords_153 : decode cX2_layWords 153 = .ok (.iadd, 1) := dk_96 (dk_at dksX2_layWords_6 13 rfl rfl)
theorem dX2_layWords_154 : decode cX2_layWords 154 = .ok (.putfield 337, 3) := dk_181 1 81 (dk_at dksX2_layWords_6 14 rfl rfl)
theorem dX2_layWords_157 : decode cX2_layWords 157 = .ok (.iinc 1 1, 3) := dk_132 1 1 (dk_at dksX2_layWords_6 17 rfl rfl)
theorem dX2_layWords_160 : decode cX2_layWords 160 = .ok (.goto (-153), 3) := dk_167 255 103 (dk_at dksX2_layWords_6 20 rfl rfl)
theorem dX2_layWords_163 : decode cX2_layWords 163 = .ok (.return_, 1) := dk_177 (dk_at dksX2_layWords_6 23 rfl rfl)
abbrev cX2_widened : ByteArray := prog_25_method_77_code
def yX2_widened : MethodName := ⟨RX2, "widened", "(I)I"⟩
def dkwX2_widened_0 : List UInt8 := [26, 60, 27, 17, 76, 227, 162, 0, 11, 27, 16, 27, 104, 60, 167, 255, 244, 27, 172]
abbrev dktX2_widened_0 : List UInt8 := dkwX2_widened_0 ++ []
theorem dksX2_widened_0 : cX2_widened.data.toList.drop 0 = dktX2_widened_0 := by decide +kernel
theorem dX2_widened_0 : decode cX2_widened 0 = .ok (.iload_n 0, 1) := dk_26 (dk_at dksX2_widened_0 0 rfl rfl)
theorem dX2_widened_1 : decode cX2_widened 1 = .ok (.istore_n 1, 1) := dk_60 (dk_at dksX2_widened_0 1 rfl rfl)
theorem dX2_widened_2 : decode cX2_widened 2 = .ok (.iload_n 1, 1) := dk_27 (dk_at dksX2_widened_0 2 rfl rfl)
theorem dX2_widened_3 : decode cX2_widened 3 = .ok (.sipush 19683, 3) := dk_17 76 227 (dk_at dksX2_widened_0 3 rfl rfl)
theorem dX2_widened_6 : decode cX2_widened 6 = .ok (.if_icmp .ge 11, 3) := dk_162 0 11 (dk_at dksX2_widened_0 6 rfl rfl)
theorem dX2_widened_9 : decode cX2_widened 9 = .ok (.iload_n 1, 1) := dk_27 (dk_at dksX2_widened_0 9 rfl rfl)
theorem dX2_widened_10 : decode cX2_widened 10 = .ok (.bipush 27, 2) := dk_16 27 (dk_at dksX2_widened_0 10 rfl rfl)
theorem dX2_widened_12 : decode cX2_widened 12 = .ok (.imul, 1) := dk_104 (dk_at dksX2_widened_0 12 rfl rfl)
theorem dX2_widened_13 : decode cX2_widened 13 = .ok (.istore_n 1, 1) := dk_60 (dk_at dksX2_widened_0 13 rfl rfl)
theorem dX2_widened_14 : decode cX2_widened 14 = .ok (.goto (-12), 3) := dk_167 255 244 (dk_at dksX2_widened_0 14 rfl rfl)
theorem dX2_widened_17 : decode cX2_widened 17 = .ok (.iload_n 1, 1) := dk_27 (dk_at dksX2_widened_0 17 rfl rfl)
theorem dX2_widened_18 : decode cX2_widened 18 = .ok (.ireturn, 1) := dk_172 (dk_at dksX2_widened_0 18 rfl rfl)
abbrev cX2_version : ByteArray := prog_25_method_75_code
def yX2_version : MethodName := ⟨RX2, "version", "(IIII)I"⟩
def dkwX2_version_6 : List UInt8 := [172, 2, 172]
abbrev dktX2_version_6 : List UInt8 := dkwX2_version_6 ++ []
def dkwX2_version_5 : List UInt8 := [182, 1, 84, 172, 42, 28, 29, 182, 1, 87, 172, 42, 28, 29, 182, 1, 90, 172, 42, 28, 29, 182, 1, 93]
abbrev dktX2_version_5 : List UInt8 := dkwX2_version_5 ++ dktX2_version_6
def dkwX2_version_4 : List UInt8 := [42, 28, 29, 182, 1, 13, 172, 42, 180, 0, 35, 16, 6, 28, 29, 184, 0, 146, 96, 46, 172, 42, 28, 29]
abbrev dktX2_version_4 : List UInt8 := dkwX2_version_4 ++ dktX2_version_5
def dkwX2_version_3 : List UInt8 := [170, 0, 0, 0, 86, 0, 0, 0, 0, 0, 0, 0, 5, 0, 0, 0, 37, 0, 0, 0, 44, 0, 0, 0, 58, 0, 0, 0, 65, 0, 0, 0, 72, 0, 0, 0, 79]
abbrev dktX2_version_3 : List UInt8 := dkwX2_version_3 ++ dktX2_version_4
def dkwX2_version_2 : List UInt8 := [21, 4, 16, 10, 100, 182, 1, 19, 167, 0, 4, 2, 172, 21, 4]
abbrev dktX2_version_2 : List UInt8 := dkwX2_version_2 ++ dktX2_version_3
def dkwX2_version_1 : List UInt8 := [21, 4, 16, 10, 161, 0, 33, 21, 4, 16, 10, 100, 42, 28, 29, 182, 1, 13, 162, 0, 17, 42, 28, 29]
abbrev dktX2_version_1 : List UInt8 := dkwX2_version_1 ++ dktX2_version_2
def dkwX2_version_0 : List UInt8 := [42, 3, 181, 0, 60, 42, 27, 182, 1, 57, 153, 0, 12, 42, 28, 29, 182, 1, 28, 154, 0, 5, 2, 172]
abbrev dktX2_version_0 : List UInt8 := dkwX2_version_0 ++ dktX2_version_1
theorem dksX2_version_0 : cX2_version.data.toList.drop 0 = dktX2_version_0 := by decide +kernel
theorem dksX2_version_1 : cX2_version.data.toList.drop 24 = dktX2_version_1 := dk_seg dksX2_version_0 24 rfl rfl
theorem dksX2_version_2 : cX2_version.data.toList.drop 48 = dktX2_version_2 := dk_seg dksX2_version_1 24 rfl rfl
theorem dksX2_version_3 : cX2_version.data.toList.drop 63 = dktX2_version_3 := dk_seg dksX2_version_2 15 rfl rfl
theorem dksX2_version_4 : cX2_version.data.toList.drop 100 = dktX2_version_4 := dk_seg dksX2_version_3 37 rfl rfl
theorem dksX2_version_5 : cX2_version.data.toList.drop 124 = dktX2_version_5 := dk_seg dksX2_version_4 24 rfl rfl
theorem dksX2_version_6 : cX2_version.data.toList.drop 148 = dktX2_version_6 := dk_seg dksX2_version_5 24 rfl rfl
theorem dX2_version_0 : decode cX2_version 0 = .ok (.aload_n 0, 1) := dk_42 (dk_at dksX2_version_0 0 rfl rfl)
theorem dX2_version_1 : decode cX2_version 1 = .ok (.iconst 0, 1) := dk_3 (dk_at dksX2_version_0 1 rfl rfl)
theorem dX2_version_2 : decode cX2_version 2 = .ok (.putfield 60, 3) := dk_181 0 60 (dk_at dksX2_version_0 2 rfl rfl)
theorem dX2_version_5 : decode cX2_version 5 = .ok (.aload_n 0, 1) := dk_42 (dk_at dksX2_version_0 5 rfl rfl)
theorem dX2_version_6 : decode cX2_version 6 = .ok (.iload_n 1, 1) := dk_27 (dk_at dksX2_version_0 6 rfl rfl)
theorem dX2_version_7 : decode cX2_version 7 = .ok (.invokevirtual 313, 3) := dk_182 1 57 (dk_at dksX2_version_0 7 rfl rfl)
theorem dX2_version_10 : decode cX2_version 10 = .ok (.ifCond .eq 12, 3) := dk_153 0 12 (dk_at dksX2_version_0 10 rfl rfl)
theorem dX2_version_13 : decode cX2_version 13 = .ok (.aload_n 0, 1) := dk_42 (dk_at dksX2_version_0 13 rfl rfl)
theorem dX2_version_14 : decode cX2_version 14 = .ok (.iload_n 2, 1) := dk_28 (dk_at dksX2_version_0 14 rfl rfl)
theorem dX2_version_15 : decode cX2_version 15 = .ok (.iload_n 3, 1) := dk_29 (dk_at dksX2_version_0 15 rfl rfl)
theorem dX2_version_16 : decode cX2_version 16 = .ok (.invokevirtual 284, 3) := dk_182 1 28 (dk_at dksX2_version_0 16 rfl rfl)
theorem dX2_version_19 : decode cX2_version 19 = .ok (.ifCond .ne 5, 3) := dk_154 0 5 (dk_at dksX2_version_0 19 rfl rfl)
theorem dX2_version_22 : decode cX2_version 22 = .ok (.iconst (-1), 1) := dk_2 (dk_at dksX2_version_0 22 rfl rfl)
theorem dX2_version_23 : decode cX2_version 23 = .ok (.ireturn, 1) := dk_172 (dk_at dksX2_version_0 23 rfl rfl)
theorem dX2_version_24 : decode cX2_version 24 = .ok (.iload 4, 2) := dk_21 4 (dk_at dksX2_version_1 0 rfl rfl)
theorem dX2_version_26 : decode cX2_version 26 = .ok (.bipush 10, 2) := dk_16 10 (dk_at dksX2_version_1 2 rfl rfl)
theorem dX2_version_28 : decode cX2_version 28 = .ok (.if_icmp .lt 33, 3) := dk_161 0 33 (dk_at dksX2_version_1 4 rfl rfl)
theorem dX2_version_31 : decode cX2_version 31 = .ok (.iload 4, 2) := dk_21 4 (dk_at dksX2_version_1 7 rfl rfl)
theorem dX2_version_33 : decode cX2_version 33 = .ok (.bipush 10, 2) := dk_16 10 (dk_at dksX2_version_1 9 rfl rfl)
theorem dX2_version_35 : decode cX2_version 35 = .ok (.isub, 1) := dk_100 (dk_at dksX2_version_1 11 rfl rfl)
theorem dX2_version_36 : decode cX2_version 36 = .ok (.aload_n 0, 1) := dk_42 (dk_at dksX2_version_1 12 rfl rfl)
theorem dX2_version_37 : decode cX2_version 37 = .ok (.iload_n 2, 1) := dk_28 (dk_at dksX2_version_1 13 rfl rfl)
theorem dX2_version_38 : decode cX2_version 38 = .ok (.iload_n 3, 1) := dk_29 (dk_at dksX2_version_1 14 rfl rfl)
theorem dX2_version_39 : decode cX2_version 39 = .ok (.invokevirtual 269, 3) := dk_182 1 13 (dk_at dksX2_version_1 15 rfl rfl)
theorem dX2_version_42 : decode cX2_version 42 = .ok (.if_icmp .ge 17, 3) := dk_162 0 17 (dk_at dksX2_version_1 18 rfl rfl)
theorem dX2_version_45 : decode cX2_version 45 = .ok (.aload_n 0, 1) := dk_42 (dk_at dksX2_version_1 21 rfl rfl)
theorem dX2_version_46 : decode cX2_version 46 = .ok (.iload_n 2, 1) := dk_28 (dk_at dksX2_version_1 22 rfl rfl)
theorem dX2_version_47 : decode cX2_version 47 = .ok (.iload_n 3, 1) := dk_29 (dk_at dksX2_version_1 23 rfl rfl)
theorem dX2_version_48 : decode cX2_version 48 = .ok (.iload 4, 2) := dk_21 4 (dk_at dksX2_version_2 0 rfl rfl)
theorem dX2_version_50 : decode cX2_version 50 = .ok (.bipush 10, 2) := dk_16 10 (dk_at dksX2_version_2 2 rfl rfl)
theorem dX2_version_52 : decode cX2_version 52 = .ok (.isub, 1) := dk_100 (dk_at dksX2_version_2 4 rfl rfl)
theorem dX2_version_53 : decode cX2_version 53 = .ok (.invokevirtual 275, 3) := dk_182 1 19 (dk_at dksX2_version_2 5 rfl rfl)
theorem dX2_version_56 : decode cX2_version 56 = .ok (.goto 4, 3) := dk_167 0 4 (dk_at dksX2_version_2 8 rfl rfl)
theorem dX2_version_59 : decode cX2_version 59 = .ok (.iconst (-1), 1) := dk_2 (dk_at dksX2_version_2 11 rfl rfl)
theorem dX2_version_60 : decode cX2_version 60 = .ok (.ireturn, 1) := dk_172 (dk_at dksX2_version_2 12 rfl rfl)
theorem dX2_version_61 : decode cX2_version 61 = .ok (.iload 4, 2) := dk_21 4 (dk_at dksX2_version_2 13 rfl rfl)
theorem dX2_version_63 : decode cX2_version 63 = .ok (.tableswitch 86 0 5 #[37, 44, 58, 65, 72, 79], 37) := by decide +kernel
theorem dX2_version_100 : decode cX2_version 100 = .ok (.aload_n 0, 1) := dk_42 (dk_at dksX2_version_4 0 rfl rfl)
theorem dX2_version_101 : decode cX2_version 101 = .ok (.iload_n 2, 1) := dk_28 (dk_at dksX2_version_4 1 rfl rfl)
theorem dX2_version_102 : decode cX2_version 102 = .ok (.iload_n 3, 1) := dk_29 (dk_at dksX2_version_4 2 rfl rfl)
theorem dX2_version_103 : decode cX2_version 103 = .ok (.invokevirtual 269, 3) := dk_182 1 13 (dk_at dksX2_version_4 3 rfl rfl)
theorem dX2_version_106 : decode cX2_version 106 = .ok (.ireturn, 1) := dk_172 (dk_at dksX2_version_4 6 rfl rfl)
theorem dX2_version_107 : decode cX2_version 107 = .ok (.aload_n 0, 1) := dk_42 (dk_at dksX2_version_4 7 rfl rfl)
theorem dX2_version_108 : decode cX2_version 108 = .ok (.getfield 35, 3) := dk_180 0 35 (dk_at dksX2_version_4 8 rfl rfl)
theorem dX2_version_111 : decode cX2_version 111 = .ok (.bipush 6, 2) := dk_16 6 (dk_at dksX2_version_4 11 rfl rfl)
theorem dX2_version_113 : decode cX2_version 113 = .ok (.iload_n 2, 1) := dk_28 (dk_at dksX2_version_4 13 rfl rfl)
theorem dX2_version_114 : decode cX2_version 114 = .ok (.iload_n 3, 1) := dk_29 (dk_at dksX2_version_4 14 rfl rfl)
theorem dX2_version_115 : decode cX2_version 115 = .ok (.invokestatic 146, 3) := dk_184 0 146 (dk_at dksX2_version_4 15 rfl rfl)
theorem dX2_version_118 : decode cX2_version 118 = .ok (.iadd, 1) := dk_96 (dk_at dksX2_version_4 18 rfl rfl)
theorem dX2_version_119 : decode cX2_version 119 = .ok (.iaload, 1) := dk_46 (dk_at dksX2_version_4 19 rfl rfl)
theorem dX2_version_120 : decode cX2_version 120 = .ok (.ireturn, 1) := dk_172 (dk_at dksX2_version_4 20 rfl rfl)
theorem dX2_version_121 : decode cX2_version 121 = .ok (.aload_n 0, 1) := dk_42 (dk_at dksX2_version_4 21 rfl rfl)
theorem dX2_version_122 : decode cX2_version 122 = .ok (.iload_n 2, 1) := dk_28 (dk_at dksX2_version_4 22 rfl rfl)
theorem dX2_version_123 : decode cX2_version 123 = .ok (.iload_n 3, 1) := dk_29 (dk_at dksX2_version_4 23 rfl rfl)
theorem dX2_version_124 : decode cX2_version 124 = .ok (.invokevirtual 340, 3) := dk_182 1 84 (dk_at dksX2_version_5 0 rfl rfl)
theorem dX2_version_127 : decode cX2_version 127 = .ok (.ireturn, 1) := dk_172 (dk_at dksX2_version_5 3 rfl rfl)
theorem dX2_version_128 : decode cX2_version 128 = .ok (.aload_n 0, 1) := dk_42 (dk_at dksX2_version_5 4 rfl rfl)
theorem dX2_version_129 : decode cX2_version 129 = .ok (.iload_n 2, 1) := dk_28 (dk_at dksX2_version_5 5 rfl rfl)
theorem dX2_version_130 : decode cX2_version 130 = .ok (.iload_n 3, 1) := dk_29 (dk_at dksX2_version_5 6 rfl rfl)
theorem dX2_version_131 : decode cX2_version 131 = .ok (.invokevirtual 343, 3) := dk_182 1 87 (dk_at dksX2_version_5 7 rfl rfl)
theorem dX2_version_134 : decode cX2_version 134 = .ok (.ireturn, 1) := dk_172 (dk_at dksX2_version_5 10 rfl rfl)
theorem dX2_version_135 : decode cX2_version 135 = .ok (.aload_n 0, 1) := dk_42 (dk_at dksX2_version_5 11 rfl rfl)
theorem dX2_version_136 : decode cX2_version 136 = .ok (.iload_n 2, 1) := dk_28 (dk_at dksX2_version_5 12 rfl rfl)
theorem dX2_version_137 : decode cX2_version 137 = .ok (.iload_n 3, 1) := dk_29 (dk_at dksX2_version_5 13 rfl rfl)
theorem dX2_version_138 : decode cX2_version 138 = .ok (.invokevirtual 346, 3) := dk_182 1 90 (dk_at dksX2_version_5 14 rfl rfl)
theorem dX2_version_141 : decode cX2_version 141 = .ok (.ireturn, 1) := dk_172 (dk_at dksX2_version_5 17 rfl rfl)
theorem dX2_version_142 : decode cX2_version 142 = .ok (.aload_n 0, 1) := dk_42 (dk_at dksX2_version_5 18 rfl rfl)
theorem dX2_version_143 : decode cX2_version 143 = .ok (.iload_n 2, 1) := dk_28 (dk_at dksX2_version_5 19 rfl rfl)
theorem dX2_version_144 : decode cX2_version 144 = .ok (.iload_n 3, 1) := dk_29 (dk_at dksX2_version_5 20 rfl rfl)
theorem dX2_version_145 : decode cX2_version 145 = .ok (.invokevirtual 349, 3) := dk_182 1 93 (dk_at dksX2_version_5 21 rfl rfl)
theorem dX2_version_148 : decode cX2_version 148 = .ok (.ireturn, 1) := dk_172 (dk_at dksX2_version_6 0 rfl rfl)
theorem dX2_version_149 : decode cX2_version 149 = .ok (.iconst (-1), 1) := dk_2 (dk_at dksX2_version_6 1 rfl rfl)
theorem dX2_version_150 : decode cX2_version 150 = .ok (.ireturn, 1) := dk_172 (dk_at dksX2_version_6 2 rfl rfl)
abbrev cX2_fresh : ByteArray := prog_25_method_71_code
def yX2_fresh : MethodName := ⟨RX2, "fresh", "(II)I"⟩
def dkwX2_fresh_2 : List UInt8 := [132, 4, 1, 167, 255, 213, 29, 172]
abbrev dktX2_fresh_2 : List UInt8 := dkwX2_fresh_2 ++ []
def dkwX2_fresh_1 : List UInt8 := [182, 1, 6, 182, 1, 22, 4, 28, 120, 4, 100, 126, 154, 0, 7, 4, 167, 0, 4, 3, 96, 62]
abbrev dktX2_fresh_1 : List UInt8 := dkwX2_fresh_1 ++ dktX2_fresh_2
def dkwX2_fresh_0 : List UInt8 := [3, 62, 3, 54, 4, 21, 4, 42, 27, 28, 182, 1, 13, 162, 0, 38, 29, 42, 42, 27, 28, 21, 4]
abbrev dktX2_fresh_0 : List UInt8 := dkwX2_fresh_0 ++ dktX2_fresh_1
theorem dksX2_fresh_0 : cX2_fresh.data.toList.drop 0 = dktX2_fresh_0 := by decide +kernel
theorem dksX2_fresh_1 : cX2_fresh.data.toList.drop 23 = dktX2_fresh_1 := dk_seg dksX2_fresh_0 23 rfl rfl
theorem dksX2_fresh_2 : cX2_fresh.data.toList.drop 45 = dktX2_fresh_2 := dk_seg dksX2_fresh_1 22 rfl rfl
theorem dX2_fresh_0 : decode cX2_fresh 0 = .ok (.iconst 0, 1) := dk_3 (dk_at dksX2_fresh_0 0 rfl rfl)
theorem dX2_fresh_1 : decode cX2_fresh 1 = .ok (.istore_n 3, 1) := dk_62 (dk_at dksX2_fresh_0 1 rfl rfl)
theorem dX2_fresh_2 : decode cX2_fresh 2 = .ok (.iconst 0, 1) := dk_3 (dk_at dksX2_fresh_0 2 rfl rfl)
theorem dX2_fresh_3 : decode cX2_fresh 3 = .ok (.istore 4, 2) := dk_54 4 (dk_at dksX2_fresh_0 3 rfl rfl)
theorem dX2_fresh_5 : decode cX2_fresh 5 = .ok (.iload 4, 2) := dk_21 4 (dk_at dksX2_fresh_0 5 rfl rfl)
theorem dX2_fresh_7 : decode cX2_fresh 7 = .ok (.aload_n 0, 1) := dk_42 (dk_at dksX2_fresh_0 7 rfl rfl)
theorem dX2_fresh_8 : decode cX2_fresh 8 = .ok (.iload_n 1, 1) := dk_27 (dk_at dksX2_fresh_0 8 rfl rfl)
theorem dX2_fresh_9 : decode cX2_fresh 9 = .ok (.iload_n 2, 1) := dk_28 (dk_at dksX2_fresh_0 9 rfl rfl)
theorem dX2_fresh_10 : decode cX2_fresh 10 = .ok (.invokevirtual 269, 3) := dk_182 1 13 (dk_at dksX2_fresh_0 10 rfl rfl)
theorem dX2_fresh_13 : decode cX2_fresh 13 = .ok (.if_icmp .ge 38, 3) := dk_162 0 38 (dk_at dksX2_fresh_0 13 rfl rfl)
theorem dX2_fresh_16 : decode cX2_fresh 16 = .ok (.iload_n 3, 1) := dk_29 (dk_at dksX2_fresh_0 16 rfl rfl)
theorem dX2_fresh_17 : decode cX2_fresh 17 = .ok (.aload_n 0, 1) := dk_42 (dk_at dksX2_fresh_0 17 rfl rfl)
theorem dX2_fresh_18 : decode cX2_fresh 18 = .ok (.aload_n 0, 1) := dk_42 (dk_at dksX2_fresh_0 18 rfl rfl)
theorem dX2_fresh_19 : decode cX2_fresh 19 = .ok (.iload_n 1, 1) := dk_27 (dk_at dksX2_fresh_0 19 rfl rfl)
theorem dX2_fresh_20 : decode cX2_fresh 20 = .ok (.iload_n 2, 1) := dk_28 (dk_at dksX2_fresh_0 20 rfl rfl)
theorem dX2_fresh_21 : decode cX2_fresh 21 = .ok (.iload 4, 2) := dk_21 4 (dk_at dksX2_fresh_0 21 rfl rfl)
theorem dX2_fresh_23 : decode cX2_fresh 23 = .ok (.invokevirtual 262, 3) := dk_182 1 6 (dk_at dksX2_fresh_1 0 rfl rfl)
theorem dX2_fresh_26 : decode cX2_fresh 26 = .ok (.invokevirtual 278, 3) := dk_182 1 22 (dk_at dksX2_fresh_1 3 rfl rfl)
theorem dX2_fresh_29 : decode cX2_fresh 29 = .ok (.iconst 1, 1) := dk_4 (dk_at dksX2_fresh_1 6 rfl rfl)
theorem dX2_fresh_30 : decode cX2_fresh 30 = .ok (.iload_n 2, 1) := dk_28 (dk_at dksX2_fresh_1 7 rfl rfl)
theorem dX2_fresh_31 : decode cX2_fresh 31 = .ok (.ishl, 1) := dk_120 (dk_at dksX2_fresh_1 8 rfl rfl)
theorem dX2_fresh_32 : decode cX2_fresh 32 = .ok (.iconst 1, 1) := dk_4 (dk_at dksX2_fresh_1 9 rfl rfl)
theorem dX2_fresh_33 : decode cX2_fresh 33 = .ok (.isub, 1) := dk_100 (dk_at dksX2_fresh_1 10 rfl rfl)
theorem dX2_fresh_34 : decode cX2_fresh 34 = .ok (.iand, 1) := dk_126 (dk_at dksX2_fresh_1 11 rfl rfl)
theorem dX2_fresh_35 : decode cX2_fresh 35 = .ok (.ifCond .ne 7, 3) := dk_154 0 7 (dk_at dksX2_fresh_1 12 rfl rfl)
theorem dX2_fresh_38 : decode cX2_fresh 38 = .ok (.iconst 1, 1) := dk_4 (dk_at dksX2_fresh_1 15 rfl rfl)
theorem dX2_fresh_39 : decode cX2_fresh 39 = .ok (.goto 4, 3) := dk_167 0 4 (dk_at dksX2_fresh_1 16 rfl rfl)
theorem dX2_fresh_42 : decode cX2_fresh 42 = .ok (.iconst 0, 1) := dk_3 (dk_at dksX2_fresh_1 19 rfl rfl)
theorem dX2_fresh_43 : decode cX2_fresh 43 = .ok (.iadd, 1) := dk_96 (dk_at dksX2_fresh_1 20 rfl rfl)
theorem dX2_fresh_44 : decode cX2_fresh 44 = .ok (.istore_n 3, 1) := dk_62 (dk_at dksX2_fresh_1 21 rfl rfl)
theorem dX2_fresh_45 : decode cX2_fresh 45 = .ok (.iinc 4 1, 3) := dk_132 4 1 (dk_at dksX2_fresh_2 0 rfl rfl)
theorem dX2_fresh_48 : decode cX2_fresh 48 = .ok (.goto (-43), 3) := dk_167 255 213 (dk_at dksX2_fresh_2 3 rfl rfl)
theorem dX2_fresh_51 : decode cX2_fresh 51 = .ok (.iload_n 3, 1) := dk_29 (dk_at dksX2_fresh_2 6 rfl rfl)
theorem dX2_fresh_52 : decode cX2_fresh 52 = .ok (.ireturn, 1) := dk_172 (dk_at dksX2_fresh_2 7 rfl rfl)
abbrev cX2_lost : ByteArray := prog_25_method_72_code
def yX2_lost : MethodName := ⟨RX2, "lost", "(II)I"⟩
def dkwX2_lost_2 : List UInt8 := [96, 62, 132, 4, 1, 167, 255, 208, 29, 172]
abbrev dktX2_lost_2 : List UInt8 := dkwX2_lost_2 ++ []
def dkwX2_lost_1 : List UInt8 := [27, 28, 42, 27, 28, 4, 100, 21, 4, 182, 1, 6, 182, 1, 16, 2, 160, 0, 7, 4, 167, 0, 4, 3]
abbrev dktX2_lost_1 : List UInt8 := dkwX2_lost_1 ++ dktX2_lost_2
def dkwX2_lost_0 : List UInt8 := [3, 62, 3, 54, 4, 28, 158, 0, 50, 21, 4, 42, 27, 28, 4, 100, 182, 1, 13, 162, 0, 37, 29, 42]
abbrev dktX2_lost_0 : List UInt8 := dkwX2_lost_0 ++ dktX2_lost_1
theorem dksX2_lost_0 : cX2_lost.data.toList.drop 0 = dktX2_lost_0 := by decide +kernel
theorem dksX2_lost_1 : cX2_lost.data.toList.drop 24 = dktX2_lost_1 := dk_seg dksX2_lost_0 24 rfl rfl
theorem dksX2_lost_2 : cX2_lost.data.toList.drop 48 = dktX2_lost_2 := dk_seg dksX2_lost_1 24 rfl rfl
theorem dX2_lost_0 : decode cX2_lost 0 = .ok (.iconst 0, 1) := dk_3 (dk_at dksX2_lost_0 0 rfl rfl)
theorem dX2_lost_1 : decode cX2_lost 1 = .ok (.istore_n 3, 1) := dk_62 (dk_at dksX2_lost_0 1 rfl rfl)
theorem dX2_lost_2 : decode cX2_lost 2 = .ok (.iconst 0, 1) := dk_3 (dk_at dksX2_lost_0 2 rfl rfl)
theorem dX2_lost_3 : decode cX2_lost 3 = .ok (.istore 4, 2) := dk_54 4 (dk_at dksX2_lost_0 3 rfl rfl)
theorem dX2_lost_5 : decode cX2_lost 5 = .ok (.iload_n 2, 1) := dk_28 (dk_at dksX2_lost_0 5 rfl rfl)
theorem dX2_lost_6 : decode cX2_lost 6 = .ok (.ifCond .le 50, 3) := dk_158 0 50 (dk_at dksX2_lost_0 6 rfl rfl)
theorem dX2_lost_9 : decode cX2_lost 9 = .ok (.iload 4, 2) := dk_21 4 (dk_at dksX2_lost_0 9 rfl rfl)
theorem dX2_lost_11 : decode cX2_lost 11 = .ok (.aload_n 0, 1) := dk_42 (dk_at dksX2_lost_0 11 rfl rfl)
theorem dX2_lost_12 : decode cX2_lost 12 = .ok (.iload_n 1, 1) := dk_27 (dk_at dksX2_lost_0 12 rfl rfl)
theorem dX2_lost_13 : decode cX2_lost 13 = .ok (.iload_n 2, 1) := dk_28 (dk_at dksX2_lost_0 13 rfl rfl)
theorem dX2_lost_14 : decode cX2_lost 14 = .ok (.iconst 1, 1) := dk_4 (dk_at dksX2_lost_0 14 rfl rfl)
theorem dX2_lost_15 : decode cX2_lost 15 = .ok (.isub, 1) := dk_100 (dk_at dksX2_lost_0 15 rfl rfl)
theorem dX2_lost_16 : decode cX2_lost 16 = .ok (.invokevirtual 269, 3) := dk_182 1 13 (dk_at dksX2_lost_0 16 rfl rfl)
theorem dX2_lost_19 : decode cX2_lost 19 = .ok (.if_icmp .ge 37, 3) := dk_162 0 37 (dk_at dksX2_lost_0 19 rfl rfl)
theorem dX2_lost_22 : decode cX2_lost 22 = .ok (.iload_n 3, 1) := dk_29 (dk_at dksX2_lost_0 22 rfl rfl)
theorem dX2_lost_23 : decode cX2_lost 23 = .ok (.aload_n 0, 1) := dk_42 (dk_at dksX2_lost_0 23 rfl rfl)
theorem dX2_lost_24 : decode cX2_lost 24 = .ok (.iload_n 1, 1) := dk_27 (dk_at dksX2_lost_1 0 rfl rfl)
theorem dX2_lost_25 : decode cX2_lost 25 = .ok (.iload_n 2, 1) := dk_28 (dk_at dksX2_lost_1 1 rfl rfl)
theorem dX2_lost_26 : decode cX2_lost 26 = .ok (.aload_n 0, 1) := dk_42 (dk_at dksX2_lost_1 2 rfl rfl)
theorem dX2_lost_27 : decode cX2_lost 27 = .ok (.iload_n 1, 1) := dk_27 (dk_at dksX2_lost_1 3 rfl rfl)
theorem dX2_lost_28 : decode cX2_lost 28 = .ok (.iload_n 2, 1) := dk_28 (dk_at dksX2_lost_1 4 rfl rfl)
theorem dX2_lost_29 : decode cX2_lost 29 = .ok (.iconst 1, 1) := dk_4 (dk_at dksX2_lost_1 5 rfl rfl)
theorem dX2_lost_30 : decode cX2_lost 30 = .ok (.isub, 1) := dk_100 (dk_at dksX2_lost_1 6 rfl rfl)
theorem dX2_lost_31 : decode cX2_lost 31 = .ok (.iload 4, 2) := dk_21 4 (dk_at dksX2_lost_1 7 rfl rfl)
theorem dX2_lost_33 : decode cX2_lost 33 = .ok (.invokevirtual 262, 3) := dk_182 1 6 (dk_at dksX2_lost_1 9 rfl rfl)
theorem dX2_lost_36 : decode cX2_lost 36 = .ok (.invokevirtual 272, 3) := dk_182 1 16 (dk_at dksX2_lost_1 12 rfl rfl)
theorem dX2_lost_39 : decode cX2_lost 39 = .ok (.iconst (-1), 1) := dk_2 (dk_at dksX2_lost_1 15 rfl rfl)
theorem dX2_lost_40 : decode cX2_lost 40 = .ok (.if_icmp .ne 7, 3) := dk_160 0 7 (dk_at dksX2_lost_1 16 rfl rfl)
theorem dX2_lost_43 : decode cX2_lost 43 = .ok (.iconst 1, 1) := dk_4 (dk_at dksX2_lost_1 19 rfl rfl)
theorem dX2_lost_44 : decode cX2_lost 44 = .ok (.goto 4, 3) := dk_167 0 4 (dk_at dksX2_lost_1 20 rfl rfl)
theorem dX2_lost_47 : decode cX2_lost 47 = .ok (.iconst 0, 1) := dk_3 (dk_at dksX2_lost_1 23 rfl rfl)
theorem dX2_lost_48 : decode cX2_lost 48 = .ok (.iadd, 1) := dk_96 (dk_at dksX2_lost_2 0 rfl rfl)
theorem dX2_lost_49 : decode cX2_lost 49 = .ok (.istore_n 3, 1) := dk_62 (dk_at dksX2_lost_2 1 rfl rfl)
theorem dX2_lost_50 : decode cX2_lost 50 = .ok (.iinc 4 1, 3) := dk_132 4 1 (dk_at dksX2_lost_2 2 rfl rfl)
theorem dX2_lost_53 : decode cX2_lost 53 = .ok (.goto (-48), 3) := dk_167 255 208 (dk_at dksX2_lost_2 5 rfl rfl)
theorem dX2_lost_56 : decode cX2_lost 56 = .ok (.iload_n 3, 1) := dk_29 (dk_at dksX2_lost_2 8 rfl rfl)
theorem dX2_lost_57 : decode cX2_lost 57 = .ok (.ireturn, 1) := dk_172 (dk_at dksX2_lost_2 9 rfl rfl)
abbrev cX2_turned : ByteArray := prog_25_method_73_code
def yX2_turned : MethodName := ⟨RX2, "turned", "(II)I"⟩
def dkwX2_turned_4 : List UInt8 := [96, 62, 132, 5, 1, 167, 255, 183, 132, 4, 1, 167, 255, 157, 29, 172]
abbrev dktX2_turned_4 : List UInt8 := dkwX2_turned_4 ++ []
def dkwX2_turned_3 : List UInt8 := [21, 6, 2, 159, 0, 20, 21, 7, 2, 159, 0, 14, 21, 7, 21, 6, 162, 0, 7, 4, 167, 0, 4, 3]
abbrev dktX2_turned_3 : List UInt8 := dkwX2_turned_3 ++ dktX2_turned_4
def dkwX2_turned_2 : List UInt8 := [182, 1, 16, 54, 6, 42, 27, 28, 42, 27, 28, 4, 100, 21, 4, 182, 1, 6, 182, 1, 16, 54, 7, 29]
abbrev dktX2_turned_2 : List UInt8 := dkwX2_turned_2 ++ dktX2_turned_3
def dkwX2_turned_1 : List UInt8 := [54, 5, 21, 5, 21, 4, 162, 0, 72, 42, 27, 28, 42, 27, 28, 4, 100, 21, 5, 182, 1, 6]
abbrev dktX2_turned_1 : List UInt8 := dkwX2_turned_1 ++ dktX2_turned_2
def dkwX2_turned_0 : List UInt8 := [3, 62, 3, 54, 4, 28, 158, 0, 101, 21, 4, 42, 27, 28, 4, 100, 182, 1, 13, 162, 0, 88, 3]
abbrev dktX2_turned_0 : List UInt8 := dkwX2_turned_0 ++ dktX2_turned_1
theorem dksX2_turned_0 : cX2_turned.data.toList.drop 0 = dktX2_turned_0 := by decide +kernel
theorem dksX2_turned_1 : cX2_turned.data.toList.drop 23 = dktX2_turned_1 := dk_seg dksX2_turned_0 23 rfl rfl
theorem dksX2_turned_2 : cX2_turned.data.toList.drop 45 = dktX2_turned_2 := dk_seg dksX2_turned_1 22 rfl rfl
theorem dksX2_turned_3 : cX2_turned.data.toList.drop 69 = dktX2_turned_3 := dk_seg dksX2_turned_2 24 rfl rfl
theorem dksX2_turned_4 : cX2_turned.data.toList.drop 93 = dktX2_turned_4 := dk_seg dksX2_turned_3 24 rfl rfl
theorem dX2_turned_0 : decode cX2_turned 0 = .ok (.iconst 0, 1) := dk_3 (dk_at dksX2_turned_0 0 rfl rfl)
theorem dX2_turned_1 : decode cX2_turned 1 = .ok (.istore_n 3, 1) := dk_62 (dk_at dksX2_turned_0 1 rfl rfl)
theorem dX2_turned_2 : decode cX2_turned 2 = .ok (.iconst 0, 1) := dk_3 (dk_at dksX2_turned_0 2 rfl rfl)
theorem dX2_turned_3 : decode cX2_turned 3 = .ok (.istore 4, 2) := dk_54 4 (dk_at dksX2_turned_0 3 rfl rfl)
theorem dX2_turned_5 : decode cX2_turned 5 = .ok (.iload_n 2, 1) := dk_28 (dk_at dksX2_turned_0 5 rfl rfl)
theorem dX2_turned_6 : decode cX2_turned 6 = .ok (.ifCond .le 101, 3) := dk_158 0 101 (dk_at dksX2_turned_0 6 rfl rfl)
theorem dX2_turned_9 : decode cX2_turned 9 = .ok (.iload 4, 2) := dk_21 4 (dk_at dksX2_turned_0 9 rfl rfl)
theorem dX2_turned_11 : decode cX2_turned 11 = .ok (.aload_n 0, 1) := dk_42 (dk_at dksX2_turned_0 11 rfl rfl)
theorem dX2_turned_12 : decode cX2_turned 12 = .ok (.iload_n 1, 1) := dk_27 (dk_at dksX2_turned_0 12 rfl rfl)
theorem dX2_turned_13 : decode cX2_turned 13 = .ok (.iload_n 2, 1) := dk_28 (dk_at dksX2_turned_0 13 rfl rfl)
theorem dX2_turned_14 : decode cX2_turned 14 = .ok (.iconst 1, 1) := dk_4 (dk_at dksX2_turned_0 14 rfl rfl)
theorem dX2_turned_15 : decode cX2_turned 15 = .ok (.isub, 1) := dk_100 (dk_at dksX2_turned_0 15 rfl rfl)
theorem dX2_turned_16 : decode cX2_turned 16 = .ok (.invokevirtual 269, 3) := dk_182 1 13 (dk_at dksX2_turned_0 16 rfl rfl)
theorem dX2_turned_19 : decode cX2_turned 19 = .ok (.if_icmp .ge 88, 3) := dk_162 0 88 (dk_at dksX2_turned_0 19 rfl rfl)
theorem dX2_turned_22 : decode cX2_turned 22 = .ok (.iconst 0, 1) := dk_3 (dk_at dksX2_turned_0 22 rfl rfl)
theorem dX2_turned_23 : decode cX2_turned 23 = .ok (.istore 5, 2) := dk_54 5 (dk_at dksX2_turned_1 0 rfl rfl)
theorem dX2_turned_25 : decode cX2_turned 25 = .ok (.iload 5, 2) := dk_21 5 (dk_at dksX2_turned_1 2 rfl rfl)
theorem dX2_turned_27 : decode cX2_turned 27 = .ok (.iload 4, 2) := dk_21 4 (dk_at dksX2_turned_1 4 rfl rfl)
theorem dX2_turned_29 : decode cX2_turned 29 = .ok (.if_icmp .ge 72, 3) := dk_162 0 72 (dk_at dksX2_turned_1 6 rfl rfl)
theorem dX2_turned_32 : decode cX2_turned 32 = .ok (.aload_n 0, 1) := dk_42 (dk_at dksX2_turned_1 9 rfl rfl)
theorem dX2_turned_33 : decode cX2_turned 33 = .ok (.iload_n 1, 1) := dk_27 (dk_at dksX2_turned_1 10 rfl rfl)
theorem dX2_turned_34 : decode cX2_turned 34 = .ok (.iload_n 2, 1) := dk_28 (dk_at dksX2_turned_1 11 rfl rfl)
theorem dX2_turned_35 : decode cX2_turned 35 = .ok (.aload_n 0, 1) := dk_42 (dk_at dksX2_turned_1 12 rfl rfl)
theorem dX2_turned_36 : decode cX2_turned 36 = .ok (.iload_n 1, 1) := dk_27 (dk_at dksX2_turned_1 13 rfl rfl)
theorem dX2_turned_37 : decode cX2_turned 37 = .ok (.iload_n 2, 1) := dk_28 (dk_at dksX2_turned_1 14 rfl rfl)
theorem dX2_turned_38 : decode cX2_turned 38 = .ok (.iconst 1, 1) := dk_4 (dk_at dksX2_turned_1 15 rfl rfl)
theorem dX2_turned_39 : decode cX2_turned 39 = .ok (.isub, 1) := dk_100 (dk_at dksX2_turned_1 16 rfl rfl)
theorem dX2_turned_40 : decode cX2_turned 40 = .ok (.iload 5, 2) := dk_21 5 (dk_at dksX2_turned_1 17 rfl rfl)
theorem dX2_turned_42 : decode cX2_turned 42 = .ok (.invokevirtual 262, 3) := dk_182 1 6 (dk_at dksX2_turned_1 19 rfl rfl)
theorem dX2_turned_45 : decode cX2_turned 45 = .ok (.invokevirtual 272, 3) := dk_182 1 16 (dk_at dksX2_turned_2 0 rfl rfl)
theorem dX2_turned_48 : decode cX2_turned 48 = .ok (.istore 6, 2) := dk_54 6 (dk_at dksX2_turned_2 3 rfl rfl)
theorem dX2_turned_50 : decode cX2_turned 50 = .ok (.aload_n 0, 1) := dk_42 (dk_at dksX2_turned_2 5 rfl rfl)
theorem dX2_turned_51 : decode cX2_turned 51 = .ok (.iload_n 1, 1) := dk_27 (dk_at dksX2_turned_2 6 rfl rfl)
theorem dX2_turned_52 : decode cX2_turned 52 = .ok (.iload_n 2, 1) := dk_28 (dk_at dksX2_turned_2 7 rfl rfl)
theorem dX2_turned_53 : decode cX2_turned 53 = .ok (.aload_n 0, 1) := dk_42 (dk_at dksX2_turned_2 8 rfl rfl)
theorem dX2_turned_54 : decode cX2_turned 54 = .ok (.iload_n 1, 1) := dk_27 (dk_at dksX2_turned_2 9 rfl rfl)
theorem dX2_turned_55 : decode cX2_turned 55 = .ok (.iload_n 2, 1) := dk_28 (dk_at dksX2_turned_2 10 rfl rfl)
theorem dX2_turned_56 : decode cX2_turned 56 = .ok (.iconst 1, 1) := dk_4 (dk_at dksX2_turned_2 11 rfl rfl)
theorem dX2_turned_57 : decode cX2_turned 57 = .ok (.isub, 1) := dk_100 (dk_at dksX2_turned_2 12 rfl rfl)
theorem dX2_turned_58 : decode cX2_turned 58 = .ok (.iload 4, 2) := dk_21 4 (dk_at dksX2_turned_2 13 rfl rfl)
theorem dX2_turned_60 : decode cX2_turned 60 = .ok (.invokevirtual 262, 3) := dk_182 1 6 (dk_at dksX2_turned_2 15 rfl rfl)
theorem dX2_turned_63 : decode cX2_turned 63 = .ok (.invokevirtual 272, 3) := dk_182 1 16 (dk_at dksX2_turned_2 18 rfl rfl)
theorem dX2_turned_66 : decode cX2_turned 66 = .ok (.istore 7, 2) := dk_54 7 (dk_at dksX2_turned_2 21 rfl rfl)
theorem dX2_turned_68 : decode cX2_turned 68 = .ok (.iload_n 3, 1) := dk_29 (dk_at dksX2_turned_2 23 rfl rfl)
theorem dX2_turned_69 : decode cX2_turned 69 = .ok (.iload 6, 2) := dk_21 6 (dk_at dksX2_turned_3 0 rfl rfl)
theorem dX2_turned_71 : decode cX2_turned 71 = .ok (.iconst (-1), 1) := dk_2 (dk_at dksX2_turned_3 2 rfl rfl)
theorem dX2_turned_72 : decode cX2_turned 72 = .ok (.if_icmp .eq 20, 3) := dk_159 0 20 (dk_at dksX2_turned_3 3 rfl rfl)
theorem dX2_turned_75 : decode cX2_turned 75 = .ok (.iload 7, 2) := dk_21 7 (dk_at dksX2_turned_3 6 rfl rfl)
theorem dX2_turned_77 : decode cX2_turned 77 = .ok (.iconst (-1), 1) := dk_2 (dk_at dksX2_turned_3 8 rfl rfl)
theorem dX2_turned_78 : decode cX2_turned 78 = .ok (.if_icmp .eq 14, 3) := dk_159 0 14 (dk_at dksX2_turned_3 9 rfl rfl)
theorem dX2_turned_81 : decode cX2_turned 81 = .ok (.iload 7, 2) := dk_21 7 (dk_at dksX2_turned_3 12 rfl rfl)
theorem dX2_turned_83 : decode cX2_turned 83 = .ok (.iload 6, 2) := dk_21 6 (dk_at dksX2_turned_3 14 rfl rfl)
theorem dX2_turned_85 : decode cX2_turned 85 = .ok (.if_icmp .ge 7, 3) := dk_162 0 7 (dk_at dksX2_turned_3 16 rfl rfl)
theorem dX2_turned_88 : decode cX2_turned 88 = .ok (.iconst 1, 1) := dk_4 (dk_at dksX2_turned_3 19 rfl rfl)
theorem dX2_turned_89 : decode cX2_turned 89 = .ok (.goto 4, 3) := dk_167 0 4 (dk_at dksX2_turned_3 20 rfl rfl)
theorem dX2_turned_92 : decode cX2_turned 92 = .ok (.iconst 0, 1) := dk_3 (dk_at dksX2_turned_3 23 rfl rfl)
theorem dX2_turned_93 : decode cX2_turned 93 = .ok (.iadd, 1) := dk_96 (dk_at dksX2_turned_4 0 rfl rfl)
theorem dX2_turned_94 : decode cX2_turned 94 = .ok (.istore_n 3, 1) := dk_62 (dk_at dksX2_turned_4 1 rfl rfl)
theorem dX2_turned_95 : decode cX2_turned 95 = .ok (.iinc 5 1, 3) := dk_132 5 1 (dk_at dksX2_turned_4 2 rfl rfl)
theorem dX2_turned_98 : decode cX2_turned 98 = .ok (.goto (-73), 3) := dk_167 255 183 (dk_at dksX2_turned_4 5 rfl rfl)
theorem dX2_turned_101 : decode cX2_turned 101 = .ok (.iinc 4 1, 3) := dk_132 4 1 (dk_at dksX2_turned_4 8 rfl rfl)
theorem dX2_turned_104 : decode cX2_turned 104 = .ok (.goto (-99), 3) := dk_167 255 157 (dk_at dksX2_turned_4 11 rfl rfl)
theorem dX2_turned_107 : decode cX2_turned 107 = .ok (.iload_n 3, 1) := dk_29 (dk_at dksX2_turned_4 14 rfl rfl)
theorem dX2_turned_108 : decode cX2_turned 108 = .ok (.ireturn, 1) := dk_172 (dk_at dksX2_turned_4 15 rfl rfl)
abbrev cX2_oldest : ByteArray := prog_25_method_74_code
def yX2_oldest : MethodName := ⟨RX2, "oldest", "(II)I"⟩
def dkwX2_oldest_3 : List UInt8 := [167, 255, 196, 29, 172]
abbrev dktX2_oldest_3 : List UInt8 := dkwX2_oldest_3 ++ []
def dkwX2_oldest_2 : List UInt8 := [164, 0, 8, 21, 5, 167, 0, 4, 29, 62, 21, 4, 21, 6, 184, 1, 41, 54, 4, 132, 5, 1]
abbrev dktX2_oldest_2 : List UInt8 := dkwX2_oldest_2 ++ dktX2_oldest_3
def dkwX2_oldest_1 : List UInt8 := [21, 5, 182, 1, 6, 182, 1, 22, 5, 28, 120, 4, 100, 126, 184, 1, 44, 54, 6, 21, 6, 21, 4]
abbrev dktX2_oldest_1 : List UInt8 := dkwX2_oldest_1 ++ dktX2_oldest_2
def dkwX2_oldest_0 : List UInt8 := [2, 62, 3, 54, 4, 3, 54, 5, 21, 5, 42, 27, 28, 182, 1, 13, 162, 0, 55, 42, 42, 27, 28]
abbrev dktX2_oldest_0 : List UInt8 := dkwX2_oldest_0 ++ dktX2_oldest_1
theorem dksX2_oldest_0 : cX2_oldest.data.toList.drop 0 = dktX2_oldest_0 := by decide +kernel
theorem dksX2_oldest_1 : cX2_oldest.data.toList.drop 23 = dktX2_oldest_1 := dk_seg dksX2_oldest_0 23 rfl rfl
theorem dksX2_oldest_2 : cX2_oldest.data.toList.drop 46 = dktX2_oldest_2 := dk_seg dksX2_oldest_1 23 rfl rfl
theorem dksX2_oldest_3 : cX2_oldest.data.toList.drop 68 = dktX2_oldest_3 := dk_seg dksX2_oldest_2 22 rfl rfl
theorem dX2_oldest_0 : decode cX2_oldest 0 = .ok (.iconst (-1), 1) := dk_2 (dk_at dksX2_oldest_0 0 rfl rfl)
theorem dX2_oldest_1 : decode cX2_oldest 1 = .ok (.istore_n 3, 1) := dk_62 (dk_at dksX2_oldest_0 1 rfl rfl)
theorem dX2_oldest_2 : decode cX2_oldest 2 = .ok (.iconst 0, 1) := dk_3 (dk_at dksX2_oldest_0 2 rfl rfl)
theorem dX2_oldest_3 : decode cX2_oldest 3 = .ok (.istore 4, 2) := dk_54 4 (dk_at dksX2_oldest_0 3 rfl rfl)
theorem dX2_oldest_5 : decode cX2_oldest 5 = .ok (.iconst 0, 1) := dk_3 (dk_at dksX2_oldest_0 5 rfl rfl)
theorem dX2_oldest_6 : decode cX2_oldest 6 = .ok (.istore 5, 2) := dk_54 5 (dk_at dksX2_oldest_0 6 rfl rfl)
theorem dX2_oldest_8 : decode cX2_oldest 8 = .ok (.iload 5, 2) := dk_21 5 (dk_at dksX2_oldest_0 8 rfl rfl)
theorem dX2_oldest_10 : decode cX2_oldest 10 = .ok (.aload_n 0, 1) := dk_42 (dk_at dksX2_oldest_0 10 rfl rfl)
theorem dX2_oldest_11 : decode cX2_oldest 11 = .ok (.iload_n 1, 1) := dk_27 (dk_at dksX2_oldest_0 11 rfl rfl)
theorem dX2_oldest_12 : decode cX2_oldest 12 = .ok (.iload_n 2, 1) := dk_28 (dk_at dksX2_oldest_0 12 rfl rfl)
theorem dX2_oldest_13 : decode cX2_oldest 13 = .ok (.invokevirtual 269, 3) := dk_182 1 13 (dk_at dksX2_oldest_0 13 rfl rfl)
theorem dX2_oldest_16 : decode cX2_oldest 16 = .ok (.if_icmp .ge 55, 3) := dk_162 0 55 (dk_at dksX2_oldest_0 16 rfl rfl)
theorem dX2_oldest_19 : decode cX2_oldest 19 = .ok (.aload_n 0, 1) := dk_42 (dk_at dksX2_oldest_0 19 rfl rfl)
theorem dX2_oldest_20 : decode cX2_oldest 20 = .ok (.aload_n 0, 1) := dk_42 (dk_at dksX2_oldest_0 20 rfl rfl)
theorem dX2_oldest_21 : decode cX2_oldest 21 = .ok (.iload_n 1, 1) := dk_27 (dk_at dksX2_oldest_0 21 rfl rfl)
theorem dX2_oldest_22 : decode cX2_oldest 22 = .ok (.iload_n 2, 1) := dk_28 (dk_at dksX2_oldest_0 22 rfl rfl)
theorem dX2_oldest_23 : decode cX2_oldest 23 = .ok (.iload 5, 2) := dk_21 5 (dk_at dksX2_oldest_1 0 rfl rfl)
theorem dX2_oldest_25 : decode cX2_oldest 25 = .ok (.invokevirtual 262, 3) := dk_182 1 6 (dk_at dksX2_oldest_1 2 rfl rfl)
theorem dX2_oldest_28 : decode cX2_oldest 28 = .ok (.invokevirtual 278, 3) := dk_182 1 22 (dk_at dksX2_oldest_1 5 rfl rfl)
theorem dX2_oldest_31 : decode cX2_oldest 31 = .ok (.iconst 2, 1) := dk_5 (dk_at dksX2_oldest_1 8 rfl rfl)
theorem dX2_oldest_32 : decode cX2_oldest 32 = .ok (.iload_n 2, 1) := dk_28 (dk_at dksX2_oldest_1 9 rfl rfl)
theorem dX2_oldest_33 : decode cX2_oldest 33 = .ok (.ishl, 1) := dk_120 (dk_at dksX2_oldest_1 10 rfl rfl)
theorem dX2_oldest_34 : decode cX2_oldest 34 = .ok (.iconst 1, 1) := dk_4 (dk_at dksX2_oldest_1 11 rfl rfl)
theorem dX2_oldest_35 : decode cX2_oldest 35 = .ok (.isub, 1) := dk_100 (dk_at dksX2_oldest_1 12 rfl rfl)
theorem dX2_oldest_36 : decode cX2_oldest 36 = .ok (.iand, 1) := dk_126 (dk_at dksX2_oldest_1 13 rfl rfl)
theorem dX2_oldest_37 : decode cX2_oldest 37 = .ok (.invokestatic 300, 3) := dk_184 1 44 (dk_at dksX2_oldest_1 14 rfl rfl)
theorem dX2_oldest_40 : decode cX2_oldest 40 = .ok (.istore 6, 2) := dk_54 6 (dk_at dksX2_oldest_1 17 rfl rfl)
theorem dX2_oldest_42 : decode cX2_oldest 42 = .ok (.iload 6, 2) := dk_21 6 (dk_at dksX2_oldest_1 19 rfl rfl)
theorem dX2_oldest_44 : decode cX2_oldest 44 = .ok (.iload 4, 2) := dk_21 4 (dk_at dksX2_oldest_1 21 rfl rfl)
theorem dX2_oldest_46 : decode cX2_oldest 46 = .ok (.if_icmp .le 8, 3) := dk_164 0 8 (dk_at dksX2_oldest_2 0 rfl rfl)
theorem dX2_oldest_49 : decode cX2_oldest 49 = .ok (.iload 5, 2) := dk_21 5 (dk_at dksX2_oldest_2 3 rfl rfl)
theorem dX2_oldest_51 : decode cX2_oldest 51 = .ok (.goto 4, 3) := dk_167 0 4 (dk_at dksX2_oldest_2 5 rfl rfl)
theorem dX2_oldest_54 : decode cX2_oldest 54 = .ok (.iload_n 3, 1) := dk_29 (dk_at dksX2_oldest_2 8 rfl rfl)
theorem dX2_oldest_55 : decode cX2_oldest 55 = .ok (.istore_n 3, 1) := dk_62 (dk_at dksX2_oldest_2 9 rfl rfl)
theorem dX2_oldest_56 : decode cX2_oldest 56 = .ok (.iload 4, 2) := dk_21 4 (dk_at dksX2_oldest_2 10 rfl rfl)
theorem dX2_oldest_58 : decode cX2_oldest 58 = .ok (.iload 6, 2) := dk_21 6 (dk_at dksX2_oldest_2 12 rfl rfl)
theorem dX2_oldest_60 : decode cX2_oldest 60 = .ok (.invokestatic 297, 3) := dk_184 1 41 (dk_at dksX2_oldest_2 14 rfl rfl)
theorem dX2_oldest_63 : decode cX2_oldest 63 = .ok (.istore 4, 2) := dk_54 4 (dk_at dksX2_oldest_2 17 rfl rfl)
theorem dX2_oldest_65 : decode cX2_oldest 65 = .ok (.iinc 5 1, 3) := dk_132 5 1 (dk_at dksX2_oldest_2 19 rfl rfl)
theorem dX2_oldest_68 : decode cX2_oldest 68 = .ok (.goto (-60), 3) := dk_167 255 196 (dk_at dksX2_oldest_3 0 rfl rfl)
theorem dX2_oldest_71 : decode cX2_oldest 71 = .ok (.iload_n 3, 1) := dk_29 (dk_at dksX2_oldest_3 3 rfl rfl)
theorem dX2_oldest_72 : decode cX2_oldest 72 = .ok (.ireturn, 1) := dk_172 (dk_at dksX2_oldest_3 4 rfl rfl)
abbrev cX2_life : ByteArray := prog_25_method_76_code
def yX2_life : MethodName := ⟨RX2, "life", "(IIIII)I"⟩
def dkwX2_life_5 : List UInt8 := [2, 172]
abbrev dktX2_life_5 : List UInt8 := dkwX2_life_5 ++ []
def dkwX2_life_4 : List UInt8 := [21, 6, 184, 1, 96, 172, 21, 6, 184, 1, 99, 172, 21, 6, 184, 1, 44, 172, 21, 6, 184, 1, 25, 172]
abbrev dktX2_life_4 : List UInt8 := dkwX2_life_4 ++ dktX2_life_5
def dkwX2_life_3 : List UInt8 := [170, 0, 0, 0, 0, 0, 55, 0, 0, 0, 0, 0, 0, 0, 3, 0, 0, 0, 31, 0, 0, 0, 37, 0, 0, 0, 43, 0, 0, 0, 49]
abbrev dktX2_life_3 : List UInt8 := dkwX2_life_3 ++ dktX2_life_4
def dkwX2_life_2 : List UInt8 := [182, 1, 6, 182, 1, 22, 54, 6, 21, 5]
abbrev dktX2_life_2 : List UInt8 := dkwX2_life_2 ++ dktX2_life_3
def dkwX2_life_1 : List UInt8 := [3, 42, 28, 29, 182, 1, 13, 4, 100, 184, 0, 72, 154, 0, 5, 2, 172, 42, 42, 28, 29, 21, 4]
abbrev dktX2_life_1 : List UInt8 := dkwX2_life_1 ++ dktX2_life_2
def dkwX2_life_0 : List UInt8 := [42, 3, 181, 0, 60, 42, 27, 182, 1, 57, 153, 0, 29, 42, 28, 29, 182, 1, 28, 153, 0, 20, 21, 4]
abbrev dktX2_life_0 : List UInt8 := dkwX2_life_0 ++ dktX2_life_1
theorem dksX2_life_0 : cX2_life.data.toList.drop 0 = dktX2_life_0 := by decide +kernel
theorem dksX2_life_1 : cX2_life.data.toList.drop 24 = dktX2_life_1 := dk_seg dksX2_life_0 24 rfl rfl
theorem dksX2_life_2 : cX2_life.data.toList.drop 47 = dktX2_life_2 := dk_seg dksX2_life_1 23 rfl rfl
theorem dksX2_life_3 : cX2_life.data.toList.drop 57 = dktX2_life_3 := dk_seg dksX2_life_2 10 rfl rfl
theorem dksX2_life_4 : cX2_life.data.toList.drop 88 = dktX2_life_4 := dk_seg dksX2_life_3 31 rfl rfl
theorem dksX2_life_5 : cX2_life.data.toList.drop 112 = dktX2_life_5 := dk_seg dksX2_life_4 24 rfl rfl
theorem dX2_life_0 : decode cX2_life 0 = .ok (.aload_n 0, 1) := dk_42 (dk_at dksX2_life_0 0 rfl rfl)
theorem dX2_life_1 : decode cX2_life 1 = .ok (.iconst 0, 1) := dk_3 (dk_at dksX2_life_0 1 rfl rfl)
theorem dX2_life_2 : decode cX2_life 2 = .ok (.putfield 60, 3) := dk_181 0 60 (dk_at dksX2_life_0 2 rfl rfl)
theorem dX2_life_5 : decode cX2_life 5 = .ok (.aload_n 0, 1) := dk_42 (dk_at dksX2_life_0 5 rfl rfl)
theorem dX2_life_6 : decode cX2_life 6 = .ok (.iload_n 1, 1) := dk_27 (dk_at dksX2_life_0 6 rfl rfl)
theorem dX2_life_7 : decode cX2_life 7 = .ok (.invokevirtual 313, 3) := dk_182 1 57 (dk_at dksX2_life_0 7 rfl rfl)
theorem dX2_life_10 : decode cX2_life 10 = .ok (.ifCond .eq 29, 3) := dk_153 0 29 (dk_at dksX2_life_0 10 rfl rfl)
theorem dX2_life_13 : decode cX2_life 13 = .ok (.aload_n 0, 1) := dk_42 (dk_at dksX2_life_0 13 rfl rfl)
theorem dX2_life_14 : decode cX2_life 14 = .ok (.iload_n 2, 1) := dk_28 (dk_at dksX2_life_0 14 rfl rfl)
theorem dX2_life_15 : decode cX2_life 15 = .ok (.iload_n 3, 1) := dk_29 (dk_at dksX2_life_0 15 rfl rfl)
theorem dX2_life_16 : decode cX2_life 16 = .ok (.invokevirtual 284, 3) := dk_182 1 28 (dk_at dksX2_life_0 16 rfl rfl)
theorem dX2_life_19 : decode cX2_life 19 = .ok (.ifCond .eq 20, 3) := dk_153 0 20 (dk_at dksX2_life_0 19 rfl rfl)
theorem dX2_life_22 : decode cX2_life 22 = .ok (.iload 4, 2) := dk_21 4 (dk_at dksX2_life_0 22 rfl rfl)
theorem dX2_life_24 : decode cX2_life 24 = .ok (.iconst 0, 1) := dk_3 (dk_at dksX2_life_1 0 rfl rfl)
theorem dX2_life_25 : decode cX2_life 25 = .ok (.aload_n 0, 1) := dk_42 (dk_at dksX2_life_1 1 rfl rfl)
theorem dX2_life_26 : decode cX2_life 26 = .ok (.iload_n 2, 1) := dk_28 (dk_at dksX2_life_1 2 rfl rfl)
theorem dX2_life_27 : decode cX2_life 27 = .ok (.iload_n 3, 1) := dk_29 (dk_at dksX2_life_1 3 rfl rfl)
theorem dX2_life_28 : decode cX2_life 28 = .ok (.invokevirtual 269, 3) := dk_182 1 13 (dk_at dksX2_life_1 4 rfl rfl)
theorem dX2_life_31 : decode cX2_life 31 = .ok (.iconst 1, 1) := dk_4 (dk_at dksX2_life_1 7 rfl rfl)
theorem dX2_life_32 : decode cX2_life 32 = .ok (.isub, 1) := dk_100 (dk_at dksX2_life_1 8 rfl rfl)
theorem dX2_life_33 : decode cX2_life 33 = .ok (.invokestatic 72, 3) := dk_184 0 72 (dk_at dksX2_life_1 9 rfl rfl)
theorem dX2_life_36 : decode cX2_life 36 = .ok (.ifCond .ne 5, 3) := dk_154 0 5 (dk_at dksX2_life_1 12 rfl rfl)
theorem dX2_life_39 : decode cX2_life 39 = .ok (.iconst (-1), 1) := dk_2 (dk_at dksX2_life_1 15 rfl rfl)
theorem dX2_life_40 : decode cX2_life 40 = .ok (.ireturn, 1) := dk_172 (dk_at dksX2_life_1 16 rfl rfl)
theorem dX2_life_41 : decode cX2_life 41 = .ok (.aload_n 0, 1) := dk_42 (dk_at dksX2_life_1 17 rfl rfl)
theorem dX2_life_42 : decode cX2_life 42 = .ok (.aload_n 0, 1) := dk_42 (dk_at dksX2_life_1 18 rfl rfl)
theorem dX2_life_43 : decode cX2_life 43 = .ok (.iload_n 2, 1) := dk_28 (dk_at dksX2_life_1 19 rfl rfl)
theorem dX2_life_44 : decode cX2_life 44 = .ok (.iload_n 3, 1) := dk_29 (dk_at dksX2_life_1 20 rfl rfl)
theorem dX2_life_45 : decode cX2_life 45 = .ok (.iload 4, 2) := dk_21 4 (dk_at dksX2_life_1 21 rfl rfl)
theorem dX2_life_47 : decode cX2_life 47 = .ok (.invokevirtual 262, 3) := dk_182 1 6 (dk_at dksX2_life_2 0 rfl rfl)
theorem dX2_life_50 : decode cX2_life 50 = .ok (.invokevirtual 278, 3) := dk_182 1 22 (dk_at dksX2_life_2 3 rfl rfl)
theorem dX2_life_53 : decode cX2_life 53 = .ok (.istore 6, 2) := dk_54 6 (dk_at dksX2_life_2 6 rfl rfl)
theorem dX2_life_55 : decode cX2_life 55 = .ok (.iload 5, 2) := dk_21 5 (dk_at dksX2_life_2 8 rfl rfl)
theorem dX2_life_57 : decode cX2_life 57 = .ok (.tableswitch 55 0 3 #[31, 37, 43, 49], 31) := by decide +kernel
theorem dX2_life_88 : decode cX2_life 88 = .ok (.iload 6, 2) := dk_21 6 (dk_at dksX2_life_4 0 rfl rfl)
theorem dX2_life_90 : decode cX2_life 90 = .ok (.invokestatic 352, 3) := dk_184 1 96 (dk_at dksX2_life_4 2 rfl rfl)
theorem dX2_life_93 : decode cX2_life 93 = .ok (.ireturn, 1) := dk_172 (dk_at dksX2_life_4 5 rfl rfl)
theorem dX2_life_94 : decode cX2_life 94 = .ok (.iload 6, 2) := dk_21 6 (dk_at dksX2_life_4 6 rfl rfl)
theorem dX2_life_96 : decode cX2_life 96 = .ok (.invokestatic 355, 3) := dk_184 1 99 (dk_at dksX2_life_4 8 rfl rfl)
theorem dX2_life_99 : decode cX2_life 99 = .ok (.ireturn, 1) := dk_172 (dk_at dksX2_life_4 11 rfl rfl)
theorem dX2_life_100 : decode cX2_life 100 = .ok (.iload 6, 2) := dk_21 6 (dk_at dksX2_life_4 12 rfl rfl)
theorem dX2_life_102 : decode cX2_life 102 = .ok (.invokestatic 300, 3) := dk_184 1 44 (dk_at dksX2_life_4 14 rfl rfl)
theorem dX2_life_105 : decode cX2_life 105 = .ok (.ireturn, 1) := dk_172 (dk_at dksX2_life_4 17 rfl rfl)
theorem dX2_life_106 : decode cX2_life 106 = .ok (.iload 6, 2) := dk_21 6 (dk_at dksX2_life_4 18 rfl rfl)
theorem dX2_life_108 : decode cX2_life 108 = .ok (.invokestatic 281, 3) := dk_184 1 25 (dk_at dksX2_life_4 20 rfl rfl)
theorem dX2_life_111 : decode cX2_life 111 = .ok (.ireturn, 1) := dk_172 (dk_at dksX2_life_4 23 rfl rfl)
theorem dX2_life_112 : decode cX2_life 112 = .ok (.iconst (-1), 1) := dk_2 (dk_at dksX2_life_5 0 rfl rfl)
theorem dX2_life_113 : decode cX2_life 113 = .ok (.ireturn, 1) := dk_172 (dk_at dksX2_life_5 1 rfl rfl)
abbrev cX2_firstIn : ByteArray := prog_25_method_56_code
def yX2_firstIn : MethodName := ⟨RX2, "firstIn", "(I)I"⟩
def dkwX2_firstIn_0 : List UInt8 := [3, 60, 26, 27, 184, 0, 64, 154, 0, 9, 132, 1, 1, 167, 255, 245, 27, 172]
abbrev dktX2_firstIn_0 : List UInt8 := dkwX2_firstIn_0 ++ []
theorem dksX2_firstIn_0 : cX2_firstIn.data.toList.drop 0 = dktX2_firstIn_0 := by decide +kernel
theorem dX2_firstIn_0 : decode cX2_firstIn 0 = .ok (.iconst 0, 1) := dk_3 (dk_at dksX2_firstIn_0 0 rfl rfl)
theorem dX2_firstIn_1 : decode cX2_firstIn 1 = .ok (.istore_n 1, 1) := dk_60 (dk_at dksX2_firstIn_0 1 rfl rfl)
theorem dX2_firstIn_2 : decode cX2_firstIn 2 = .ok (.iload_n 0, 1) := dk_26 (dk_at dksX2_firstIn_0 2 rfl rfl)
theorem dX2_firstIn_3 : decode cX2_firstIn 3 = .ok (.iload_n 1, 1) := dk_27 (dk_at dksX2_firstIn_0 3 rfl rfl)
theorem dX2_firstIn_4 : decode cX2_firstIn 4 = .ok (.invokestatic 64, 3) := dk_184 0 64 (dk_at dksX2_firstIn_0 4 rfl rfl)
theorem dX2_firstIn_7 : decode cX2_firstIn 7 = .ok (.ifCond .ne 9, 3) := dk_154 0 9 (dk_at dksX2_firstIn_0 7 rfl rfl)
theorem dX2_firstIn_10 : decode cX2_firstIn 10 = .ok (.iinc 1 1, 3) := dk_132 1 1 (dk_at dksX2_firstIn_0 10 rfl rfl)
theorem dX2_firstIn_13 : decode cX2_firstIn 13 = .ok (.goto (-11), 3) := dk_167 255 245 (dk_at dksX2_firstIn_0 13 rfl rfl)
theorem dX2_firstIn_16 : decode cX2_firstIn 16 = .ok (.iload_n 1, 1) := dk_27 (dk_at dksX2_firstIn_0 16 rfl rfl)
theorem dX2_firstIn_17 : decode cX2_firstIn 17 = .ok (.ireturn, 1) := dk_172 (dk_at dksX2_firstIn_0 17 rfl rfl)
abbrev cX2_lastIn : ByteArray := prog_25_method_57_code
def yX2_lastIn : MethodName := ⟨RX2, "lastIn", "(I)I"⟩
def dkwX2_lastIn_1 : List UInt8 := [132, 2, 1, 167, 255, 233, 27, 172]
abbrev dktX2_lastIn_1 : List UInt8 := dkwX2_lastIn_1 ++ []
def dkwX2_lastIn_0 : List UInt8 := [2, 60, 3, 61, 28, 16, 10, 162, 0, 23, 26, 28, 184, 0, 64, 153, 0, 7, 28, 167, 0, 4, 27, 60]
abbrev dktX2_lastIn_0 : List UInt8 := dkwX2_lastIn_0 ++ dktX2_lastIn_1
theorem dksX2_lastIn_0 : cX2_lastIn.data.toList.drop 0 = dktX2_lastIn_0 := by decide +kernel
theorem dksX2_lastIn_1 : cX2_lastIn.data.toList.drop 24 = dktX2_lastIn_1 := dk_seg dksX2_lastIn_0 24 rfl rfl
theorem dX2_lastIn_0 : decode cX2_lastIn 0 = .ok (.iconst (-1), 1) := dk_2 (dk_at dksX2_lastIn_0 0 rfl rfl)
theorem dX2_lastIn_1 : decode cX2_lastIn 1 = .ok (.istore_n 1, 1) := dk_60 (dk_at dksX2_lastIn_0 1 rfl rfl)
theorem dX2_lastIn_2 : decode cX2_lastIn 2 = .ok (.iconst 0, 1) := dk_3 (dk_at dksX2_lastIn_0 2 rfl rfl)
theorem dX2_lastIn_3 : decode cX2_lastIn 3 = .ok (.istore_n 2, 1) := dk_61 (dk_at dksX2_lastIn_0 3 rfl rfl)
theorem dX2_lastIn_4 : decode cX2_lastIn 4 = .ok (.iload_n 2, 1) := dk_28 (dk_at dksX2_lastIn_0 4 rfl rfl)
theorem dX2_lastIn_5 : decode cX2_lastIn 5 = .ok (.bipush 10, 2) := dk_16 10 (dk_at dksX2_lastIn_0 5 rfl rfl)
theorem dX2_lastIn_7 : decode cX2_lastIn 7 = .ok (.if_icmp .ge 23, 3) := dk_162 0 23 (dk_at dksX2_lastIn_0 7 rfl rfl)
theorem dX2_lastIn_10 : decode cX2_lastIn 10 = .ok (.iload_n 0, 1) := dk_26 (dk_at dksX2_lastIn_0 10 rfl rfl)
theorem dX2_lastIn_11 : decode cX2_lastIn 11 = .ok (.iload_n 2, 1) := dk_28 (dk_at dksX2_lastIn_0 11 rfl rfl)
theorem dX2_lastIn_12 : decode cX2_lastIn 12 = .ok (.invokestatic 64, 3) := dk_184 0 64 (dk_at dksX2_lastIn_0 12 rfl rfl)
theorem dX2_lastIn_15 : decode cX2_lastIn 15 = .ok (.ifCond .eq 7, 3) := dk_153 0 7 (dk_at dksX2_lastIn_0 15 rfl rfl)
theorem dX2_lastIn_18 : decode cX2_lastIn 18 = .ok (.iload_n 2, 1) := dk_28 (dk_at dksX2_lastIn_0 18 rfl rfl)
theorem dX2_lastIn_19 : decode cX2_lastIn 19 = .ok (.goto 4, 3) := dk_167 0 4 (dk_at dksX2_lastIn_0 19 rfl rfl)
theorem dX2_lastIn_22 : decode cX2_lastIn 22 = .ok (.iload_n 1, 1) := dk_27 (dk_at dksX2_lastIn_0 22 rfl rfl)
theorem dX2_lastIn_23 : decode cX2_lastIn 23 = .ok (.istore_n 1, 1) := dk_60 (dk_at dksX2_lastIn_0 23 rfl rfl)
theorem dX2_lastIn_24 : decode cX2_lastIn 24 = .ok (.iinc 2 1, 3) := dk_132 2 1 (dk_at dksX2_lastIn_1 0 rfl rfl)
theorem dX2_lastIn_27 : decode cX2_lastIn 27 = .ok (.goto (-23), 3) := dk_167 255 233 (dk_at dksX2_lastIn_1 3 rfl rfl)
theorem dX2_lastIn_30 : decode cX2_lastIn 30 = .ok (.iload_n 1, 1) := dk_27 (dk_at dksX2_lastIn_1 6 rfl rfl)
theorem dX2_lastIn_31 : decode cX2_lastIn 31 = .ok (.ireturn, 1) := dk_172 (dk_at dksX2_lastIn_1 7 rfl rfl)
abbrev cX2_word : ByteArray := prog_25_method_81_code
def yX2_word : MethodName := ⟨RX2, "word", "(III)I"⟩
def dkwX2_word_2 : List UInt8 := [167, 0, 4, 2, 172]
abbrev dktX2_word_2 : List UInt8 := dkwX2_word_2 ++ []
def dkwX2_word_1 : List UInt8 := [180, 1, 81, 4, 100, 184, 0, 72, 153, 0, 17, 42, 42, 180, 0, 44, 28, 46, 29, 182, 1, 109]
abbrev dktX2_word_1 : List UInt8 := dkwX2_word_1 ++ dktX2_word_2
def dkwX2_word_0 : List UInt8 := [42, 3, 181, 0, 60, 42, 27, 182, 1, 57, 154, 0, 5, 2, 172, 42, 182, 1, 78, 28, 3, 42]
abbrev dktX2_word_0 : List UInt8 := dkwX2_word_0 ++ dktX2_word_1
theorem dksX2_word_0 : cX2_word.data.toList.drop 0 = dktX2_word_0 := by decide +kernel
theorem dksX2_word_1 : cX2_word.data.toList.drop 22 = dktX2_word_1 := dk_seg dksX2_word_0 22 rfl rfl
theorem dksX2_word_2 : cX2_word.data.toList.drop 44 = dktX2_word_2 := dk_seg dksX2_word_1 22 rfl rfl
theorem dX2_word_0 : decode cX2_word 0 = .ok (.aload_n 0, 1) := dk_42 (dk_at dksX2_word_0 0 rfl rfl)
theorem dX2_word_1 : decode cX2_word 1 = .ok (.iconst 0, 1) := dk_3 (dk_at dksX2_word_0 1 rfl rfl)
theorem dX2_word_2 : decode cX2_word 2 = .ok (.putfield 60, 3) := dk_181 0 60 (dk_at dksX2_word_0 2 rfl rfl)
theorem dX2_word_5 : decode cX2_word 5 = .ok (.aload_n 0, 1) := dk_42 (dk_at dksX2_word_0 5 rfl rfl)
theorem dX2_word_6 : decode cX2_word 6 = .ok (.iload_n 1, 1) := dk_27 (dk_at dksX2_word_0 6 rfl rfl)
theorem dX2_word_7 : decode cX2_word 7 = .ok (.invokevirtual 313, 3) := dk_182 1 57 (dk_at dksX2_word_0 7 rfl rfl)
theorem dX2_word_10 : decode cX2_word 10 = .ok (.ifCond .ne 5, 3) := dk_154 0 5 (dk_at dksX2_word_0 10 rfl rfl)
theorem dX2_word_13 : decode cX2_word 13 = .ok (.iconst (-1), 1) := dk_2 (dk_at dksX2_word_0 13 rfl rfl)
theorem dX2_word_14 : decode cX2_word 14 = .ok (.ireturn, 1) := dk_172 (dk_at dksX2_word_0 14 rfl rfl)
theorem dX2_word_15 : decode cX2_word 15 = .ok (.aload_n 0, 1) := dk_42 (dk_at dksX2_word_0 15 rfl rfl)
theorem dX2_word_16 : decode cX2_word 16 = .ok (.invokevirtual 334, 3) := dk_182 1 78 (dk_at dksX2_word_0 16 rfl rfl)
theorem dX2_word_19 : decode cX2_word 19 = .ok (.iload_n 2, 1) := dk_28 (dk_at dksX2_word_0 19 rfl rfl)
theorem dX2_word_20 : decode cX2_word 20 = .ok (.iconst 0, 1) := dk_3 (dk_at dksX2_word_0 20 rfl rfl)
theorem dX2_word_21 : decode cX2_word 21 = .ok (.aload_n 0, 1) := dk_42 (dk_at dksX2_word_0 21 rfl rfl)
theorem dX2_word_22 : decode cX2_word 22 = .ok (.getfield 337, 3) := dk_180 1 81 (dk_at dksX2_word_1 0 rfl rfl)
theorem dX2_word_25 : decode cX2_word 25 = .ok (.iconst 1, 1) := dk_4 (dk_at dksX2_word_1 3 rfl rfl)
theorem dX2_word_26 : decode cX2_word 26 = .ok (.isub, 1) := dk_100 (dk_at dksX2_word_1 4 rfl rfl)
theorem dX2_word_27 : decode cX2_word 27 = .ok (.invokestatic 72, 3) := dk_184 0 72 (dk_at dksX2_word_1 5 rfl rfl)
theorem dX2_word_30 : decode cX2_word 30 = .ok (.ifCond .eq 17, 3) := dk_153 0 17 (dk_at dksX2_word_1 8 rfl rfl)
theorem dX2_word_33 : decode cX2_word 33 = .ok (.aload_n 0, 1) := dk_42 (dk_at dksX2_word_1 11 rfl rfl)
theorem dX2_word_34 : decode cX2_word 34 = .ok (.aload_n 0, 1) := dk_42 (dk_at dksX2_word_1 12 rfl rfl)
theorem dX2_word_35 : decode cX2_word 35 = .ok (.getfield 44, 3) := dk_180 0 44 (dk_at dksX2_word_1 13 rfl rfl)
theorem dX2_word_38 : decode cX2_word 38 = .ok (.iload_n 2, 1) := dk_28 (dk_at dksX2_word_1 16 rfl rfl)
theorem dX2_word_39 : decode cX2_word 39 = .ok (.iaload, 1) := dk_46 (dk_at dksX2_word_1 17 rfl rfl)
theorem dX2_word_40 : decode cX2_word 40 = .ok (.iload_n 3, 1) := dk_29 (dk_at dksX2_word_1 18 rfl rfl)
theorem dX2_word_41 : decode cX2_word 41 = .ok (.invokevirtual 365, 3) := dk_182 1 109 (dk_at dksX2_word_1 19 rfl rfl)
theorem dX2_word_44 : decode cX2_word 44 = .ok (.goto 4, 3) := dk_167 0 4 (dk_at dksX2_word_2 0 rfl rfl)
theorem dX2_word_47 : decode cX2_word 47 = .ok (.iconst (-1), 1) := dk_2 (dk_at dksX2_word_2 3 rfl rfl)
theorem dX2_word_48 : decode cX2_word 48 = .ok (.ireturn, 1) := dk_172 (dk_at dksX2_word_2 4 rfl rfl)
abbrev cX2_ofWord : ByteArray := prog_25_method_80_code
def yX2_ofWord : MethodName := ⟨RX2, "ofWord", "(II)I"⟩
def dkwX2_ofWord_7 : List UInt8 := [27, 172, 29, 172, 21, 4, 172, 21, 5, 172, 21, 6, 172, 2, 172]
abbrev dktX2_ofWord_7 : List UInt8 := dkwX2_ofWord_7 ++ []
def dkwX2_ofWord_6 : List UInt8 := [170, 0, 0, 0, 0, 0, 48, 0, 0, 0, 0, 0, 0, 0, 4, 0, 0, 0, 35, 0, 0, 0, 37, 0, 0, 0, 39, 0, 0, 0, 42, 0, 0, 0, 45]
abbrev dktX2_ofWord_6 : List UInt8 := dkwX2_ofWord_6 ++ dktX2_ofWord_7
def dkwX2_ofWord_5 : List UInt8 := [167, 0, 5, 21, 5, 54, 5, 21, 6, 21, 10, 184, 1, 41, 54, 6, 132, 7, 1, 167, 255, 139, 28]
abbrev dktX2_ofWord_5 : List UInt8 := dkwX2_ofWord_5 ++ dktX2_ofWord_6
def dkwX2_ofWord_4 : List UInt8 := [54, 4, 21, 10, 158, 0, 21, 21, 5, 42, 180, 0, 35, 16, 6, 21, 7, 96, 46, 184, 0, 150]
abbrev dktX2_ofWord_4 : List UInt8 := dkwX2_ofWord_4 ++ dktX2_ofWord_5
def dkwX2_ofWord_3 : List UInt8 := [4, 167, 0, 4, 3, 96, 62, 21, 4, 21, 10, 158, 0, 10, 4, 21, 8, 120, 167, 0, 4, 3, 128]
abbrev dktX2_ofWord_3 : List UInt8 := dkwX2_ofWord_3 ++ dktX2_ofWord_4
def dkwX2_ofWord_2 : List UInt8 := [153, 0, 15, 42, 21, 8, 21, 9, 27, 182, 1, 106, 167, 0, 4, 3, 54, 10, 29, 21, 10, 158, 0, 7]
abbrev dktX2_ofWord_2 : List UInt8 := dkwX2_ofWord_2 ++ dktX2_ofWord_3
def dkwX2_ofWord_1 : List UInt8 := [21, 7, 16, 10, 108, 54, 8, 21, 7, 16, 10, 112, 54, 9, 42, 21, 8, 21, 9, 182, 1, 28]
abbrev dktX2_ofWord_1 : List UInt8 := dkwX2_ofWord_1 ++ dktX2_ofWord_2
def dkwX2_ofWord_0 : List UInt8 := [3, 62, 3, 54, 4, 19, 1, 105, 54, 5, 3, 54, 6, 3, 54, 7, 21, 7, 16, 40, 162, 0, 116]
abbrev dktX2_ofWord_0 : List UInt8 := dkwX2_ofWord_0 ++ dktX2_ofWord_1
theorem dksX2_ofWord_0 : cX2_ofWord.data.toList.drop 0 = dktX2_ofWord_0 := by decide +kernel
theorem dksX2_ofWord_1 : cX2_ofWord.data.toList.drop 23 = dktX2_ofWord_1 := dk_seg dksX2_ofWord_0 23 rfl rfl
theorem dksX2_ofWord_2 : cX2_ofWord.data.toList.drop 45 = dktX2_ofWord_2 := dk_seg dksX2_ofWord_1 22 rfl rfl
theorem dksX2_ofWord_3 : cX2_ofWord.data.toList.drop 69 = dktX2_ofWord_3 := dk_seg dksX2_ofWord_2 24 rfl rfl
theorem dksX2_ofWord_4 : cX2_ofWord.data.toList.drop 92 = dktX2_ofWord_4 := dk_seg dksX2_ofWord_3 23 rfl rfl
theorem dksX2_ofWord_5 : cX2_ofWord.data.toList.drop 114 = dktX2_ofWord_5 := dk_seg dksX2_ofWord_4 22 rfl rfl
theorem dksX2_ofWord_6 : cX2_ofWord.data.toList.drop 137 = dktX2_ofWord_6 := dk_seg dksX2_ofWord_5 23 rfl rfl
theorem dksX2_ofWord_7 : cX2_ofWord.data.toList.drop 172 = dktX2_ofWord_7 := dk_seg dksX2_ofWord_6 35 rfl rfl
theorem dX2_ofWord_0 : decode cX2_ofWord 0 = .ok (.iconst 0, 1) := dk_3 (dk_at dksX2_ofWord_0 0 rfl rfl)
theorem dX2_ofWord_1 : decode cX2_ofWord 1 = .ok (.istore_n 3, 1) := dk_62 (dk_at dksX2_ofWord_0 1 rfl rfl)
theorem dX2_ofWord_2 : decode cX2_ofWord 2 = .ok (.iconst 0, 1) := dk_3 (dk_at dksX2_ofWord_0 2 rfl rfl)
theorem dX2_ofWord_3 : decode cX2_ofWord 3 = .ok (.istore 4, 2) := dk_54 4 (dk_at dksX2_ofWord_0 3 rfl rfl)
theorem dX2_ofWord_5 : decode cX2_ofWord 5 = .ok (.ldc_w 361, 3) := dk_19 1 105 (dk_at dksX2_ofWord_0 5 rfl rfl)
theorem dX2_ofWord_8 : decode cX2_ofWord 8 = .ok (.istore 5, 2) := dk_54 5 (dk_at dksX2_ofWord_0 8 rfl rfl)
theorem dX2_ofWord_10 : decode cX2_ofWord 10 = .ok (.iconst 0, 1) := dk_3 (dk_at dksX2_ofWord_0 10 rfl rfl)
theorem dX2_ofWord_11 : decode cX2_ofWord 11 = .ok (.istore 6, 2) := dk_54 6 (dk_at dksX2_ofWord_0 11 rfl rfl)
theorem dX2_ofWord_13 : decode cX2_ofWord 13 = .ok (.iconst 0, 1) := dk_3 (dk_at dksX2_ofWord_0 13 rfl rfl)
theorem dX2_ofWord_14 : decode cX2_ofWord 14 = .ok (.istore 7, 2) := dk_54 7 (dk_at dksX2_ofWord_0 14 rfl rfl)
theorem dX2_ofWord_16 : decode cX2_ofWord 16 = .ok (.iload 7, 2) := dk_21 7 (dk_at dksX2_ofWord_0 16 rfl rfl)
theorem dX2_ofWord_18 : decode cX2_ofWord 18 = .ok (.bipush 40, 2) := dk_16 40 (dk_at dksX2_ofWord_0 18 rfl rfl)
theorem dX2_ofWord_20 : decode cX2_ofWord 20 = .ok (.if_icmp .ge 116, 3) := dk_162 0 116 (dk_at dksX2_ofWord_0 20 rfl rfl)
theorem dX2_ofWord_23 : decode cX2_ofWord 23 = .ok (.iload 7, 2) := dk_21 7 (dk_at dksX2_ofWord_1 0 rfl rfl)
theorem dX2_ofWord_25 : decode cX2_ofWord 25 = .ok (.bipush 10, 2) := dk_16 10 (dk_at dksX2_ofWord_1 2 rfl rfl)
theorem dX2_ofWord_27 : decode cX2_ofWord 27 = .ok (.idiv, 1) := dk_108 (dk_at dksX2_ofWord_1 4 rfl rfl)
theorem dX2_ofWord_28 : decode cX2_ofWord 28 = .ok (.istore 8, 2) := dk_54 8 (dk_at dksX2_ofWord_1 5 rfl rfl)
theorem dX2_ofWord_30 : decode cX2_ofWord 30 = .ok (.iload 7, 2) := dk_21 7 (dk_at dksX2_ofWord_1 7 rfl rfl)
theorem dX2_ofWord_32 : decode cX2_ofWord 32 = .ok (.bipush 10, 2) := dk_16 10 (dk_at dksX2_ofWord_1 9 rfl rfl)
theorem dX2_ofWord_34 : decode cX2_ofWord 34 = .ok (.irem, 1) := dk_112 (dk_at dksX2_ofWord_1 11 rfl rfl)
theorem dX2_ofWord_35 : decode cX2_ofWord 35 = .ok (.istore 9, 2) := dk_54 9 (dk_at dksX2_ofWord_1 12 rfl rfl)
theorem dX2_ofWord_37 : decode cX2_ofWord 37 = .ok (.aload_n 0, 1) := dk_42 (dk_at dksX2_ofWord_1 14 rfl rfl)
theorem dX2_ofWord_38 : decode cX2_ofWord 38 = .ok (.iload 8, 2) := dk_21 8 (dk_at dksX2_ofWord_1 15 rfl rfl)
theorem dX2_ofWord_40 : decode cX2_ofWord 40 = .ok (.iload 9, 2) := dk_21 9 (dk_at dksX2_ofWord_1 17 rfl rfl)
theorem dX2_ofWord_42 : decode cX2_ofWord 42 = .ok (.invokevirtual 284, 3) := dk_182 1 28 (dk_at dksX2_ofWord_1 19 rfl rfl)
theorem dX2_ofWord_45 : decode cX2_ofWord 45 = .ok (.ifCond .eq 15, 3) := dk_153 0 15 (dk_at dksX2_ofWord_2 0 rfl rfl)
theorem dX2_ofWord_48 : decode cX2_ofWord 48 = .ok (.aload_n 0, 1) := dk_42 (dk_at dksX2_ofWord_2 3 rfl rfl)
theorem dX2_ofWord_49 : decode cX2_ofWord 49 = .ok (.iload 8, 2) := dk_21 8 (dk_at dksX2_ofWord_2 4 rfl rfl)
theorem dX2_ofWord_51 : decode cX2_ofWord 51 = .ok (.iload 9, 2) := dk_21 9 (dk_at dksX2_ofWord_2 6 rfl rfl)
theorem dX2_ofWord_53 : decode cX2_ofWord 53 = .ok (.iload_n 1, 1) := dk_27 (dk_at dksX2_ofWord_2 8 rfl rfl)
theorem dX2_ofWord_54 : decode cX2_ofWord 54 = .ok (.invokevirtual 362, 3) := dk_182 1 106 (dk_at dksX2_ofWord_2 9 rfl rfl)
theorem dX2_ofWord_57 : decode cX2_ofWord 57 = .ok (.goto 4, 3) := dk_167 0 4 (dk_at dksX2_ofWord_2 12 rfl rfl)
theorem dX2_ofWord_60 : decode cX2_ofWord 60 = .ok (.iconst 0, 1) := dk_3 (dk_at dksX2_ofWord_2 15 rfl rfl)
theorem dX2_ofWord_61 : decode cX2_ofWord 61 = .ok (.istore 10, 2) := dk_54 10 (dk_at dksX2_ofWord_2 16 rfl rfl)
theorem dX2_ofWord_63 : decode cX2_ofWord 63 = .ok (.iload_n 3, 1) := dk_29 (dk_at dksX2_ofWord_2 18 rfl rfl)
theorem dX2_ofWord_64 : decode cX2_ofWord 64 = .ok (.iload 10, 2) := dk_21 10 (dk_at dksX2_ofWord_2 19 rfl rfl)
theorem dX2_ofWord_66 : decode cX2_ofWord 66 = .ok (.ifCond .le 7, 3) := dk_158 0 7 (dk_at dksX2_ofWord_2 21 rfl rfl)
theorem dX2_ofWord_69 : decode cX2_ofWord 69 = .ok (.iconst 1, 1) := dk_4 (dk_at dksX2_ofWord_3 0 rfl rfl)
theorem dX2_ofWord_70 : decode cX2_ofWord 70 = .ok (.goto 4, 3) := dk_167 0 4 (dk_at dksX2_ofWord_3 1 rfl rfl)
theorem dX2_ofWord_73 : decode cX2_ofWord 73 = .ok (.iconst 0, 1) := dk_3 (dk_at dksX2_ofWord_3 4 rfl rfl)
theorem dX2_ofWord_74 : decode cX2_ofWord 74 = .ok (.iadd, 1) := dk_96 (dk_at dksX2_ofWord_3 5 rfl rfl)
theorem dX2_ofWord_75 : decode cX2_ofWord 75 = .ok (.istore_n 3, 1) := dk_62 (dk_at dksX2_ofWord_3 6 rfl rfl)
theorem dX2_ofWord_76 : decode cX2_ofWord 76 = .ok (.iload 4, 2) := dk_21 4 (dk_at dksX2_ofWord_3 7 rfl rfl)
theorem dX2_ofWord_78 : decode cX2_ofWord 78 = .ok (.iload 10, 2) := dk_21 10 (dk_at dksX2_ofWord_3 9 rfl rfl)
theorem dX2_ofWord_80 : decode cX2_ofWord 80 = .ok (.ifCond .le 10, 3) := dk_158 0 10 (dk_at dksX2_ofWord_3 11 rfl rfl)
theorem dX2_ofWord_83 : decode cX2_ofWord 83 = .ok (.iconst 1, 1) := dk_4 (dk_at dksX2_ofWord_3 14 rfl rfl)
theorem dX2_ofWord_84 : decode cX2_ofWord 84 = .ok (.iload 8, 2) := dk_21 8 (dk_at dksX2_ofWord_3 15 rfl rfl)
theorem dX2_ofWord_86 : decode cX2_ofWord 86 = .ok (.ishl, 1) := dk_120 (dk_at dksX2_ofWord_3 17 rfl rfl)
theorem dX2_ofWord_87 : decode cX2_ofWord 87 = .ok (.goto 4, 3) := dk_167 0 4 (dk_at dksX2_ofWord_3 18 rfl rfl)
theorem dX2_ofWord_90 : decode cX2_ofWord 90 = .ok (.iconst 0, 1) := dk_3 (dk_at dksX2_ofWord_3 21 rfl rfl)
theorem dX2_ofWord_91 : decode cX2_ofWord 91 = .ok (.ior, 1) := dk_128 (dk_at dksX2_ofWord_3 22 rfl rfl)
theorem dX2_ofWord_92 : decode cX2_ofWord 92 = .ok (.istore 4, 2) := dk_54 4 (dk_at dksX2_ofWord_4 0 rfl rfl)
theorem dX2_ofWord_94 : decode cX2_ofWord 94 = .ok (.iload 10, 2) := dk_21 10 (dk_at dksX2_ofWord_4 2 rfl rfl)
theorem dX2_ofWord_96 : decode cX2_ofWord 96 = .ok (.ifCond .le 21, 3) := dk_158 0 21 (dk_at dksX2_ofWord_4 4 rfl rfl)
theorem dX2_ofWord_99 : decode cX2_ofWord 99 = .ok (.iload 5, 2) := dk_21 5 (dk_at dksX2_ofWord_4 7 rfl rfl)
theorem dX2_ofWord_101 : decode cX2_ofWord 101 = .ok (.aload_n 0, 1) := dk_42 (dk_at dksX2_ofWord_4 9 rfl rfl)
theorem dX2_ofWord_102 : decode cX2_ofWord 102 = .ok (.getfield 35, 3) := dk_180 0 35 (dk_at dksX2_ofWord_4 10 rfl rfl)
theorem dX2_ofWord_105 : decode cX2_ofWord 105 = .ok (.bipush 6, 2) := dk_16 6 (dk_at dksX2_ofWord_4 13 rfl rfl)
theorem dX2_ofWord_107 : decode cX2_ofWord 107 = .ok (.iload 7, 2) := dk_21 7 (dk_at dksX2_ofWord_4 15 rfl rfl)
theorem dX2_ofWord_109 : decode cX2_ofWord 109 = .ok (.iadd, 1) := dk_96 (dk_at dksX2_ofWord_4 17 rfl rfl)
theorem dX2_ofWord_110 : decode cX2_ofWord 110 = .ok (.iaload, 1) := dk_46 (dk_at dksX2_ofWord_4 18 rfl rfl)
theorem dX2_ofWord_111 : decode cX2_ofWord 111 = .ok (.invokestatic 150, 3) := dk_184 0 150 (dk_at dksX2_ofWord_4 19 rfl rfl)
theorem dX2_ofWord_114 : decode cX2_ofWord 114 = .ok (.goto 5, 3) := dk_167 0 5 (dk_at dksX2_ofWord_5 0 rfl rfl)
theorem dX2_ofWord_117 : decode cX2_ofWord 117 = .ok (.iload 5, 2) := dk_21 5 (dk_at dksX2_ofWord_5 3 rfl rfl)
theorem dX2_ofWord_119 : decode cX2_ofWord 119 = .ok (.istore 5, 2) := dk_54 5 (dk_at dksX2_ofWord_5 5 rfl rfl)
theorem dX2_ofWord_121 : decode cX2_ofWord 121 = .ok (.iload 6, 2) := dk_21 6 (dk_at dksX2_ofWord_5 7 rfl rfl)
theorem dX2_ofWord_123 : decode cX2_ofWord 123 = .ok (.iload 10, 2) := dk_21 10 (dk_at dksX2_ofWord_5 9 rfl rfl)
theorem dX2_ofWord_125 : decode cX2_ofWord 125 = .ok (.invokestatic 297, 3) := dk_184 1 41 (dk_at dksX2_ofWord_5 11 rfl rfl)
theorem dX2_ofWord_128 : decode cX2_ofWord 128 = .ok (.istore 6, 2) := dk_54 6 (dk_at dksX2_ofWord_5 14 rfl rfl)
theorem dX2_ofWord_130 : decode cX2_ofWord 130 = .ok (.iinc 7 1, 3) := dk_132 7 1 (dk_at dksX2_ofWord_5 16 rfl rfl)
theorem dX2_ofWord_133 : decode cX2_ofWord 133 = .ok (.goto (-117), 3) := dk_167 255 139 (dk_at dksX2_ofWord_5 19 rfl rfl)
theorem dX2_ofWord_136 : decode cX2_ofWord 136 = .ok (.iload_n 2, 1) := dk_28 (dk_at dksX2_ofWord_5 22 rfl rfl)
theorem dX2_ofWord_137 : decode cX2_ofWord 137 = .ok (.tableswitch 48 0 4 #[35, 37, 39, 42, 45], 35) := by decide +kernel
theorem dX2_ofWord_172 : decode cX2_ofWord 172 = .ok (.iload_n 1, 1) := dk_27 (dk_at dksX2_ofWord_7 0 rfl rfl)
theorem dX2_ofWord_173 : decode cX2_ofWord 173 = .ok (.ireturn, 1) := dk_172 (dk_at dksX2_ofWord_7 1 rfl rfl)
theorem dX2_ofWord_174 : decode cX2_ofWord 174 = .ok (.iload_n 3, 1) := dk_29 (dk_at dksX2_ofWord_7 2 rfl rfl)
theorem dX2_ofWord_175 : decode cX2_ofWord 175 = .ok (.ireturn, 1) := dk_172 (dk_at dksX2_ofWord_7 3 rfl rfl)
theorem dX2_ofWord_176 : decode cX2_ofWord 176 = .ok (.iload 4, 2) := dk_21 4 (dk_at dksX2_ofWord_7 4 rfl rfl)
theorem dX2_ofWord_178 : decode cX2_ofWord 178 = .ok (.ireturn, 1) := dk_172 (dk_at dksX2_ofWord_7 6 rfl rfl)
theorem dX2_ofWord_179 : decode cX2_ofWord 179 = .ok (.iload 5, 2) := dk_21 5 (dk_at dksX2_ofWord_7 7 rfl rfl)
theorem dX2_ofWord_181 : decode cX2_ofWord 181 = .ok (.ireturn, 1) := dk_172 (dk_at dksX2_ofWord_7 9 rfl rfl)
theorem dX2_ofWord_182 : decode cX2_ofWord 182 = .ok (.iload 6, 2) := dk_21 6 (dk_at dksX2_ofWord_7 10 rfl rfl)
theorem dX2_ofWord_184 : decode cX2_ofWord 184 = .ok (.ireturn, 1) := dk_172 (dk_at dksX2_ofWord_7 12 rfl rfl)
theorem dX2_ofWord_185 : decode cX2_ofWord 185 = .ok (.iconst (-1), 1) := dk_2 (dk_at dksX2_ofWord_7 13 rfl rfl)
theorem dX2_ofWord_186 : decode cX2_ofWord 186 = .ok (.ireturn, 1) := dk_172 (dk_at dksX2_ofWord_7 14 rfl rfl)
abbrev cX2_timesIn : ByteArray := prog_25_method_79_code
def yX2_timesIn : MethodName := ⟨RX2, "timesIn", "(III)I"⟩
def dkwX2_timesIn_1 : List UInt8 := [182, 1, 19, 29, 160, 0, 7, 4, 167, 0, 4, 3, 96, 54, 4, 132, 5, 1, 167, 255, 220, 21, 4, 172]
abbrev dktX2_timesIn_1 : List UInt8 := dkwX2_timesIn_1 ++ []
def dkwX2_timesIn_0 : List UInt8 := [3, 54, 4, 3, 54, 5, 21, 5, 42, 27, 28, 182, 1, 13, 162, 0, 31, 21, 4, 42, 27, 28, 21, 5]
abbrev dktX2_timesIn_0 : List UInt8 := dkwX2_timesIn_0 ++ dktX2_timesIn_1
theorem dksX2_timesIn_0 : cX2_timesIn.data.toList.drop 0 = dktX2_timesIn_0 := by decide +kernel
theorem dksX2_timesIn_1 : cX2_timesIn.data.toList.drop 24 = dktX2_timesIn_1 := dk_seg dksX2_timesIn_0 24 rfl rfl
theorem dX2_timesIn_0 : decode cX2_timesIn 0 = .ok (.iconst 0, 1) := dk_3 (dk_at dksX2_timesIn_0 0 rfl rfl)
theorem dX2_timesIn_1 : decode cX2_timesIn 1 = .ok (.istore 4, 2) := dk_54 4 (dk_at dksX2_timesIn_0 1 rfl rfl)
theorem dX2_timesIn_3 : decode cX2_timesIn 3 = .ok (.iconst 0, 1) := dk_3 (dk_at dksX2_timesIn_0 3 rfl rfl)
theorem dX2_timesIn_4 : decode cX2_timesIn 4 = .ok (.istore 5, 2) := dk_54 5 (dk_at dksX2_timesIn_0 4 rfl rfl)
theorem dX2_timesIn_6 : decode cX2_timesIn 6 = .ok (.iload 5, 2) := dk_21 5 (dk_at dksX2_timesIn_0 6 rfl rfl)
theorem dX2_timesIn_8 : decode cX2_timesIn 8 = .ok (.aload_n 0, 1) := dk_42 (dk_at dksX2_timesIn_0 8 rfl rfl)
theorem dX2_timesIn_9 : decode cX2_timesIn 9 = .ok (.iload_n 1, 1) := dk_27 (dk_at dksX2_timesIn_0 9 rfl rfl)
theorem dX2_timesIn_10 : decode cX2_timesIn 10 = .ok (.iload_n 2, 1) := dk_28 (dk_at dksX2_timesIn_0 10 rfl rfl)
theorem dX2_timesIn_11 : decode cX2_timesIn 11 = .ok (.invokevirtual 269, 3) := dk_182 1 13 (dk_at dksX2_timesIn_0 11 rfl rfl)
theorem dX2_timesIn_14 : decode cX2_timesIn 14 = .ok (.if_icmp .ge 31, 3) := dk_162 0 31 (dk_at dksX2_timesIn_0 14 rfl rfl)
theorem dX2_timesIn_17 : decode cX2_timesIn 17 = .ok (.iload 4, 2) := dk_21 4 (dk_at dksX2_timesIn_0 17 rfl rfl)
theorem dX2_timesIn_19 : decode cX2_timesIn 19 = .ok (.aload_n 0, 1) := dk_42 (dk_at dksX2_timesIn_0 19 rfl rfl)
theorem dX2_timesIn_20 : decode cX2_timesIn 20 = .ok (.iload_n 1, 1) := dk_27 (dk_at dksX2_timesIn_0 20 rfl rfl)
theorem dX2_timesIn_21 : decode cX2_timesIn 21 = .ok (.iload_n 2, 1) := dk_28 (dk_at dksX2_timesIn_0 21 rfl rfl)
theorem dX2_timesIn_22 : decode cX2_timesIn 22 = .ok (.iload 5, 2) := dk_21 5 (dk_at dksX2_timesIn_0 22 rfl rfl)
theorem dX2_timesIn_24 : decode cX2_timesIn 24 = .ok (.invokevirtual 275, 3) := dk_182 1 19 (dk_at dksX2_timesIn_1 0 rfl rfl)
theorem dX2_timesIn_27 : decode cX2_timesIn 27 = .ok (.iload_n 3, 1) := dk_29 (dk_at dksX2_timesIn_1 3 rfl rfl)
theorem dX2_timesIn_28 : decode cX2_timesIn 28 = .ok (.if_icmp .ne 7, 3) := dk_160 0 7 (dk_at dksX2_timesIn_1 4 rfl rfl)
theorem dX2_timesIn_31 : decode cX2_timesIn 31 = .ok (.iconst 1, 1) := dk_4 (dk_at dksX2_timesIn_1 7 rfl rfl)
theorem dX2_timesIn_32 : decode cX2_timesIn 32 = .ok (.goto 4, 3) := dk_167 0 4 (dk_at dksX2_timesIn_1 8 rfl rfl)
theorem dX2_timesIn_35 : decode cX2_timesIn 35 = .ok (.iconst 0, 1) := dk_3 (dk_at dksX2_timesIn_1 11 rfl rfl)
theorem dX2_timesIn_36 : decode cX2_timesIn 36 = .ok (.iadd, 1) := dk_96 (dk_at dksX2_timesIn_1 12 rfl rfl)
theorem dX2_timesIn_37 : decode cX2_timesIn 37 = .ok (.istore 4, 2) := dk_54 4 (dk_at dksX2_timesIn_1 13 rfl rfl)
theorem dX2_timesIn_39 : decode cX2_timesIn 39 = .ok (.iinc 5 1, 3) := dk_132 5 1 (dk_at dksX2_timesIn_1 15 rfl rfl)
theorem dX2_timesIn_42 : decode cX2_timesIn 42 = .ok (.goto (-36), 3) := dk_167 255 220 (dk_at dksX2_timesIn_1 18 rfl rfl)
theorem dX2_timesIn_45 : decode cX2_timesIn 45 = .ok (.iload 4, 2) := dk_21 4 (dk_at dksX2_timesIn_1 21 rfl rfl)
theorem dX2_timesIn_47 : decode cX2_timesIn 47 = .ok (.ireturn, 1) := dk_172 (dk_at dksX2_timesIn_1 23 rfl rfl)
abbrev cX2_dated : ByteArray := prog_25_method_82_code
def yX2_dated : MethodName := ⟨RX2, "dated", "(II)I"⟩
def dkwX2_dated_2 : List UInt8 := [160, 0, 8, 29, 16, 10, 108, 172, 132, 3, 1, 167, 255, 214, 2, 172]
abbrev dktX2_dated_2 : List UInt8 := dkwX2_dated_2 ++ []
def dkwX2_dated_1 : List UInt8 := [29, 16, 10, 108, 29, 16, 10, 112, 182, 1, 28, 153, 0, 21, 42, 180, 0, 35, 16, 6, 29, 96, 46, 28]
abbrev dktX2_dated_1 : List UInt8 := dkwX2_dated_1 ++ dktX2_dated_2
def dkwX2_dated_0 : List UInt8 := [42, 3, 181, 0, 60, 42, 27, 182, 1, 57, 154, 0, 5, 2, 172, 3, 62, 29, 16, 40, 162, 0, 42, 42]
abbrev dktX2_dated_0 : List UInt8 := dkwX2_dated_0 ++ dktX2_dated_1
theorem dksX2_dated_0 : cX2_dated.data.toList.drop 0 = dktX2_dated_0 := by decide +kernel
theorem dksX2_dated_1 : cX2_dated.data.toList.drop 24 = dktX2_dated_1 := dk_seg dksX2_dated_0 24 rfl rfl
theorem dksX2_dated_2 : cX2_dated.data.toList.drop 48 = dktX2_dated_2 := dk_seg dksX2_dated_1 24 rfl rfl
theorem dX2_dated_0 : decode cX2_dated 0 = .ok (.aload_n 0, 1) := dk_42 (dk_at dksX2_dated_0 0 rfl rfl)
theorem dX2_dated_1 : decode cX2_dated 1 = .ok (.iconst 0, 1) := dk_3 (dk_at dksX2_dated_0 1 rfl rfl)
theorem dX2_dated_2 : decode cX2_dated 2 = .ok (.putfield 60, 3) := dk_181 0 60 (dk_at dksX2_dated_0 2 rfl rfl)
theorem dX2_dated_5 : decode cX2_dated 5 = .ok (.aload_n 0, 1) := dk_42 (dk_at dksX2_dated_0 5 rfl rfl)
theorem dX2_dated_6 : decode cX2_dated 6 = .ok (.iload_n 1, 1) := dk_27 (dk_at dksX2_dated_0 6 rfl rfl)
theorem dX2_dated_7 : decode cX2_dated 7 = .ok (.invokevirtual 313, 3) := dk_182 1 57 (dk_at dksX2_dated_0 7 rfl rfl)
theorem dX2_dated_10 : decode cX2_dated 10 = .ok (.ifCond .ne 5, 3) := dk_154 0 5 (dk_at dksX2_dated_0 10 rfl rfl)
theorem dX2_dated_13 : decode cX2_dated 13 = .ok (.iconst (-1), 1) := dk_2 (dk_at dksX2_dated_0 13 rfl rfl)
theorem dX2_dated_14 : decode cX2_dated 14 = .ok (.ireturn, 1) := dk_172 (dk_at dksX2_dated_0 14 rfl rfl)
theorem dX2_dated_15 : decode cX2_dated 15 = .ok (.iconst 0, 1) := dk_3 (dk_at dksX2_dated_0 15 rfl rfl)
theorem dX2_dated_16 : decode cX2_dated 16 = .ok (.istore_n 3, 1) := dk_62 (dk_at dksX2_dated_0 16 rfl rfl)
theorem dX2_dated_17 : decode cX2_dated 17 = .ok (.iload_n 3, 1) := dk_29 (dk_at dksX2_dated_0 17 rfl rfl)
theorem dX2_dated_18 : decode cX2_dated 18 = .ok (.bipush 40, 2) := dk_16 40 (dk_at dksX2_dated_0 18 rfl rfl)
theorem dX2_dated_20 : decode cX2_dated 20 = .ok (.if_icmp .ge 42, 3) := dk_162 0 42 (dk_at dksX2_dated_0 20 rfl rfl)
theorem dX2_dated_23 : decode cX2_dated 23 = .ok (.aload_n 0, 1) := dk_42 (dk_at dksX2_dated_0 23 rfl rfl)
theorem dX2_dated_24 : decode cX2_dated 24 = .ok (.iload_n 3, 1) := dk_29 (dk_at dksX2_dated_1 0 rfl rfl)
theorem dX2_dated_25 : decode cX2_dated 25 = .ok (.bipush 10, 2) := dk_16 10 (dk_at dksX2_dated_1 1 rfl rfl)
theorem dX2_dated_27 : decode cX2_dated 27 = .ok (.idiv, 1) := dk_108 (dk_at dksX2_dated_1 3 rfl rfl)
theorem dX2_dated_28 : decode cX2_dated 28 = .ok (.iload_n 3, 1) := dk_29 (dk_at dksX2_dated_1 4 rfl rfl)
theorem dX2_dated_29 : decode cX2_dated 29 = .ok (.bipush 10, 2) := dk_16 10 (dk_at dksX2_dated_1 5 rfl rfl)
theorem dX2_dated_31 : decode cX2_dated 31 = .ok (.irem, 1) := dk_112 (dk_at dksX2_dated_1 7 rfl rfl)
theorem dX2_dated_32 : decode cX2_dated 32 = .ok (.invokevirtual 284, 3) := dk_182 1 28 (dk_at dksX2_dated_1 8 rfl rfl)
theorem dX2_dated_35 : decode cX2_dated 35 = .ok (.ifCond .eq 21, 3) := dk_153 0 21 (dk_at dksX2_dated_1 11 rfl rfl)
theorem dX2_dated_38 : decode cX2_dated 38 = .ok (.aload_n 0, 1) := dk_42 (dk_at dksX2_dated_1 14 rfl rfl)
theorem dX2_dated_39 : decode cX2_dated 39 = .ok (.getfield 35, 3) := dk_180 0 35 (dk_at dksX2_dated_1 15 rfl rfl)
theorem dX2_dated_42 : decode cX2_dated 42 = .ok (.bipush 6, 2) := dk_16 6 (dk_at dksX2_dated_1 18 rfl rfl)
theorem dX2_dated_44 : decode cX2_dated 44 = .ok (.iload_n 3, 1) := dk_29 (dk_at dksX2_dated_1 20 rfl rfl)
theorem dX2_dated_45 : decode cX2_dated 45 = .ok (.iadd, 1) := dk_96 (dk_at dksX2_dated_1 21 rfl rfl)
theorem dX2_dated_46 : decode cX2_dated 46 = .ok (.iaload, 1) := dk_46 (dk_at dksX2_dated_1 22 rfl rfl)
theorem dX2_dated_47 : decode cX2_dated 47 = .ok (.iload_n 2, 1) := dk_28 (dk_at dksX2_dated_1 23 rfl rfl)
theorem dX2_dated_48 : decode cX2_dated 48 = .ok (.if_icmp .ne 8, 3) := dk_160 0 8 (dk_at dksX2_dated_2 0 rfl rfl)
theorem dX2_dated_51 : decode cX2_dated 51 = .ok (.iload_n 3, 1) := dk_29 (dk_at dksX2_dated_2 3 rfl rfl)
theorem dX2_dated_52 : decode cX2_dated 52 = .ok (.bipush 10, 2) := dk_16 10 (dk_at dksX2_dated_2 4 rfl rfl)
theorem dX2_dated_54 : decode cX2_dated 54 = .ok (.idiv, 1) := dk_108 (dk_at dksX2_dated_2 6 rfl rfl)
theorem dX2_dated_55 : decode cX2_dated 55 = .ok (.ireturn, 1) := dk_172 (dk_at dksX2_dated_2 7 rfl rfl)
theorem dX2_dated_56 : decode cX2_dated 56 = .ok (.iinc 3 1, 3) := dk_132 3 1 (dk_at dksX2_dated_2 8 rfl rfl)
theorem dX2_dated_59 : decode cX2_dated 59 = .ok (.goto (-42), 3) := dk_167 255 214 (dk_at dksX2_dated_2 11 rfl rfl)
theorem dX2_dated_62 : decode cX2_dated 62 = .ok (.iconst (-1), 1) := dk_2 (dk_at dksX2_dated_2 14 rfl rfl)
theorem dX2_dated_63 : decode cX2_dated 63 = .ok (.ireturn, 1) := dk_172 (dk_at dksX2_dated_2 15 rfl rfl)
abbrev cX2_shared : ByteArray := prog_25_method_83_code
def yX2_shared : MethodName := ⟨RX2, "shared", "(IIII)I"⟩
def dkwX2_shared_3 : List UInt8 := [3, 167, 0, 4, 4, 96, 54, 5, 132, 6, 1, 167, 255, 213, 21, 5, 172]
abbrev dktX2_shared_3 : List UInt8 := dkwX2_shared_3 ++ []
def dkwX2_shared_2 : List UInt8 := [162, 0, 38, 21, 5, 42, 28, 21, 4, 42, 28, 29, 21, 6, 182, 1, 6, 182, 1, 16, 2, 160, 0, 7]
abbrev dktX2_shared_2 : List UInt8 := dkwX2_shared_2 ++ dktX2_shared_3
def dkwX2_shared_1 : List UInt8 := [21, 4, 182, 1, 28, 154, 0, 5, 2, 172, 3, 54, 5, 3, 54, 6, 21, 6, 42, 28, 29, 182, 1, 13]
abbrev dktX2_shared_1 : List UInt8 := dkwX2_shared_1 ++ dktX2_shared_2
def dkwX2_shared_0 : List UInt8 := [42, 3, 181, 0, 60, 42, 27, 182, 1, 57, 153, 0, 22, 42, 28, 29, 182, 1, 28, 153, 0, 13, 42, 28]
abbrev dktX2_shared_0 : List UInt8 := dkwX2_shared_0 ++ dktX2_shared_1
theorem dksX2_shared_0 : cX2_shared.data.toList.drop 0 = dktX2_shared_0 := by decide +kernel
theorem dksX2_shared_1 : cX2_shared.data.toList.drop 24 = dktX2_shared_1 := dk_seg dksX2_shared_0 24 rfl rfl
theorem dksX2_shared_2 : cX2_shared.data.toList.drop 48 = dktX2_shared_2 := dk_seg dksX2_shared_1 24 rfl rfl
theorem dksX2_shared_3 : cX2_shared.data.toList.drop 72 = dktX2_shared_3 := dk_seg dksX2_shared_2 24 rfl rfl
theorem dX2_shared_0 : decode cX2_shared 0 = .ok (.aload_n 0, 1) := dk_42 (dk_at dksX2_shared_0 0 rfl rfl)
theorem dX2_shared_1 : decode cX2_shared 1 = .ok (.iconst 0, 1) := dk_3 (dk_at dksX2_shared_0 1 rfl rfl)
theorem dX2_shared_2 : decode cX2_shared 2 = .ok (.putfield 60, 3) := dk_181 0 60 (dk_at dksX2_shared_0 2 rfl rfl)
theorem dX2_shared_5 : decode cX2_shared 5 = .ok (.aload_n 0, 1) := dk_42 (dk_at dksX2_shared_0 5 rfl rfl)
theorem dX2_shared_6 : decode cX2_shared 6 = .ok (.iload_n 1, 1) := dk_27 (dk_at dksX2_shared_0 6 rfl rfl)
theorem dX2_shared_7 : decode cX2_shared 7 = .ok (.invokevirtual 313, 3) := dk_182 1 57 (dk_at dksX2_shared_0 7 rfl rfl)
theorem dX2_shared_10 : decode cX2_shared 10 = .ok (.ifCond .eq 22, 3) := dk_153 0 22 (dk_at dksX2_shared_0 10 rfl rfl)
theorem dX2_shared_13 : decode cX2_shared 13 = .ok (.aload_n 0, 1) := dk_42 (dk_at dksX2_shared_0 13 rfl rfl)
theorem dX2_shared_14 : decode cX2_shared 14 = .ok (.iload_n 2, 1) := dk_28 (dk_at dksX2_shared_0 14 rfl rfl)
theorem dX2_shared_15 : decode cX2_shared 15 = .ok (.iload_n 3, 1) := dk_29 (dk_at dksX2_shared_0 15 rfl rfl)
theorem dX2_shared_16 : decode cX2_shared 16 = .ok (.invokevirtual 284, 3) := dk_182 1 28 (dk_at dksX2_shared_0 16 rfl rfl)
theorem dX2_shared_19 : decode cX2_shared 19 = .ok (.ifCond .eq 13, 3) := dk_153 0 13 (dk_at dksX2_shared_0 19 rfl rfl)
theorem dX2_shared_22 : decode cX2_shared 22 = .ok (.aload_n 0, 1) := dk_42 (dk_at dksX2_shared_0 22 rfl rfl)
theorem dX2_shared_23 : decode cX2_shared 23 = .ok (.iload_n 2, 1) := dk_28 (dk_at dksX2_shared_0 23 rfl rfl)
theorem dX2_shared_24 : decode cX2_shared 24 = .ok (.iload 4, 2) := dk_21 4 (dk_at dksX2_shared_1 0 rfl rfl)
theorem dX2_shared_26 : decode cX2_shared 26 = .ok (.invokevirtual 284, 3) := dk_182 1 28 (dk_at dksX2_shared_1 2 rfl rfl)
theorem dX2_shared_29 : decode cX2_shared 29 = .ok (.ifCond .ne 5, 3) := dk_154 0 5 (dk_at dksX2_shared_1 5 rfl rfl)
theorem dX2_shared_32 : decode cX2_shared 32 = .ok (.iconst (-1), 1) := dk_2 (dk_at dksX2_shared_1 8 rfl rfl)
theorem dX2_shared_33 : decode cX2_shared 33 = .ok (.ireturn, 1) := dk_172 (dk_at dksX2_shared_1 9 rfl rfl)
theorem dX2_shared_34 : decode cX2_shared 34 = .ok (.iconst 0, 1) := dk_3 (dk_at dksX2_shared_1 10 rfl rfl)
theorem dX2_shared_35 : decode cX2_shared 35 = .ok (.istore 5, 2) := dk_54 5 (dk_at dksX2_shared_1 11 rfl rfl)
theorem dX2_shared_37 : decode cX2_shared 37 = .ok (.iconst 0, 1) := dk_3 (dk_at dksX2_shared_1 13 rfl rfl)
theorem dX2_shared_38 : decode cX2_shared 38 = .ok (.istore 6, 2) := dk_54 6 (dk_at dksX2_shared_1 14 rfl rfl)
theorem dX2_shared_40 : decode cX2_shared 40 = .ok (.iload 6, 2) := dk_21 6 (dk_at dksX2_shared_1 16 rfl rfl)
theorem dX2_shared_42 : decode cX2_shared 42 = .ok (.aload_n 0, 1) := dk_42 (dk_at dksX2_shared_1 18 rfl rfl)
theorem dX2_shared_43 : decode cX2_shared 43 = .ok (.iload_n 2, 1) := dk_28 (dk_at dksX2_shared_1 19 rfl rfl)
theorem dX2_shared_44 : decode cX2_shared 44 = .ok (.iload_n 3, 1) := dk_29 (dk_at dksX2_shared_1 20 rfl rfl)
theorem dX2_shared_45 : decode cX2_shared 45 = .ok (.invokevirtual 269, 3) := dk_182 1 13 (dk_at dksX2_shared_1 21 rfl rfl)
theorem dX2_shared_48 : decode cX2_shared 48 = .ok (.if_icmp .ge 38, 3) := dk_162 0 38 (dk_at dksX2_shared_2 0 rfl rfl)
theorem dX2_shared_51 : decode cX2_shared 51 = .ok (.iload 5, 2) := dk_21 5 (dk_at dksX2_shared_2 3 rfl rfl)
theorem dX2_shared_53 : decode cX2_shared 53 = .ok (.aload_n 0, 1) := dk_42 (dk_at dksX2_shared_2 5 rfl rfl)
theorem dX2_shared_54 : decode cX2_shared 54 = .ok (.iload_n 2, 1) := dk_28 (dk_at dksX2_shared_2 6 rfl rfl)
theorem dX2_shared_55 : decode cX2_shared 55 = .ok (.iload 4, 2) := dk_21 4 (dk_at dksX2_shared_2 7 rfl rfl)
theorem dX2_shared_57 : decode cX2_shared 57 = .ok (.aload_n 0, 1) := dk_42 (dk_at dksX2_shared_2 9 rfl rfl)
theorem dX2_shared_58 : decode cX2_shared 58 = .ok (.iload_n 2, 1) := dk_28 (dk_at dksX2_shared_2 10 rfl rfl)
theorem dX2_shared_59 : decode cX2_shared 59 = .ok (.iload_n 3, 1) := dk_29 (dk_at dksX2_shared_2 11 rfl rfl)
theorem dX2_shared_60 : decode cX2_shared 60 = .ok (.iload 6, 2) := dk_21 6 (dk_at dksX2_shared_2 12 rfl rfl)
theorem dX2_shared_62 : decode cX2_shared 62 = .ok (.invokevirtual 262, 3) := dk_182 1 6 (dk_at dksX2_shared_2 14 rfl rfl)
theorem dX2_shared_65 : decode cX2_shared 65 = .ok (.invokevirtual 272, 3) := dk_182 1 16 (dk_at dksX2_shared_2 17 rfl rfl)
theorem dX2_shared_68 : decode cX2_shared 68 = .ok (.iconst (-1), 1) := dk_2 (dk_at dksX2_shared_2 20 rfl rfl)
theorem dX2_shared_69 : decode cX2_shared 69 = .ok (.if_icmp .ne 7, 3) := dk_160 0 7 (dk_at dksX2_shared_2 21 rfl rfl)
theorem dX2_shared_72 : decode cX2_shared 72 = .ok (.iconst 0, 1) := dk_3 (dk_at dksX2_shared_3 0 rfl rfl)
theorem dX2_shared_73 : decode cX2_shared 73 = .ok (.goto 4, 3) := dk_167 0 4 (dk_at dksX2_shared_3 1 rfl rfl)
theorem dX2_shared_76 : decode cX2_shared 76 = .ok (.iconst 1, 1) := dk_4 (dk_at dksX2_shared_3 4 rfl rfl)
theorem dX2_shared_77 : decode cX2_shared 77 = .ok (.iadd, 1) := dk_96 (dk_at dksX2_shared_3 5 rfl rfl)
theorem dX2_shared_78 : decode cX2_shared 78 = .ok (.istore 5, 2) := dk_54 5 (dk_at dksX2_shared_3 6 rfl rfl)
theorem dX2_shared_80 : decode cX2_shared 80 = .ok (.iinc 6 1, 3) := dk_132 6 1 (dk_at dksX2_shared_3 8 rfl rfl)
theorem dX2_shared_83 : decode cX2_shared 83 = .ok (.goto (-43), 3) := dk_167 255 213 (dk_at dksX2_shared_3 11 rfl rfl)
theorem dX2_shared_86 : decode cX2_shared 86 = .ok (.iload 5, 2) := dk_21 5 (dk_at dksX2_shared_3 14 rfl rfl)
theorem dX2_shared_88 : decode cX2_shared 88 = .ok (.ireturn, 1) := dk_172 (dk_at dksX2_shared_3 16 rfl rfl)
abbrev cX2_common : ByteArray := prog_25_method_84_code
def yX2_common : MethodName := ⟨RX2, "common", "(IIIII)I"⟩
def dkwX2_common_9 : List UInt8 := [167, 255, 137, 132, 8, 1, 167, 255, 121, 42, 180, 0, 47, 16, 21, 21, 6, 104, 21, 7, 96, 46, 172]
abbrev dktX2_common_9 : List UInt8 := dkwX2_common_9 ++ []
def dkwX2_common_8 : List UInt8 := [16, 21, 21, 8, 104, 16, 22, 100, 21, 9, 96, 46, 4, 96, 167, 0, 5, 21, 11, 79, 132, 9, 1]
abbrev dktX2_common_8 : List UInt8 := dkwX2_common_8 ++ dktX2_common_9
def dkwX2_common_7 : List UInt8 := [54, 11, 42, 180, 0, 47, 16, 21, 21, 8, 104, 21, 9, 96, 21, 10, 153, 0, 24, 42, 180, 0, 47]
abbrev dktX2_common_7 : List UInt8 := dkwX2_common_7 ++ dktX2_common_8
def dkwX2_common_6 : List UInt8 := [100, 21, 9, 96, 46, 42, 180, 0, 47, 16, 21, 21, 8, 104, 21, 9, 96, 4, 100, 46, 184, 1, 41]
abbrev dktX2_common_6 : List UInt8 := dkwX2_common_6 ++ dktX2_common_7
def dkwX2_common_5 : List UInt8 := [182, 1, 19, 160, 0, 7, 4, 167, 0, 4, 3, 54, 10, 42, 180, 0, 47, 16, 21, 21, 8, 104, 16, 21]
abbrev dktX2_common_5 : List UInt8 := dkwX2_common_5 ++ dktX2_common_6
def dkwX2_common_4 : List UInt8 := [163, 0, 118, 42, 28, 29, 21, 8, 4, 100, 182, 1, 19, 42, 21, 4, 21, 5, 21, 9, 4, 100]
abbrev dktX2_common_4 : List UInt8 := dkwX2_common_4 ++ dktX2_common_5
def dkwX2_common_3 : List UInt8 := [21, 5, 182, 1, 13, 54, 7, 4, 54, 8, 21, 8, 21, 6, 163, 0, 134, 4, 54, 9, 21, 9, 21, 7]
abbrev dktX2_common_3 : List UInt8 := dkwX2_common_3 ++ dktX2_common_4
def dkwX2_common_2 : List UInt8 := [180, 0, 47, 21, 6, 3, 79, 132, 6, 1, 167, 255, 237, 42, 28, 29, 182, 1, 13, 54, 6, 42, 21, 4]
abbrev dktX2_common_2 : List UInt8 := dkwX2_common_2 ++ dktX2_common_3
def dkwX2_common_1 : List UInt8 := [21, 4, 21, 5, 182, 1, 28, 154, 0, 5, 2, 172, 3, 54, 6, 21, 6, 17, 1, 185, 162, 0, 17, 42]
abbrev dktX2_common_1 : List UInt8 := dkwX2_common_1 ++ dktX2_common_2
def dkwX2_common_0 : List UInt8 := [42, 3, 181, 0, 60, 42, 27, 182, 1, 57, 153, 0, 23, 42, 28, 29, 182, 1, 28, 153, 0, 14, 42]
abbrev dktX2_common_0 : List UInt8 := dkwX2_common_0 ++ dktX2_common_1
theorem dksX2_common_0 : cX2_common.data.toList.drop 0 = dktX2_common_0 := by decide +kernel
theorem dksX2_common_1 : cX2_common.data.toList.drop 23 = dktX2_common_1 := dk_seg dksX2_common_0 23 rfl rfl
theorem dksX2_common_2 : cX2_common.data.toList.drop 47 = dktX2_common_2 := dk_seg dksX2_common_1 24 rfl rfl
theorem dksX2_common_3 : cX2_common.data.toList.drop 71 = dktX2_common_3 := dk_seg dksX2_common_2 24 rfl rfl
theorem dksX2_common_4 : cX2_common.data.toList.drop 95 = dktX2_common_4 := dk_seg dksX2_common_3 24 rfl rfl
theorem dksX2_common_5 : cX2_common.data.toList.drop 117 = dktX2_common_5 := dk_seg dksX2_common_4 22 rfl rfl
theorem dksX2_common_6 : cX2_common.data.toList.drop 141 = dktX2_common_6 := dk_seg dksX2_common_5 24 rfl rfl
theorem dksX2_common_7 : cX2_common.data.toList.drop 164 = dktX2_common_7 := dk_seg dksX2_common_6 23 rfl rfl
theorem dksX2_common_8 : cX2_common.data.toList.drop 187 = dktX2_common_8 := dk_seg dksX2_common_7 23 rfl rfl
theorem dksX2_common_9 : cX2_common.data.toList.drop 210 = dktX2_common_9 := dk_seg dksX2_common_8 23 rfl rfl
theorem dX2_common_0 : decode cX2_common 0 = .ok (.aload_n 0, 1) := dk_42 (dk_at dksX2_common_0 0 rfl rfl)
theorem dX2_common_1 : decode cX2_common 1 = .ok (.iconst 0, 1) := dk_3 (dk_at dksX2_common_0 1 rfl rfl)
theorem dX2_common_2 : decode cX2_common 2 = .ok (.putfield 60, 3) := dk_181 0 60 (dk_at dksX2_common_0 2 rfl rfl)
theorem dX2_common_5 : decode cX2_common 5 = .ok (.aload_n 0, 1) := dk_42 (dk_at dksX2_common_0 5 rfl rfl)
theorem dX2_common_6 : decode cX2_common 6 = .ok (.iload_n 1, 1) := dk_27 (dk_at dksX2_common_0 6 rfl rfl)
theorem dX2_common_7 : decode cX2_common 7 = .ok (.invokevirtual 313, 3) := dk_182 1 57 (dk_at dksX2_common_0 7 rfl rfl)
theorem dX2_common_10 : decode cX2_common 10 = .ok (.ifCond .eq 23, 3) := dk_153 0 23 (dk_at dksX2_common_0 10 rfl rfl)
theorem dX2_common_13 : decode cX2_common 13 = .ok (.aload_n 0, 1) := dk_42 (dk_at dksX2_common_0 13 rfl rfl)
theorem dX2_common_14 : decode cX2_common 14 = .ok (.iload_n 2, 1) := dk_28 (dk_at dksX2_common_0 14 rfl rfl)
theorem dX2_common_15 : decode cX2_common 15 = .ok (.iload_n 3, 1) := dk_29 (dk_at dksX2_common_0 15 rfl rfl)
theorem dX2_common_16 : decode cX2_common 16 = .ok (.invokevirtual 284, 3) := dk_182 1 28 (dk_at dksX2_common_0 16 rfl rfl)
theorem dX2_common_19 : decode cX2_common 19 = .ok (.ifCond .eq 14, 3) := dk_153 0 14 (dk_at dksX2_common_0 19 rfl rfl)
theorem dX2_common_22 : decode cX2_common 22 = .ok (.aload_n 0, 1) := dk_42 (dk_at dksX2_common_0 22 rfl rfl)
theorem dX2_common_23 : decode cX2_common 23 = .ok (.iload 4, 2) := dk_21 4 (dk_at dksX2_common_1 0 rfl rfl)
theorem dX2_common_25 : decode cX2_common 25 = .ok (.iload 5, 2) := dk_21 5 (dk_at dksX2_common_1 2 rfl rfl)
theorem dX2_common_27 : decode cX2_common 27 = .ok (.invokevirtual 284, 3) := dk_182 1 28 (dk_at dksX2_common_1 4 rfl rfl)
theorem dX2_common_30 : decode cX2_common 30 = .ok (.ifCond .ne 5, 3) := dk_154 0 5 (dk_at dksX2_common_1 7 rfl rfl)
theorem dX2_common_33 : decode cX2_common 33 = .ok (.iconst (-1), 1) := dk_2 (dk_at dksX2_common_1 10 rfl rfl)
theorem dX2_common_34 : decode cX2_common 34 = .ok (.ireturn, 1) := dk_172 (dk_at dksX2_common_1 11 rfl rfl)
theorem dX2_common_35 : decode cX2_common 35 = .ok (.iconst 0, 1) := dk_3 (dk_at dksX2_common_1 12 rfl rfl)
theorem dX2_common_36 : decode cX2_common 36 = .ok (.istore 6, 2) := dk_54 6 (dk_at dksX2_common_1 13 rfl rfl)
theorem dX2_common_38 : decode cX2_common 38 = .ok (.iload 6, 2) := dk_21 6 (dk_at dksX2_common_1 15 rfl rfl)
theorem dX2_common_40 : decode cX2_common 40 = .ok (.sipush 441, 3) := dk_17 1 185 (dk_at dksX2_common_1 17 rfl rfl)
theorem dX2_common_43 : decode cX2_common 43 = .ok (.if_icmp .ge 17, 3) := dk_162 0 17 (dk_at dksX2_common_1 20 rfl rfl)
theorem dX2_common_46 : decode cX2_common 46 = .ok (.aload_n 0, 1) := dk_42 (dk_at dksX2_common_1 23 rfl rfl)
theorem dX2_common_47 : decode cX2_common 47 = .ok (.getfield 47, 3) := dk_180 0 47 (dk_at dksX2_common_2 0 rfl rfl)
theorem dX2_common_50 : decode cX2_common 50 = .ok (.iload 6, 2) := dk_21 6 (dk_at dksX2_common_2 3 rfl rfl)
theorem dX2_common_52 : decode cX2_common 52 = .ok (.iconst 0, 1) := dk_3 (dk_at dksX2_common_2 5 rfl rfl)
theorem dX2_common_53 : decode cX2_common 53 = .ok (.iastore, 1) := dk_79 (dk_at dksX2_common_2 6 rfl rfl)
theorem dX2_common_54 : decode cX2_common 54 = .ok (.iinc 6 1, 3) := dk_132 6 1 (dk_at dksX2_common_2 7 rfl rfl)
theorem dX2_common_57 : decode cX2_common 57 = .ok (.goto (-19), 3) := dk_167 255 237 (dk_at dksX2_common_2 10 rfl rfl)
theorem dX2_common_60 : decode cX2_common 60 = .ok (.aload_n 0, 1) := dk_42 (dk_at dksX2_common_2 13 rfl rfl)
theorem dX2_common_61 : decode cX2_common 61 = .ok (.iload_n 2, 1) := dk_28 (dk_at dksX2_common_2 14 rfl rfl)
theorem dX2_common_62 : decode cX2_common 62 = .ok (.iload_n 3, 1) := dk_29 (dk_at dksX2_common_2 15 rfl rfl)
theorem dX2_common_63 : decode cX2_common 63 = .ok (.invokevirtual 269, 3) := dk_182 1 13 (dk_at dksX2_common_2 16 rfl rfl)
theorem dX2_common_66 : decode cX2_common 66 = .ok (.istore 6, 2) := dk_54 6 (dk_at dksX2_common_2 19 rfl rfl)
theorem dX2_common_68 : decode cX2_common 68 = .ok (.aload_n 0, 1) := dk_42 (dk_at dksX2_common_2 21 rfl rfl)
theorem dX2_common_69 : decode cX2_common 69 = .ok (.iload 4, 2) := dk_21 4 (dk_at dksX2_common_2 22 rfl rfl)
theorem dX2_common_71 : decode cX2_common 71 = .ok (.iload 5, 2) := dk_21 5 (dk_at dksX2_common_3 0 rfl rfl)
theorem dX2_common_73 : decode cX2_common 73 = .ok (.invokevirtual 269, 3) := dk_182 1 13 (dk_at dksX2_common_3 2 rfl rfl)
theorem dX2_common_76 : decode cX2_common 76 = .ok (.istore 7, 2) := dk_54 7 (dk_at dksX2_common_3 5 rfl rfl)
theorem dX2_common_78 : decode cX2_common 78 = .ok (.iconst 1, 1) := dk_4 (dk_at dksX2_common_3 7 rfl rfl)
theorem dX2_common_79 : decode cX2_common 79 = .ok (.istore 8, 2) := dk_54 8 (dk_at dksX2_common_3 8 rfl rfl)
theorem dX2_common_81 : decode cX2_common 81 = .ok (.iload 8, 2) := dk_21 8 (dk_at dksX2_common_3 10 rfl rfl)
theorem dX2_common_83 : decode cX2_common 83 = .ok (.iload 6, 2) := dk_21 6 (dk_at dksX2_common_3 12 rfl rfl)
theorem dX2_common_85 : decode cX2_common 85 = .ok (.if_icmp .gt 134, 3) := dk_163 0 134 (dk_at dksX2_common_3 14 rfl rfl)
theorem dX2_common_88 : decode cX2_common 88 = .ok (.iconst 1, 1) := dk_4 (dk_at dksX2_common_3 17 rfl rfl)
theorem dX2_common_89 : decode cX2_common 89 = .ok (.istore 9, 2) := dk_54 9 (dk_at dksX2_common_3 18 rfl rfl)
theorem dX2_common_91 : decode cX2_common 91 = .ok (.iload 9, 2) := dk_21 9 (dk_at dksX2_common_3 20 rfl rfl)
theorem dX2_common_93 : decode cX2_common 93 = .ok (.iload 7, 2) := dk_21 7 (dk_at dksX2_common_3 22 rfl rfl)
theorem dX2_common_95 : decode cX2_common 95 = .ok (.if_icmp .gt 118, 3) := dk_163 0 118 (dk_at dksX2_common_4 0 rfl rfl)
theorem dX2_common_98 : decode cX2_common 98 = .ok (.aload_n 0, 1) := dk_42 (dk_at dksX2_common_4 3 rfl rfl)
theorem dX2_common_99 : decode cX2_common 99 = .ok (.iload_n 2, 1) := dk_28 (dk_at dksX2_common_4 4 rfl rfl)
theorem dX2_common_100 : decode cX2_common 100 = .ok (.iload_n 3, 1) := dk_29 (dk_at dksX2_common_4 5 rfl rfl)
theorem dX2_common_101 : decode cX2_common 101 = .ok (.iload 8, 2) := dk_21 8 (dk_at dksX2_common_4 6 rfl rfl)
theorem dX2_common_103 : decode cX2_common 103 = .ok (.iconst 1, 1) := dk_4 (dk_at dksX2_common_4 8 rfl rfl)
theorem dX2_common_104 : decode cX2_common 104 = .ok (.isub, 1) := dk_100 (dk_at dksX2_common_4 9 rfl rfl)
theorem dX2_common_105 : decode cX2_common 105 = .ok (.invokevirtual 275, 3) := dk_182 1 19 (dk_at dksX2_common_4 10 rfl rfl)
theorem dX2_common_108 : decode cX2_common 108 = .ok (.aload_n 0, 1) := dk_42 (dk_at dksX2_common_4 13 rfl rfl)
theorem dX2_common_109 : decode cX2_common 109 = .ok (.iload 4, 2) := dk_21 4 (dk_at dksX2_common_4 14 rfl rfl)
theorem dX2_common_111 : decode cX2_common 111 = .ok (.iload 5, 2) := dk_21 5 (dk_at dksX2_common_4 16 rfl rfl)
theorem dX2_common_113 : decode cX2_common 113 = .ok (.iload 9, 2) := dk_21 9 (dk_at dksX2_common_4 18 rfl rfl)
theorem dX2_common_115 : decode cX2_common 115 = .ok (.iconst 1, 1) := dk_4 (dk_at dksX2_common_4 20 rfl rfl)
theorem dX2_common_116 : decode cX2_common 116 = .ok (.isub, 1) := dk_100 (dk_at dksX2_common_4 21 rfl rfl)
theorem dX2_common_117 : decode cX2_common 117 = .ok (.invokevirtual 275, 3) := dk_182 1 19 (dk_at dksX2_common_5 0 rfl rfl)
theorem dX2_common_120 : decode cX2_common 120 = .ok (.if_icmp .ne 7, 3) := dk_160 0 7 (dk_at dksX2_common_5 3 rfl rfl)
theorem dX2_common_123 : decode cX2_common 123 = .ok (.iconst 1, 1) := dk_4 (dk_at dksX2_common_5 6 rfl rfl)
theorem dX2_common_124 : decode cX2_common 124 = .ok (.goto 4, 3) := dk_167 0 4 (dk_at dksX2_common_5 7 rfl rfl)
theorem dX2_common_127 : decode cX2_common 127 = .ok (.iconst 0, 1) := dk_3 (dk_at dksX2_common_5 10 rfl rfl)
theorem dX2_common_128 : decode cX2_common 128 = .ok (.istore 10, 2) := dk_54 10 (dk_at dksX2_common_5 11 rfl rfl)
theorem dX2_common_130 : decode cX2_common 130 = .ok (.aload_n 0, 1) := dk_42 (dk_at dksX2_common_5 13 rfl rfl)
theorem dX2_common_131 : decode cX2_common 131 = .ok (.getfield 47, 3) := dk_180 0 47 (dk_at dksX2_common_5 14 rfl rfl)
theorem dX2_common_134 : decode cX2_common 134 = .ok (.bipush 21, 2) := dk_16 21 (dk_at dksX2_common_5 17 rfl rfl)
theorem dX2_common_136 : decode cX2_common 136 = .ok (.iload 8, 2) := dk_21 8 (dk_at dksX2_common_5 19 rfl rfl)
theorem dX2_common_138 : decode cX2_common 138 = .ok (.imul, 1) := dk_104 (dk_at dksX2_common_5 21 rfl rfl)
theorem dX2_common_139 : decode cX2_common 139 = .ok (.bipush 21, 2) := dk_16 21 (dk_at dksX2_common_5 22 rfl rfl)
theorem dX2_common_141 : decode cX2_common 141 = .ok (.isub, 1) := dk_100 (dk_at dksX2_common_6 0 rfl rfl)
theorem dX2_common_142 : decode cX2_common 142 = .ok (.iload 9, 2) := dk_21 9 (dk_at dksX2_common_6 1 rfl rfl)
theorem dX2_common_144 : decode cX2_common 144 = .ok (.iadd, 1) := dk_96 (dk_at dksX2_common_6 3 rfl rfl)
theorem dX2_common_145 : decode cX2_common 145 = .ok (.iaload, 1) := dk_46 (dk_at dksX2_common_6 4 rfl rfl)
theorem dX2_common_146 : decode cX2_common 146 = .ok (.aload_n 0, 1) := dk_42 (dk_at dksX2_common_6 5 rfl rfl)
theorem dX2_common_147 : decode cX2_common 147 = .ok (.getfield 47, 3) := dk_180 0 47 (dk_at dksX2_common_6 6 rfl rfl)
theorem dX2_common_150 : decode cX2_common 150 = .ok (.bipush 21, 2) := dk_16 21 (dk_at dksX2_common_6 9 rfl rfl)
theorem dX2_common_152 : decode cX2_common 152 = .ok (.iload 8, 2) := dk_21 8 (dk_at dksX2_common_6 11 rfl rfl)
theorem dX2_common_154 : decode cX2_common 154 = .ok (.imul, 1) := dk_104 (dk_at dksX2_common_6 13 rfl rfl)
theorem dX2_common_155 : decode cX2_common 155 = .ok (.iload 9, 2) := dk_21 9 (dk_at dksX2_common_6 14 rfl rfl)
theorem dX2_common_157 : decode cX2_common 157 = .ok (.iadd, 1) := dk_96 (dk_at dksX2_common_6 16 rfl rfl)
theorem dX2_common_158 : decode cX2_common 158 = .ok (.iconst 1, 1) := dk_4 (dk_at dksX2_common_6 17 rfl rfl)
theorem dX2_common_159 : decode cX2_common 159 = .ok (.isub, 1) := dk_100 (dk_at dksX2_common_6 18 rfl rfl)
theorem dX2_common_160 : decode cX2_common 160 = .ok (.iaload, 1) := dk_46 (dk_at dksX2_common_6 19 rfl rfl)
theorem dX2_common_161 : decode cX2_common 161 = .ok (.invokestatic 297, 3) := dk_184 1 41 (dk_at dksX2_common_6 20 rfl rfl)
theorem dX2_common_164 : decode cX2_common 164 = .ok (.istore 11, 2) := dk_54 11 (dk_at dksX2_common_7 0 rfl rfl)
theorem dX2_common_166 : decode cX2_common 166 = .ok (.aload_n 0, 1) := dk_42 (dk_at dksX2_common_7 2 rfl rfl)
theorem dX2_common_167 : decode cX2_common 167 = .ok (.getfield 47, 3) := dk_180 0 47 (dk_at dksX2_common_7 3 rfl rfl)
theorem dX2_common_170 : decode cX2_common 170 = .ok (.bipush 21, 2) := dk_16 21 (dk_at dksX2_common_7 6 rfl rfl)
theorem dX2_common_172 : decode cX2_common 172 = .ok (.iload 8, 2) := dk_21 8 (dk_at dksX2_common_7 8 rfl rfl)
theorem dX2_common_174 : decode cX2_common 174 = .ok (.imul, 1) := dk_104 (dk_at dksX2_common_7 10 rfl rfl)
theorem dX2_common_175 : decode cX2_common 175 = .ok (.iload 9, 2) := dk_21 9 (dk_at dksX2_common_7 11 rfl rfl)
theorem dX2_common_177 : decode cX2_common 177 = .ok (.iadd, 1) := dk_96 (dk_at dksX2_common_7 13 rfl rfl)
theorem dX2_common_178 : decode cX2_common 178 = .ok (.iload 10, 2) := dk_21 10 (dk_at dksX2_common_7 14 rfl rfl)
theorem dX2_common_180 : decode cX2_common 180 = .ok (.ifCond .eq 24, 3) := dk_153 0 24 (dk_at dksX2_common_7 16 rfl rfl)
theorem dX2_common_183 : decode cX2_common 183 = .ok (.aload_n 0, 1) := dk_42 (dk_at dksX2_common_7 19 rfl rfl)
theorem dX2_common_184 : decode cX2_common 184 = .ok (.getfield 47, 3) := dk_180 0 47 (dk_at dksX2_common_7 20 rfl rfl)
theorem dX2_common_187 : decode cX2_common 187 = .ok (.bipush 21, 2) := dk_16 21 (dk_at dksX2_common_8 0 rfl rfl)
theorem dX2_common_189 : decode cX2_common 189 = .ok (.iload 8, 2) := dk_21 8 (dk_at dksX2_common_8 2 rfl rfl)
theorem dX2_common_191 : decode cX2_common 191 = .ok (.imul, 1) := dk_104 (dk_at dksX2_common_8 4 rfl rfl)
theorem dX2_common_192 : decode cX2_common 192 = .ok (.bipush 22, 2) := dk_16 22 (dk_at dksX2_common_8 5 rfl rfl)
theorem dX2_common_194 : decode cX2_common 194 = .ok (.isub, 1) := dk_100 (dk_at dksX2_common_8 7 rfl rfl)
theorem dX2_common_195 : decode cX2_common 195 = .ok (.iload 9, 2) := dk_21 9 (dk_at dksX2_common_8 8 rfl rfl)
theorem dX2_common_197 : decode cX2_common 197 = .ok (.iadd, 1) := dk_96 (dk_at dksX2_common_8 10 rfl rfl)
theorem dX2_common_198 : decode cX2_common 198 = .ok (.iaload, 1) := dk_46 (dk_at dksX2_common_8 11 rfl rfl)
theorem dX2_common_199 : decode cX2_common 199 = .ok (.iconst 1, 1) := dk_4 (dk_at dksX2_common_8 12 rfl rfl)
theorem dX2_common_200 : decode cX2_common 200 = .ok (.iadd, 1) := dk_96 (dk_at dksX2_common_8 13 rfl rfl)
theorem dX2_common_201 : decode cX2_common 201 = .ok (.goto 5, 3) := dk_167 0 5 (dk_at dksX2_common_8 14 rfl rfl)
theorem dX2_common_204 : decode cX2_common 204 = .ok (.iload 11, 2) := dk_21 11 (dk_at dksX2_common_8 17 rfl rfl)
theorem dX2_common_206 : decode cX2_common 206 = .ok (.iastore, 1) := dk_79 (dk_at dksX2_common_8 19 rfl rfl)
theorem dX2_common_207 : decode cX2_common 207 = .ok (.iinc 9 1, 3) := dk_132 9 1 (dk_at dksX2_common_8 20 rfl rfl)
theorem dX2_common_210 : decode cX2_common 210 = .ok (.goto (-119), 3) := dk_167 255 137 (dk_at dksX2_common_9 0 rfl rfl)
theorem dX2_common_213 : decode cX2_common 213 = .ok (.iinc 8 1, 3) := dk_132 8 1 (dk_at dksX2_common_9 3 rfl rfl)
theorem dX2_common_216 : decode cX2_common 216 = .ok (.goto (-135), 3) := dk_167 255 121 (dk_at dksX2_common_9 6 rfl rfl)
theorem dX2_common_219 : decode cX2_common 219 = .ok (.aload_n 0, 1) := dk_42 (dk_at dksX2_common_9 9 rfl rfl)
theorem dX2_common_220 : decode cX2_common 220 = .ok (.getfield 47, 3) := dk_180 0 47 (dk_at dksX2_common_9 10 rfl rfl)
theorem dX2_common_223 : decode cX2_common 223 = .ok (.bipush 21, 2) := dk_16 21 (dk_at dksX2_common_9 13 rfl rfl)
theorem dX2_common_225 : decode cX2_common 225 = .ok (.iload 6, 2) := dk_21 6 (dk_at dksX2_common_9 15 rfl rfl)
theorem dX2_common_227 : decode cX2_common 227 = .ok (.imul, 1) := dk_104 (dk_at dksX2_common_9 17 rfl rfl)
theorem dX2_common_228 : decode cX2_common 228 = .ok (.iload 7, 2) := dk_21 7 (dk_at dksX2_common_9 18 rfl rfl)
theorem dX2_common_230 : decode cX2_common 230 = .ok (.iadd, 1) := dk_96 (dk_at dksX2_common_9 20 rfl rfl)
theorem dX2_common_231 : decode cX2_common 231 = .ok (.iaload, 1) := dk_46 (dk_at dksX2_common_9 21 rfl rfl)
theorem dX2_common_232 : decode cX2_common 232 = .ok (.ireturn, 1) := dk_172 (dk_at dksX2_common_9 22 rfl rfl)
abbrev cX2_question : ByteArray := prog_25_method_89_code
def yX2_question : MethodName := ⟨RX2, "question", "(III)I"⟩
def dkwX2_question_4 : List UInt8 := [153, 0, 12, 42, 28, 29, 182, 1, 115, 167, 0, 5, 16, 254, 172]
abbrev dktX2_question_4 : List UInt8 := dkwX2_question_4 ++ []
def dkwX2_question_3 : List UInt8 := [42, 28, 6, 29, 96, 16, 10, 100, 182, 1, 115, 167, 0, 5, 16, 254, 172, 29, 3, 5, 184, 0, 72]
abbrev dktX2_question_3 : List UInt8 := dkwX2_question_3 ++ dktX2_question_4
def dkwX2_question_2 : List UInt8 := [154, 0, 6, 16, 254, 172, 29, 16, 10, 161, 0, 32, 29, 16, 10, 100, 42, 28, 182, 1, 124, 162, 0, 17]
abbrev dktX2_question_2 : List UInt8 := dkwX2_question_2 ++ dktX2_question_3
def dkwX2_question_1 : List UInt8 := [154, 0, 10, 42, 182, 1, 121, 167, 0, 5, 16, 254, 172, 28, 3, 42, 182, 1, 121, 4, 100, 184, 0, 72]
abbrev dktX2_question_1 : List UInt8 := dkwX2_question_1 ++ dktX2_question_2
def dkwX2_question_0 : List UInt8 := [42, 3, 181, 0, 60, 42, 27, 182, 1, 118, 154, 0, 6, 16, 254, 172, 28, 2, 160, 0, 17, 29]
abbrev dktX2_question_0 : List UInt8 := dkwX2_question_0 ++ dktX2_question_1
theorem dksX2_question_0 : cX2_question.data.toList.drop 0 = dktX2_question_0 := by decide +kernel
theorem dksX2_question_1 : cX2_question.data.toList.drop 22 = dktX2_question_1 := dk_seg dksX2_question_0 22 rfl rfl
theorem dksX2_question_2 : cX2_question.data.toList.drop 46 = dktX2_question_2 := dk_seg dksX2_question_1 24 rfl rfl
theorem dksX2_question_3 : cX2_question.data.toList.drop 70 = dktX2_question_3 := dk_seg dksX2_question_2 24 rfl rfl
theorem dksX2_question_4 : cX2_question.data.toList.drop 93 = dktX2_question_4 := dk_seg dksX2_question_3 23 rfl rfl
theorem dX2_question_0 : decode cX2_question 0 = .ok (.aload_n 0, 1) := dk_42 (dk_at dksX2_question_0 0 rfl rfl)
theorem dX2_question_1 : decode cX2_question 1 = .ok (.iconst 0, 1) := dk_3 (dk_at dksX2_question_0 1 rfl rfl)
theorem dX2_question_2 : decode cX2_question 2 = .ok (.putfield 60, 3) := dk_181 0 60 (dk_at dksX2_question_0 2 rfl rfl)
theorem dX2_question_5 : decode cX2_question 5 = .ok (.aload_n 0, 1) := dk_42 (dk_at dksX2_question_0 5 rfl rfl)
theorem dX2_question_6 : decode cX2_question 6 = .ok (.iload_n 1, 1) := dk_27 (dk_at dksX2_question_0 6 rfl rfl)
theorem dX2_question_7 : decode cX2_question 7 = .ok (.invokevirtual 374, 3) := dk_182 1 118 (dk_at dksX2_question_0 7 rfl rfl)
theorem dX2_question_10 : decode cX2_question 10 = .ok (.ifCond .ne 6, 3) := dk_154 0 6 (dk_at dksX2_question_0 10 rfl rfl)
theorem dX2_question_13 : decode cX2_question 13 = .ok (.bipush (-2), 2) := dk_16 254 (dk_at dksX2_question_0 13 rfl rfl)
theorem dX2_question_15 : decode cX2_question 15 = .ok (.ireturn, 1) := dk_172 (dk_at dksX2_question_0 15 rfl rfl)
theorem dX2_question_16 : decode cX2_question 16 = .ok (.iload_n 2, 1) := dk_28 (dk_at dksX2_question_0 16 rfl rfl)
theorem dX2_question_17 : decode cX2_question 17 = .ok (.iconst (-1), 1) := dk_2 (dk_at dksX2_question_0 17 rfl rfl)
theorem dX2_question_18 : decode cX2_question 18 = .ok (.if_icmp .ne 17, 3) := dk_160 0 17 (dk_at dksX2_question_0 18 rfl rfl)
theorem dX2_question_21 : decode cX2_question 21 = .ok (.iload_n 3, 1) := dk_29 (dk_at dksX2_question_0 21 rfl rfl)
theorem dX2_question_22 : decode cX2_question 22 = .ok (.ifCond .ne 10, 3) := dk_154 0 10 (dk_at dksX2_question_1 0 rfl rfl)
theorem dX2_question_25 : decode cX2_question 25 = .ok (.aload_n 0, 1) := dk_42 (dk_at dksX2_question_1 3 rfl rfl)
theorem dX2_question_26 : decode cX2_question 26 = .ok (.invokevirtual 377, 3) := dk_182 1 121 (dk_at dksX2_question_1 4 rfl rfl)
theorem dX2_question_29 : decode cX2_question 29 = .ok (.goto 5, 3) := dk_167 0 5 (dk_at dksX2_question_1 7 rfl rfl)
theorem dX2_question_32 : decode cX2_question 32 = .ok (.bipush (-2), 2) := dk_16 254 (dk_at dksX2_question_1 10 rfl rfl)
theorem dX2_question_34 : decode cX2_question 34 = .ok (.ireturn, 1) := dk_172 (dk_at dksX2_question_1 12 rfl rfl)
theorem dX2_question_35 : decode cX2_question 35 = .ok (.iload_n 2, 1) := dk_28 (dk_at dksX2_question_1 13 rfl rfl)
theorem dX2_question_36 : decode cX2_question 36 = .ok (.iconst 0, 1) := dk_3 (dk_at dksX2_question_1 14 rfl rfl)
theorem dX2_question_37 : decode cX2_question 37 = .ok (.aload_n 0, 1) := dk_42 (dk_at dksX2_question_1 15 rfl rfl)
theorem dX2_question_38 : decode cX2_question 38 = .ok (.invokevirtual 377, 3) := dk_182 1 121 (dk_at dksX2_question_1 16 rfl rfl)
theorem dX2_question_41 : decode cX2_question 41 = .ok (.iconst 1, 1) := dk_4 (dk_at dksX2_question_1 19 rfl rfl)
theorem dX2_question_42 : decode cX2_question 42 = .ok (.isub, 1) := dk_100 (dk_at dksX2_question_1 20 rfl rfl)
theorem dX2_question_43 : decode cX2_question 43 = .ok (.invokestatic 72, 3) := dk_184 0 72 (dk_at dksX2_question_1 21 rfl rfl)
theorem dX2_question_46 : decode cX2_question 46 = .ok (.ifCond .ne 6, 3) := dk_154 0 6 (dk_at dksX2_question_2 0 rfl rfl)
theorem dX2_question_49 : decode cX2_question 49 = .ok (.bipush (-2), 2) := dk_16 254 (dk_at dksX2_question_2 3 rfl rfl)
theorem dX2_question_51 : decode cX2_question 51 = .ok (.ireturn, 1) := dk_172 (dk_at dksX2_question_2 5 rfl rfl)
theorem dX2_question_52 : decode cX2_question 52 = .ok (.iload_n 3, 1) := dk_29 (dk_at dksX2_question_2 6 rfl rfl)
theorem dX2_question_53 : decode cX2_question 53 = .ok (.bipush 10, 2) := dk_16 10 (dk_at dksX2_question_2 7 rfl rfl)
theorem dX2_question_55 : decode cX2_question 55 = .ok (.if_icmp .lt 32, 3) := dk_161 0 32 (dk_at dksX2_question_2 9 rfl rfl)
theorem dX2_question_58 : decode cX2_question 58 = .ok (.iload_n 3, 1) := dk_29 (dk_at dksX2_question_2 12 rfl rfl)
theorem dX2_question_59 : decode cX2_question 59 = .ok (.bipush 10, 2) := dk_16 10 (dk_at dksX2_question_2 13 rfl rfl)
theorem dX2_question_61 : decode cX2_question 61 = .ok (.isub, 1) := dk_100 (dk_at dksX2_question_2 15 rfl rfl)
theorem dX2_question_62 : decode cX2_question 62 = .ok (.aload_n 0, 1) := dk_42 (dk_at dksX2_question_2 16 rfl rfl)
theorem dX2_question_63 : decode cX2_question 63 = .ok (.iload_n 2, 1) := dk_28 (dk_at dksX2_question_2 17 rfl rfl)
theorem dX2_question_64 : decode cX2_question 64 = .ok (.invokevirtual 380, 3) := dk_182 1 124 (dk_at dksX2_question_2 18 rfl rfl)
theorem dX2_question_67 : decode cX2_question 67 = .ok (.if_icmp .ge 17, 3) := dk_162 0 17 (dk_at dksX2_question_2 21 rfl rfl)
theorem dX2_question_70 : decode cX2_question 70 = .ok (.aload_n 0, 1) := dk_42 (dk_at dksX2_question_3 0 rfl rfl)
theorem dX2_question_71 : decode cX2_question 71 = .ok (.iload_n 2, 1) := dk_28 (dk_at dksX2_question_3 1 rfl rfl)
theorem dX2_question_72 : decode cX2_question 72 = .ok (.iconst 3, 1) := dk_6 (dk_at dksX2_question_3 2 rfl rfl)
theorem dX2_question_73 : decode cX2_question 73 = .ok (.iload_n 3, 1) := dk_29 (dk_at dksX2_question_3 3 rfl rfl)
theorem dX2_question_74 : decode cX2_question 74 = .ok (.iadd, 1) := dk_96 (dk_at dksX2_question_3 4 rfl rfl)
theorem dX2_question_75 : decode cX2_question 75 = .ok (.bipush 10, 2) := dk_16 10 (dk_at dksX2_question_3 5 rfl rfl)
theorem dX2_question_77 : decode cX2_question 77 = .ok (.isub, 1) := dk_100 (dk_at dksX2_question_3 7 rfl rfl)
theorem dX2_question_78 : decode cX2_question 78 = .ok (.invokevirtual 371, 3) := dk_182 1 115 (dk_at dksX2_question_3 8 rfl rfl)
theorem dX2_question_81 : decode cX2_question 81 = .ok (.goto 5, 3) := dk_167 0 5 (dk_at dksX2_question_3 11 rfl rfl)
theorem dX2_question_84 : decode cX2_question 84 = .ok (.bipush (-2), 2) := dk_16 254 (dk_at dksX2_question_3 14 rfl rfl)
theorem dX2_question_86 : decode cX2_question 86 = .ok (.ireturn, 1) := dk_172 (dk_at dksX2_question_3 16 rfl rfl)
theorem dX2_question_87 : decode cX2_question 87 = .ok (.iload_n 3, 1) := dk_29 (dk_at dksX2_question_3 17 rfl rfl)
theorem dX2_question_88 : decode cX2_question 88 = .ok (.iconst 0, 1) := dk_3 (dk_at dksX2_question_3 18 rfl rfl)
theorem dX2_question_89 : decode cX2_question 89 = .ok (.iconst 2, 1) := dk_5 (dk_at dksX2_question_3 19 rfl rfl)
theorem dX2_question_90 : decode cX2_question 90 = .ok (.invokestatic 72, 3) := dk_184 0 72 (dk_at dksX2_question_3 20 rfl rfl)
theorem dX2_question_93 : decode cX2_question 93 = .ok (.ifCond .eq 12, 3) := dk_153 0 12 (dk_at dksX2_question_4 0 rfl rfl)
theorem dX2_question_96 : decode cX2_question 96 = .ok (.aload_n 0, 1) := dk_42 (dk_at dksX2_question_4 3 rfl rfl)
theorem dX2_question_97 : decode cX2_question 97 = .ok (.iload_n 2, 1) := dk_28 (dk_at dksX2_question_4 4 rfl rfl)
theorem dX2_question_98 : decode cX2_question 98 = .ok (.iload_n 3, 1) := dk_29 (dk_at dksX2_question_4 5 rfl rfl)
theorem dX2_question_99 : decode cX2_question 99 = .ok (.invokevirtual 371, 3) := dk_182 1 115 (dk_at dksX2_question_4 6 rfl rfl)
theorem dX2_question_102 : decode cX2_question 102 = .ok (.goto 5, 3) := dk_167 0 5 (dk_at dksX2_question_4 9 rfl rfl)
theorem dX2_question_105 : decode cX2_question 105 = .ok (.bipush (-2), 2) := dk_16 254 (dk_at dksX2_question_4 12 rfl rfl)
theorem dX2_question_107 : decode cX2_question 107 = .ok (.ireturn, 1) := dk_172 (dk_at dksX2_question_4 14 rfl rfl)
abbrev cX2_hasAsking : ByteArray := prog_25_method_87_code
def yX2_hasAsking : MethodName := ⟨RX2, "hasAsking", "(I)Z"⟩
def dkwX2_hasAsking_0 : List UInt8 := [42, 27, 181, 1, 112, 42, 4, 27, 182, 0, 243, 172]
abbrev dktX2_hasAsking_0 : List UInt8 := dkwX2_hasAsking_0 ++ []
theorem dksX2_hasAsking_0 : cX2_hasAsking.data.toList.drop 0 = dktX2_hasAsking_0 := by decide +kernel
theorem dX2_hasAsking_0 : decode cX2_hasAsking 0 = .ok (.aload_n 0, 1) := dk_42 (dk_at dksX2_hasAsking_0 0 rfl rfl)
theorem dX2_hasAsking_1 : decode cX2_hasAsking 1 = .ok (.iload_n 1, 1) := dk_27 (dk_at dksX2_hasAsking_0 1 rfl rfl)
theorem dX2_hasAsking_2 : decode cX2_hasAsking 2 = .ok (.putfield 368, 3) := dk_181 1 112 (dk_at dksX2_hasAsking_0 2 rfl rfl)
theorem dX2_hasAsking_5 : decode cX2_hasAsking 5 = .ok (.aload_n 0, 1) := dk_42 (dk_at dksX2_hasAsking_0 5 rfl rfl)
theorem dX2_hasAsking_6 : decode cX2_hasAsking 6 = .ok (.iconst 1, 1) := dk_4 (dk_at dksX2_hasAsking_0 6 rfl rfl)
theorem dX2_hasAsking_7 : decode cX2_hasAsking 7 = .ok (.iload_n 1, 1) := dk_27 (dk_at dksX2_hasAsking_0 7 rfl rfl)
theorem dX2_hasAsking_8 : decode cX2_hasAsking 8 = .ok (.invokevirtual 243, 3) := dk_182 0 243 (dk_at dksX2_hasAsking_0 8 rfl rfl)
theorem dX2_hasAsking_11 : decode cX2_hasAsking 11 = .ok (.ireturn, 1) := dk_172 (dk_at dksX2_hasAsking_0 11 rfl rfl)
abbrev cX2_askedMany : ByteArray := prog_25_method_85_code
def yX2_askedMany : MethodName := ⟨RX2, "askedMany", "()I"⟩
def dkwX2_askedMany_0 : List UInt8 := [42, 180, 0, 29, 16, 57, 42, 180, 1, 112, 104, 46, 172]
abbrev dktX2_askedMany_0 : List UInt8 := dkwX2_askedMany_0 ++ []
theorem dksX2_askedMany_0 : cX2_askedMany.data.toList.drop 0 = dktX2_askedMany_0 := by decide +kernel
theorem dX2_askedMany_0 : decode cX2_askedMany 0 = .ok (.aload_n 0, 1) := dk_42 (dk_at dksX2_askedMany_0 0 rfl rfl)
theorem dX2_askedMany_1 : decode cX2_askedMany 1 = .ok (.getfield 29, 3) := dk_180 0 29 (dk_at dksX2_askedMany_0 1 rfl rfl)
theorem dX2_askedMany_4 : decode cX2_askedMany 4 = .ok (.bipush 57, 2) := dk_16 57 (dk_at dksX2_askedMany_0 4 rfl rfl)
theorem dX2_askedMany_6 : decode cX2_askedMany 6 = .ok (.aload_n 0, 1) := dk_42 (dk_at dksX2_askedMany_0 6 rfl rfl)
theorem dX2_askedMany_7 : decode cX2_askedMany 7 = .ok (.getfield 368, 3) := dk_180 1 112 (dk_at dksX2_askedMany_0 7 rfl rfl)
theorem dX2_askedMany_10 : decode cX2_askedMany 10 = .ok (.imul, 1) := dk_104 (dk_at dksX2_askedMany_0 10 rfl rfl)
theorem dX2_askedMany_11 : decode cX2_askedMany 11 = .ok (.iaload, 1) := dk_46 (dk_at dksX2_askedMany_0 11 rfl rfl)
theorem dX2_askedMany_12 : decode cX2_askedMany 12 = .ok (.ireturn, 1) := dk_172 (dk_at dksX2_askedMany_0 12 rfl rfl)
abbrev cX2_wordsOf : ByteArray := prog_25_method_88_code
def yX2_wordsOf : MethodName := ⟨RX2, "wordsOf", "(I)I"⟩
def dkwX2_wordsOf_1 : List UInt8 := [160, 0, 7, 5, 167, 0, 13, 28, 5, 160, 0, 7, 4, 167, 0, 4, 3, 172]
abbrev dktX2_wordsOf_1 : List UInt8 := dkwX2_wordsOf_1 ++ []
def dkwX2_wordsOf_0 : List UInt8 := [42, 27, 3, 182, 1, 115, 61, 28, 154, 0, 12, 42, 27, 4, 182, 1, 115, 167, 0, 22, 28, 4]
abbrev dktX2_wordsOf_0 : List UInt8 := dkwX2_wordsOf_0 ++ dktX2_wordsOf_1
theorem dksX2_wordsOf_0 : cX2_wordsOf.data.toList.drop 0 = dktX2_wordsOf_0 := by decide +kernel
theorem dksX2_wordsOf_1 : cX2_wordsOf.data.toList.drop 22 = dktX2_wordsOf_1 := dk_seg dksX2_wordsOf_0 22 rfl rfl
theorem dX2_wordsOf_0 : decode cX2_wordsOf 0 = .ok (.aload_n 0, 1) := dk_42 (dk_at dksX2_wordsOf_0 0 rfl rfl)
theorem dX2_wordsOf_1 : decode cX2_wordsOf 1 = .ok (.iload_n 1, 1) := dk_27 (dk_at dksX2_wordsOf_0 1 rfl rfl)
theorem dX2_wordsOf_2 : decode cX2_wordsOf 2 = .ok (.iconst 0, 1) := dk_3 (dk_at dksX2_wordsOf_0 2 rfl rfl)
theorem dX2_wordsOf_3 : decode cX2_wordsOf 3 = .ok (.invokevirtual 371, 3) := dk_182 1 115 (dk_at dksX2_wordsOf_0 3 rfl rfl)
theorem dX2_wordsOf_6 : decode cX2_wordsOf 6 = .ok (.istore_n 2, 1) := dk_61 (dk_at dksX2_wordsOf_0 6 rfl rfl)
theorem dX2_wordsOf_7 : decode cX2_wordsOf 7 = .ok (.iload_n 2, 1) := dk_28 (dk_at dksX2_wordsOf_0 7 rfl rfl)
theorem dX2_wordsOf_8 : decode cX2_wordsOf 8 = .ok (.ifCond .ne 12, 3) := dk_154 0 12 (dk_at dksX2_wordsOf_0 8 rfl rfl)
theorem dX2_wordsOf_11 : decode cX2_wordsOf 11 = .ok (.aload_n 0, 1) := dk_42 (dk_at dksX2_wordsOf_0 11 rfl rfl)
theorem dX2_wordsOf_12 : decode cX2_wordsOf 12 = .ok (.iload_n 1, 1) := dk_27 (dk_at dksX2_wordsOf_0 12 rfl rfl)
theorem dX2_wordsOf_13 : decode cX2_wordsOf 13 = .ok (.iconst 1, 1) := dk_4 (dk_at dksX2_wordsOf_0 13 rfl rfl)
theorem dX2_wordsOf_14 : decode cX2_wordsOf 14 = .ok (.invokevirtual 371, 3) := dk_182 1 115 (dk_at dksX2_wordsOf_0 14 rfl rfl)
theorem dX2_wordsOf_17 : decode cX2_wordsOf 17 = .ok (.goto 22, 3) := dk_167 0 22 (dk_at dksX2_wordsOf_0 17 rfl rfl)
theorem dX2_wordsOf_20 : decode cX2_wordsOf 20 = .ok (.iload_n 2, 1) := dk_28 (dk_at dksX2_wordsOf_0 20 rfl rfl)
theorem dX2_wordsOf_21 : decode cX2_wordsOf 21 = .ok (.iconst 1, 1) := dk_4 (dk_at dksX2_wordsOf_0 21 rfl rfl)
theorem dX2_wordsOf_22 : decode cX2_wordsOf 22 = .ok (.if_icmp .ne 7, 3) := dk_160 0 7 (dk_at dksX2_wordsOf_1 0 rfl rfl)
theorem dX2_wordsOf_25 : decode cX2_wordsOf 25 = .ok (.iconst 2, 1) := dk_5 (dk_at dksX2_wordsOf_1 3 rfl rfl)
theorem dX2_wordsOf_26 : decode cX2_wordsOf 26 = .ok (.goto 13, 3) := dk_167 0 13 (dk_at dksX2_wordsOf_1 4 rfl rfl)
theorem dX2_wordsOf_29 : decode cX2_wordsOf 29 = .ok (.iload_n 2, 1) := dk_28 (dk_at dksX2_wordsOf_1 7 rfl rfl)
theorem dX2_wordsOf_30 : decode cX2_wordsOf 30 = .ok (.iconst 2, 1) := dk_5 (dk_at dksX2_wordsOf_1 8 rfl rfl)
theorem dX2_wordsOf_31 : decode cX2_wordsOf 31 = .ok (.if_icmp .ne 7, 3) := dk_160 0 7 (dk_at dksX2_wordsOf_1 9 rfl rfl)
theorem dX2_wordsOf_34 : decode cX2_wordsOf 34 = .ok (.iconst 1, 1) := dk_4 (dk_at dksX2_wordsOf_1 12 rfl rfl)
theorem dX2_wordsOf_35 : decode cX2_wordsOf 35 = .ok (.goto 4, 3) := dk_167 0 4 (dk_at dksX2_wordsOf_1 13 rfl rfl)
theorem dX2_wordsOf_38 : decode cX2_wordsOf 38 = .ok (.iconst 0, 1) := dk_3 (dk_at dksX2_wordsOf_1 16 rfl rfl)
theorem dX2_wordsOf_39 : decode cX2_wordsOf 39 = .ok (.ireturn, 1) := dk_172 (dk_at dksX2_wordsOf_1 17 rfl rfl)
abbrev cX2_ofAsking : ByteArray := prog_25_method_86_code
def yX2_ofAsking : MethodName := ⟨RX2, "ofAsking", "(II)I"⟩
def dkwX2_ofAsking_0 : List UInt8 := [42, 180, 0, 29, 16, 57, 42, 180, 1, 112, 104, 4, 96, 16, 7, 27, 104, 96, 28, 96, 46, 172]
abbrev dktX2_ofAsking_0 : List UInt8 := dkwX2_ofAsking_0 ++ []
theorem dksX2_ofAsking_0 : cX2_ofAsking.data.toList.drop 0 = dktX2_ofAsking_0 := by decide +kernel
theorem dX2_ofAsking_0 : decode cX2_ofAsking 0 = .ok (.aload_n 0, 1) := dk_42 (dk_at dksX2_ofAsking_0 0 rfl rfl)
theorem dX2_ofAsking_1 : decode cX2_ofAsking 1 = .ok (.getfield 29, 3) := dk_180 0 29 (dk_at dksX2_ofAsking_0 1 rfl rfl)
theorem dX2_ofAsking_4 : decode cX2_ofAsking 4 = .ok (.bipush 57, 2) := dk_16 57 (dk_at dksX2_ofAsking_0 4 rfl rfl)
theorem dX2_ofAsking_6 : decode cX2_ofAsking 6 = .ok (.aload_n 0, 1) := dk_42 (dk_at dksX2_ofAsking_0 6 rfl rfl)
theorem dX2_ofAsking_7 : decode cX2_ofAsking 7 = .ok (.getfield 368, 3) := dk_180 1 112 (dk_at dksX2_ofAsking_0 7 rfl rfl)
theorem dX2_ofAsking_10 : decode cX2_ofAsking 10 = .ok (.imul, 1) := dk_104 (dk_at dksX2_ofAsking_0 10 rfl rfl)
theorem dX2_ofAsking_11 : decode cX2_ofAsking 11 = .ok (.iconst 1, 1) := dk_4 (dk_at dksX2_ofAsking_0 11 rfl rfl)
theorem dX2_ofAsking_12 : decode cX2_ofAsking 12 = .ok (.iadd, 1) := dk_96 (dk_at dksX2_ofAsking_0 12 rfl rfl)
theorem dX2_ofAsking_13 : decode cX2_ofAsking 13 = .ok (.bipush 7, 2) := dk_16 7 (dk_at dksX2_ofAsking_0 13 rfl rfl)
theorem dX2_ofAsking_15 : decode cX2_ofAsking 15 = .ok (.iload_n 1, 1) := dk_27 (dk_at dksX2_ofAsking_0 15 rfl rfl)
theorem dX2_ofAsking_16 : decode cX2_ofAsking 16 = .ok (.imul, 1) := dk_104 (dk_at dksX2_ofAsking_0 16 rfl rfl)
theorem dX2_ofAsking_17 : decode cX2_ofAsking 17 = .ok (.iadd, 1) := dk_96 (dk_at dksX2_ofAsking_0 17 rfl rfl)
theorem dX2_ofAsking_18 : decode cX2_ofAsking 18 = .ok (.iload_n 2, 1) := dk_28 (dk_at dksX2_ofAsking_0 18 rfl rfl)
theorem dX2_ofAsking_19 : decode cX2_ofAsking 19 = .ok (.iadd, 1) := dk_96 (dk_at dksX2_ofAsking_0 19 rfl rfl)
theorem dX2_ofAsking_20 : decode cX2_ofAsking 20 = .ok (.iaload, 1) := dk_46 (dk_at dksX2_ofAsking_0 20 rfl rfl)
theorem dX2_ofAsking_21 : decode cX2_ofAsking 21 = .ok (.ireturn, 1) := dk_172 (dk_at dksX2_ofAsking_0 21 rfl rfl)
abbrev cX2_holds : ByteArray := prog_25_method_96_code
def yX2_holds : MethodName := ⟨RX2, "holds", "(IIIII)I"⟩
def dkwX2_holds_2 : List UInt8 := [21, 5, 184, 0, 64, 153, 0, 7, 4, 167, 0, 4, 3, 172]
abbrev dktX2_holds_2 : List UInt8 := dkwX2_holds_2 ++ []
def dkwX2_holds_1 : List UInt8 := [21, 4, 21, 5, 182, 1, 28, 154, 0, 5, 2, 172, 42, 180, 0, 50, 7, 29, 104, 21, 4, 96, 46]
abbrev dktX2_holds_1 : List UInt8 := dkwX2_holds_1 ++ dktX2_holds_2
def dkwX2_holds_0 : List UInt8 := [42, 3, 181, 0, 60, 42, 27, 28, 182, 1, 139, 153, 0, 22, 42, 29, 182, 1, 142, 153, 0, 14, 42]
abbrev dktX2_holds_0 : List UInt8 := dkwX2_holds_0 ++ dktX2_holds_1
theorem dksX2_holds_0 : cX2_holds.data.toList.drop 0 = dktX2_holds_0 := by decide +kernel
theorem dksX2_holds_1 : cX2_holds.data.toList.drop 23 = dktX2_holds_1 := dk_seg dksX2_holds_0 23 rfl rfl
theorem dksX2_holds_2 : cX2_holds.data.toList.drop 46 = dktX2_holds_2 := dk_seg dksX2_holds_1 23 rfl rfl
theorem dX2_holds_0 : decode cX2_holds 0 = .ok (.aload_n 0, 1) := dk_42 (dk_at dksX2_holds_0 0 rfl rfl)
theorem dX2_holds_1 : decode cX2_holds 1 = .ok (.iconst 0, 1) := dk_3 (dk_at dksX2_holds_0 1 rfl rfl)
theorem dX2_holds_2 : decode cX2_holds 2 = .ok (.putfield 60, 3) := dk_181 0 60 (dk_at dksX2_holds_0 2 rfl rfl)
theorem dX2_holds_5 : decode cX2_holds 5 = .ok (.aload_n 0, 1) := dk_42 (dk_at dksX2_holds_0 5 rfl rfl)
theorem dX2_holds_6 : decode cX2_holds 6 = .ok (.iload_n 1, 1) := dk_27 (dk_at dksX2_holds_0 6 rfl rfl)
theorem dX2_holds_7 : decode cX2_holds 7 = .ok (.iload_n 2, 1) := dk_28 (dk_at dksX2_holds_0 7 rfl rfl)
theorem dX2_holds_8 : decode cX2_holds 8 = .ok (.invokevirtual 395, 3) := dk_182 1 139 (dk_at dksX2_holds_0 8 rfl rfl)
theorem dX2_holds_11 : decode cX2_holds 11 = .ok (.ifCond .eq 22, 3) := dk_153 0 22 (dk_at dksX2_holds_0 11 rfl rfl)
theorem dX2_holds_14 : decode cX2_holds 14 = .ok (.aload_n 0, 1) := dk_42 (dk_at dksX2_holds_0 14 rfl rfl)
theorem dX2_holds_15 : decode cX2_holds 15 = .ok (.iload_n 3, 1) := dk_29 (dk_at dksX2_holds_0 15 rfl rfl)
theorem dX2_holds_16 : decode cX2_holds 16 = .ok (.invokevirtual 398, 3) := dk_182 1 142 (dk_at dksX2_holds_0 16 rfl rfl)
theorem dX2_holds_19 : decode cX2_holds 19 = .ok (.ifCond .eq 14, 3) := dk_153 0 14 (dk_at dksX2_holds_0 19 rfl rfl)
theorem dX2_holds_22 : decode cX2_holds 22 = .ok (.aload_n 0, 1) := dk_42 (dk_at dksX2_holds_0 22 rfl rfl)
theorem dX2_holds_23 : decode cX2_holds 23 = .ok (.iload 4, 2) := dk_21 4 (dk_at dksX2_holds_1 0 rfl rfl)
theorem dX2_holds_25 : decode cX2_holds 25 = .ok (.iload 5, 2) := dk_21 5 (dk_at dksX2_holds_1 2 rfl rfl)
theorem dX2_holds_27 : decode cX2_holds 27 = .ok (.invokevirtual 284, 3) := dk_182 1 28 (dk_at dksX2_holds_1 4 rfl rfl)
theorem dX2_holds_30 : decode cX2_holds 30 = .ok (.ifCond .ne 5, 3) := dk_154 0 5 (dk_at dksX2_holds_1 7 rfl rfl)
theorem dX2_holds_33 : decode cX2_holds 33 = .ok (.iconst (-1), 1) := dk_2 (dk_at dksX2_holds_1 10 rfl rfl)
theorem dX2_holds_34 : decode cX2_holds 34 = .ok (.ireturn, 1) := dk_172 (dk_at dksX2_holds_1 11 rfl rfl)
theorem dX2_holds_35 : decode cX2_holds 35 = .ok (.aload_n 0, 1) := dk_42 (dk_at dksX2_holds_1 12 rfl rfl)
theorem dX2_holds_36 : decode cX2_holds 36 = .ok (.getfield 50, 3) := dk_180 0 50 (dk_at dksX2_holds_1 13 rfl rfl)
theorem dX2_holds_39 : decode cX2_holds 39 = .ok (.iconst 4, 1) := dk_7 (dk_at dksX2_holds_1 16 rfl rfl)
theorem dX2_holds_40 : decode cX2_holds 40 = .ok (.iload_n 3, 1) := dk_29 (dk_at dksX2_holds_1 17 rfl rfl)
theorem dX2_holds_41 : decode cX2_holds 41 = .ok (.imul, 1) := dk_104 (dk_at dksX2_holds_1 18 rfl rfl)
theorem dX2_holds_42 : decode cX2_holds 42 = .ok (.iload 4, 2) := dk_21 4 (dk_at dksX2_holds_1 19 rfl rfl)
theorem dX2_holds_44 : decode cX2_holds 44 = .ok (.iadd, 1) := dk_96 (dk_at dksX2_holds_1 21 rfl rfl)
theorem dX2_holds_45 : decode cX2_holds 45 = .ok (.iaload, 1) := dk_46 (dk_at dksX2_holds_1 22 rfl rfl)
theorem dX2_holds_46 : decode cX2_holds 46 = .ok (.iload 5, 2) := dk_21 5 (dk_at dksX2_holds_2 0 rfl rfl)
theorem dX2_holds_48 : decode cX2_holds 48 = .ok (.invokestatic 64, 3) := dk_184 0 64 (dk_at dksX2_holds_2 2 rfl rfl)
theorem dX2_holds_51 : decode cX2_holds 51 = .ok (.ifCond .eq 7, 3) := dk_153 0 7 (dk_at dksX2_holds_2 5 rfl rfl)
theorem dX2_holds_54 : decode cX2_holds 54 = .ok (.iconst 1, 1) := dk_4 (dk_at dksX2_holds_2 8 rfl rfl)
theorem dX2_holds_55 : decode cX2_holds 55 = .ok (.goto 4, 3) := dk_167 0 4 (dk_at dksX2_holds_2 9 rfl rfl)
theorem dX2_holds_58 : decode cX2_holds 58 = .ok (.iconst 0, 1) := dk_3 (dk_at dksX2_holds_2 12 rfl rfl)
theorem dX2_holds_59 : decode cX2_holds 59 = .ok (.ireturn, 1) := dk_172 (dk_at dksX2_holds_2 13 rfl rfl)
abbrev cX2_layHeld : ByteArray := prog_25_method_94_code
def yX2_layHeld : MethodName := ⟨RX2, "layHeld", "(II)Z"⟩
def dkwX2_layHeld_5 : List UInt8 := [167, 255, 172, 132, 3, 1, 167, 255, 155, 4, 172]
abbrev dktX2_layHeld_5 : List UInt8 := dkwX2_layHeld_5 ++ []
def dkwX2_layHeld_4 : List UInt8 := [153, 0, 10, 4, 21, 5, 120, 167, 0, 4, 3, 128, 79, 132, 5, 1, 167, 255, 199, 132, 4, 1]
abbrev dktX2_layHeld_4 : List UInt8 := dkwX2_layHeld_4 ++ dktX2_layHeld_5
def dkwX2_layHeld_3 : List UInt8 := [162, 0, 43, 42, 180, 0, 50, 7, 29, 104, 21, 4, 96, 92, 46, 42, 29, 21, 4, 21, 5, 182, 1, 136]
abbrev dktX2_layHeld_3 : List UInt8 := dkwX2_layHeld_3 ++ dktX2_layHeld_4
def dkwX2_layHeld_2 : List UInt8 := [96, 3, 79, 3, 54, 5, 42, 21, 4, 182, 1, 0, 153, 0, 54, 21, 5, 42, 21, 4, 182, 1, 3]
abbrev dktX2_layHeld_2 : List UInt8 := dkwX2_layHeld_2 ++ dktX2_layHeld_3
def dkwX2_layHeld_1 : List UInt8 := [182, 1, 121, 162, 0, 99, 3, 54, 4, 21, 4, 7, 162, 0, 84, 42, 180, 0, 50, 7, 29, 104, 21, 4]
abbrev dktX2_layHeld_1 : List UInt8 := dkwX2_layHeld_1 ++ dktX2_layHeld_2
def dkwX2_layHeld_0 : List UInt8 := [42, 28, 182, 1, 118, 153, 0, 11, 42, 27, 182, 1, 57, 154, 0, 5, 3, 172, 3, 62, 29, 42]
abbrev dktX2_layHeld_0 : List UInt8 := dkwX2_layHeld_0 ++ dktX2_layHeld_1
theorem dksX2_layHeld_0 : cX2_layHeld.data.toList.drop 0 = dktX2_layHeld_0 := by decide +kernel
theorem dksX2_layHeld_1 : cX2_layHeld.data.toList.drop 22 = dktX2_layHeld_1 := dk_seg dksX2_layHeld_0 22 rfl rfl
theorem dksX2_layHeld_2 : cX2_layHeld.data.toList.drop 46 = dktX2_layHeld_2 := dk_seg dksX2_layHeld_1 24 rfl rfl
theorem dksX2_layHeld_3 : cX2_layHeld.data.toList.drop 69 = dktX2_layHeld_3 := dk_seg dksX2_layHeld_2 23 rfl rfl
theorem dksX2_layHeld_4 : cX2_layHeld.data.toList.drop 93 = dktX2_layHeld_4 := dk_seg dksX2_layHeld_3 24 rfl rfl
theorem dksX2_layHeld_5 : cX2_layHeld.data.toList.drop 115 = dktX2_layHeld_5 := dk_seg dksX2_layHeld_4 22 rfl rfl
theorem dX2_layHeld_0 : decode cX2_layHeld 0 = .ok (.aload_n 0, 1) := dk_42 (dk_at dksX2_layHeld_0 0 rfl rfl)
theorem dX2_layHeld_1 : decode cX2_layHeld 1 = .ok (.iload_n 2, 1) := dk_28 (dk_at dksX2_layHeld_0 1 rfl rfl)
theorem dX2_layHeld_2 : decode cX2_layHeld 2 = .ok (.invokevirtual 374, 3) := dk_182 1 118 (dk_at dksX2_layHeld_0 2 rfl rfl)
theorem dX2_layHeld_5 : decode cX2_layHeld 5 = .ok (.ifCond .eq 11, 3) := dk_153 0 11 (dk_at dksX2_layHeld_0 5 rfl rfl)
theorem dX2_layHeld_8 : decode cX2_layHeld 8 = .ok (.aload_n 0, 1) := dk_42 (dk_at dksX2_layHeld_0 8 rfl rfl)
theorem dX2_layHeld_9 : decode cX2_layHeld 9 = .ok (.iload_n 1, 1) := dk_27 (dk_at dksX2_layHeld_0 9 rfl rfl)
theorem dX2_layHeld_10 : decode cX2_layHeld 10 = .ok (.invokevirtual 313, 3) := dk_182 1 57 (dk_at dksX2_layHeld_0 10 rfl rfl)
theorem dX2_layHeld_13 : decode cX2_layHeld 13 = .ok (.ifCond .ne 5, 3) := dk_154 0 5 (dk_at dksX2_layHeld_0 13 rfl rfl)
theorem dX2_layHeld_16 : decode cX2_layHeld 16 = .ok (.iconst 0, 1) := dk_3 (dk_at dksX2_layHeld_0 16 rfl rfl)
theorem dX2_layHeld_17 : decode cX2_layHeld 17 = .ok (.ireturn, 1) := dk_172 (dk_at dksX2_layHeld_0 17 rfl rfl)
theorem dX2_layHeld_18 : decode cX2_layHeld 18 = .ok (.iconst 0, 1) := dk_3 (dk_at dksX2_layHeld_0 18 rfl rfl)
theorem dX2_layHeld_19 : decode cX2_layHeld 19 = .ok (.istore_n 3, 1) := dk_62 (dk_at dksX2_layHeld_0 19 rfl rfl)
theorem dX2_layHeld_20 : decode cX2_layHeld 20 = .ok (.iload_n 3, 1) := dk_29 (dk_at dksX2_layHeld_0 20 rfl rfl)
theorem dX2_layHeld_21 : decode cX2_layHeld 21 = .ok (.aload_n 0, 1) := dk_42 (dk_at dksX2_layHeld_0 21 rfl rfl)
theorem dX2_layHeld_22 : decode cX2_layHeld 22 = .ok (.invokevirtual 377, 3) := dk_182 1 121 (dk_at dksX2_layHeld_1 0 rfl rfl)
theorem dX2_layHeld_25 : decode cX2_layHeld 25 = .ok (.if_icmp .ge 99, 3) := dk_162 0 99 (dk_at dksX2_layHeld_1 3 rfl rfl)
theorem dX2_layHeld_28 : decode cX2_layHeld 28 = .ok (.iconst 0, 1) := dk_3 (dk_at dksX2_layHeld_1 6 rfl rfl)
theorem dX2_layHeld_29 : decode cX2_layHeld 29 = .ok (.istore 4, 2) := dk_54 4 (dk_at dksX2_layHeld_1 7 rfl rfl)
theorem dX2_layHeld_31 : decode cX2_layHeld 31 = .ok (.iload 4, 2) := dk_21 4 (dk_at dksX2_layHeld_1 9 rfl rfl)
theorem dX2_layHeld_33 : decode cX2_layHeld 33 = .ok (.iconst 4, 1) := dk_7 (dk_at dksX2_layHeld_1 11 rfl rfl)
theorem dX2_layHeld_34 : decode cX2_layHeld 34 = .ok (.if_icmp .ge 84, 3) := dk_162 0 84 (dk_at dksX2_layHeld_1 12 rfl rfl)
theorem dX2_layHeld_37 : decode cX2_layHeld 37 = .ok (.aload_n 0, 1) := dk_42 (dk_at dksX2_layHeld_1 15 rfl rfl)
theorem dX2_layHeld_38 : decode cX2_layHeld 38 = .ok (.getfield 50, 3) := dk_180 0 50 (dk_at dksX2_layHeld_1 16 rfl rfl)
theorem dX2_layHeld_41 : decode cX2_layHeld 41 = .ok (.iconst 4, 1) := dk_7 (dk_at dksX2_layHeld_1 19 rfl rfl)
theorem dX2_layHeld_42 : decode cX2_layHeld 42 = .ok (.iload_n 3, 1) := dk_29 (dk_at dksX2_layHeld_1 20 rfl rfl)
theorem dX2_layHeld_43 : decode cX2_layHeld 43 = .ok (.imul, 1) := dk_104 (dk_at dksX2_layHeld_1 21 rfl rfl)
theorem dX2_layHeld_44 : decode cX2_layHeld 44 = .ok (.iload 4, 2) := dk_21 4 (dk_at dksX2_layHeld_1 22 rfl rfl)
theorem dX2_layHeld_46 : decode cX2_layHeld 46 = .ok (.iadd, 1) := dk_96 (dk_at dksX2_layHeld_2 0 rfl rfl)
theorem dX2_layHeld_47 : decode cX2_layHeld 47 = .ok (.iconst 0, 1) := dk_3 (dk_at dksX2_layHeld_2 1 rfl rfl)
theorem dX2_layHeld_48 : decode cX2_layHeld 48 = .ok (.iastore, 1) := dk_79 (dk_at dksX2_layHeld_2 2 rfl rfl)
theorem dX2_layHeld_49 : decode cX2_layHeld 49 = .ok (.iconst 0, 1) := dk_3 (dk_at dksX2_layHeld_2 3 rfl rfl)
theorem dX2_layHeld_50 : decode cX2_layHeld 50 = .ok (.istore 5, 2) := dk_54 5 (dk_at dksX2_layHeld_2 4 rfl rfl)
theorem dX2_layHeld_52 : decode cX2_layHeld 52 = .ok (.aload_n 0, 1) := dk_42 (dk_at dksX2_layHeld_2 6 rfl rfl)
theorem dX2_layHeld_53 : decode cX2_layHeld 53 = .ok (.iload 4, 2) := dk_21 4 (dk_at dksX2_layHeld_2 7 rfl rfl)
theorem dX2_layHeld_55 : decode cX2_layHeld 55 = .ok (.invokevirtual 256, 3) := dk_182 1 0 (dk_at dksX2_layHeld_2 9 rfl rfl)
theorem dX2_layHeld_58 : decode cX2_layHeld 58 = .ok (.ifCond .eq 54, 3) := dk_153 0 54 (dk_at dksX2_layHeld_2 12 rfl rfl)
theorem dX2_layHeld_61 : decode cX2_layHeld 61 = .ok (.iload 5, 2) := dk_21 5 (dk_at dksX2_layHeld_2 15 rfl rfl)
theorem dX2_layHeld_63 : decode cX2_layHeld 63 = .ok (.aload_n 0, 1) := dk_42 (dk_at dksX2_layHeld_2 17 rfl rfl)
theorem dX2_layHeld_64 : decode cX2_layHeld 64 = .ok (.iload 4, 2) := dk_21 4 (dk_at dksX2_layHeld_2 18 rfl rfl)
theorem dX2_layHeld_66 : decode cX2_layHeld 66 = .ok (.invokevirtual 259, 3) := dk_182 1 3 (dk_at dksX2_layHeld_2 20 rfl rfl)
theorem dX2_layHeld_69 : decode cX2_layHeld 69 = .ok (.if_icmp .ge 43, 3) := dk_162 0 43 (dk_at dksX2_layHeld_3 0 rfl rfl)
theorem dX2_layHeld_72 : decode cX2_layHeld 72 = .ok (.aload_n 0, 1) := dk_42 (dk_at dksX2_layHeld_3 3 rfl rfl)
theorem dX2_layHeld_73 : decode cX2_layHeld 73 = .ok (.getfield 50, 3) := dk_180 0 50 (dk_at dksX2_layHeld_3 4 rfl rfl)
theorem dX2_layHeld_76 : decode cX2_layHeld 76 = .ok (.iconst 4, 1) := dk_7 (dk_at dksX2_layHeld_3 7 rfl rfl)
theorem dX2_layHeld_77 : decode cX2_layHeld 77 = .ok (.iload_n 3, 1) := dk_29 (dk_at dksX2_layHeld_3 8 rfl rfl)
theorem dX2_layHeld_78 : decode cX2_layHeld 78 = .ok (.imul, 1) := dk_104 (dk_at dksX2_layHeld_3 9 rfl rfl)
theorem dX2_layHeld_79 : decode cX2_layHeld 79 = .ok (.iload 4, 2) := dk_21 4 (dk_at dksX2_layHeld_3 10 rfl rfl)
theorem dX2_layHeld_81 : decode cX2_layHeld 81 = .ok (.iadd, 1) := dk_96 (dk_at dksX2_layHeld_3 12 rfl rfl)
theorem dX2_layHeld_82 : decode cX2_layHeld 82 = .ok (.dup2, 1) := dk_92 (dk_at dksX2_layHeld_3 13 rfl rfl)
theorem dX2_layHeld_83 : decode cX2_layHeld 83 = .ok (.iaload, 1) := dk_46 (dk_at dksX2_layHeld_3 14 rfl rfl)
theorem dX2_layHeld_84 : decode cX2_layHeld 84 = .ok (.aload_n 0, 1) := dk_42 (dk_at dksX2_layHeld_3 15 rfl rfl)
theorem dX2_layHeld_85 : decode cX2_layHeld 85 = .ok (.iload_n 3, 1) := dk_29 (dk_at dksX2_layHeld_3 16 rfl rfl)
theorem dX2_layHeld_86 : decode cX2_layHeld 86 = .ok (.iload 4, 2) := dk_21 4 (dk_at dksX2_layHeld_3 17 rfl rfl)
theorem dX2_layHeld_88 : decode cX2_layHeld 88 = .ok (.iload 5, 2) := dk_21 5 (dk_at dksX2_layHeld_3 19 rfl rfl)
theorem dX2_layHeld_90 : decode cX2_layHeld 90 = .ok (.invokevirtual 392, 3) := dk_182 1 136 (dk_at dksX2_layHeld_3 21 rfl rfl)
theorem dX2_layHeld_93 : decode cX2_layHeld 93 = .ok (.ifCond .eq 10, 3) := dk_153 0 10 (dk_at dksX2_layHeld_4 0 rfl rfl)
theorem dX2_layHeld_96 : decode cX2_layHeld 96 = .ok (.iconst 1, 1) := dk_4 (dk_at dksX2_layHeld_4 3 rfl rfl)
theorem dX2_layHeld_97 : decode cX2_layHeld 97 = .ok (.iload 5, 2) := dk_21 5 (dk_at dksX2_layHeld_4 4 rfl rfl)
theorem dX2_layHeld_99 : decode cX2_layHeld 99 = .ok (.ishl, 1) := dk_120 (dk_at dksX2_layHeld_4 6 rfl rfl)
theorem dX2_layHeld_100 : decode cX2_layHeld 100 = .ok (.goto 4, 3) := dk_167 0 4 (dk_at dksX2_layHeld_4 7 rfl rfl)
theorem dX2_layHeld_103 : decode cX2_layHeld 103 = .ok (.iconst 0, 1) := dk_3 (dk_at dksX2_layHeld_4 10 rfl rfl)
theorem dX2_layHeld_104 : decode cX2_layHeld 104 = .ok (.ior, 1) := dk_128 (dk_at dksX2_layHeld_4 11 rfl rfl)
theorem dX2_layHeld_105 : decode cX2_layHeld 105 = .ok (.iastore, 1) := dk_79 (dk_at dksX2_layHeld_4 12 rfl rfl)
theorem dX2_layHeld_106 : decode cX2_layHeld 106 = .ok (.iinc 5 1, 3) := dk_132 5 1 (dk_at dksX2_layHeld_4 13 rfl rfl)
theorem dX2_layHeld_109 : decode cX2_layHeld 109 = .ok (.goto (-57), 3) := dk_167 255 199 (dk_at dksX2_layHeld_4 16 rfl rfl)
theorem dX2_layHeld_112 : decode cX2_layHeld 112 = .ok (.iinc 4 1, 3) := dk_132 4 1 (dk_at dksX2_layHeld_4 19 rfl rfl)
theorem dX2_layHeld_115 : decode cX2_layHeld 115 = .ok (.goto (-84), 3) := dk_167 255 172 (dk_at dksX2_layHeld_5 0 rfl rfl)
theorem dX2_layHeld_118 : decode cX2_layHeld 118 = .ok (.iinc 3 1, 3) := dk_132 3 1 (dk_at dksX2_layHeld_5 3 rfl rfl)
theorem dX2_layHeld_121 : decode cX2_layHeld 121 = .ok (.goto (-101), 3) := dk_167 255 155 (dk_at dksX2_layHeld_5 6 rfl rfl)
theorem dX2_layHeld_124 : decode cX2_layHeld 124 = .ok (.iconst 1, 1) := dk_4 (dk_at dksX2_layHeld_5 9 rfl rfl)
theorem dX2_layHeld_125 : decode cX2_layHeld 125 = .ok (.ireturn, 1) := dk_172 (dk_at dksX2_layHeld_5 10 rfl rfl)
abbrev cX2_holdsBy : ByteArray := prog_25_method_93_code
def yX2_holdsBy : MethodName := ⟨RX2, "holdsBy", "(III)Z"⟩
def dkwX2_holdsBy_10 : List UInt8 := [28, 96, 46, 128, 29, 184, 0, 64, 172]
abbrev dktX2_holdsBy_10 : List UInt8 := dkwX2_holdsBy_10 ++ []
def dkwX2_holdsBy_9 : List UInt8 := [29, 184, 0, 64, 172, 42, 180, 0, 50, 7, 21, 4, 104, 28, 96, 46, 42, 180, 0, 50, 7, 21, 5, 104]
abbrev dktX2_holdsBy_9 : List UInt8 := dkwX2_holdsBy_9 ++ dktX2_holdsBy_10
def dkwX2_holdsBy_8 : List UInt8 := [172, 42, 180, 0, 50, 7, 21, 4, 104, 28, 96, 46, 42, 180, 0, 50, 7, 21, 5, 104, 28, 96, 46, 126]
abbrev dktX2_holdsBy_8 : List UInt8 := dkwX2_holdsBy_8 ++ dktX2_holdsBy_9
def dkwX2_holdsBy_7 : List UInt8 := [180, 0, 50, 7, 21, 4, 104, 28, 96, 46, 29, 4, 100, 184, 0, 64, 154, 0, 7, 4, 167, 0, 4, 3]
abbrev dktX2_holdsBy_7 : List UInt8 := dkwX2_holdsBy_7 ++ dktX2_holdsBy_8
def dkwX2_holdsBy_6 : List UInt8 := [172, 42, 180, 0, 50, 7, 21, 4, 104, 28, 96, 46, 29, 184, 0, 64, 153, 0, 31, 29, 153, 0, 23, 42]
abbrev dktX2_holdsBy_6 : List UInt8 := dkwX2_holdsBy_6 ++ dktX2_holdsBy_7
def dkwX2_holdsBy_5 : List UInt8 := [180, 0, 50, 7, 21, 4, 104, 28, 96, 46, 5, 29, 120, 4, 100, 126, 153, 0, 7, 4, 167, 0, 4, 3]
abbrev dktX2_holdsBy_5 : List UInt8 := dkwX2_holdsBy_5 ++ dktX2_holdsBy_6
def dkwX2_holdsBy_4 : List UInt8 := [180, 0, 50, 7, 21, 4, 104, 28, 96, 46, 29, 184, 0, 64, 154, 0, 7, 4, 167, 0, 4, 3, 172, 42]
abbrev dktX2_holdsBy_4 : List UInt8 := dkwX2_holdsBy_4 ++ dktX2_holdsBy_5
def dkwX2_holdsBy_3 : List UInt8 := [42, 28, 29, 42, 27, 6, 182, 1, 115, 182, 1, 106, 21, 4, 161, 0, 7, 4, 167, 0, 4, 3, 172, 42]
abbrev dktX2_holdsBy_3 : List UInt8 := dkwX2_holdsBy_3 ++ dktX2_holdsBy_4
def dkwX2_holdsBy_2 : List UInt8 := [42, 27, 28, 29, 182, 1, 130, 158, 0, 7, 4, 167, 0, 4, 3, 172, 42, 27, 28, 29, 182, 1, 133, 172]
abbrev dktX2_holdsBy_2 : List UInt8 := dkwX2_holdsBy_2 ++ dktX2_holdsBy_3
def dkwX2_holdsBy_1 : List UInt8 := [170, 0, 0, 0, 0, 215, 0, 0, 0, 0, 0, 0, 0, 6, 0, 0, 0, 42, 0, 0, 0, 58, 0, 0, 0, 66, 0, 0, 0, 89, 0, 0, 0, 113, 0, 0, 0, 139, 0, 0, 0, 187]
abbrev dktX2_holdsBy_1 : List UInt8 := dkwX2_holdsBy_1 ++ dktX2_holdsBy_2
def dkwX2_holdsBy_0 : List UInt8 := [42, 27, 4, 182, 1, 115, 54, 4, 42, 27, 5, 182, 1, 115, 54, 5, 42, 27, 3, 182, 1, 115]
abbrev dktX2_holdsBy_0 : List UInt8 := dkwX2_holdsBy_0 ++ dktX2_holdsBy_1
theorem dksX2_holdsBy_0 : cX2_holdsBy.data.toList.drop 0 = dktX2_holdsBy_0 := by decide +kernel
theorem dksX2_holdsBy_1 : cX2_holdsBy.data.toList.drop 22 = dktX2_holdsBy_1 := dk_seg dksX2_holdsBy_0 22 rfl rfl
theorem dksX2_holdsBy_2 : cX2_holdsBy.data.toList.drop 64 = dktX2_holdsBy_2 := dk_seg dksX2_holdsBy_1 42 rfl rfl
theorem dksX2_holdsBy_3 : cX2_holdsBy.data.toList.drop 88 = dktX2_holdsBy_3 := dk_seg dksX2_holdsBy_2 24 rfl rfl
theorem dksX2_holdsBy_4 : cX2_holdsBy.data.toList.drop 112 = dktX2_holdsBy_4 := dk_seg dksX2_holdsBy_3 24 rfl rfl
theorem dksX2_holdsBy_5 : cX2_holdsBy.data.toList.drop 136 = dktX2_holdsBy_5 := dk_seg dksX2_holdsBy_4 24 rfl rfl
theorem dksX2_holdsBy_6 : cX2_holdsBy.data.toList.drop 160 = dktX2_holdsBy_6 := dk_seg dksX2_holdsBy_5 24 rfl rfl
theorem dksX2_holdsBy_7 : cX2_holdsBy.data.toList.drop 184 = dktX2_holdsBy_7 := dk_seg dksX2_holdsBy_6 24 rfl rfl
theorem dksX2_holdsBy_8 : cX2_holdsBy.data.toList.drop 208 = dktX2_holdsBy_8 := dk_seg dksX2_holdsBy_7 24 rfl rfl
theorem dksX2_holdsBy_9 : cX2_holdsBy.data.toList.drop 232 = dktX2_holdsBy_9 := dk_seg dksX2_holdsBy_8 24 rfl rfl
theorem dksX2_holdsBy_10 : cX2_holdsBy.data.toList.drop 256 = dktX2_holdsBy_10 := dk_seg dksX2_holdsBy_9 24 rfl rfl
theorem dX2_holdsBy_0 : decode cX2_holdsBy 0 = .ok (.aload_n 0, 1) := dk_42 (dk_at dksX2_holdsBy_0 0 rfl rfl)
theorem dX2_holdsBy_1 : decode cX2_holdsBy 1 = .ok (.iload_n 1, 1) := dk_27 (dk_at dksX2_holdsBy_0 1 rfl rfl)
theorem dX2_holdsBy_2 : decode cX2_holdsBy 2 = .ok (.iconst 1, 1) := dk_4 (dk_at dksX2_holdsBy_0 2 rfl rfl)
theorem dX2_holdsBy_3 : decode cX2_holdsBy 3 = .ok (.invokevirtual 371, 3) := dk_182 1 115 (dk_at dksX2_holdsBy_0 3 rfl rfl)
theorem dX2_holdsBy_6 : decode cX2_holdsBy 6 = .ok (.istore 4, 2) := dk_54 4 (dk_at dksX2_holdsBy_0 6 rfl rfl)
theorem dX2_holdsBy_8 : decode cX2_holdsBy 8 = .ok (.aload_n 0, 1) := dk_42 (dk_at dksX2_holdsBy_0 8 rfl rfl)
theorem dX2_holdsBy_9 : decode cX2_holdsBy 9 = .ok (.iload_n 1, 1) := dk_27 (dk_at dksX2_holdsBy_0 9 rfl rfl)
theorem dX2_holdsBy_10 : decode cX2_holdsBy 10 = .ok (.iconst 2, 1) := dk_5 (dk_at dksX2_holdsBy_0 10 rfl rfl)
theorem dX2_holdsBy_11 : decode cX2_holdsBy 11 = .ok (.invokevirtual 371, 3) := dk_182 1 115 (dk_at dksX2_holdsBy_0 11 rfl rfl)
theorem dX2_holdsBy_14 : decode cX2_holdsBy 14 = .ok (.istore 5, 2) := dk_54 5 (dk_at dksX2_holdsBy_0 14 rfl rfl)
theorem dX2_holdsBy_16 : decode cX2_holdsBy 16 = .ok (.aload_n 0, 1) := dk_42 (dk_at dksX2_holdsBy_0 16 rfl rfl)
theorem dX2_holdsBy_17 : decode cX2_holdsBy 17 = .ok (.iload_n 1, 1) := dk_27 (dk_at dksX2_holdsBy_0 17 rfl rfl)
theorem dX2_holdsBy_18 : decode cX2_holdsBy 18 = .ok (.iconst 0, 1) := dk_3 (dk_at dksX2_holdsBy_0 18 rfl rfl)
theorem dX2_holdsBy_19 : decode cX2_holdsBy 19 = .ok (.invokevirtual 371, 3) := dk_182 1 115 (dk_at dksX2_holdsBy_0 19 rfl rfl)
theorem dX2_holdsBy_22 : decode cX2_holdsBy 22 = .ok (.tableswitch 215 0 6 #[42, 58, 66, 89, 113, 139, 187], 42) := by decide +kernel
theorem dX2_holdsBy_64 : decode cX2_holdsBy 64 = .ok (.aload_n 0, 1) := dk_42 (dk_at dksX2_holdsBy_2 0 rfl rfl)
theorem dX2_holdsBy_65 : decode cX2_holdsBy 65 = .ok (.iload_n 1, 1) := dk_27 (dk_at dksX2_holdsBy_2 1 rfl rfl)
theorem dX2_holdsBy_66 : decode cX2_holdsBy 66 = .ok (.iload_n 2, 1) := dk_28 (dk_at dksX2_holdsBy_2 2 rfl rfl)
theorem dX2_holdsBy_67 : decode cX2_holdsBy 67 = .ok (.iload_n 3, 1) := dk_29 (dk_at dksX2_holdsBy_2 3 rfl rfl)
theorem dX2_holdsBy_68 : decode cX2_holdsBy 68 = .ok (.invokevirtual 386, 3) := dk_182 1 130 (dk_at dksX2_holdsBy_2 4 rfl rfl)
theorem dX2_holdsBy_71 : decode cX2_holdsBy 71 = .ok (.ifCond .le 7, 3) := dk_158 0 7 (dk_at dksX2_holdsBy_2 7 rfl rfl)
theorem dX2_holdsBy_74 : decode cX2_holdsBy 74 = .ok (.iconst 1, 1) := dk_4 (dk_at dksX2_holdsBy_2 10 rfl rfl)
theorem dX2_holdsBy_75 : decode cX2_holdsBy 75 = .ok (.goto 4, 3) := dk_167 0 4 (dk_at dksX2_holdsBy_2 11 rfl rfl)
theorem dX2_holdsBy_78 : decode cX2_holdsBy 78 = .ok (.iconst 0, 1) := dk_3 (dk_at dksX2_holdsBy_2 14 rfl rfl)
theorem dX2_holdsBy_79 : decode cX2_holdsBy 79 = .ok (.ireturn, 1) := dk_172 (dk_at dksX2_holdsBy_2 15 rfl rfl)
theorem dX2_holdsBy_80 : decode cX2_holdsBy 80 = .ok (.aload_n 0, 1) := dk_42 (dk_at dksX2_holdsBy_2 16 rfl rfl)
theorem dX2_holdsBy_81 : decode cX2_holdsBy 81 = .ok (.iload_n 1, 1) := dk_27 (dk_at dksX2_holdsBy_2 17 rfl rfl)
theorem dX2_holdsBy_82 : decode cX2_holdsBy 82 = .ok (.iload_n 2, 1) := dk_28 (dk_at dksX2_holdsBy_2 18 rfl rfl)
theorem dX2_holdsBy_83 : decode cX2_holdsBy 83 = .ok (.iload_n 3, 1) := dk_29 (dk_at dksX2_holdsBy_2 19 rfl rfl)
theorem dX2_holdsBy_84 : decode cX2_holdsBy 84 = .ok (.invokevirtual 389, 3) := dk_182 1 133 (dk_at dksX2_holdsBy_2 20 rfl rfl)
theorem dX2_holdsBy_87 : decode cX2_holdsBy 87 = .ok (.ireturn, 1) := dk_172 (dk_at dksX2_holdsBy_2 23 rfl rfl)
theorem dX2_holdsBy_88 : decode cX2_holdsBy 88 = .ok (.aload_n 0, 1) := dk_42 (dk_at dksX2_holdsBy_3 0 rfl rfl)
theorem dX2_holdsBy_89 : decode cX2_holdsBy 89 = .ok (.iload_n 2, 1) := dk_28 (dk_at dksX2_holdsBy_3 1 rfl rfl)
theorem dX2_holdsBy_90 : decode cX2_holdsBy 90 = .ok (.iload_n 3, 1) := dk_29 (dk_at dksX2_holdsBy_3 2 rfl rfl)
theorem dX2_holdsBy_91 : decode cX2_holdsBy 91 = .ok (.aload_n 0, 1) := dk_42 (dk_at dksX2_holdsBy_3 3 rfl rfl)
theorem dX2_holdsBy_92 : decode cX2_holdsBy 92 = .ok (.iload_n 1, 1) := dk_27 (dk_at dksX2_holdsBy_3 4 rfl rfl)
theorem dX2_holdsBy_93 : decode cX2_holdsBy 93 = .ok (.iconst 3, 1) := dk_6 (dk_at dksX2_holdsBy_3 5 rfl rfl)
theorem dX2_holdsBy_94 : decode cX2_holdsBy 94 = .ok (.invokevirtual 371, 3) := dk_182 1 115 (dk_at dksX2_holdsBy_3 6 rfl rfl)
theorem dX2_holdsBy_97 : decode cX2_holdsBy 97 = .ok (.invokevirtual 362, 3) := dk_182 1 106 (dk_at dksX2_holdsBy_3 9 rfl rfl)
theorem dX2_holdsBy_100 : decode cX2_holdsBy 100 = .ok (.iload 4, 2) := dk_21 4 (dk_at dksX2_holdsBy_3 12 rfl rfl)
theorem dX2_holdsBy_102 : decode cX2_holdsBy 102 = .ok (.if_icmp .lt 7, 3) := dk_161 0 7 (dk_at dksX2_holdsBy_3 14 rfl rfl)
theorem dX2_holdsBy_105 : decode cX2_holdsBy 105 = .ok (.iconst 1, 1) := dk_4 (dk_at dksX2_holdsBy_3 17 rfl rfl)
theorem dX2_holdsBy_106 : decode cX2_holdsBy 106 = .ok (.goto 4, 3) := dk_167 0 4 (dk_at dksX2_holdsBy_3 18 rfl rfl)
theorem dX2_holdsBy_109 : decode cX2_holdsBy 109 = .ok (.iconst 0, 1) := dk_3 (dk_at dksX2_holdsBy_3 21 rfl rfl)
theorem dX2_holdsBy_110 : decode cX2_holdsBy 110 = .ok (.ireturn, 1) := dk_172 (dk_at dksX2_holdsBy_3 22 rfl rfl)
theorem dX2_holdsBy_111 : decode cX2_holdsBy 111 = .ok (.aload_n 0, 1) := dk_42 (dk_at dksX2_holdsBy_3 23 rfl rfl)
theorem dX2_holdsBy_112 : decode cX2_holdsBy 112 = .ok (.getfield 50, 3) := dk_180 0 50 (dk_at dksX2_holdsBy_4 0 rfl rfl)
theorem dX2_holdsBy_115 : decode cX2_holdsBy 115 = .ok (.iconst 4, 1) := dk_7 (dk_at dksX2_holdsBy_4 3 rfl rfl)
theorem dX2_holdsBy_116 : decode cX2_holdsBy 116 = .ok (.iload 4, 2) := dk_21 4 (dk_at dksX2_holdsBy_4 4 rfl rfl)
theorem dX2_holdsBy_118 : decode cX2_holdsBy 118 = .ok (.imul, 1) := dk_104 (dk_at dksX2_holdsBy_4 6 rfl rfl)
theorem dX2_holdsBy_119 : decode cX2_holdsBy 119 = .ok (.iload_n 2, 1) := dk_28 (dk_at dksX2_holdsBy_4 7 rfl rfl)
theorem dX2_holdsBy_120 : decode cX2_holdsBy 120 = .ok (.iadd, 1) := dk_96 (dk_at dksX2_holdsBy_4 8 rfl rfl)
theorem dX2_holdsBy_121 : decode cX2_holdsBy 121 = .ok (.iaload, 1) := dk_46 (dk_at dksX2_holdsBy_4 9 rfl rfl)
theorem dX2_holdsBy_122 : decode cX2_holdsBy 122 = .ok (.iload_n 3, 1) := dk_29 (dk_at dksX2_holdsBy_4 10 rfl rfl)
theorem dX2_holdsBy_123 : decode cX2_holdsBy 123 = .ok (.invokestatic 64, 3) := dk_184 0 64 (dk_at dksX2_holdsBy_4 11 rfl rfl)
theorem dX2_holdsBy_126 : decode cX2_holdsBy 126 = .ok (.ifCond .ne 7, 3) := dk_154 0 7 (dk_at dksX2_holdsBy_4 14 rfl rfl)
theorem dX2_holdsBy_129 : decode cX2_holdsBy 129 = .ok (.iconst 1, 1) := dk_4 (dk_at dksX2_holdsBy_4 17 rfl rfl)
theorem dX2_holdsBy_130 : decode cX2_holdsBy 130 = .ok (.goto 4, 3) := dk_167 0 4 (dk_at dksX2_holdsBy_4 18 rfl rfl)
theorem dX2_holdsBy_133 : decode cX2_holdsBy 133 = .ok (.iconst 0, 1) := dk_3 (dk_at dksX2_holdsBy_4 21 rfl rfl)
theorem dX2_holdsBy_134 : decode cX2_holdsBy 134 = .ok (.ireturn, 1) := dk_172 (dk_at dksX2_holdsBy_4 22 rfl rfl)
theorem dX2_holdsBy_135 : decode cX2_holdsBy 135 = .ok (.aload_n 0, 1) := dk_42 (dk_at dksX2_holdsBy_4 23 rfl rfl)
theorem dX2_holdsBy_136 : decode cX2_holdsBy 136 = .ok (.getfield 50, 3) := dk_180 0 50 (dk_at dksX2_holdsBy_5 0 rfl rfl)
theorem dX2_holdsBy_139 : decode cX2_holdsBy 139 = .ok (.iconst 4, 1) := dk_7 (dk_at dksX2_holdsBy_5 3 rfl rfl)
theorem dX2_holdsBy_140 : decode cX2_holdsBy 140 = .ok (.iload 4, 2) := dk_21 4 (dk_at dksX2_holdsBy_5 4 rfl rfl)
theorem dX2_holdsBy_142 : decode cX2_holdsBy 142 = .ok (.imul, 1) := dk_104 (dk_at dksX2_holdsBy_5 6 rfl rfl)
theorem dX2_holdsBy_143 : decode cX2_holdsBy 143 = .ok (.iload_n 2, 1) := dk_28 (dk_at dksX2_holdsBy_5 7 rfl rfl)
theorem dX2_holdsBy_144 : decode cX2_holdsBy 144 = .ok (.iadd, 1) := dk_96 (dk_at dksX2_holdsBy_5 8 rfl rfl)
theorem dX2_holdsBy_145 : decode cX2_holdsBy 145 = .ok (.iaload, 1) := dk_46 (dk_at dksX2_holdsBy_5 9 rfl rfl)
theorem dX2_holdsBy_146 : decode cX2_holdsBy 146 = .ok (.iconst 2, 1) := dk_5 (dk_at dksX2_holdsBy_5 10 rfl rfl)
theorem dX2_holdsBy_147 : decode cX2_holdsBy 147 = .ok (.iload_n 3, 1) := dk_29 (dk_at dksX2_holdsBy_5 11 rfl rfl)
theorem dX2_holdsBy_148 : decode cX2_holdsBy 148 = .ok (.ishl, 1) := dk_120 (dk_at dksX2_holdsBy_5 12 rfl rfl)
theorem dX2_holdsBy_149 : decode cX2_holdsBy 149 = .ok (.iconst 1, 1) := dk_4 (dk_at dksX2_holdsBy_5 13 rfl rfl)
theorem dX2_holdsBy_150 : decode cX2_holdsBy 150 = .ok (.isub, 1) := dk_100 (dk_at dksX2_holdsBy_5 14 rfl rfl)
theorem dX2_holdsBy_151 : decode cX2_holdsBy 151 = .ok (.iand, 1) := dk_126 (dk_at dksX2_holdsBy_5 15 rfl rfl)
theorem dX2_holdsBy_152 : decode cX2_holdsBy 152 = .ok (.ifCond .eq 7, 3) := dk_153 0 7 (dk_at dksX2_holdsBy_5 16 rfl rfl)
theorem dX2_holdsBy_155 : decode cX2_holdsBy 155 = .ok (.iconst 1, 1) := dk_4 (dk_at dksX2_holdsBy_5 19 rfl rfl)
theorem dX2_holdsBy_156 : decode cX2_holdsBy 156 = .ok (.goto 4, 3) := dk_167 0 4 (dk_at dksX2_holdsBy_5 20 rfl rfl)
theorem dX2_holdsBy_159 : decode cX2_holdsBy 159 = .ok (.iconst 0, 1) := dk_3 (dk_at dksX2_holdsBy_5 23 rfl rfl)
theorem dX2_holdsBy_160 : decode cX2_holdsBy 160 = .ok (.ireturn, 1) := dk_172 (dk_at dksX2_holdsBy_6 0 rfl rfl)
theorem dX2_holdsBy_161 : decode cX2_holdsBy 161 = .ok (.aload_n 0, 1) := dk_42 (dk_at dksX2_holdsBy_6 1 rfl rfl)
theorem dX2_holdsBy_162 : decode cX2_holdsBy 162 = .ok (.getfield 50, 3) := dk_180 0 50 (dk_at dksX2_holdsBy_6 2 rfl rfl)
theorem dX2_holdsBy_165 : decode cX2_holdsBy 165 = .ok (.iconst 4, 1) := dk_7 (dk_at dksX2_holdsBy_6 5 rfl rfl)
theorem dX2_holdsBy_166 : decode cX2_holdsBy 166 = .ok (.iload 4, 2) := dk_21 4 (dk_at dksX2_holdsBy_6 6 rfl rfl)
theorem dX2_holdsBy_168 : decode cX2_holdsBy 168 = .ok (.imul, 1) := dk_104 (dk_at dksX2_holdsBy_6 8 rfl rfl)
theorem dX2_holdsBy_169 : decode cX2_holdsBy 169 = .ok (.iload_n 2, 1) := dk_28 (dk_at dksX2_holdsBy_6 9 rfl rfl)
theorem dX2_holdsBy_170 : decode cX2_holdsBy 170 = .ok (.iadd, 1) := dk_96 (dk_at dksX2_holdsBy_6 10 rfl rfl)
theorem dX2_holdsBy_171 : decode cX2_holdsBy 171 = .ok (.iaload, 1) := dk_46 (dk_at dksX2_holdsBy_6 11 rfl rfl)
theorem dX2_holdsBy_172 : decode cX2_holdsBy 172 = .ok (.iload_n 3, 1) := dk_29 (dk_at dksX2_holdsBy_6 12 rfl rfl)
theorem dX2_holdsBy_173 : decode cX2_holdsBy 173 = .ok (.invokestatic 64, 3) := dk_184 0 64 (dk_at dksX2_holdsBy_6 13 rfl rfl)
theorem dX2_holdsBy_176 : decode cX2_holdsBy 176 = .ok (.ifCond .eq 31, 3) := dk_153 0 31 (dk_at dksX2_holdsBy_6 16 rfl rfl)
theorem dX2_holdsBy_179 : decode cX2_holdsBy 179 = .ok (.iload_n 3, 1) := dk_29 (dk_at dksX2_holdsBy_6 19 rfl rfl)
theorem dX2_holdsBy_180 : decode cX2_holdsBy 180 = .ok (.ifCond .eq 23, 3) := dk_153 0 23 (dk_at dksX2_holdsBy_6 20 rfl rfl)
theorem dX2_holdsBy_183 : decode cX2_holdsBy 183 = .ok (.aload_n 0, 1) := dk_42 (dk_at dksX2_holdsBy_6 23 rfl rfl)
theorem dX2_holdsBy_184 : decode cX2_holdsBy 184 = .ok (.getfield 50, 3) := dk_180 0 50 (dk_at dksX2_holdsBy_7 0 rfl rfl)
theorem dX2_holdsBy_187 : decode cX2_holdsBy 187 = .ok (.iconst 4, 1) := dk_7 (dk_at dksX2_holdsBy_7 3 rfl rfl)
theorem dX2_holdsBy_188 : decode cX2_holdsBy 188 = .ok (.iload 4, 2) := dk_21 4 (dk_at dksX2_holdsBy_7 4 rfl rfl)
theorem dX2_holdsBy_190 : decode cX2_holdsBy 190 = .ok (.imul, 1) := dk_104 (dk_at dksX2_holdsBy_7 6 rfl rfl)
theorem dX2_holdsBy_191 : decode cX2_holdsBy 191 = .ok (.iload_n 2, 1) := dk_28 (dk_at dksX2_holdsBy_7 7 rfl rfl)
theorem dX2_holdsBy_192 : decode cX2_holdsBy 192 = .ok (.iadd, 1) := dk_96 (dk_at dksX2_holdsBy_7 8 rfl rfl)
theorem dX2_holdsBy_193 : decode cX2_holdsBy 193 = .ok (.iaload, 1) := dk_46 (dk_at dksX2_holdsBy_7 9 rfl rfl)
theorem dX2_holdsBy_194 : decode cX2_holdsBy 194 = .ok (.iload_n 3, 1) := dk_29 (dk_at dksX2_holdsBy_7 10 rfl rfl)
theorem dX2_holdsBy_195 : decode cX2_holdsBy 195 = .ok (.iconst 1, 1) := dk_4 (dk_at dksX2_holdsBy_7 11 rfl rfl)
theorem dX2_holdsBy_196 : decode cX2_holdsBy 196 = .ok (.isub, 1) := dk_100 (dk_at dksX2_holdsBy_7 12 rfl rfl)
theorem dX2_holdsBy_197 : decode cX2_holdsBy 197 = .ok (.invokestatic 64, 3) := dk_184 0 64 (dk_at dksX2_holdsBy_7 13 rfl rfl)
theorem dX2_holdsBy_200 : decode cX2_holdsBy 200 = .ok (.ifCond .ne 7, 3) := dk_154 0 7 (dk_at dksX2_holdsBy_7 16 rfl rfl)
theorem dX2_holdsBy_203 : decode cX2_holdsBy 203 = .ok (.iconst 1, 1) := dk_4 (dk_at dksX2_holdsBy_7 19 rfl rfl)
theorem dX2_holdsBy_204 : decode cX2_holdsBy 204 = .ok (.goto 4, 3) := dk_167 0 4 (dk_at dksX2_holdsBy_7 20 rfl rfl)
theorem dX2_holdsBy_207 : decode cX2_holdsBy 207 = .ok (.iconst 0, 1) := dk_3 (dk_at dksX2_holdsBy_7 23 rfl rfl)
theorem dX2_holdsBy_208 : decode cX2_holdsBy 208 = .ok (.ireturn, 1) := dk_172 (dk_at dksX2_holdsBy_8 0 rfl rfl)
theorem dX2_holdsBy_209 : decode cX2_holdsBy 209 = .ok (.aload_n 0, 1) := dk_42 (dk_at dksX2_holdsBy_8 1 rfl rfl)
theorem dX2_holdsBy_210 : decode cX2_holdsBy 210 = .ok (.getfield 50, 3) := dk_180 0 50 (dk_at dksX2_holdsBy_8 2 rfl rfl)
theorem dX2_holdsBy_213 : decode cX2_holdsBy 213 = .ok (.iconst 4, 1) := dk_7 (dk_at dksX2_holdsBy_8 5 rfl rfl)
theorem dX2_holdsBy_214 : decode cX2_holdsBy 214 = .ok (.iload 4, 2) := dk_21 4 (dk_at dksX2_holdsBy_8 6 rfl rfl)
theorem dX2_holdsBy_216 : decode cX2_holdsBy 216 = .ok (.imul, 1) := dk_104 (dk_at dksX2_holdsBy_8 8 rfl rfl)
theorem dX2_holdsBy_217 : decode cX2_holdsBy 217 = .ok (.iload_n 2, 1) := dk_28 (dk_at dksX2_holdsBy_8 9 rfl rfl)
theorem dX2_holdsBy_218 : decode cX2_holdsBy 218 = .ok (.iadd, 1) := dk_96 (dk_at dksX2_holdsBy_8 10 rfl rfl)
theorem dX2_holdsBy_219 : decode cX2_holdsBy 219 = .ok (.iaload, 1) := dk_46 (dk_at dksX2_holdsBy_8 11 rfl rfl)
theorem dX2_holdsBy_220 : decode cX2_holdsBy 220 = .ok (.aload_n 0, 1) := dk_42 (dk_at dksX2_holdsBy_8 12 rfl rfl)
theorem dX2_holdsBy_221 : decode cX2_holdsBy 221 = .ok (.getfield 50, 3) := dk_180 0 50 (dk_at dksX2_holdsBy_8 13 rfl rfl)
theorem dX2_holdsBy_224 : decode cX2_holdsBy 224 = .ok (.iconst 4, 1) := dk_7 (dk_at dksX2_holdsBy_8 16 rfl rfl)
theorem dX2_holdsBy_225 : decode cX2_holdsBy 225 = .ok (.iload 5, 2) := dk_21 5 (dk_at dksX2_holdsBy_8 17 rfl rfl)
theorem dX2_holdsBy_227 : decode cX2_holdsBy 227 = .ok (.imul, 1) := dk_104 (dk_at dksX2_holdsBy_8 19 rfl rfl)
theorem dX2_holdsBy_228 : decode cX2_holdsBy 228 = .ok (.iload_n 2, 1) := dk_28 (dk_at dksX2_holdsBy_8 20 rfl rfl)
theorem dX2_holdsBy_229 : decode cX2_holdsBy 229 = .ok (.iadd, 1) := dk_96 (dk_at dksX2_holdsBy_8 21 rfl rfl)
theorem dX2_holdsBy_230 : decode cX2_holdsBy 230 = .ok (.iaload, 1) := dk_46 (dk_at dksX2_holdsBy_8 22 rfl rfl)
theorem dX2_holdsBy_231 : decode cX2_holdsBy 231 = .ok (.iand, 1) := dk_126 (dk_at dksX2_holdsBy_8 23 rfl rfl)
theorem dX2_holdsBy_232 : decode cX2_holdsBy 232 = .ok (.iload_n 3, 1) := dk_29 (dk_at dksX2_holdsBy_9 0 rfl rfl)
theorem dX2_holdsBy_233 : decode cX2_holdsBy 233 = .ok (.invokestatic 64, 3) := dk_184 0 64 (dk_at dksX2_holdsBy_9 1 rfl rfl)
theorem dX2_holdsBy_236 : decode cX2_holdsBy 236 = .ok (.ireturn, 1) := dk_172 (dk_at dksX2_holdsBy_9 4 rfl rfl)
theorem dX2_holdsBy_237 : decode cX2_holdsBy 237 = .ok (.aload_n 0, 1) := dk_42 (dk_at dksX2_holdsBy_9 5 rfl rfl)
theorem dX2_holdsBy_238 : decode cX2_holdsBy 238 = .ok (.getfield 50, 3) := dk_180 0 50 (dk_at dksX2_holdsBy_9 6 rfl rfl)
theorem dX2_holdsBy_241 : decode cX2_holdsBy 241 = .ok (.iconst 4, 1) := dk_7 (dk_at dksX2_holdsBy_9 9 rfl rfl)
theorem dX2_holdsBy_242 : decode cX2_holdsBy 242 = .ok (.iload 4, 2) := dk_21 4 (dk_at dksX2_holdsBy_9 10 rfl rfl)
theorem dX2_holdsBy_244 : decode cX2_holdsBy 244 = .ok (.imul, 1) := dk_104 (dk_at dksX2_holdsBy_9 12 rfl rfl)
theorem dX2_holdsBy_245 : decode cX2_holdsBy 245 = .ok (.iload_n 2, 1) := dk_28 (dk_at dksX2_holdsBy_9 13 rfl rfl)
theorem dX2_holdsBy_246 : decode cX2_holdsBy 246 = .ok (.iadd, 1) := dk_96 (dk_at dksX2_holdsBy_9 14 rfl rfl)
theorem dX2_holdsBy_247 : decode cX2_holdsBy 247 = .ok (.iaload, 1) := dk_46 (dk_at dksX2_holdsBy_9 15 rfl rfl)
theorem dX2_holdsBy_248 : decode cX2_holdsBy 248 = .ok (.aload_n 0, 1) := dk_42 (dk_at dksX2_holdsBy_9 16 rfl rfl)
theorem dX2_holdsBy_249 : decode cX2_holdsBy 249 = .ok (.getfield 50, 3) := dk_180 0 50 (dk_at dksX2_holdsBy_9 17 rfl rfl)
theorem dX2_holdsBy_252 : decode cX2_holdsBy 252 = .ok (.iconst 4, 1) := dk_7 (dk_at dksX2_holdsBy_9 20 rfl rfl)
theorem dX2_holdsBy_253 : decode cX2_holdsBy 253 = .ok (.iload 5, 2) := dk_21 5 (dk_at dksX2_holdsBy_9 21 rfl rfl)
theorem dX2_holdsBy_255 : decode cX2_holdsBy 255 = .ok (.imul, 1) := dk_104 (dk_at dksX2_holdsBy_9 23 rfl rfl)
theorem dX2_holdsBy_256 : decode cX2_holdsBy 256 = .ok (.iload_n 2, 1) := dk_28 (dk_at dksX2_holdsBy_10 0 rfl rfl)
theorem dX2_holdsBy_257 : decode cX2_holdsBy 257 = .ok (.iadd, 1) := dk_96 (dk_at dksX2_holdsBy_10 1 rfl rfl)
theorem dX2_holdsBy_258 : decode cX2_holdsBy 258 = .ok (.iaload, 1) := dk_46 (dk_at dksX2_holdsBy_10 2 rfl rfl)
theorem dX2_holdsBy_259 : decode cX2_holdsBy 259 = .ok (.ior, 1) := dk_128 (dk_at dksX2_holdsBy_10 3 rfl rfl)
theorem dX2_holdsBy_260 : decode cX2_holdsBy 260 = .ok (.iload_n 3, 1) := dk_29 (dk_at dksX2_holdsBy_10 4 rfl rfl)
theorem dX2_holdsBy_261 : decode cX2_holdsBy 261 = .ok (.invokestatic 64, 3) := dk_184 0 64 (dk_at dksX2_holdsBy_10 5 rfl rfl)
theorem dX2_holdsBy_264 : decode cX2_holdsBy 264 = .ok (.ireturn, 1) := dk_172 (dk_at dksX2_holdsBy_10 8 rfl rfl)
abbrev cX2_timesOf : ByteArray := prog_25_method_91_code
def yX2_timesOf : MethodName := ⟨RX2, "timesOf", "(III)I"⟩
def dkwX2_timesOf_2 : List UInt8 := [172]
abbrev dktX2_timesOf_2 : List UInt8 := dkwX2_timesOf_2 ++ []
def dkwX2_timesOf_1 : List UInt8 := [21, 5, 182, 1, 127, 153, 0, 7, 4, 167, 0, 4, 3, 96, 54, 4, 132, 5, 1, 167, 255, 220, 21, 4]
abbrev dktX2_timesOf_1 : List UInt8 := dkwX2_timesOf_1 ++ dktX2_timesOf_2
def dkwX2_timesOf_0 : List UInt8 := [3, 54, 4, 3, 54, 5, 21, 5, 42, 28, 29, 182, 1, 13, 162, 0, 31, 21, 4, 42, 27, 28, 29]
abbrev dktX2_timesOf_0 : List UInt8 := dkwX2_timesOf_0 ++ dktX2_timesOf_1
theorem dksX2_timesOf_0 : cX2_timesOf.data.toList.drop 0 = dktX2_timesOf_0 := by decide +kernel
theorem dksX2_timesOf_1 : cX2_timesOf.data.toList.drop 23 = dktX2_timesOf_1 := dk_seg dksX2_timesOf_0 23 rfl rfl
theorem dksX2_timesOf_2 : cX2_timesOf.data.toList.drop 47 = dktX2_timesOf_2 := dk_seg dksX2_timesOf_1 24 rfl rfl
theorem dX2_timesOf_0 : decode cX2_timesOf 0 = .ok (.iconst 0, 1) := dk_3 (dk_at dksX2_timesOf_0 0 rfl rfl)
theorem dX2_timesOf_1 : decode cX2_timesOf 1 = .ok (.istore 4, 2) := dk_54 4 (dk_at dksX2_timesOf_0 1 rfl rfl)
theorem dX2_timesOf_3 : decode cX2_timesOf 3 = .ok (.iconst 0, 1) := dk_3 (dk_at dksX2_timesOf_0 3 rfl rfl)
theorem dX2_timesOf_4 : decode cX2_timesOf 4 = .ok (.istore 5, 2) := dk_54 5 (dk_at dksX2_timesOf_0 4 rfl rfl)
theorem dX2_timesOf_6 : decode cX2_timesOf 6 = .ok (.iload 5, 2) := dk_21 5 (dk_at dksX2_timesOf_0 6 rfl rfl)
theorem dX2_timesOf_8 : decode cX2_timesOf 8 = .ok (.aload_n 0, 1) := dk_42 (dk_at dksX2_timesOf_0 8 rfl rfl)
theorem dX2_timesOf_9 : decode cX2_timesOf 9 = .ok (.iload_n 2, 1) := dk_28 (dk_at dksX2_timesOf_0 9 rfl rfl)
theorem dX2_timesOf_10 : decode cX2_timesOf 10 = .ok (.iload_n 3, 1) := dk_29 (dk_at dksX2_timesOf_0 10 rfl rfl)
theorem dX2_timesOf_11 : decode cX2_timesOf 11 = .ok (.invokevirtual 269, 3) := dk_182 1 13 (dk_at dksX2_timesOf_0 11 rfl rfl)
theorem dX2_timesOf_14 : decode cX2_timesOf 14 = .ok (.if_icmp .ge 31, 3) := dk_162 0 31 (dk_at dksX2_timesOf_0 14 rfl rfl)
theorem dX2_timesOf_17 : decode cX2_timesOf 17 = .ok (.iload 4, 2) := dk_21 4 (dk_at dksX2_timesOf_0 17 rfl rfl)
theorem dX2_timesOf_19 : decode cX2_timesOf 19 = .ok (.aload_n 0, 1) := dk_42 (dk_at dksX2_timesOf_0 19 rfl rfl)
theorem dX2_timesOf_20 : decode cX2_timesOf 20 = .ok (.iload_n 1, 1) := dk_27 (dk_at dksX2_timesOf_0 20 rfl rfl)
theorem dX2_timesOf_21 : decode cX2_timesOf 21 = .ok (.iload_n 2, 1) := dk_28 (dk_at dksX2_timesOf_0 21 rfl rfl)
theorem dX2_timesOf_22 : decode cX2_timesOf 22 = .ok (.iload_n 3, 1) := dk_29 (dk_at dksX2_timesOf_0 22 rfl rfl)
theorem dX2_timesOf_23 : decode cX2_timesOf 23 = .ok (.iload 5, 2) := dk_21 5 (dk_at dksX2_timesOf_1 0 rfl rfl)
theorem dX2_timesOf_25 : decode cX2_timesOf 25 = .ok (.invokevirtual 383, 3) := dk_182 1 127 (dk_at dksX2_timesOf_1 2 rfl rfl)
theorem dX2_timesOf_28 : decode cX2_timesOf 28 = .ok (.ifCond .eq 7, 3) := dk_153 0 7 (dk_at dksX2_timesOf_1 5 rfl rfl)
theorem dX2_timesOf_31 : decode cX2_timesOf 31 = .ok (.iconst 1, 1) := dk_4 (dk_at dksX2_timesOf_1 8 rfl rfl)
theorem dX2_timesOf_32 : decode cX2_timesOf 32 = .ok (.goto 4, 3) := dk_167 0 4 (dk_at dksX2_timesOf_1 9 rfl rfl)
theorem dX2_timesOf_35 : decode cX2_timesOf 35 = .ok (.iconst 0, 1) := dk_3 (dk_at dksX2_timesOf_1 12 rfl rfl)
theorem dX2_timesOf_36 : decode cX2_timesOf 36 = .ok (.iadd, 1) := dk_96 (dk_at dksX2_timesOf_1 13 rfl rfl)
theorem dX2_timesOf_37 : decode cX2_timesOf 37 = .ok (.istore 4, 2) := dk_54 4 (dk_at dksX2_timesOf_1 14 rfl rfl)
theorem dX2_timesOf_39 : decode cX2_timesOf 39 = .ok (.iinc 5 1, 3) := dk_132 5 1 (dk_at dksX2_timesOf_1 16 rfl rfl)
theorem dX2_timesOf_42 : decode cX2_timesOf 42 = .ok (.goto (-36), 3) := dk_167 255 220 (dk_at dksX2_timesOf_1 19 rfl rfl)
theorem dX2_timesOf_45 : decode cX2_timesOf 45 = .ok (.iload 4, 2) := dk_21 4 (dk_at dksX2_timesOf_1 22 rfl rfl)
theorem dX2_timesOf_47 : decode cX2_timesOf 47 = .ok (.ireturn, 1) := dk_172 (dk_at dksX2_timesOf_2 0 rfl rfl)
abbrev cX2_beginsAt : ByteArray := prog_25_method_90_code
def yX2_beginsAt : MethodName := ⟨RX2, "beginsAt", "(IIII)Z"⟩
def dkwX2_beginsAt_3 : List UInt8 := [3, 54, 6, 132, 7, 1, 167, 255, 211, 21, 6, 172]
abbrev dktX2_beginsAt_3 : List UInt8 := dkwX2_beginsAt_3 ++ []
def dkwX2_beginsAt_2 : List UInt8 := [21, 4, 21, 7, 96, 182, 1, 19, 42, 27, 6, 21, 7, 96, 182, 1, 115, 160, 0, 7, 4, 167, 0, 4]
abbrev dktX2_beginsAt_2 : List UInt8 := dkwX2_beginsAt_2 ++ dktX2_beginsAt_3
def dkwX2_beginsAt_1 : List UInt8 := [167, 0, 4, 3, 54, 6, 3, 54, 7, 21, 7, 21, 5, 162, 0, 44, 21, 6, 153, 0, 39, 42, 28, 29]
abbrev dktX2_beginsAt_1 : List UInt8 := dkwX2_beginsAt_1 ++ dktX2_beginsAt_2
def dkwX2_beginsAt_0 : List UInt8 := [42, 27, 4, 182, 1, 115, 54, 5, 21, 4, 21, 5, 96, 42, 28, 29, 182, 1, 13, 163, 0, 7, 4]
abbrev dktX2_beginsAt_0 : List UInt8 := dkwX2_beginsAt_0 ++ dktX2_beginsAt_1
theorem dksX2_beginsAt_0 : cX2_beginsAt.data.toList.drop 0 = dktX2_beginsAt_0 := by decide +kernel
theorem dksX2_beginsAt_1 : cX2_beginsAt.data.toList.drop 23 = dktX2_beginsAt_1 := dk_seg dksX2_beginsAt_0 23 rfl rfl
theorem dksX2_beginsAt_2 : cX2_beginsAt.data.toList.drop 47 = dktX2_beginsAt_2 := dk_seg dksX2_beginsAt_1 24 rfl rfl
theorem dksX2_beginsAt_3 : cX2_beginsAt.data.toList.drop 71 = dktX2_beginsAt_3 := dk_seg dksX2_beginsAt_2 24 rfl rfl
theorem dX2_beginsAt_0 : decode cX2_beginsAt 0 = .ok (.aload_n 0, 1) := dk_42 (dk_at dksX2_beginsAt_0 0 rfl rfl)
theorem dX2_beginsAt_1 : decode cX2_beginsAt 1 = .ok (.iload_n 1, 1) := dk_27 (dk_at dksX2_beginsAt_0 1 rfl rfl)
theorem dX2_beginsAt_2 : decode cX2_beginsAt 2 = .ok (.iconst 1, 1) := dk_4 (dk_at dksX2_beginsAt_0 2 rfl rfl)
theorem dX2_beginsAt_3 : decode cX2_beginsAt 3 = .ok (.invokevirtual 371, 3) := dk_182 1 115 (dk_at dksX2_beginsAt_0 3 rfl rfl)
theorem dX2_beginsAt_6 : decode cX2_beginsAt 6 = .ok (.istore 5, 2) := dk_54 5 (dk_at dksX2_beginsAt_0 6 rfl rfl)
theorem dX2_beginsAt_8 : decode cX2_beginsAt 8 = .ok (.iload 4, 2) := dk_21 4 (dk_at dksX2_beginsAt_0 8 rfl rfl)
theorem dX2_beginsAt_10 : decode cX2_beginsAt 10 = .ok (.iload 5, 2) := dk_21 5 (dk_at dksX2_beginsAt_0 10 rfl rfl)
theorem dX2_beginsAt_12 : decode cX2_beginsAt 12 = .ok (.iadd, 1) := dk_96 (dk_at dksX2_beginsAt_0 12 rfl rfl)
theorem dX2_beginsAt_13 : decode cX2_beginsAt 13 = .ok (.aload_n 0, 1) := dk_42 (dk_at dksX2_beginsAt_0 13 rfl rfl)
theorem dX2_beginsAt_14 : decode cX2_beginsAt 14 = .ok (.iload_n 2, 1) := dk_28 (dk_at dksX2_beginsAt_0 14 rfl rfl)
theorem dX2_beginsAt_15 : decode cX2_beginsAt 15 = .ok (.iload_n 3, 1) := dk_29 (dk_at dksX2_beginsAt_0 15 rfl rfl)
theorem dX2_beginsAt_16 : decode cX2_beginsAt 16 = .ok (.invokevirtual 269, 3) := dk_182 1 13 (dk_at dksX2_beginsAt_0 16 rfl rfl)
theorem dX2_beginsAt_19 : decode cX2_beginsAt 19 = .ok (.if_icmp .gt 7, 3) := dk_163 0 7 (dk_at dksX2_beginsAt_0 19 rfl rfl)
theorem dX2_beginsAt_22 : decode cX2_beginsAt 22 = .ok (.iconst 1, 1) := dk_4 (dk_at dksX2_beginsAt_0 22 rfl rfl)
theorem dX2_beginsAt_23 : decode cX2_beginsAt 23 = .ok (.goto 4, 3) := dk_167 0 4 (dk_at dksX2_beginsAt_1 0 rfl rfl)
theorem dX2_beginsAt_26 : decode cX2_beginsAt 26 = .ok (.iconst 0, 1) := dk_3 (dk_at dksX2_beginsAt_1 3 rfl rfl)
theorem dX2_beginsAt_27 : decode cX2_beginsAt 27 = .ok (.istore 6, 2) := dk_54 6 (dk_at dksX2_beginsAt_1 4 rfl rfl)
theorem dX2_beginsAt_29 : decode cX2_beginsAt 29 = .ok (.iconst 0, 1) := dk_3 (dk_at dksX2_beginsAt_1 6 rfl rfl)
theorem dX2_beginsAt_30 : decode cX2_beginsAt 30 = .ok (.istore 7, 2) := dk_54 7 (dk_at dksX2_beginsAt_1 7 rfl rfl)
theorem dX2_beginsAt_32 : decode cX2_beginsAt 32 = .ok (.iload 7, 2) := dk_21 7 (dk_at dksX2_beginsAt_1 9 rfl rfl)
theorem dX2_beginsAt_34 : decode cX2_beginsAt 34 = .ok (.iload 5, 2) := dk_21 5 (dk_at dksX2_beginsAt_1 11 rfl rfl)
theorem dX2_beginsAt_36 : decode cX2_beginsAt 36 = .ok (.if_icmp .ge 44, 3) := dk_162 0 44 (dk_at dksX2_beginsAt_1 13 rfl rfl)
theorem dX2_beginsAt_39 : decode cX2_beginsAt 39 = .ok (.iload 6, 2) := dk_21 6 (dk_at dksX2_beginsAt_1 16 rfl rfl)
theorem dX2_beginsAt_41 : decode cX2_beginsAt 41 = .ok (.ifCond .eq 39, 3) := dk_153 0 39 (dk_at dksX2_beginsAt_1 18 rfl rfl)
theorem dX2_beginsAt_44 : decode cX2_beginsAt 44 = .ok (.aload_n 0, 1) := dk_42 (dk_at dksX2_beginsAt_1 21 rfl rfl)
theorem dX2_beginsAt_45 : decode cX2_beginsAt 45 = .ok (.iload_n 2, 1) := dk_28 (dk_at dksX2_beginsAt_1 22 rfl rfl)
theorem dX2_beginsAt_46 : decode cX2_beginsAt 46 = .ok (.iload_n 3, 1) := dk_29 (dk_at dksX2_beginsAt_1 23 rfl rfl)
theorem dX2_beginsAt_47 : decode cX2_beginsAt 47 = .ok (.iload 4, 2) := dk_21 4 (dk_at dksX2_beginsAt_2 0 rfl rfl)
theorem dX2_beginsAt_49 : decode cX2_beginsAt 49 = .ok (.iload 7, 2) := dk_21 7 (dk_at dksX2_beginsAt_2 2 rfl rfl)
theorem dX2_beginsAt_51 : decode cX2_beginsAt 51 = .ok (.iadd, 1) := dk_96 (dk_at dksX2_beginsAt_2 4 rfl rfl)
theorem dX2_beginsAt_52 : decode cX2_beginsAt 52 = .ok (.invokevirtual 275, 3) := dk_182 1 19 (dk_at dksX2_beginsAt_2 5 rfl rfl)
theorem dX2_beginsAt_55 : decode cX2_beginsAt 55 = .ok (.aload_n 0, 1) := dk_42 (dk_at dksX2_beginsAt_2 8 rfl rfl)
theorem dX2_beginsAt_56 : decode cX2_beginsAt 56 = .ok (.iload_n 1, 1) := dk_27 (dk_at dksX2_beginsAt_2 9 rfl rfl)
theorem dX2_beginsAt_57 : decode cX2_beginsAt 57 = .ok (.iconst 3, 1) := dk_6 (dk_at dksX2_beginsAt_2 10 rfl rfl)
theorem dX2_beginsAt_58 : decode cX2_beginsAt 58 = .ok (.iload 7, 2) := dk_21 7 (dk_at dksX2_beginsAt_2 11 rfl rfl)
theorem dX2_beginsAt_60 : decode cX2_beginsAt 60 = .ok (.iadd, 1) := dk_96 (dk_at dksX2_beginsAt_2 13 rfl rfl)
theorem dX2_beginsAt_61 : decode cX2_beginsAt 61 = .ok (.invokevirtual 371, 3) := dk_182 1 115 (dk_at dksX2_beginsAt_2 14 rfl rfl)
theorem dX2_beginsAt_64 : decode cX2_beginsAt 64 = .ok (.if_icmp .ne 7, 3) := dk_160 0 7 (dk_at dksX2_beginsAt_2 17 rfl rfl)
theorem dX2_beginsAt_67 : decode cX2_beginsAt 67 = .ok (.iconst 1, 1) := dk_4 (dk_at dksX2_beginsAt_2 20 rfl rfl)
theorem dX2_beginsAt_68 : decode cX2_beginsAt 68 = .ok (.goto 4, 3) := dk_167 0 4 (dk_at dksX2_beginsAt_2 21 rfl rfl)
theorem dX2_beginsAt_71 : decode cX2_beginsAt 71 = .ok (.iconst 0, 1) := dk_3 (dk_at dksX2_beginsAt_3 0 rfl rfl)
theorem dX2_beginsAt_72 : decode cX2_beginsAt 72 = .ok (.istore 6, 2) := dk_54 6 (dk_at dksX2_beginsAt_3 1 rfl rfl)
theorem dX2_beginsAt_74 : decode cX2_beginsAt 74 = .ok (.iinc 7 1, 3) := dk_132 7 1 (dk_at dksX2_beginsAt_3 3 rfl rfl)
theorem dX2_beginsAt_77 : decode cX2_beginsAt 77 = .ok (.goto (-45), 3) := dk_167 255 211 (dk_at dksX2_beginsAt_3 6 rfl rfl)
theorem dX2_beginsAt_80 : decode cX2_beginsAt 80 = .ok (.iload 6, 2) := dk_21 6 (dk_at dksX2_beginsAt_3 9 rfl rfl)
theorem dX2_beginsAt_82 : decode cX2_beginsAt 82 = .ok (.ireturn, 1) := dk_172 (dk_at dksX2_beginsAt_3 11 rfl rfl)
abbrev cX2_areNear : ByteArray := prog_25_method_92_code
def yX2_areNear : MethodName := ⟨RX2, "areNear", "(III)Z"⟩
def dkwX2_areNear_5 : List UInt8 := [167, 255, 159, 132, 5, 1, 167, 255, 139, 21, 4, 172]
abbrev dktX2_areNear_5 : List UInt8 := dkwX2_areNear_5 ++ []
def dkwX2_areNear_4 : List UInt8 := [21, 6, 182, 1, 19, 42, 27, 7, 182, 1, 115, 160, 0, 7, 4, 167, 0, 4, 3, 54, 4, 132, 6, 1]
abbrev dktX2_areNear_4 : List UInt8 := dkwX2_areNear_4 ++ dktX2_areNear_5
def dkwX2_areNear_3 : List UInt8 := [153, 0, 41, 42, 28, 29, 21, 5, 182, 1, 19, 42, 27, 6, 182, 1, 115, 160, 0, 24, 42, 28, 29]
abbrev dktX2_areNear_3 : List UInt8 := dkwX2_areNear_3 ++ dktX2_areNear_4
def dkwX2_areNear_2 : List UInt8 := [21, 6, 100, 54, 7, 21, 4, 154, 0, 52, 21, 7, 4, 42, 27, 4, 182, 1, 115, 184, 0, 72]
abbrev dktX2_areNear_2 : List UInt8 := dkwX2_areNear_2 ++ dktX2_areNear_3
def dkwX2_areNear_1 : List UInt8 := [29, 182, 1, 13, 162, 0, 92, 21, 5, 21, 6, 162, 0, 11, 21, 6, 21, 5, 100, 167, 0, 8, 21, 5]
abbrev dktX2_areNear_1 : List UInt8 := dkwX2_areNear_1 ++ dktX2_areNear_2
def dkwX2_areNear_0 : List UInt8 := [3, 54, 4, 3, 54, 5, 21, 5, 42, 28, 29, 182, 1, 13, 162, 0, 112, 3, 54, 6, 21, 6, 42, 28]
abbrev dktX2_areNear_0 : List UInt8 := dkwX2_areNear_0 ++ dktX2_areNear_1
theorem dksX2_areNear_0 : cX2_areNear.data.toList.drop 0 = dktX2_areNear_0 := by decide +kernel
theorem dksX2_areNear_1 : cX2_areNear.data.toList.drop 24 = dktX2_areNear_1 := dk_seg dksX2_areNear_0 24 rfl rfl
theorem dksX2_areNear_2 : cX2_areNear.data.toList.drop 48 = dktX2_areNear_2 := dk_seg dksX2_areNear_1 24 rfl rfl
theorem dksX2_areNear_3 : cX2_areNear.data.toList.drop 70 = dktX2_areNear_3 := dk_seg dksX2_areNear_2 22 rfl rfl
theorem dksX2_areNear_4 : cX2_areNear.data.toList.drop 93 = dktX2_areNear_4 := dk_seg dksX2_areNear_3 23 rfl rfl
theorem dksX2_areNear_5 : cX2_areNear.data.toList.drop 117 = dktX2_areNear_5 := dk_seg dksX2_areNear_4 24 rfl rfl
theorem dX2_areNear_0 : decode cX2_areNear 0 = .ok (.iconst 0, 1) := dk_3 (dk_at dksX2_areNear_0 0 rfl rfl)
theorem dX2_areNear_1 : decode cX2_areNear 1 = .ok (.istore 4, 2) := dk_54 4 (dk_at dksX2_areNear_0 1 rfl rfl)
theorem dX2_areNear_3 : decode cX2_areNear 3 = .ok (.iconst 0, 1) := dk_3 (dk_at dksX2_areNear_0 3 rfl rfl)
theorem dX2_areNear_4 : decode cX2_areNear 4 = .ok (.istore 5, 2) := dk_54 5 (dk_at dksX2_areNear_0 4 rfl rfl)
theorem dX2_areNear_6 : decode cX2_areNear 6 = .ok (.iload 5, 2) := dk_21 5 (dk_at dksX2_areNear_0 6 rfl rfl)
theorem dX2_areNear_8 : decode cX2_areNear 8 = .ok (.aload_n 0, 1) := dk_42 (dk_at dksX2_areNear_0 8 rfl rfl)
theorem dX2_areNear_9 : decode cX2_areNear 9 = .ok (.iload_n 2, 1) := dk_28 (dk_at dksX2_areNear_0 9 rfl rfl)
theorem dX2_areNear_10 : decode cX2_areNear 10 = .ok (.iload_n 3, 1) := dk_29 (dk_at dksX2_areNear_0 10 rfl rfl)
theorem dX2_areNear_11 : decode cX2_areNear 11 = .ok (.invokevirtual 269, 3) := dk_182 1 13 (dk_at dksX2_areNear_0 11 rfl rfl)
theorem dX2_areNear_14 : decode cX2_areNear 14 = .ok (.if_icmp .ge 112, 3) := dk_162 0 112 (dk_at dksX2_areNear_0 14 rfl rfl)
theorem dX2_areNear_17 : decode cX2_areNear 17 = .ok (.iconst 0, 1) := dk_3 (dk_at dksX2_areNear_0 17 rfl rfl)
theorem dX2_areNear_18 : decode cX2_areNear 18 = .ok (.istore 6, 2) := dk_54 6 (dk_at dksX2_areNear_0 18 rfl rfl)
theorem dX2_areNear_20 : decode cX2_areNear 20 = .ok (.iload 6, 2) := dk_21 6 (dk_at dksX2_areNear_0 20 rfl rfl)
theorem dX2_areNear_22 : decode cX2_areNear 22 = .ok (.aload_n 0, 1) := dk_42 (dk_at dksX2_areNear_0 22 rfl rfl)
theorem dX2_areNear_23 : decode cX2_areNear 23 = .ok (.iload_n 2, 1) := dk_28 (dk_at dksX2_areNear_0 23 rfl rfl)
theorem dX2_areNear_24 : decode cX2_areNear 24 = .ok (.iload_n 3, 1) := dk_29 (dk_at dksX2_areNear_1 0 rfl rfl)
theorem dX2_areNear_25 : decode cX2_areNear 25 = .ok (.invokevirtual 269, 3) := dk_182 1 13 (dk_at dksX2_areNear_1 1 rfl rfl)
theorem dX2_areNear_28 : decode cX2_areNear 28 = .ok (.if_icmp .ge 92, 3) := dk_162 0 92 (dk_at dksX2_areNear_1 4 rfl rfl)
theorem dX2_areNear_31 : decode cX2_areNear 31 = .ok (.iload 5, 2) := dk_21 5 (dk_at dksX2_areNear_1 7 rfl rfl)
theorem dX2_areNear_33 : decode cX2_areNear 33 = .ok (.iload 6, 2) := dk_21 6 (dk_at dksX2_areNear_1 9 rfl rfl)
theorem dX2_areNear_35 : decode cX2_areNear 35 = .ok (.if_icmp .ge 11, 3) := dk_162 0 11 (dk_at dksX2_areNear_1 11 rfl rfl)
theorem dX2_areNear_38 : decode cX2_areNear 38 = .ok (.iload 6, 2) := dk_21 6 (dk_at dksX2_areNear_1 14 rfl rfl)
theorem dX2_areNear_40 : decode cX2_areNear 40 = .ok (.iload 5, 2) := dk_21 5 (dk_at dksX2_areNear_1 16 rfl rfl)
theorem dX2_areNear_42 : decode cX2_areNear 42 = .ok (.isub, 1) := dk_100 (dk_at dksX2_areNear_1 18 rfl rfl)
theorem dX2_areNear_43 : decode cX2_areNear 43 = .ok (.goto 8, 3) := dk_167 0 8 (dk_at dksX2_areNear_1 19 rfl rfl)
theorem dX2_areNear_46 : decode cX2_areNear 46 = .ok (.iload 5, 2) := dk_21 5 (dk_at dksX2_areNear_1 22 rfl rfl)
theorem dX2_areNear_48 : decode cX2_areNear 48 = .ok (.iload 6, 2) := dk_21 6 (dk_at dksX2_areNear_2 0 rfl rfl)
theorem dX2_areNear_50 : decode cX2_areNear 50 = .ok (.isub, 1) := dk_100 (dk_at dksX2_areNear_2 2 rfl rfl)
theorem dX2_areNear_51 : decode cX2_areNear 51 = .ok (.istore 7, 2) := dk_54 7 (dk_at dksX2_areNear_2 3 rfl rfl)
theorem dX2_areNear_53 : decode cX2_areNear 53 = .ok (.iload 4, 2) := dk_21 4 (dk_at dksX2_areNear_2 5 rfl rfl)
theorem dX2_areNear_55 : decode cX2_areNear 55 = .ok (.ifCond .ne 52, 3) := dk_154 0 52 (dk_at dksX2_areNear_2 7 rfl rfl)
theorem dX2_areNear_58 : decode cX2_areNear 58 = .ok (.iload 7, 2) := dk_21 7 (dk_at dksX2_areNear_2 10 rfl rfl)
theorem dX2_areNear_60 : decode cX2_areNear 60 = .ok (.iconst 1, 1) := dk_4 (dk_at dksX2_areNear_2 12 rfl rfl)
theorem dX2_areNear_61 : decode cX2_areNear 61 = .ok (.aload_n 0, 1) := dk_42 (dk_at dksX2_areNear_2 13 rfl rfl)
theorem dX2_areNear_62 : decode cX2_areNear 62 = .ok (.iload_n 1, 1) := dk_27 (dk_at dksX2_areNear_2 14 rfl rfl)
theorem dX2_areNear_63 : decode cX2_areNear 63 = .ok (.iconst 1, 1) := dk_4 (dk_at dksX2_areNear_2 15 rfl rfl)
theorem dX2_areNear_64 : decode cX2_areNear 64 = .ok (.invokevirtual 371, 3) := dk_182 1 115 (dk_at dksX2_areNear_2 16 rfl rfl)
theorem dX2_areNear_67 : decode cX2_areNear 67 = .ok (.invokestatic 72, 3) := dk_184 0 72 (dk_at dksX2_areNear_2 19 rfl rfl)
theorem dX2_areNear_70 : decode cX2_areNear 70 = .ok (.ifCond .eq 41, 3) := dk_153 0 41 (dk_at dksX2_areNear_3 0 rfl rfl)
theorem dX2_areNear_73 : decode cX2_areNear 73 = .ok (.aload_n 0, 1) := dk_42 (dk_at dksX2_areNear_3 3 rfl rfl)
theorem dX2_areNear_74 : decode cX2_areNear 74 = .ok (.iload_n 2, 1) := dk_28 (dk_at dksX2_areNear_3 4 rfl rfl)
theorem dX2_areNear_75 : decode cX2_areNear 75 = .ok (.iload_n 3, 1) := dk_29 (dk_at dksX2_areNear_3 5 rfl rfl)
theorem dX2_areNear_76 : decode cX2_areNear 76 = .ok (.iload 5, 2) := dk_21 5 (dk_at dksX2_areNear_3 6 rfl rfl)
theorem dX2_areNear_78 : decode cX2_areNear 78 = .ok (.invokevirtual 275, 3) := dk_182 1 19 (dk_at dksX2_areNear_3 8 rfl rfl)
theorem dX2_areNear_81 : decode cX2_areNear 81 = .ok (.aload_n 0, 1) := dk_42 (dk_at dksX2_areNear_3 11 rfl rfl)
theorem dX2_areNear_82 : decode cX2_areNear 82 = .ok (.iload_n 1, 1) := dk_27 (dk_at dksX2_areNear_3 12 rfl rfl)
theorem dX2_areNear_83 : decode cX2_areNear 83 = .ok (.iconst 3, 1) := dk_6 (dk_at dksX2_areNear_3 13 rfl rfl)
theorem dX2_areNear_84 : decode cX2_areNear 84 = .ok (.invokevirtual 371, 3) := dk_182 1 115 (dk_at dksX2_areNear_3 14 rfl rfl)
theorem dX2_areNear_87 : decode cX2_areNear 87 = .ok (.if_icmp .ne 24, 3) := dk_160 0 24 (dk_at dksX2_areNear_3 17 rfl rfl)
theorem dX2_areNear_90 : decode cX2_areNear 90 = .ok (.aload_n 0, 1) := dk_42 (dk_at dksX2_areNear_3 20 rfl rfl)
theorem dX2_areNear_91 : decode cX2_areNear 91 = .ok (.iload_n 2, 1) := dk_28 (dk_at dksX2_areNear_3 21 rfl rfl)
theorem dX2_areNear_92 : decode cX2_areNear 92 = .ok (.iload_n 3, 1) := dk_29 (dk_at dksX2_areNear_3 22 rfl rfl)
theorem dX2_areNear_93 : decode cX2_areNear 93 = .ok (.iload 6, 2) := dk_21 6 (dk_at dksX2_areNear_4 0 rfl rfl)
theorem dX2_areNear_95 : decode cX2_areNear 95 = .ok (.invokevirtual 275, 3) := dk_182 1 19 (dk_at dksX2_areNear_4 2 rfl rfl)
theorem dX2_areNear_98 : decode cX2_areNear 98 = .ok (.aload_n 0, 1) := dk_42 (dk_at dksX2_areNear_4 5 rfl rfl)
theorem dX2_areNear_99 : decode cX2_areNear 99 = .ok (.iload_n 1, 1) := dk_27 (dk_at dksX2_areNear_4 6 rfl rfl)
theorem dX2_areNear_100 : decode cX2_areNear 100 = .ok (.iconst 4, 1) := dk_7 (dk_at dksX2_areNear_4 7 rfl rfl)
theorem dX2_areNear_101 : decode cX2_areNear 101 = .ok (.invokevirtual 371, 3) := dk_182 1 115 (dk_at dksX2_areNear_4 8 rfl rfl)
theorem dX2_areNear_104 : decode cX2_areNear 104 = .ok (.if_icmp .ne 7, 3) := dk_160 0 7 (dk_at dksX2_areNear_4 11 rfl rfl)
theorem dX2_areNear_107 : decode cX2_areNear 107 = .ok (.iconst 1, 1) := dk_4 (dk_at dksX2_areNear_4 14 rfl rfl)
theorem dX2_areNear_108 : decode cX2_areNear 108 = .ok (.goto 4, 3) := dk_167 0 4 (dk_at dksX2_areNear_4 15 rfl rfl)
theorem dX2_areNear_111 : decode cX2_areNear 111 = .ok (.iconst 0, 1) := dk_3 (dk_at dksX2_areNear_4 18 rfl rfl)
theorem dX2_areNear_112 : decode cX2_areNear 112 = .ok (.istore 4, 2) := dk_54 4 (dk_at dksX2_areNear_4 19 rfl rfl)
theorem dX2_areNear_114 : decode cX2_areNear 114 = .ok (.iinc 6 1, 3) := dk_132 6 1 (dk_at dksX2_areNear_4 21 rfl rfl)
theorem dX2_areNear_117 : decode cX2_areNear 117 = .ok (.goto (-97), 3) := dk_167 255 159 (dk_at dksX2_areNear_5 0 rfl rfl)
theorem dX2_areNear_120 : decode cX2_areNear 120 = .ok (.iinc 5 1, 3) := dk_132 5 1 (dk_at dksX2_areNear_5 3 rfl rfl)
theorem dX2_areNear_123 : decode cX2_areNear 123 = .ok (.goto (-117), 3) := dk_167 255 139 (dk_at dksX2_areNear_5 6 rfl rfl)
theorem dX2_areNear_126 : decode cX2_areNear 126 = .ok (.iload 4, 2) := dk_21 4 (dk_at dksX2_areNear_5 9 rfl rfl)
theorem dX2_areNear_128 : decode cX2_areNear 128 = .ok (.ireturn, 1) := dk_172 (dk_at dksX2_areNear_5 11 rfl rfl)
abbrev cX2_isAsking : ByteArray := prog_25_method_95_code
def yX2_isAsking : MethodName := ⟨RX2, "isAsking", "(I)Z"⟩
def dkwX2_isAsking_0 : List UInt8 := [27, 3, 42, 182, 1, 121, 4, 100, 184, 0, 72, 172]
abbrev dktX2_isAsking_0 : List UInt8 := dkwX2_isAsking_0 ++ []
theorem dksX2_isAsking_0 : cX2_isAsking.data.toList.drop 0 = dktX2_isAsking_0 := by decide +kernel
theorem dX2_isAsking_0 : decode cX2_isAsking 0 = .ok (.iload_n 1, 1) := dk_27 (dk_at dksX2_isAsking_0 0 rfl rfl)
theorem dX2_isAsking_1 : decode cX2_isAsking 1 = .ok (.iconst 0, 1) := dk_3 (dk_at dksX2_isAsking_0 1 rfl rfl)
theorem dX2_isAsking_2 : decode cX2_isAsking 2 = .ok (.aload_n 0, 1) := dk_42 (dk_at dksX2_isAsking_0 2 rfl rfl)
theorem dX2_isAsking_3 : decode cX2_isAsking 3 = .ok (.invokevirtual 377, 3) := dk_182 1 121 (dk_at dksX2_isAsking_0 3 rfl rfl)
theorem dX2_isAsking_6 : decode cX2_isAsking 6 = .ok (.iconst 1, 1) := dk_4 (dk_at dksX2_isAsking_0 6 rfl rfl)
theorem dX2_isAsking_7 : decode cX2_isAsking 7 = .ok (.isub, 1) := dk_100 (dk_at dksX2_isAsking_0 7 rfl rfl)
theorem dX2_isAsking_8 : decode cX2_isAsking 8 = .ok (.invokestatic 72, 3) := dk_184 0 72 (dk_at dksX2_isAsking_0 8 rfl rfl)
theorem dX2_isAsking_11 : decode cX2_isAsking 11 = .ok (.ireturn, 1) := dk_172 (dk_at dksX2_isAsking_0 11 rfl rfl)
abbrev cX2_spans : ByteArray := prog_25_method_97_code
def yX2_spans : MethodName := ⟨RX2, "spans", "(IIIIIZ)I"⟩
def dkwX2_spans_8 : List UInt8 := [167, 255, 135, 2, 172]
abbrev dktX2_spans_8 : List UInt8 := dkwX2_spans_8 ++ []
def dkwX2_spans_7 : List UInt8 := [184, 0, 64, 153, 0, 18, 21, 8, 21, 5, 160, 0, 11, 21, 10, 153, 0, 6, 21, 9, 172, 132, 9, 1]
abbrev dktX2_spans_7 : List UInt8 := dkwX2_spans_7 ++ dktX2_spans_8
def dkwX2_spans_6 : List UInt8 := [21, 7, 21, 9, 4, 100, 184, 0, 64, 154, 0, 7, 4, 167, 0, 4, 3, 54, 10, 21, 7, 21, 9]
abbrev dktX2_spans_6 : List UInt8 := dkwX2_spans_6 ++ dktX2_spans_7
def dkwX2_spans_5 : List UInt8 := [21, 9, 4, 96, 184, 0, 64, 154, 0, 7, 4, 167, 0, 29, 3, 167, 0, 25, 21, 9, 153, 0, 15]
abbrev dktX2_spans_5 : List UInt8 := dkwX2_spans_5 ++ dktX2_spans_6
def dkwX2_spans_4 : List UInt8 := [4, 100, 184, 0, 64, 154, 0, 7, 4, 167, 0, 4, 3, 96, 54, 8, 21, 6, 153, 0, 23, 21, 7]
abbrev dktX2_spans_4 : List UInt8 := dkwX2_spans_4 ++ dktX2_spans_5
def dkwX2_spans_3 : List UInt8 := [162, 0, 120, 21, 8, 21, 7, 21, 9, 184, 0, 64, 153, 0, 24, 21, 9, 153, 0, 15, 21, 7, 21, 9]
abbrev dktX2_spans_3 : List UInt8 := dkwX2_spans_3 ++ dktX2_spans_4
def dkwX2_spans_2 : List UInt8 := [21, 5, 2, 160, 0, 9, 21, 7, 184, 1, 25, 172, 2, 54, 8, 3, 54, 9, 21, 9, 16, 10]
abbrev dktX2_spans_2 : List UInt8 := dkwX2_spans_2 ++ dktX2_spans_3
def dkwX2_spans_1 : List UInt8 := [21, 4, 182, 1, 0, 154, 0, 5, 2, 172, 42, 180, 0, 50, 7, 29, 104, 21, 4, 96, 46, 54, 7]
abbrev dktX2_spans_1 : List UInt8 := dkwX2_spans_1 ++ dktX2_spans_2
def dkwX2_spans_0 : List UInt8 := [42, 3, 181, 0, 60, 42, 27, 28, 182, 1, 139, 153, 0, 20, 42, 29, 182, 1, 142, 153, 0, 12, 42]
abbrev dktX2_spans_0 : List UInt8 := dkwX2_spans_0 ++ dktX2_spans_1
theorem dksX2_spans_0 : cX2_spans.data.toList.drop 0 = dktX2_spans_0 := by decide +kernel
theorem dksX2_spans_1 : cX2_spans.data.toList.drop 23 = dktX2_spans_1 := dk_seg dksX2_spans_0 23 rfl rfl
theorem dksX2_spans_2 : cX2_spans.data.toList.drop 46 = dktX2_spans_2 := dk_seg dksX2_spans_1 23 rfl rfl
theorem dksX2_spans_3 : cX2_spans.data.toList.drop 68 = dktX2_spans_3 := dk_seg dksX2_spans_2 22 rfl rfl
theorem dksX2_spans_4 : cX2_spans.data.toList.drop 92 = dktX2_spans_4 := dk_seg dksX2_spans_3 24 rfl rfl
theorem dksX2_spans_5 : cX2_spans.data.toList.drop 115 = dktX2_spans_5 := dk_seg dksX2_spans_4 23 rfl rfl
theorem dksX2_spans_6 : cX2_spans.data.toList.drop 138 = dktX2_spans_6 := dk_seg dksX2_spans_5 23 rfl rfl
theorem dksX2_spans_7 : cX2_spans.data.toList.drop 161 = dktX2_spans_7 := dk_seg dksX2_spans_6 23 rfl rfl
theorem dksX2_spans_8 : cX2_spans.data.toList.drop 185 = dktX2_spans_8 := dk_seg dksX2_spans_7 24 rfl rfl
theorem dX2_spans_0 : decode cX2_spans 0 = .ok (.aload_n 0, 1) := dk_42 (dk_at dksX2_spans_0 0 rfl rfl)
theorem dX2_spans_1 : decode cX2_spans 1 = .ok (.iconst 0, 1) := dk_3 (dk_at dksX2_spans_0 1 rfl rfl)
theorem dX2_spans_2 : decode cX2_spans 2 = .ok (.putfield 60, 3) := dk_181 0 60 (dk_at dksX2_spans_0 2 rfl rfl)
theorem dX2_spans_5 : decode cX2_spans 5 = .ok (.aload_n 0, 1) := dk_42 (dk_at dksX2_spans_0 5 rfl rfl)
theorem dX2_spans_6 : decode cX2_spans 6 = .ok (.iload_n 1, 1) := dk_27 (dk_at dksX2_spans_0 6 rfl rfl)
theorem dX2_spans_7 : decode cX2_spans 7 = .ok (.iload_n 2, 1) := dk_28 (dk_at dksX2_spans_0 7 rfl rfl)
theorem dX2_spans_8 : decode cX2_spans 8 = .ok (.invokevirtual 395, 3) := dk_182 1 139 (dk_at dksX2_spans_0 8 rfl rfl)
theorem dX2_spans_11 : decode cX2_spans 11 = .ok (.ifCond .eq 20, 3) := dk_153 0 20 (dk_at dksX2_spans_0 11 rfl rfl)
theorem dX2_spans_14 : decode cX2_spans 14 = .ok (.aload_n 0, 1) := dk_42 (dk_at dksX2_spans_0 14 rfl rfl)
theorem dX2_spans_15 : decode cX2_spans 15 = .ok (.iload_n 3, 1) := dk_29 (dk_at dksX2_spans_0 15 rfl rfl)
theorem dX2_spans_16 : decode cX2_spans 16 = .ok (.invokevirtual 398, 3) := dk_182 1 142 (dk_at dksX2_spans_0 16 rfl rfl)
theorem dX2_spans_19 : decode cX2_spans 19 = .ok (.ifCond .eq 12, 3) := dk_153 0 12 (dk_at dksX2_spans_0 19 rfl rfl)
theorem dX2_spans_22 : decode cX2_spans 22 = .ok (.aload_n 0, 1) := dk_42 (dk_at dksX2_spans_0 22 rfl rfl)
theorem dX2_spans_23 : decode cX2_spans 23 = .ok (.iload 4, 2) := dk_21 4 (dk_at dksX2_spans_1 0 rfl rfl)
theorem dX2_spans_25 : decode cX2_spans 25 = .ok (.invokevirtual 256, 3) := dk_182 1 0 (dk_at dksX2_spans_1 2 rfl rfl)
theorem dX2_spans_28 : decode cX2_spans 28 = .ok (.ifCond .ne 5, 3) := dk_154 0 5 (dk_at dksX2_spans_1 5 rfl rfl)
theorem dX2_spans_31 : decode cX2_spans 31 = .ok (.iconst (-1), 1) := dk_2 (dk_at dksX2_spans_1 8 rfl rfl)
theorem dX2_spans_32 : decode cX2_spans 32 = .ok (.ireturn, 1) := dk_172 (dk_at dksX2_spans_1 9 rfl rfl)
theorem dX2_spans_33 : decode cX2_spans 33 = .ok (.aload_n 0, 1) := dk_42 (dk_at dksX2_spans_1 10 rfl rfl)
theorem dX2_spans_34 : decode cX2_spans 34 = .ok (.getfield 50, 3) := dk_180 0 50 (dk_at dksX2_spans_1 11 rfl rfl)
theorem dX2_spans_37 : decode cX2_spans 37 = .ok (.iconst 4, 1) := dk_7 (dk_at dksX2_spans_1 14 rfl rfl)
theorem dX2_spans_38 : decode cX2_spans 38 = .ok (.iload_n 3, 1) := dk_29 (dk_at dksX2_spans_1 15 rfl rfl)
theorem dX2_spans_39 : decode cX2_spans 39 = .ok (.imul, 1) := dk_104 (dk_at dksX2_spans_1 16 rfl rfl)
theorem dX2_spans_40 : decode cX2_spans 40 = .ok (.iload 4, 2) := dk_21 4 (dk_at dksX2_spans_1 17 rfl rfl)
theorem dX2_spans_42 : decode cX2_spans 42 = .ok (.iadd, 1) := dk_96 (dk_at dksX2_spans_1 19 rfl rfl)
theorem dX2_spans_43 : decode cX2_spans 43 = .ok (.iaload, 1) := dk_46 (dk_at dksX2_spans_1 20 rfl rfl)
theorem dX2_spans_44 : decode cX2_spans 44 = .ok (.istore 7, 2) := dk_54 7 (dk_at dksX2_spans_1 21 rfl rfl)
theorem dX2_spans_46 : decode cX2_spans 46 = .ok (.iload 5, 2) := dk_21 5 (dk_at dksX2_spans_2 0 rfl rfl)
theorem dX2_spans_48 : decode cX2_spans 48 = .ok (.iconst (-1), 1) := dk_2 (dk_at dksX2_spans_2 2 rfl rfl)
theorem dX2_spans_49 : decode cX2_spans 49 = .ok (.if_icmp .ne 9, 3) := dk_160 0 9 (dk_at dksX2_spans_2 3 rfl rfl)
theorem dX2_spans_52 : decode cX2_spans 52 = .ok (.iload 7, 2) := dk_21 7 (dk_at dksX2_spans_2 6 rfl rfl)
theorem dX2_spans_54 : decode cX2_spans 54 = .ok (.invokestatic 281, 3) := dk_184 1 25 (dk_at dksX2_spans_2 8 rfl rfl)
theorem dX2_spans_57 : decode cX2_spans 57 = .ok (.ireturn, 1) := dk_172 (dk_at dksX2_spans_2 11 rfl rfl)
theorem dX2_spans_58 : decode cX2_spans 58 = .ok (.iconst (-1), 1) := dk_2 (dk_at dksX2_spans_2 12 rfl rfl)
theorem dX2_spans_59 : decode cX2_spans 59 = .ok (.istore 8, 2) := dk_54 8 (dk_at dksX2_spans_2 13 rfl rfl)
theorem dX2_spans_61 : decode cX2_spans 61 = .ok (.iconst 0, 1) := dk_3 (dk_at dksX2_spans_2 15 rfl rfl)
theorem dX2_spans_62 : decode cX2_spans 62 = .ok (.istore 9, 2) := dk_54 9 (dk_at dksX2_spans_2 16 rfl rfl)
theorem dX2_spans_64 : decode cX2_spans 64 = .ok (.iload 9, 2) := dk_21 9 (dk_at dksX2_spans_2 18 rfl rfl)
theorem dX2_spans_66 : decode cX2_spans 66 = .ok (.bipush 10, 2) := dk_16 10 (dk_at dksX2_spans_2 20 rfl rfl)
theorem dX2_spans_68 : decode cX2_spans 68 = .ok (.if_icmp .ge 120, 3) := dk_162 0 120 (dk_at dksX2_spans_3 0 rfl rfl)
theorem dX2_spans_71 : decode cX2_spans 71 = .ok (.iload 8, 2) := dk_21 8 (dk_at dksX2_spans_3 3 rfl rfl)
theorem dX2_spans_73 : decode cX2_spans 73 = .ok (.iload 7, 2) := dk_21 7 (dk_at dksX2_spans_3 5 rfl rfl)
theorem dX2_spans_75 : decode cX2_spans 75 = .ok (.iload 9, 2) := dk_21 9 (dk_at dksX2_spans_3 7 rfl rfl)
theorem dX2_spans_77 : decode cX2_spans 77 = .ok (.invokestatic 64, 3) := dk_184 0 64 (dk_at dksX2_spans_3 9 rfl rfl)
theorem dX2_spans_80 : decode cX2_spans 80 = .ok (.ifCond .eq 24, 3) := dk_153 0 24 (dk_at dksX2_spans_3 12 rfl rfl)
theorem dX2_spans_83 : decode cX2_spans 83 = .ok (.iload 9, 2) := dk_21 9 (dk_at dksX2_spans_3 15 rfl rfl)
theorem dX2_spans_85 : decode cX2_spans 85 = .ok (.ifCond .eq 15, 3) := dk_153 0 15 (dk_at dksX2_spans_3 17 rfl rfl)
theorem dX2_spans_88 : decode cX2_spans 88 = .ok (.iload 7, 2) := dk_21 7 (dk_at dksX2_spans_3 20 rfl rfl)
theorem dX2_spans_90 : decode cX2_spans 90 = .ok (.iload 9, 2) := dk_21 9 (dk_at dksX2_spans_3 22 rfl rfl)
theorem dX2_spans_92 : decode cX2_spans 92 = .ok (.iconst 1, 1) := dk_4 (dk_at dksX2_spans_4 0 rfl rfl)
theorem dX2_spans_93 : decode cX2_spans 93 = .ok (.isub, 1) := dk_100 (dk_at dksX2_spans_4 1 rfl rfl)
theorem dX2_spans_94 : decode cX2_spans 94 = .ok (.invokestatic 64, 3) := dk_184 0 64 (dk_at dksX2_spans_4 2 rfl rfl)
theorem dX2_spans_97 : decode cX2_spans 97 = .ok (.ifCond .ne 7, 3) := dk_154 0 7 (dk_at dksX2_spans_4 5 rfl rfl)
theorem dX2_spans_100 : decode cX2_spans 100 = .ok (.iconst 1, 1) := dk_4 (dk_at dksX2_spans_4 8 rfl rfl)
theorem dX2_spans_101 : decode cX2_spans 101 = .ok (.goto 4, 3) := dk_167 0 4 (dk_at dksX2_spans_4 9 rfl rfl)
theorem dX2_spans_104 : decode cX2_spans 104 = .ok (.iconst 0, 1) := dk_3 (dk_at dksX2_spans_4 12 rfl rfl)
theorem dX2_spans_105 : decode cX2_spans 105 = .ok (.iadd, 1) := dk_96 (dk_at dksX2_spans_4 13 rfl rfl)
theorem dX2_spans_106 : decode cX2_spans 106 = .ok (.istore 8, 2) := dk_54 8 (dk_at dksX2_spans_4 14 rfl rfl)
theorem dX2_spans_108 : decode cX2_spans 108 = .ok (.iload 6, 2) := dk_21 6 (dk_at dksX2_spans_4 16 rfl rfl)
theorem dX2_spans_110 : decode cX2_spans 110 = .ok (.ifCond .eq 23, 3) := dk_153 0 23 (dk_at dksX2_spans_4 18 rfl rfl)
theorem dX2_spans_113 : decode cX2_spans 113 = .ok (.iload 7, 2) := dk_21 7 (dk_at dksX2_spans_4 21 rfl rfl)
theorem dX2_spans_115 : decode cX2_spans 115 = .ok (.iload 9, 2) := dk_21 9 (dk_at dksX2_spans_5 0 rfl rfl)
theorem dX2_spans_117 : decode cX2_spans 117 = .ok (.iconst 1, 1) := dk_4 (dk_at dksX2_spans_5 2 rfl rfl)
theorem dX2_spans_118 : decode cX2_spans 118 = .ok (.iadd, 1) := dk_96 (dk_at dksX2_spans_5 3 rfl rfl)
theorem dX2_spans_119 : decode cX2_spans 119 = .ok (.invokestatic 64, 3) := dk_184 0 64 (dk_at dksX2_spans_5 4 rfl rfl)
theorem dX2_spans_122 : decode cX2_spans 122 = .ok (.ifCond .ne 7, 3) := dk_154 0 7 (dk_at dksX2_spans_5 7 rfl rfl)
theorem dX2_spans_125 : decode cX2_spans 125 = .ok (.iconst 1, 1) := dk_4 (dk_at dksX2_spans_5 10 rfl rfl)
theorem dX2_spans_126 : decode cX2_spans 126 = .ok (.goto 29, 3) := dk_167 0 29 (dk_at dksX2_spans_5 11 rfl rfl)
theorem dX2_spans_129 : decode cX2_spans 129 = .ok (.iconst 0, 1) := dk_3 (dk_at dksX2_spans_5 14 rfl rfl)
theorem dX2_spans_130 : decode cX2_spans 130 = .ok (.goto 25, 3) := dk_167 0 25 (dk_at dksX2_spans_5 15 rfl rfl)
theorem dX2_spans_133 : decode cX2_spans 133 = .ok (.iload 9, 2) := dk_21 9 (dk_at dksX2_spans_5 18 rfl rfl)
theorem dX2_spans_135 : decode cX2_spans 135 = .ok (.ifCond .eq 15, 3) := dk_153 0 15 (dk_at dksX2_spans_5 20 rfl rfl)
theorem dX2_spans_138 : decode cX2_spans 138 = .ok (.iload 7, 2) := dk_21 7 (dk_at dksX2_spans_6 0 rfl rfl)
theorem dX2_spans_140 : decode cX2_spans 140 = .ok (.iload 9, 2) := dk_21 9 (dk_at dksX2_spans_6 2 rfl rfl)
theorem dX2_spans_142 : decode cX2_spans 142 = .ok (.iconst 1, 1) := dk_4 (dk_at dksX2_spans_6 4 rfl rfl)
theorem dX2_spans_143 : decode cX2_spans 143 = .ok (.isub, 1) := dk_100 (dk_at dksX2_spans_6 5 rfl rfl)
theorem dX2_spans_144 : decode cX2_spans 144 = .ok (.invokestatic 64, 3) := dk_184 0 64 (dk_at dksX2_spans_6 6 rfl rfl)
theorem dX2_spans_147 : decode cX2_spans 147 = .ok (.ifCond .ne 7, 3) := dk_154 0 7 (dk_at dksX2_spans_6 9 rfl rfl)
theorem dX2_spans_150 : decode cX2_spans 150 = .ok (.iconst 1, 1) := dk_4 (dk_at dksX2_spans_6 12 rfl rfl)
theorem dX2_spans_151 : decode cX2_spans 151 = .ok (.goto 4, 3) := dk_167 0 4 (dk_at dksX2_spans_6 13 rfl rfl)
theorem dX2_spans_154 : decode cX2_spans 154 = .ok (.iconst 0, 1) := dk_3 (dk_at dksX2_spans_6 16 rfl rfl)
theorem dX2_spans_155 : decode cX2_spans 155 = .ok (.istore 10, 2) := dk_54 10 (dk_at dksX2_spans_6 17 rfl rfl)
theorem dX2_spans_157 : decode cX2_spans 157 = .ok (.iload 7, 2) := dk_21 7 (dk_at dksX2_spans_6 19 rfl rfl)
theorem dX2_spans_159 : decode cX2_spans 159 = .ok (.iload 9, 2) := dk_21 9 (dk_at dksX2_spans_6 21 rfl rfl)
theorem dX2_spans_161 : decode cX2_spans 161 = .ok (.invokestatic 64, 3) := dk_184 0 64 (dk_at dksX2_spans_7 0 rfl rfl)
theorem dX2_spans_164 : decode cX2_spans 164 = .ok (.ifCond .eq 18, 3) := dk_153 0 18 (dk_at dksX2_spans_7 3 rfl rfl)
theorem dX2_spans_167 : decode cX2_spans 167 = .ok (.iload 8, 2) := dk_21 8 (dk_at dksX2_spans_7 6 rfl rfl)
theorem dX2_spans_169 : decode cX2_spans 169 = .ok (.iload 5, 2) := dk_21 5 (dk_at dksX2_spans_7 8 rfl rfl)
theorem dX2_spans_171 : decode cX2_spans 171 = .ok (.if_icmp .ne 11, 3) := dk_160 0 11 (dk_at dksX2_spans_7 10 rfl rfl)
theorem dX2_spans_174 : decode cX2_spans 174 = .ok (.iload 10, 2) := dk_21 10 (dk_at dksX2_spans_7 13 rfl rfl)
theorem dX2_spans_176 : decode cX2_spans 176 = .ok (.ifCond .eq 6, 3) := dk_153 0 6 (dk_at dksX2_spans_7 15 rfl rfl)
theorem dX2_spans_179 : decode cX2_spans 179 = .ok (.iload 9, 2) := dk_21 9 (dk_at dksX2_spans_7 18 rfl rfl)
theorem dX2_spans_181 : decode cX2_spans 181 = .ok (.ireturn, 1) := dk_172 (dk_at dksX2_spans_7 20 rfl rfl)
theorem dX2_spans_182 : decode cX2_spans 182 = .ok (.iinc 9 1, 3) := dk_132 9 1 (dk_at dksX2_spans_7 21 rfl rfl)
theorem dX2_spans_185 : decode cX2_spans 185 = .ok (.goto (-121), 3) := dk_167 255 135 (dk_at dksX2_spans_8 0 rfl rfl)
theorem dX2_spans_188 : decode cX2_spans 188 = .ok (.iconst (-1), 1) := dk_2 (dk_at dksX2_spans_8 3 rfl rfl)
theorem dX2_spans_189 : decode cX2_spans 189 = .ok (.ireturn, 1) := dk_172 (dk_at dksX2_spans_8 4 rfl rfl)
abbrev cX2_times : ByteArray := prog_25_method_98_code
def yX2_times : MethodName := ⟨RX2, "times", "(IIIII)I"⟩
def dkwX2_times_2 : List UInt8 := [182, 1, 115, 154, 0, 15, 42, 29, 21, 4, 21, 5, 182, 1, 130, 167, 0, 4, 2, 172]
abbrev dktX2_times_2 : List UInt8 := dkwX2_times_2 ++ []
def dkwX2_times_1 : List UInt8 := [182, 1, 142, 153, 0, 14, 42, 21, 4, 21, 5, 182, 1, 28, 154, 0, 5, 2, 172, 42, 29, 3]
abbrev dktX2_times_1 : List UInt8 := dkwX2_times_1 ++ dktX2_times_2
def dkwX2_times_0 : List UInt8 := [42, 3, 181, 0, 60, 42, 28, 182, 1, 118, 153, 0, 30, 42, 27, 182, 1, 57, 153, 0, 22, 42, 29]
abbrev dktX2_times_0 : List UInt8 := dkwX2_times_0 ++ dktX2_times_1
theorem dksX2_times_0 : cX2_times.data.toList.drop 0 = dktX2_times_0 := by decide +kernel
theorem dksX2_times_1 : cX2_times.data.toList.drop 23 = dktX2_times_1 := dk_seg dksX2_times_0 23 rfl rfl
theorem dksX2_times_2 : cX2_times.data.toList.drop 45 = dktX2_times_2 := dk_seg dksX2_times_1 22 rfl rfl
theorem dX2_times_0 : decode cX2_times 0 = .ok (.aload_n 0, 1) := dk_42 (dk_at dksX2_times_0 0 rfl rfl)
theorem dX2_times_1 : decode cX2_times 1 = .ok (.iconst 0, 1) := dk_3 (dk_at dksX2_times_0 1 rfl rfl)
theorem dX2_times_2 : decode cX2_times 2 = .ok (.putfield 60, 3) := dk_181 0 60 (dk_at dksX2_times_0 2 rfl rfl)
theorem dX2_times_5 : decode cX2_times 5 = .ok (.aload_n 0, 1) := dk_42 (dk_at dksX2_times_0 5 rfl rfl)
theorem dX2_times_6 : decode cX2_times 6 = .ok (.iload_n 2, 1) := dk_28 (dk_at dksX2_times_0 6 rfl rfl)
theorem dX2_times_7 : decode cX2_times 7 = .ok (.invokevirtual 374, 3) := dk_182 1 118 (dk_at dksX2_times_0 7 rfl rfl)
theorem dX2_times_10 : decode cX2_times 10 = .ok (.ifCond .eq 30, 3) := dk_153 0 30 (dk_at dksX2_times_0 10 rfl rfl)
theorem dX2_times_13 : decode cX2_times 13 = .ok (.aload_n 0, 1) := dk_42 (dk_at dksX2_times_0 13 rfl rfl)
theorem dX2_times_14 : decode cX2_times 14 = .ok (.iload_n 1, 1) := dk_27 (dk_at dksX2_times_0 14 rfl rfl)
theorem dX2_times_15 : decode cX2_times 15 = .ok (.invokevirtual 313, 3) := dk_182 1 57 (dk_at dksX2_times_0 15 rfl rfl)
theorem dX2_times_18 : decode cX2_times 18 = .ok (.ifCond .eq 22, 3) := dk_153 0 22 (dk_at dksX2_times_0 18 rfl rfl)
theorem dX2_times_21 : decode cX2_times 21 = .ok (.aload_n 0, 1) := dk_42 (dk_at dksX2_times_0 21 rfl rfl)
theorem dX2_times_22 : decode cX2_times 22 = .ok (.iload_n 3, 1) := dk_29 (dk_at dksX2_times_0 22 rfl rfl)
theorem dX2_times_23 : decode cX2_times 23 = .ok (.invokevirtual 398, 3) := dk_182 1 142 (dk_at dksX2_times_1 0 rfl rfl)
theorem dX2_times_26 : decode cX2_times 26 = .ok (.ifCond .eq 14, 3) := dk_153 0 14 (dk_at dksX2_times_1 3 rfl rfl)
theorem dX2_times_29 : decode cX2_times 29 = .ok (.aload_n 0, 1) := dk_42 (dk_at dksX2_times_1 6 rfl rfl)
theorem dX2_times_30 : decode cX2_times 30 = .ok (.iload 4, 2) := dk_21 4 (dk_at dksX2_times_1 7 rfl rfl)
theorem dX2_times_32 : decode cX2_times 32 = .ok (.iload 5, 2) := dk_21 5 (dk_at dksX2_times_1 9 rfl rfl)
theorem dX2_times_34 : decode cX2_times 34 = .ok (.invokevirtual 284, 3) := dk_182 1 28 (dk_at dksX2_times_1 11 rfl rfl)
theorem dX2_times_37 : decode cX2_times 37 = .ok (.ifCond .ne 5, 3) := dk_154 0 5 (dk_at dksX2_times_1 14 rfl rfl)
theorem dX2_times_40 : decode cX2_times 40 = .ok (.iconst (-1), 1) := dk_2 (dk_at dksX2_times_1 17 rfl rfl)
theorem dX2_times_41 : decode cX2_times 41 = .ok (.ireturn, 1) := dk_172 (dk_at dksX2_times_1 18 rfl rfl)
theorem dX2_times_42 : decode cX2_times 42 = .ok (.aload_n 0, 1) := dk_42 (dk_at dksX2_times_1 19 rfl rfl)
theorem dX2_times_43 : decode cX2_times 43 = .ok (.iload_n 3, 1) := dk_29 (dk_at dksX2_times_1 20 rfl rfl)
theorem dX2_times_44 : decode cX2_times 44 = .ok (.iconst 0, 1) := dk_3 (dk_at dksX2_times_1 21 rfl rfl)
theorem dX2_times_45 : decode cX2_times 45 = .ok (.invokevirtual 371, 3) := dk_182 1 115 (dk_at dksX2_times_2 0 rfl rfl)
theorem dX2_times_48 : decode cX2_times 48 = .ok (.ifCond .ne 15, 3) := dk_154 0 15 (dk_at dksX2_times_2 3 rfl rfl)
theorem dX2_times_51 : decode cX2_times 51 = .ok (.aload_n 0, 1) := dk_42 (dk_at dksX2_times_2 6 rfl rfl)
theorem dX2_times_52 : decode cX2_times 52 = .ok (.iload_n 3, 1) := dk_29 (dk_at dksX2_times_2 7 rfl rfl)
theorem dX2_times_53 : decode cX2_times 53 = .ok (.iload 4, 2) := dk_21 4 (dk_at dksX2_times_2 8 rfl rfl)
theorem dX2_times_55 : decode cX2_times 55 = .ok (.iload 5, 2) := dk_21 5 (dk_at dksX2_times_2 10 rfl rfl)
theorem dX2_times_57 : decode cX2_times 57 = .ok (.invokevirtual 386, 3) := dk_182 1 130 (dk_at dksX2_times_2 12 rfl rfl)
theorem dX2_times_60 : decode cX2_times 60 = .ok (.goto 4, 3) := dk_167 0 4 (dk_at dksX2_times_2 15 rfl rfl)
theorem dX2_times_63 : decode cX2_times 63 = .ok (.iconst (-1), 1) := dk_2 (dk_at dksX2_times_2 18 rfl rfl)
theorem dX2_times_64 : decode cX2_times 64 = .ok (.ireturn, 1) := dk_172 (dk_at dksX2_times_2 19 rfl rfl)
abbrev cX2_found : ByteArray := prog_25_method_105_code
def yX2_found : MethodName := ⟨RX2, "found", "(IIII)I"⟩
def dkwX2_found_6 : List UInt8 := [42, 29, 182, 1, 160, 172, 2, 172]
abbrev dktX2_found_6 : List UInt8 := dkwX2_found_6 ++ []
def dkwX2_found_5 : List UInt8 := [42, 29, 21, 4, 4, 160, 0, 7, 4, 167, 0, 4, 3, 182, 1, 157, 172, 42, 29, 2, 182, 1, 151, 172]
abbrev dktX2_found_5 : List UInt8 := dkwX2_found_5 ++ dktX2_found_6
def dkwX2_found_4 : List UInt8 := [170, 0, 0, 0, 0, 0, 61, 0, 0, 0, 0, 0, 0, 0, 3, 0, 0, 0, 31, 0, 0, 0, 31, 0, 0, 0, 48, 0, 0, 0, 55]
abbrev dktX2_found_4 : List UInt8 := dkwX2_found_4 ++ dktX2_found_5
def dkwX2_found_3 : List UInt8 := [16, 10, 161, 0, 14, 42, 29, 21, 4, 16, 10, 100, 182, 1, 154, 172, 21, 4]
abbrev dktX2_found_3 : List UInt8 := dkwX2_found_3 ++ dktX2_found_4
def dkwX2_found_2 : List UInt8 := [16, 100, 100, 182, 1, 145, 167, 0, 14, 42, 29, 21, 4, 17, 0, 200, 100, 182, 1, 151, 172, 21, 4]
abbrev dktX2_found_2 : List UInt8 := dkwX2_found_2 ++ dktX2_found_3
def dkwX2_found_1 : List UInt8 := [156, 0, 5, 2, 172, 21, 4, 16, 100, 161, 0, 36, 21, 4, 17, 0, 200, 162, 0, 16, 42, 29, 21, 4]
abbrev dktX2_found_1 : List UInt8 := dkwX2_found_1 ++ dktX2_found_2
def dkwX2_found_0 : List UInt8 := [42, 3, 181, 0, 60, 42, 27, 28, 182, 1, 139, 153, 0, 16, 42, 29, 182, 1, 142, 153, 0, 8, 21, 4]
abbrev dktX2_found_0 : List UInt8 := dkwX2_found_0 ++ dktX2_found_1
theorem dksX2_found_0 : cX2_found.data.toList.drop 0 = dktX2_found_0 := by decide +kernel
theorem dksX2_found_1 : cX2_found.data.toList.drop 24 = dktX2_found_1 := dk_seg dksX2_found_0 24 rfl rfl
theorem dksX2_found_2 : cX2_found.data.toList.drop 48 = dktX2_found_2 := dk_seg dksX2_found_1 24 rfl rfl
theorem dksX2_found_3 : cX2_found.data.toList.drop 71 = dktX2_found_3 := dk_seg dksX2_found_2 23 rfl rfl
theorem dksX2_found_4 : cX2_found.data.toList.drop 89 = dktX2_found_4 := dk_seg dksX2_found_3 18 rfl rfl
theorem dksX2_found_5 : cX2_found.data.toList.drop 120 = dktX2_found_5 := dk_seg dksX2_found_4 31 rfl rfl
theorem dksX2_found_6 : cX2_found.data.toList.drop 144 = dktX2_found_6 := dk_seg dksX2_found_5 24 rfl rfl
theorem dX2_found_0 : decode cX2_found 0 = .ok (.aload_n 0, 1) := dk_42 (dk_at dksX2_found_0 0 rfl rfl)
theorem dX2_found_1 : decode cX2_found 1 = .ok (.iconst 0, 1) := dk_3 (dk_at dksX2_found_0 1 rfl rfl)
theorem dX2_found_2 : decode cX2_found 2 = .ok (.putfield 60, 3) := dk_181 0 60 (dk_at dksX2_found_0 2 rfl rfl)
theorem dX2_found_5 : decode cX2_found 5 = .ok (.aload_n 0, 1) := dk_42 (dk_at dksX2_found_0 5 rfl rfl)
theorem dX2_found_6 : decode cX2_found 6 = .ok (.iload_n 1, 1) := dk_27 (dk_at dksX2_found_0 6 rfl rfl)
theorem dX2_found_7 : decode cX2_found 7 = .ok (.iload_n 2, 1) := dk_28 (dk_at dksX2_found_0 7 rfl rfl)
theorem dX2_found_8 : decode cX2_found 8 = .ok (.invokevirtual 395, 3) := dk_182 1 139 (dk_at dksX2_found_0 8 rfl rfl)
theorem dX2_found_11 : decode cX2_found 11 = .ok (.ifCond .eq 16, 3) := dk_153 0 16 (dk_at dksX2_found_0 11 rfl rfl)
theorem dX2_found_14 : decode cX2_found 14 = .ok (.aload_n 0, 1) := dk_42 (dk_at dksX2_found_0 14 rfl rfl)
theorem dX2_found_15 : decode cX2_found 15 = .ok (.iload_n 3, 1) := dk_29 (dk_at dksX2_found_0 15 rfl rfl)
theorem dX2_found_16 : decode cX2_found 16 = .ok (.invokevirtual 398, 3) := dk_182 1 142 (dk_at dksX2_found_0 16 rfl rfl)
theorem dX2_found_19 : decode cX2_found 19 = .ok (.ifCond .eq 8, 3) := dk_153 0 8 (dk_at dksX2_found_0 19 rfl rfl)
theorem dX2_found_22 : decode cX2_found 22 = .ok (.iload 4, 2) := dk_21 4 (dk_at dksX2_found_0 22 rfl rfl)
theorem dX2_found_24 : decode cX2_found 24 = .ok (.ifCond .ge 5, 3) := dk_156 0 5 (dk_at dksX2_found_1 0 rfl rfl)
theorem dX2_found_27 : decode cX2_found 27 = .ok (.iconst (-1), 1) := dk_2 (dk_at dksX2_found_1 3 rfl rfl)
theorem dX2_found_28 : decode cX2_found 28 = .ok (.ireturn, 1) := dk_172 (dk_at dksX2_found_1 4 rfl rfl)
theorem dX2_found_29 : decode cX2_found 29 = .ok (.iload 4, 2) := dk_21 4 (dk_at dksX2_found_1 5 rfl rfl)
theorem dX2_found_31 : decode cX2_found 31 = .ok (.bipush 100, 2) := dk_16 100 (dk_at dksX2_found_1 7 rfl rfl)
theorem dX2_found_33 : decode cX2_found 33 = .ok (.if_icmp .lt 36, 3) := dk_161 0 36 (dk_at dksX2_found_1 9 rfl rfl)
theorem dX2_found_36 : decode cX2_found 36 = .ok (.iload 4, 2) := dk_21 4 (dk_at dksX2_found_1 12 rfl rfl)
theorem dX2_found_38 : decode cX2_found 38 = .ok (.sipush 200, 3) := dk_17 0 200 (dk_at dksX2_found_1 14 rfl rfl)
theorem dX2_found_41 : decode cX2_found 41 = .ok (.if_icmp .ge 16, 3) := dk_162 0 16 (dk_at dksX2_found_1 17 rfl rfl)
theorem dX2_found_44 : decode cX2_found 44 = .ok (.aload_n 0, 1) := dk_42 (dk_at dksX2_found_1 20 rfl rfl)
theorem dX2_found_45 : decode cX2_found 45 = .ok (.iload_n 3, 1) := dk_29 (dk_at dksX2_found_1 21 rfl rfl)
theorem dX2_found_46 : decode cX2_found 46 = .ok (.iload 4, 2) := dk_21 4 (dk_at dksX2_found_1 22 rfl rfl)
theorem dX2_found_48 : decode cX2_found 48 = .ok (.bipush 100, 2) := dk_16 100 (dk_at dksX2_found_2 0 rfl rfl)
theorem dX2_found_50 : decode cX2_found 50 = .ok (.isub, 1) := dk_100 (dk_at dksX2_found_2 2 rfl rfl)
theorem dX2_found_51 : decode cX2_found 51 = .ok (.invokevirtual 401, 3) := dk_182 1 145 (dk_at dksX2_found_2 3 rfl rfl)
theorem dX2_found_54 : decode cX2_found 54 = .ok (.goto 14, 3) := dk_167 0 14 (dk_at dksX2_found_2 6 rfl rfl)
theorem dX2_found_57 : decode cX2_found 57 = .ok (.aload_n 0, 1) := dk_42 (dk_at dksX2_found_2 9 rfl rfl)
theorem dX2_found_58 : decode cX2_found 58 = .ok (.iload_n 3, 1) := dk_29 (dk_at dksX2_found_2 10 rfl rfl)
theorem dX2_found_59 : decode cX2_found 59 = .ok (.iload 4, 2) := dk_21 4 (dk_at dksX2_found_2 11 rfl rfl)
theorem dX2_found_61 : decode cX2_found 61 = .ok (.sipush 200, 3) := dk_17 0 200 (dk_at dksX2_found_2 13 rfl rfl)
theorem dX2_found_64 : decode cX2_found 64 = .ok (.isub, 1) := dk_100 (dk_at dksX2_found_2 16 rfl rfl)
theorem dX2_found_65 : decode cX2_found 65 = .ok (.invokevirtual 407, 3) := dk_182 1 151 (dk_at dksX2_found_2 17 rfl rfl)
theorem dX2_found_68 : decode cX2_found 68 = .ok (.ireturn, 1) := dk_172 (dk_at dksX2_found_2 20 rfl rfl)
theorem dX2_found_69 : decode cX2_found 69 = .ok (.iload 4, 2) := dk_21 4 (dk_at dksX2_found_2 21 rfl rfl)
theorem dX2_found_71 : decode cX2_found 71 = .ok (.bipush 10, 2) := dk_16 10 (dk_at dksX2_found_3 0 rfl rfl)
theorem dX2_found_73 : decode cX2_found 73 = .ok (.if_icmp .lt 14, 3) := dk_161 0 14 (dk_at dksX2_found_3 2 rfl rfl)
theorem dX2_found_76 : decode cX2_found 76 = .ok (.aload_n 0, 1) := dk_42 (dk_at dksX2_found_3 5 rfl rfl)
theorem dX2_found_77 : decode cX2_found 77 = .ok (.iload_n 3, 1) := dk_29 (dk_at dksX2_found_3 6 rfl rfl)
theorem dX2_found_78 : decode cX2_found 78 = .ok (.iload 4, 2) := dk_21 4 (dk_at dksX2_found_3 7 rfl rfl)
theorem dX2_found_80 : decode cX2_found 80 = .ok (.bipush 10, 2) := dk_16 10 (dk_at dksX2_found_3 9 rfl rfl)
theorem dX2_found_82 : decode cX2_found 82 = .ok (.isub, 1) := dk_100 (dk_at dksX2_found_3 11 rfl rfl)
theorem dX2_found_83 : decode cX2_found 83 = .ok (.invokevirtual 410, 3) := dk_182 1 154 (dk_at dksX2_found_3 12 rfl rfl)
theorem dX2_found_86 : decode cX2_found 86 = .ok (.ireturn, 1) := dk_172 (dk_at dksX2_found_3 15 rfl rfl)
theorem dX2_found_87 : decode cX2_found 87 = .ok (.iload 4, 2) := dk_21 4 (dk_at dksX2_found_3 16 rfl rfl)
theorem dX2_found_89 : decode cX2_found 89 = .ok (.tableswitch 61 0 3 #[31, 31, 48, 55], 31) := by decide +kernel
theorem dX2_found_120 : decode cX2_found 120 = .ok (.aload_n 0, 1) := dk_42 (dk_at dksX2_found_5 0 rfl rfl)
theorem dX2_found_121 : decode cX2_found 121 = .ok (.iload_n 3, 1) := dk_29 (dk_at dksX2_found_5 1 rfl rfl)
theorem dX2_found_122 : decode cX2_found 122 = .ok (.iload 4, 2) := dk_21 4 (dk_at dksX2_found_5 2 rfl rfl)
theorem dX2_found_124 : decode cX2_found 124 = .ok (.iconst 1, 1) := dk_4 (dk_at dksX2_found_5 4 rfl rfl)
theorem dX2_found_125 : decode cX2_found 125 = .ok (.if_icmp .ne 7, 3) := dk_160 0 7 (dk_at dksX2_found_5 5 rfl rfl)
theorem dX2_found_128 : decode cX2_found 128 = .ok (.iconst 1, 1) := dk_4 (dk_at dksX2_found_5 8 rfl rfl)
theorem dX2_found_129 : decode cX2_found 129 = .ok (.goto 4, 3) := dk_167 0 4 (dk_at dksX2_found_5 9 rfl rfl)
theorem dX2_found_132 : decode cX2_found 132 = .ok (.iconst 0, 1) := dk_3 (dk_at dksX2_found_5 12 rfl rfl)
theorem dX2_found_133 : decode cX2_found 133 = .ok (.invokevirtual 413, 3) := dk_182 1 157 (dk_at dksX2_found_5 13 rfl rfl)
theorem dX2_found_136 : decode cX2_found 136 = .ok (.ireturn, 1) := dk_172 (dk_at dksX2_found_5 16 rfl rfl)
theorem dX2_found_137 : decode cX2_found 137 = .ok (.aload_n 0, 1) := dk_42 (dk_at dksX2_found_5 17 rfl rfl)
theorem dX2_found_138 : decode cX2_found 138 = .ok (.iload_n 3, 1) := dk_29 (dk_at dksX2_found_5 18 rfl rfl)
theorem dX2_found_139 : decode cX2_found 139 = .ok (.iconst (-1), 1) := dk_2 (dk_at dksX2_found_5 19 rfl rfl)
theorem dX2_found_140 : decode cX2_found 140 = .ok (.invokevirtual 407, 3) := dk_182 1 151 (dk_at dksX2_found_5 20 rfl rfl)
theorem dX2_found_143 : decode cX2_found 143 = .ok (.ireturn, 1) := dk_172 (dk_at dksX2_found_5 23 rfl rfl)
theorem dX2_found_144 : decode cX2_found 144 = .ok (.aload_n 0, 1) := dk_42 (dk_at dksX2_found_6 0 rfl rfl)
theorem dX2_found_145 : decode cX2_found 145 = .ok (.iload_n 3, 1) := dk_29 (dk_at dksX2_found_6 1 rfl rfl)
theorem dX2_found_146 : decode cX2_found 146 = .ok (.invokevirtual 416, 3) := dk_182 1 160 (dk_at dksX2_found_6 2 rfl rfl)
theorem dX2_found_149 : decode cX2_found 149 = .ok (.ireturn, 1) := dk_172 (dk_at dksX2_found_6 5 rfl rfl)
theorem dX2_found_150 : decode cX2_found 150 = .ok (.iconst (-1), 1) := dk_2 (dk_at dksX2_found_6 6 rfl rfl)
theorem dX2_found_151 : decode cX2_found 151 = .ok (.ireturn, 1) := dk_172 (dk_at dksX2_found_6 7 rfl rfl)
abbrev cX2_asOf : ByteArray := prog_25_method_100_code
def yX2_asOf : MethodName := ⟨RX2, "asOf", "(II)I"⟩
def dkwX2_asOf_4 : List UInt8 := [21, 4, 120, 167, 0, 4, 3, 128, 62, 132, 4, 1, 167, 255, 155, 29, 172]
abbrev dktX2_asOf_4 : List UInt8 := dkwX2_asOf_4 ++ []
def dkwX2_asOf_3 : List UInt8 := [159, 0, 29, 42, 180, 0, 50, 7, 27, 104, 21, 4, 96, 46, 21, 5, 184, 0, 64, 153, 0, 10, 4]
abbrev dktX2_asOf_3 : List UInt8 := dkwX2_asOf_3 ++ dktX2_asOf_4
def dkwX2_asOf_2 : List UInt8 := [28, 163, 0, 8, 21, 6, 167, 0, 5, 21, 5, 54, 5, 132, 6, 1, 167, 255, 214, 29, 21, 5, 2]
abbrev dktX2_asOf_2 : List UInt8 := dkwX2_asOf_2 ++ dktX2_asOf_3
def dkwX2_asOf_1 : List UInt8 := [42, 21, 4, 182, 1, 3, 162, 0, 37, 42, 180, 0, 35, 16, 6, 21, 4, 21, 6, 184, 0, 146, 96, 46]
abbrev dktX2_asOf_1 : List UInt8 := dkwX2_asOf_1 ++ dktX2_asOf_2
def dkwX2_asOf_0 : List UInt8 := [3, 62, 3, 54, 4, 21, 4, 42, 180, 0, 35, 3, 46, 162, 0, 96, 2, 54, 5, 3, 54, 6, 21, 6]
abbrev dktX2_asOf_0 : List UInt8 := dkwX2_asOf_0 ++ dktX2_asOf_1
theorem dksX2_asOf_0 : cX2_asOf.data.toList.drop 0 = dktX2_asOf_0 := by decide +kernel
theorem dksX2_asOf_1 : cX2_asOf.data.toList.drop 24 = dktX2_asOf_1 := dk_seg dksX2_asOf_0 24 rfl rfl
theorem dksX2_asOf_2 : cX2_asOf.data.toList.drop 48 = dktX2_asOf_2 := dk_seg dksX2_asOf_1 24 rfl rfl
theorem dksX2_asOf_3 : cX2_asOf.data.toList.drop 71 = dktX2_asOf_3 := dk_seg dksX2_asOf_2 23 rfl rfl
theorem dksX2_asOf_4 : cX2_asOf.data.toList.drop 94 = dktX2_asOf_4 := dk_seg dksX2_asOf_3 23 rfl rfl
theorem dX2_asOf_0 : decode cX2_asOf 0 = .ok (.iconst 0, 1) := dk_3 (dk_at dksX2_asOf_0 0 rfl rfl)
theorem dX2_asOf_1 : decode cX2_asOf 1 = .ok (.istore_n 3, 1) := dk_62 (dk_at dksX2_asOf_0 1 rfl rfl)
theorem dX2_asOf_2 : decode cX2_asOf 2 = .ok (.iconst 0, 1) := dk_3 (dk_at dksX2_asOf_0 2 rfl rfl)
theorem dX2_asOf_3 : decode cX2_asOf 3 = .ok (.istore 4, 2) := dk_54 4 (dk_at dksX2_asOf_0 3 rfl rfl)
theorem dX2_asOf_5 : decode cX2_asOf 5 = .ok (.iload 4, 2) := dk_21 4 (dk_at dksX2_asOf_0 5 rfl rfl)
theorem dX2_asOf_7 : decode cX2_asOf 7 = .ok (.aload_n 0, 1) := dk_42 (dk_at dksX2_asOf_0 7 rfl rfl)
theorem dX2_asOf_8 : decode cX2_asOf 8 = .ok (.getfield 35, 3) := dk_180 0 35 (dk_at dksX2_asOf_0 8 rfl rfl)
theorem dX2_asOf_11 : decode cX2_asOf 11 = .ok (.iconst 0, 1) := dk_3 (dk_at dksX2_asOf_0 11 rfl rfl)
theorem dX2_asOf_12 : decode cX2_asOf 12 = .ok (.iaload, 1) := dk_46 (dk_at dksX2_asOf_0 12 rfl rfl)
theorem dX2_asOf_13 : decode cX2_asOf 13 = .ok (.if_icmp .ge 96, 3) := dk_162 0 96 (dk_at dksX2_asOf_0 13 rfl rfl)
theorem dX2_asOf_16 : decode cX2_asOf 16 = .ok (.iconst (-1), 1) := dk_2 (dk_at dksX2_asOf_0 16 rfl rfl)
theorem dX2_asOf_17 : decode cX2_asOf 17 = .ok (.istore 5, 2) := dk_54 5 (dk_at dksX2_asOf_0 17 rfl rfl)
theorem dX2_asOf_19 : decode cX2_asOf 19 = .ok (.iconst 0, 1) := dk_3 (dk_at dksX2_asOf_0 19 rfl rfl)
theorem dX2_asOf_20 : decode cX2_asOf 20 = .ok (.istore 6, 2) := dk_54 6 (dk_at dksX2_asOf_0 20 rfl rfl)
theorem dX2_asOf_22 : decode cX2_asOf 22 = .ok (.iload 6, 2) := dk_21 6 (dk_at dksX2_asOf_0 22 rfl rfl)
theorem dX2_asOf_24 : decode cX2_asOf 24 = .ok (.aload_n 0, 1) := dk_42 (dk_at dksX2_asOf_1 0 rfl rfl)
theorem dX2_asOf_25 : decode cX2_asOf 25 = .ok (.iload 4, 2) := dk_21 4 (dk_at dksX2_asOf_1 1 rfl rfl)
theorem dX2_asOf_27 : decode cX2_asOf 27 = .ok (.invokevirtual 259, 3) := dk_182 1 3 (dk_at dksX2_asOf_1 3 rfl rfl)
theorem dX2_asOf_30 : decode cX2_asOf 30 = .ok (.if_icmp .ge 37, 3) := dk_162 0 37 (dk_at dksX2_asOf_1 6 rfl rfl)
theorem dX2_asOf_33 : decode cX2_asOf 33 = .ok (.aload_n 0, 1) := dk_42 (dk_at dksX2_asOf_1 9 rfl rfl)
theorem dX2_asOf_34 : decode cX2_asOf 34 = .ok (.getfield 35, 3) := dk_180 0 35 (dk_at dksX2_asOf_1 10 rfl rfl)
theorem dX2_asOf_37 : decode cX2_asOf 37 = .ok (.bipush 6, 2) := dk_16 6 (dk_at dksX2_asOf_1 13 rfl rfl)
theorem dX2_asOf_39 : decode cX2_asOf 39 = .ok (.iload 4, 2) := dk_21 4 (dk_at dksX2_asOf_1 15 rfl rfl)
theorem dX2_asOf_41 : decode cX2_asOf 41 = .ok (.iload 6, 2) := dk_21 6 (dk_at dksX2_asOf_1 17 rfl rfl)
theorem dX2_asOf_43 : decode cX2_asOf 43 = .ok (.invokestatic 146, 3) := dk_184 0 146 (dk_at dksX2_asOf_1 19 rfl rfl)
theorem dX2_asOf_46 : decode cX2_asOf 46 = .ok (.iadd, 1) := dk_96 (dk_at dksX2_asOf_1 22 rfl rfl)
theorem dX2_asOf_47 : decode cX2_asOf 47 = .ok (.iaload, 1) := dk_46 (dk_at dksX2_asOf_1 23 rfl rfl)
theorem dX2_asOf_48 : decode cX2_asOf 48 = .ok (.iload_n 2, 1) := dk_28 (dk_at dksX2_asOf_2 0 rfl rfl)
theorem dX2_asOf_49 : decode cX2_asOf 49 = .ok (.if_icmp .gt 8, 3) := dk_163 0 8 (dk_at dksX2_asOf_2 1 rfl rfl)
theorem dX2_asOf_52 : decode cX2_asOf 52 = .ok (.iload 6, 2) := dk_21 6 (dk_at dksX2_asOf_2 4 rfl rfl)
theorem dX2_asOf_54 : decode cX2_asOf 54 = .ok (.goto 5, 3) := dk_167 0 5 (dk_at dksX2_asOf_2 6 rfl rfl)
theorem dX2_asOf_57 : decode cX2_asOf 57 = .ok (.iload 5, 2) := dk_21 5 (dk_at dksX2_asOf_2 9 rfl rfl)
theorem dX2_asOf_59 : decode cX2_asOf 59 = .ok (.istore 5, 2) := dk_54 5 (dk_at dksX2_asOf_2 11 rfl rfl)
theorem dX2_asOf_61 : decode cX2_asOf 61 = .ok (.iinc 6 1, 3) := dk_132 6 1 (dk_at dksX2_asOf_2 13 rfl rfl)
theorem dX2_asOf_64 : decode cX2_asOf 64 = .ok (.goto (-42), 3) := dk_167 255 214 (dk_at dksX2_asOf_2 16 rfl rfl)
theorem dX2_asOf_67 : decode cX2_asOf 67 = .ok (.iload_n 3, 1) := dk_29 (dk_at dksX2_asOf_2 19 rfl rfl)
theorem dX2_asOf_68 : decode cX2_asOf 68 = .ok (.iload 5, 2) := dk_21 5 (dk_at dksX2_asOf_2 20 rfl rfl)
theorem dX2_asOf_70 : decode cX2_asOf 70 = .ok (.iconst (-1), 1) := dk_2 (dk_at dksX2_asOf_2 22 rfl rfl)
theorem dX2_asOf_71 : decode cX2_asOf 71 = .ok (.if_icmp .eq 29, 3) := dk_159 0 29 (dk_at dksX2_asOf_3 0 rfl rfl)
theorem dX2_asOf_74 : decode cX2_asOf 74 = .ok (.aload_n 0, 1) := dk_42 (dk_at dksX2_asOf_3 3 rfl rfl)
theorem dX2_asOf_75 : decode cX2_asOf 75 = .ok (.getfield 50, 3) := dk_180 0 50 (dk_at dksX2_asOf_3 4 rfl rfl)
theorem dX2_asOf_78 : decode cX2_asOf 78 = .ok (.iconst 4, 1) := dk_7 (dk_at dksX2_asOf_3 7 rfl rfl)
theorem dX2_asOf_79 : decode cX2_asOf 79 = .ok (.iload_n 1, 1) := dk_27 (dk_at dksX2_asOf_3 8 rfl rfl)
theorem dX2_asOf_80 : decode cX2_asOf 80 = .ok (.imul, 1) := dk_104 (dk_at dksX2_asOf_3 9 rfl rfl)
theorem dX2_asOf_81 : decode cX2_asOf 81 = .ok (.iload 4, 2) := dk_21 4 (dk_at dksX2_asOf_3 10 rfl rfl)
theorem dX2_asOf_83 : decode cX2_asOf 83 = .ok (.iadd, 1) := dk_96 (dk_at dksX2_asOf_3 12 rfl rfl)
theorem dX2_asOf_84 : decode cX2_asOf 84 = .ok (.iaload, 1) := dk_46 (dk_at dksX2_asOf_3 13 rfl rfl)
theorem dX2_asOf_85 : decode cX2_asOf 85 = .ok (.iload 5, 2) := dk_21 5 (dk_at dksX2_asOf_3 14 rfl rfl)
theorem dX2_asOf_87 : decode cX2_asOf 87 = .ok (.invokestatic 64, 3) := dk_184 0 64 (dk_at dksX2_asOf_3 16 rfl rfl)
theorem dX2_asOf_90 : decode cX2_asOf 90 = .ok (.ifCond .eq 10, 3) := dk_153 0 10 (dk_at dksX2_asOf_3 19 rfl rfl)
theorem dX2_asOf_93 : decode cX2_asOf 93 = .ok (.iconst 1, 1) := dk_4 (dk_at dksX2_asOf_3 22 rfl rfl)
theorem dX2_asOf_94 : decode cX2_asOf 94 = .ok (.iload 4, 2) := dk_21 4 (dk_at dksX2_asOf_4 0 rfl rfl)
theorem dX2_asOf_96 : decode cX2_asOf 96 = .ok (.ishl, 1) := dk_120 (dk_at dksX2_asOf_4 2 rfl rfl)
theorem dX2_asOf_97 : decode cX2_asOf 97 = .ok (.goto 4, 3) := dk_167 0 4 (dk_at dksX2_asOf_4 3 rfl rfl)
theorem dX2_asOf_100 : decode cX2_asOf 100 = .ok (.iconst 0, 1) := dk_3 (dk_at dksX2_asOf_4 6 rfl rfl)
theorem dX2_asOf_101 : decode cX2_asOf 101 = .ok (.ior, 1) := dk_128 (dk_at dksX2_asOf_4 7 rfl rfl)
theorem dX2_asOf_102 : decode cX2_asOf 102 = .ok (.istore_n 3, 1) := dk_62 (dk_at dksX2_asOf_4 8 rfl rfl)
theorem dX2_asOf_103 : decode cX2_asOf 103 = .ok (.iinc 4 1, 3) := dk_132 4 1 (dk_at dksX2_asOf_4 9 rfl rfl)
theorem dX2_asOf_106 : decode cX2_asOf 106 = .ok (.goto (-101), 3) := dk_167 255 155 (dk_at dksX2_asOf_4 12 rfl rfl)
theorem dX2_asOf_109 : decode cX2_asOf 109 = .ok (.iload_n 3, 1) := dk_29 (dk_at dksX2_asOf_4 15 rfl rfl)
theorem dX2_asOf_110 : decode cX2_asOf 110 = .ok (.ireturn, 1) := dk_172 (dk_at dksX2_asOf_4 16 rfl rfl)
abbrev cX2_changes : ByteArray := prog_25_method_101_code
def yX2_changes : MethodName := ⟨RX2, "changes", "(II)I"⟩
def dkwX2_changes_2 : List UInt8 := [132, 5, 1, 167, 255, 215, 28, 2, 160, 0, 7, 29, 167, 0, 4, 2, 172]
abbrev dktX2_changes_2 : List UInt8 := dkwX2_changes_2 ++ []
def dkwX2_changes_1 : List UInt8 := [21, 6, 21, 4, 159, 0, 14, 29, 28, 160, 0, 6, 21, 5, 172, 132, 3, 1, 21, 6, 54, 4]
abbrev dktX2_changes_1 : List UInt8 := dkwX2_changes_1 ++ dktX2_changes_2
def dkwX2_changes_0 : List UInt8 := [3, 62, 3, 54, 4, 3, 54, 5, 21, 5, 16, 100, 162, 0, 40, 42, 27, 21, 5, 182, 1, 145, 54, 6]
abbrev dktX2_changes_0 : List UInt8 := dkwX2_changes_0 ++ dktX2_changes_1
theorem dksX2_changes_0 : cX2_changes.data.toList.drop 0 = dktX2_changes_0 := by decide +kernel
theorem dksX2_changes_1 : cX2_changes.data.toList.drop 24 = dktX2_changes_1 := dk_seg dksX2_changes_0 24 rfl rfl
theorem dksX2_changes_2 : cX2_changes.data.toList.drop 46 = dktX2_changes_2 := dk_seg dksX2_changes_1 22 rfl rfl
theorem dX2_changes_0 : decode cX2_changes 0 = .ok (.iconst 0, 1) := dk_3 (dk_at dksX2_changes_0 0 rfl rfl)
theorem dX2_changes_1 : decode cX2_changes 1 = .ok (.istore_n 3, 1) := dk_62 (dk_at dksX2_changes_0 1 rfl rfl)
theorem dX2_changes_2 : decode cX2_changes 2 = .ok (.iconst 0, 1) := dk_3 (dk_at dksX2_changes_0 2 rfl rfl)
theorem dX2_changes_3 : decode cX2_changes 3 = .ok (.istore 4, 2) := dk_54 4 (dk_at dksX2_changes_0 3 rfl rfl)
theorem dX2_changes_5 : decode cX2_changes 5 = .ok (.iconst 0, 1) := dk_3 (dk_at dksX2_changes_0 5 rfl rfl)
theorem dX2_changes_6 : decode cX2_changes 6 = .ok (.istore 5, 2) := dk_54 5 (dk_at dksX2_changes_0 6 rfl rfl)
theorem dX2_changes_8 : decode cX2_changes 8 = .ok (.iload 5, 2) := dk_21 5 (dk_at dksX2_changes_0 8 rfl rfl)
theorem dX2_changes_10 : decode cX2_changes 10 = .ok (.bipush 100, 2) := dk_16 100 (dk_at dksX2_changes_0 10 rfl rfl)
theorem dX2_changes_12 : decode cX2_changes 12 = .ok (.if_icmp .ge 40, 3) := dk_162 0 40 (dk_at dksX2_changes_0 12 rfl rfl)
theorem dX2_changes_15 : decode cX2_changes 15 = .ok (.aload_n 0, 1) := dk_42 (dk_at dksX2_changes_0 15 rfl rfl)
theorem dX2_changes_16 : decode cX2_changes 16 = .ok (.iload_n 1, 1) := dk_27 (dk_at dksX2_changes_0 16 rfl rfl)
theorem dX2_changes_17 : decode cX2_changes 17 = .ok (.iload 5, 2) := dk_21 5 (dk_at dksX2_changes_0 17 rfl rfl)
theorem dX2_changes_19 : decode cX2_changes 19 = .ok (.invokevirtual 401, 3) := dk_182 1 145 (dk_at dksX2_changes_0 19 rfl rfl)
theorem dX2_changes_22 : decode cX2_changes 22 = .ok (.istore 6, 2) := dk_54 6 (dk_at dksX2_changes_0 22 rfl rfl)
theorem dX2_changes_24 : decode cX2_changes 24 = .ok (.iload 6, 2) := dk_21 6 (dk_at dksX2_changes_1 0 rfl rfl)
theorem dX2_changes_26 : decode cX2_changes 26 = .ok (.iload 4, 2) := dk_21 4 (dk_at dksX2_changes_1 2 rfl rfl)
theorem dX2_changes_28 : decode cX2_changes 28 = .ok (.if_icmp .eq 14, 3) := dk_159 0 14 (dk_at dksX2_changes_1 4 rfl rfl)
theorem dX2_changes_31 : decode cX2_changes 31 = .ok (.iload_n 3, 1) := dk_29 (dk_at dksX2_changes_1 7 rfl rfl)
theorem dX2_changes_32 : decode cX2_changes 32 = .ok (.iload_n 2, 1) := dk_28 (dk_at dksX2_changes_1 8 rfl rfl)
theorem dX2_changes_33 : decode cX2_changes 33 = .ok (.if_icmp .ne 6, 3) := dk_160 0 6 (dk_at dksX2_changes_1 9 rfl rfl)
theorem dX2_changes_36 : decode cX2_changes 36 = .ok (.iload 5, 2) := dk_21 5 (dk_at dksX2_changes_1 12 rfl rfl)
theorem dX2_changes_38 : decode cX2_changes 38 = .ok (.ireturn, 1) := dk_172 (dk_at dksX2_changes_1 14 rfl rfl)
theorem dX2_changes_39 : decode cX2_changes 39 = .ok (.iinc 3 1, 3) := dk_132 3 1 (dk_at dksX2_changes_1 15 rfl rfl)
theorem dX2_changes_42 : decode cX2_changes 42 = .ok (.iload 6, 2) := dk_21 6 (dk_at dksX2_changes_1 18 rfl rfl)
theorem dX2_changes_44 : decode cX2_changes 44 = .ok (.istore 4, 2) := dk_54 4 (dk_at dksX2_changes_1 20 rfl rfl)
theorem dX2_changes_46 : decode cX2_changes 46 = .ok (.iinc 5 1, 3) := dk_132 5 1 (dk_at dksX2_changes_2 0 rfl rfl)
theorem dX2_changes_49 : decode cX2_changes 49 = .ok (.goto (-41), 3) := dk_167 255 215 (dk_at dksX2_changes_2 3 rfl rfl)
theorem dX2_changes_52 : decode cX2_changes 52 = .ok (.iload_n 2, 1) := dk_28 (dk_at dksX2_changes_2 6 rfl rfl)
theorem dX2_changes_53 : decode cX2_changes 53 = .ok (.iconst (-1), 1) := dk_2 (dk_at dksX2_changes_2 7 rfl rfl)
theorem dX2_changes_54 : decode cX2_changes 54 = .ok (.if_icmp .ne 7, 3) := dk_160 0 7 (dk_at dksX2_changes_2 8 rfl rfl)
theorem dX2_changes_57 : decode cX2_changes 57 = .ok (.iload_n 3, 1) := dk_29 (dk_at dksX2_changes_2 11 rfl rfl)
theorem dX2_changes_58 : decode cX2_changes 58 = .ok (.goto 4, 3) := dk_167 0 4 (dk_at dksX2_changes_2 12 rfl rfl)
theorem dX2_changes_61 : decode cX2_changes 61 = .ok (.iconst (-1), 1) := dk_2 (dk_at dksX2_changes_2 15 rfl rfl)
theorem dX2_changes_62 : decode cX2_changes 62 = .ok (.ireturn, 1) := dk_172 (dk_at dksX2_changes_2 16 rfl rfl)
abbrev cX2_rank : ByteArray := prog_25_method_104_code
def yX2_rank : MethodName := ⟨RX2, "rank", "(II)I"⟩
def dkwX2_rank_4 : List UInt8 := [167, 255, 164, 2, 172]
abbrev dktX2_rank_4 : List UInt8 := dkwX2_rank_4 ++ []
def dkwX2_rank_3 : List UInt8 := [167, 0, 4, 3, 96, 54, 4, 132, 5, 1, 167, 255, 194, 21, 4, 28, 160, 0, 5, 29, 172, 132, 3, 1]
abbrev dktX2_rank_3 : List UInt8 := dkwX2_rank_3 ++ dktX2_rank_4
def dkwX2_rank_2 : List UInt8 := [27, 21, 5, 182, 1, 148, 42, 27, 29, 182, 1, 148, 160, 0, 13, 21, 5, 29, 162, 0, 7, 4]
abbrev dktX2_rank_2 : List UInt8 := dkwX2_rank_2 ++ dktX2_rank_3
def dkwX2_rank_1 : List UInt8 := [3, 46, 162, 0, 57, 21, 4, 42, 27, 21, 5, 182, 1, 148, 42, 27, 29, 182, 1, 148, 163, 0, 25, 42]
abbrev dktX2_rank_1 : List UInt8 := dkwX2_rank_1 ++ dktX2_rank_2
def dkwX2_rank_0 : List UInt8 := [3, 62, 29, 42, 180, 0, 35, 3, 46, 162, 0, 88, 3, 54, 4, 3, 54, 5, 21, 5, 42, 180, 0, 35]
abbrev dktX2_rank_0 : List UInt8 := dkwX2_rank_0 ++ dktX2_rank_1
theorem dksX2_rank_0 : cX2_rank.data.toList.drop 0 = dktX2_rank_0 := by decide +kernel
theorem dksX2_rank_1 : cX2_rank.data.toList.drop 24 = dktX2_rank_1 := dk_seg dksX2_rank_0 24 rfl rfl
theorem dksX2_rank_2 : cX2_rank.data.toList.drop 48 = dktX2_rank_2 := dk_seg dksX2_rank_1 24 rfl rfl
theorem dksX2_rank_3 : cX2_rank.data.toList.drop 70 = dktX2_rank_3 := dk_seg dksX2_rank_2 22 rfl rfl
theorem dksX2_rank_4 : cX2_rank.data.toList.drop 94 = dktX2_rank_4 := dk_seg dksX2_rank_3 24 rfl rfl
theorem dX2_rank_0 : decode cX2_rank 0 = .ok (.iconst 0, 1) := dk_3 (dk_at dksX2_rank_0 0 rfl rfl)
theorem dX2_rank_1 : decode cX2_rank 1 = .ok (.istore_n 3, 1) := dk_62 (dk_at dksX2_rank_0 1 rfl rfl)
theorem dX2_rank_2 : decode cX2_rank 2 = .ok (.iload_n 3, 1) := dk_29 (dk_at dksX2_rank_0 2 rfl rfl)
theorem dX2_rank_3 : decode cX2_rank 3 = .ok (.aload_n 0, 1) := dk_42 (dk_at dksX2_rank_0 3 rfl rfl)
theorem dX2_rank_4 : decode cX2_rank 4 = .ok (.getfield 35, 3) := dk_180 0 35 (dk_at dksX2_rank_0 4 rfl rfl)
theorem dX2_rank_7 : decode cX2_rank 7 = .ok (.iconst 0, 1) := dk_3 (dk_at dksX2_rank_0 7 rfl rfl)
theorem dX2_rank_8 : decode cX2_rank 8 = .ok (.iaload, 1) := dk_46 (dk_at dksX2_rank_0 8 rfl rfl)
theorem dX2_rank_9 : decode cX2_rank 9 = .ok (.if_icmp .ge 88, 3) := dk_162 0 88 (dk_at dksX2_rank_0 9 rfl rfl)
theorem dX2_rank_12 : decode cX2_rank 12 = .ok (.iconst 0, 1) := dk_3 (dk_at dksX2_rank_0 12 rfl rfl)
theorem dX2_rank_13 : decode cX2_rank 13 = .ok (.istore 4, 2) := dk_54 4 (dk_at dksX2_rank_0 13 rfl rfl)
theorem dX2_rank_15 : decode cX2_rank 15 = .ok (.iconst 0, 1) := dk_3 (dk_at dksX2_rank_0 15 rfl rfl)
theorem dX2_rank_16 : decode cX2_rank 16 = .ok (.istore 5, 2) := dk_54 5 (dk_at dksX2_rank_0 16 rfl rfl)
theorem dX2_rank_18 : decode cX2_rank 18 = .ok (.iload 5, 2) := dk_21 5 (dk_at dksX2_rank_0 18 rfl rfl)
theorem dX2_rank_20 : decode cX2_rank 20 = .ok (.aload_n 0, 1) := dk_42 (dk_at dksX2_rank_0 20 rfl rfl)
theorem dX2_rank_21 : decode cX2_rank 21 = .ok (.getfield 35, 3) := dk_180 0 35 (dk_at dksX2_rank_0 21 rfl rfl)
theorem dX2_rank_24 : decode cX2_rank 24 = .ok (.iconst 0, 1) := dk_3 (dk_at dksX2_rank_1 0 rfl rfl)
theorem dX2_rank_25 : decode cX2_rank 25 = .ok (.iaload, 1) := dk_46 (dk_at dksX2_rank_1 1 rfl rfl)
theorem dX2_rank_26 : decode cX2_rank 26 = .ok (.if_icmp .ge 57, 3) := dk_162 0 57 (dk_at dksX2_rank_1 2 rfl rfl)
theorem dX2_rank_29 : decode cX2_rank 29 = .ok (.iload 4, 2) := dk_21 4 (dk_at dksX2_rank_1 5 rfl rfl)
theorem dX2_rank_31 : decode cX2_rank 31 = .ok (.aload_n 0, 1) := dk_42 (dk_at dksX2_rank_1 7 rfl rfl)
theorem dX2_rank_32 : decode cX2_rank 32 = .ok (.iload_n 1, 1) := dk_27 (dk_at dksX2_rank_1 8 rfl rfl)
theorem dX2_rank_33 : decode cX2_rank 33 = .ok (.iload 5, 2) := dk_21 5 (dk_at dksX2_rank_1 9 rfl rfl)
theorem dX2_rank_35 : decode cX2_rank 35 = .ok (.invokevirtual 404, 3) := dk_182 1 148 (dk_at dksX2_rank_1 11 rfl rfl)
theorem dX2_rank_38 : decode cX2_rank 38 = .ok (.aload_n 0, 1) := dk_42 (dk_at dksX2_rank_1 14 rfl rfl)
theorem dX2_rank_39 : decode cX2_rank 39 = .ok (.iload_n 1, 1) := dk_27 (dk_at dksX2_rank_1 15 rfl rfl)
theorem dX2_rank_40 : decode cX2_rank 40 = .ok (.iload_n 3, 1) := dk_29 (dk_at dksX2_rank_1 16 rfl rfl)
theorem dX2_rank_41 : decode cX2_rank 41 = .ok (.invokevirtual 404, 3) := dk_182 1 148 (dk_at dksX2_rank_1 17 rfl rfl)
theorem dX2_rank_44 : decode cX2_rank 44 = .ok (.if_icmp .gt 25, 3) := dk_163 0 25 (dk_at dksX2_rank_1 20 rfl rfl)
theorem dX2_rank_47 : decode cX2_rank 47 = .ok (.aload_n 0, 1) := dk_42 (dk_at dksX2_rank_1 23 rfl rfl)
theorem dX2_rank_48 : decode cX2_rank 48 = .ok (.iload_n 1, 1) := dk_27 (dk_at dksX2_rank_2 0 rfl rfl)
theorem dX2_rank_49 : decode cX2_rank 49 = .ok (.iload 5, 2) := dk_21 5 (dk_at dksX2_rank_2 1 rfl rfl)
theorem dX2_rank_51 : decode cX2_rank 51 = .ok (.invokevirtual 404, 3) := dk_182 1 148 (dk_at dksX2_rank_2 3 rfl rfl)
theorem dX2_rank_54 : decode cX2_rank 54 = .ok (.aload_n 0, 1) := dk_42 (dk_at dksX2_rank_2 6 rfl rfl)
theorem dX2_rank_55 : decode cX2_rank 55 = .ok (.iload_n 1, 1) := dk_27 (dk_at dksX2_rank_2 7 rfl rfl)
theorem dX2_rank_56 : decode cX2_rank 56 = .ok (.iload_n 3, 1) := dk_29 (dk_at dksX2_rank_2 8 rfl rfl)
theorem dX2_rank_57 : decode cX2_rank 57 = .ok (.invokevirtual 404, 3) := dk_182 1 148 (dk_at dksX2_rank_2 9 rfl rfl)
theorem dX2_rank_60 : decode cX2_rank 60 = .ok (.if_icmp .ne 13, 3) := dk_160 0 13 (dk_at dksX2_rank_2 12 rfl rfl)
theorem dX2_rank_63 : decode cX2_rank 63 = .ok (.iload 5, 2) := dk_21 5 (dk_at dksX2_rank_2 15 rfl rfl)
theorem dX2_rank_65 : decode cX2_rank 65 = .ok (.iload_n 3, 1) := dk_29 (dk_at dksX2_rank_2 17 rfl rfl)
theorem dX2_rank_66 : decode cX2_rank 66 = .ok (.if_icmp .ge 7, 3) := dk_162 0 7 (dk_at dksX2_rank_2 18 rfl rfl)
theorem dX2_rank_69 : decode cX2_rank 69 = .ok (.iconst 1, 1) := dk_4 (dk_at dksX2_rank_2 21 rfl rfl)
theorem dX2_rank_70 : decode cX2_rank 70 = .ok (.goto 4, 3) := dk_167 0 4 (dk_at dksX2_rank_3 0 rfl rfl)
theorem dX2_rank_73 : decode cX2_rank 73 = .ok (.iconst 0, 1) := dk_3 (dk_at dksX2_rank_3 3 rfl rfl)
theorem dX2_rank_74 : decode cX2_rank 74 = .ok (.iadd, 1) := dk_96 (dk_at dksX2_rank_3 4 rfl rfl)
theorem dX2_rank_75 : decode cX2_rank 75 = .ok (.istore 4, 2) := dk_54 4 (dk_at dksX2_rank_3 5 rfl rfl)
theorem dX2_rank_77 : decode cX2_rank 77 = .ok (.iinc 5 1, 3) := dk_132 5 1 (dk_at dksX2_rank_3 7 rfl rfl)
theorem dX2_rank_80 : decode cX2_rank 80 = .ok (.goto (-62), 3) := dk_167 255 194 (dk_at dksX2_rank_3 10 rfl rfl)
theorem dX2_rank_83 : decode cX2_rank 83 = .ok (.iload 4, 2) := dk_21 4 (dk_at dksX2_rank_3 13 rfl rfl)
theorem dX2_rank_85 : decode cX2_rank 85 = .ok (.iload_n 2, 1) := dk_28 (dk_at dksX2_rank_3 15 rfl rfl)
theorem dX2_rank_86 : decode cX2_rank 86 = .ok (.if_icmp .ne 5, 3) := dk_160 0 5 (dk_at dksX2_rank_3 16 rfl rfl)
theorem dX2_rank_89 : decode cX2_rank 89 = .ok (.iload_n 3, 1) := dk_29 (dk_at dksX2_rank_3 19 rfl rfl)
theorem dX2_rank_90 : decode cX2_rank 90 = .ok (.ireturn, 1) := dk_172 (dk_at dksX2_rank_3 20 rfl rfl)
theorem dX2_rank_91 : decode cX2_rank 91 = .ok (.iinc 3 1, 3) := dk_132 3 1 (dk_at dksX2_rank_3 21 rfl rfl)
theorem dX2_rank_94 : decode cX2_rank 94 = .ok (.goto (-92), 3) := dk_167 255 164 (dk_at dksX2_rank_4 0 rfl rfl)
theorem dX2_rank_97 : decode cX2_rank 97 = .ok (.iconst (-1), 1) := dk_2 (dk_at dksX2_rank_4 3 rfl rfl)
theorem dX2_rank_98 : decode cX2_rank 98 = .ok (.ireturn, 1) := dk_172 (dk_at dksX2_rank_4 4 rfl rfl)
abbrev cX2_rankOf : ByteArray := prog_25_method_103_code
def yX2_rankOf : MethodName := ⟨RX2, "rankOf", "(II)I"⟩
def dkwX2_rankOf_1 : List UInt8 := [46, 42, 28, 182, 1, 3, 4, 100, 184, 0, 64, 153, 0, 7, 4, 167, 0, 4, 3, 96, 172]
abbrev dktX2_rankOf_1 : List UInt8 := dkwX2_rankOf_1 ++ []
def dkwX2_rankOf_0 : List UInt8 := [5, 42, 180, 0, 50, 7, 27, 104, 28, 96, 46, 184, 1, 44, 104, 42, 180, 0, 50, 7, 27, 104, 28, 96]
abbrev dktX2_rankOf_0 : List UInt8 := dkwX2_rankOf_0 ++ dktX2_rankOf_1
theorem dksX2_rankOf_0 : cX2_rankOf.data.toList.drop 0 = dktX2_rankOf_0 := by decide +kernel
theorem dksX2_rankOf_1 : cX2_rankOf.data.toList.drop 24 = dktX2_rankOf_1 := dk_seg dksX2_rankOf_0 24 rfl rfl
theorem dX2_rankOf_0 : decode cX2_rankOf 0 = .ok (.iconst 2, 1) := dk_5 (dk_at dksX2_rankOf_0 0 rfl rfl)
theorem dX2_rankOf_1 : decode cX2_rankOf 1 = .ok (.aload_n 0, 1) := dk_42 (dk_at dksX2_rankOf_0 1 rfl rfl)
theorem dX2_rankOf_2 : decode cX2_rankOf 2 = .ok (.getfield 50, 3) := dk_180 0 50 (dk_at dksX2_rankOf_0 2 rfl rfl)
theorem dX2_rankOf_5 : decode cX2_rankOf 5 = .ok (.iconst 4, 1) := dk_7 (dk_at dksX2_rankOf_0 5 rfl rfl)
theorem dX2_rankOf_6 : decode cX2_rankOf 6 = .ok (.iload_n 1, 1) := dk_27 (dk_at dksX2_rankOf_0 6 rfl rfl)
theorem dX2_rankOf_7 : decode cX2_rankOf 7 = .ok (.imul, 1) := dk_104 (dk_at dksX2_rankOf_0 7 rfl rfl)
theorem dX2_rankOf_8 : decode cX2_rankOf 8 = .ok (.iload_n 2, 1) := dk_28 (dk_at dksX2_rankOf_0 8 rfl rfl)
theorem dX2_rankOf_9 : decode cX2_rankOf 9 = .ok (.iadd, 1) := dk_96 (dk_at dksX2_rankOf_0 9 rfl rfl)
theorem dX2_rankOf_10 : decode cX2_rankOf 10 = .ok (.iaload, 1) := dk_46 (dk_at dksX2_rankOf_0 10 rfl rfl)
theorem dX2_rankOf_11 : decode cX2_rankOf 11 = .ok (.invokestatic 300, 3) := dk_184 1 44 (dk_at dksX2_rankOf_0 11 rfl rfl)
theorem dX2_rankOf_14 : decode cX2_rankOf 14 = .ok (.imul, 1) := dk_104 (dk_at dksX2_rankOf_0 14 rfl rfl)
theorem dX2_rankOf_15 : decode cX2_rankOf 15 = .ok (.aload_n 0, 1) := dk_42 (dk_at dksX2_rankOf_0 15 rfl rfl)
theorem dX2_rankOf_16 : decode cX2_rankOf 16 = .ok (.getfield 50, 3) := dk_180 0 50 (dk_at dksX2_rankOf_0 16 rfl rfl)
theorem dX2_rankOf_19 : decode cX2_rankOf 19 = .ok (.iconst 4, 1) := dk_7 (dk_at dksX2_rankOf_0 19 rfl rfl)
theorem dX2_rankOf_20 : decode cX2_rankOf 20 = .ok (.iload_n 1, 1) := dk_27 (dk_at dksX2_rankOf_0 20 rfl rfl)
theorem dX2_rankOf_21 : decode cX2_rankOf 21 = .ok (.imul, 1) := dk_104 (dk_at dksX2_rankOf_0 21 rfl rfl)
theorem dX2_rankOf_22 : decode cX2_rankOf 22 = .ok (.iload_n 2, 1) := dk_28 (dk_at dksX2_rankOf_0 22 rfl rfl)
theorem dX2_rankOf_23 : decode cX2_rankOf 23 = .ok (.iadd, 1) := dk_96 (dk_at dksX2_rankOf_0 23 rfl rfl)
theorem dX2_rankOf_24 : decode cX2_rankOf 24 = .ok (.iaload, 1) := dk_46 (dk_at dksX2_rankOf_1 0 rfl rfl)
theorem dX2_rankOf_25 : decode cX2_rankOf 25 = .ok (.aload_n 0, 1) := dk_42 (dk_at dksX2_rankOf_1 1 rfl rfl)
theorem dX2_rankOf_26 : decode cX2_rankOf 26 = .ok (.iload_n 2, 1) := dk_28 (dk_at dksX2_rankOf_1 2 rfl rfl)
theorem dX2_rankOf_27 : decode cX2_rankOf 27 = .ok (.invokevirtual 259, 3) := dk_182 1 3 (dk_at dksX2_rankOf_1 3 rfl rfl)
theorem dX2_rankOf_30 : decode cX2_rankOf 30 = .ok (.iconst 1, 1) := dk_4 (dk_at dksX2_rankOf_1 6 rfl rfl)
theorem dX2_rankOf_31 : decode cX2_rankOf 31 = .ok (.isub, 1) := dk_100 (dk_at dksX2_rankOf_1 7 rfl rfl)
theorem dX2_rankOf_32 : decode cX2_rankOf 32 = .ok (.invokestatic 64, 3) := dk_184 0 64 (dk_at dksX2_rankOf_1 8 rfl rfl)
theorem dX2_rankOf_35 : decode cX2_rankOf 35 = .ok (.ifCond .eq 7, 3) := dk_153 0 7 (dk_at dksX2_rankOf_1 11 rfl rfl)
theorem dX2_rankOf_38 : decode cX2_rankOf 38 = .ok (.iconst 1, 1) := dk_4 (dk_at dksX2_rankOf_1 14 rfl rfl)
theorem dX2_rankOf_39 : decode cX2_rankOf 39 = .ok (.goto 4, 3) := dk_167 0 4 (dk_at dksX2_rankOf_1 15 rfl rfl)
theorem dX2_rankOf_42 : decode cX2_rankOf 42 = .ok (.iconst 0, 1) := dk_3 (dk_at dksX2_rankOf_1 18 rfl rfl)
theorem dX2_rankOf_43 : decode cX2_rankOf 43 = .ok (.iadd, 1) := dk_96 (dk_at dksX2_rankOf_1 19 rfl rfl)
theorem dX2_rankOf_44 : decode cX2_rankOf 44 = .ok (.ireturn, 1) := dk_172 (dk_at dksX2_rankOf_1 20 rfl rfl)
abbrev cX2_docsBy : ByteArray := prog_25_method_99_code
def yX2_docsBy : MethodName := ⟨RX2, "docsBy", "(IZ)I"⟩
def dkwX2_docsBy_3 : List UInt8 := [167, 255, 192, 29, 172]
abbrev dktX2_docsBy_3 : List UInt8 := dkwX2_docsBy_3 ++ []
def dkwX2_docsBy_2 : List UInt8 := [160, 0, 18, 167, 0, 8, 21, 5, 153, 0, 10, 4, 21, 4, 120, 167, 0, 4, 3, 128, 62, 132, 4, 1]
abbrev dktX2_docsBy_2 : List UInt8 := dkwX2_docsBy_2 ++ dktX2_docsBy_3
def dkwX2_docsBy_1 : List UInt8 := [21, 4, 96, 46, 54, 5, 29, 28, 153, 0, 20, 21, 5, 184, 1, 44, 42, 21, 4, 182, 1, 3]
abbrev dktX2_docsBy_1 : List UInt8 := dkwX2_docsBy_1 ++ dktX2_docsBy_2
def dkwX2_docsBy_0 : List UInt8 := [3, 62, 3, 54, 4, 21, 4, 42, 180, 0, 35, 3, 46, 162, 0, 59, 42, 180, 0, 50, 7, 27, 104]
abbrev dktX2_docsBy_0 : List UInt8 := dkwX2_docsBy_0 ++ dktX2_docsBy_1
theorem dksX2_docsBy_0 : cX2_docsBy.data.toList.drop 0 = dktX2_docsBy_0 := by decide +kernel
theorem dksX2_docsBy_1 : cX2_docsBy.data.toList.drop 23 = dktX2_docsBy_1 := dk_seg dksX2_docsBy_0 23 rfl rfl
theorem dksX2_docsBy_2 : cX2_docsBy.data.toList.drop 45 = dktX2_docsBy_2 := dk_seg dksX2_docsBy_1 22 rfl rfl
theorem dksX2_docsBy_3 : cX2_docsBy.data.toList.drop 69 = dktX2_docsBy_3 := dk_seg dksX2_docsBy_2 24 rfl rfl
theorem dX2_docsBy_0 : decode cX2_docsBy 0 = .ok (.iconst 0, 1) := dk_3 (dk_at dksX2_docsBy_0 0 rfl rfl)
theorem dX2_docsBy_1 : decode cX2_docsBy 1 = .ok (.istore_n 3, 1) := dk_62 (dk_at dksX2_docsBy_0 1 rfl rfl)
theorem dX2_docsBy_2 : decode cX2_docsBy 2 = .ok (.iconst 0, 1) := dk_3 (dk_at dksX2_docsBy_0 2 rfl rfl)
theorem dX2_docsBy_3 : decode cX2_docsBy 3 = .ok (.istore 4, 2) := dk_54 4 (dk_at dksX2_docsBy_0 3 rfl rfl)
theorem dX2_docsBy_5 : decode cX2_docsBy 5 = .ok (.iload 4, 2) := dk_21 4 (dk_at dksX2_docsBy_0 5 rfl rfl)
theorem dX2_docsBy_7 : decode cX2_docsBy 7 = .ok (.aload_n 0, 1) := dk_42 (dk_at dksX2_docsBy_0 7 rfl rfl)
theorem dX2_docsBy_8 : decode cX2_docsBy 8 = .ok (.getfield 35, 3) := dk_180 0 35 (dk_at dksX2_docsBy_0 8 rfl rfl)
theorem dX2_docsBy_11 : decode cX2_docsBy 11 = .ok (.iconst 0, 1) := dk_3 (dk_at dksX2_docsBy_0 11 rfl rfl)
theorem dX2_docsBy_12 : decode cX2_docsBy 12 = .ok (.iaload, 1) := dk_46 (dk_at dksX2_docsBy_0 12 rfl rfl)
theorem dX2_docsBy_13 : decode cX2_docsBy 13 = .ok (.if_icmp .ge 59, 3) := dk_162 0 59 (dk_at dksX2_docsBy_0 13 rfl rfl)
theorem dX2_docsBy_16 : decode cX2_docsBy 16 = .ok (.aload_n 0, 1) := dk_42 (dk_at dksX2_docsBy_0 16 rfl rfl)
theorem dX2_docsBy_17 : decode cX2_docsBy 17 = .ok (.getfield 50, 3) := dk_180 0 50 (dk_at dksX2_docsBy_0 17 rfl rfl)
theorem dX2_docsBy_20 : decode cX2_docsBy 20 = .ok (.iconst 4, 1) := dk_7 (dk_at dksX2_docsBy_0 20 rfl rfl)
theorem dX2_docsBy_21 : decode cX2_docsBy 21 = .ok (.iload_n 1, 1) := dk_27 (dk_at dksX2_docsBy_0 21 rfl rfl)
theorem dX2_docsBy_22 : decode cX2_docsBy 22 = .ok (.imul, 1) := dk_104 (dk_at dksX2_docsBy_0 22 rfl rfl)
theorem dX2_docsBy_23 : decode cX2_docsBy 23 = .ok (.iload 4, 2) := dk_21 4 (dk_at dksX2_docsBy_1 0 rfl rfl)
theorem dX2_docsBy_25 : decode cX2_docsBy 25 = .ok (.iadd, 1) := dk_96 (dk_at dksX2_docsBy_1 2 rfl rfl)
theorem dX2_docsBy_26 : decode cX2_docsBy 26 = .ok (.iaload, 1) := dk_46 (dk_at dksX2_docsBy_1 3 rfl rfl)
theorem dX2_docsBy_27 : decode cX2_docsBy 27 = .ok (.istore 5, 2) := dk_54 5 (dk_at dksX2_docsBy_1 4 rfl rfl)
theorem dX2_docsBy_29 : decode cX2_docsBy 29 = .ok (.iload_n 3, 1) := dk_29 (dk_at dksX2_docsBy_1 6 rfl rfl)
theorem dX2_docsBy_30 : decode cX2_docsBy 30 = .ok (.iload_n 2, 1) := dk_28 (dk_at dksX2_docsBy_1 7 rfl rfl)
theorem dX2_docsBy_31 : decode cX2_docsBy 31 = .ok (.ifCond .eq 20, 3) := dk_153 0 20 (dk_at dksX2_docsBy_1 8 rfl rfl)
theorem dX2_docsBy_34 : decode cX2_docsBy 34 = .ok (.iload 5, 2) := dk_21 5 (dk_at dksX2_docsBy_1 11 rfl rfl)
theorem dX2_docsBy_36 : decode cX2_docsBy 36 = .ok (.invokestatic 300, 3) := dk_184 1 44 (dk_at dksX2_docsBy_1 13 rfl rfl)
theorem dX2_docsBy_39 : decode cX2_docsBy 39 = .ok (.aload_n 0, 1) := dk_42 (dk_at dksX2_docsBy_1 16 rfl rfl)
theorem dX2_docsBy_40 : decode cX2_docsBy 40 = .ok (.iload 4, 2) := dk_21 4 (dk_at dksX2_docsBy_1 17 rfl rfl)
theorem dX2_docsBy_42 : decode cX2_docsBy 42 = .ok (.invokevirtual 259, 3) := dk_182 1 3 (dk_at dksX2_docsBy_1 19 rfl rfl)
theorem dX2_docsBy_45 : decode cX2_docsBy 45 = .ok (.if_icmp .ne 18, 3) := dk_160 0 18 (dk_at dksX2_docsBy_2 0 rfl rfl)
theorem dX2_docsBy_48 : decode cX2_docsBy 48 = .ok (.goto 8, 3) := dk_167 0 8 (dk_at dksX2_docsBy_2 3 rfl rfl)
theorem dX2_docsBy_51 : decode cX2_docsBy 51 = .ok (.iload 5, 2) := dk_21 5 (dk_at dksX2_docsBy_2 6 rfl rfl)
theorem dX2_docsBy_53 : decode cX2_docsBy 53 = .ok (.ifCond .eq 10, 3) := dk_153 0 10 (dk_at dksX2_docsBy_2 8 rfl rfl)
theorem dX2_docsBy_56 : decode cX2_docsBy 56 = .ok (.iconst 1, 1) := dk_4 (dk_at dksX2_docsBy_2 11 rfl rfl)
theorem dX2_docsBy_57 : decode cX2_docsBy 57 = .ok (.iload 4, 2) := dk_21 4 (dk_at dksX2_docsBy_2 12 rfl rfl)
theorem dX2_docsBy_59 : decode cX2_docsBy 59 = .ok (.ishl, 1) := dk_120 (dk_at dksX2_docsBy_2 14 rfl rfl)
theorem dX2_docsBy_60 : decode cX2_docsBy 60 = .ok (.goto 4, 3) := dk_167 0 4 (dk_at dksX2_docsBy_2 15 rfl rfl)
theorem dX2_docsBy_63 : decode cX2_docsBy 63 = .ok (.iconst 0, 1) := dk_3 (dk_at dksX2_docsBy_2 18 rfl rfl)
theorem dX2_docsBy_64 : decode cX2_docsBy 64 = .ok (.ior, 1) := dk_128 (dk_at dksX2_docsBy_2 19 rfl rfl)
theorem dX2_docsBy_65 : decode cX2_docsBy 65 = .ok (.istore_n 3, 1) := dk_62 (dk_at dksX2_docsBy_2 20 rfl rfl)
theorem dX2_docsBy_66 : decode cX2_docsBy 66 = .ok (.iinc 4 1, 3) := dk_132 4 1 (dk_at dksX2_docsBy_2 21 rfl rfl)
theorem dX2_docsBy_69 : decode cX2_docsBy 69 = .ok (.goto (-64), 3) := dk_167 255 192 (dk_at dksX2_docsBy_3 0 rfl rfl)
theorem dX2_docsBy_72 : decode cX2_docsBy 72 = .ok (.iload_n 3, 1) := dk_29 (dk_at dksX2_docsBy_3 3 rfl rfl)
theorem dX2_docsBy_73 : decode cX2_docsBy 73 = .ok (.ireturn, 1) := dk_172 (dk_at dksX2_docsBy_3 4 rfl rfl)
abbrev cX2_versionsBy : ByteArray := prog_25_method_102_code
def yX2_versionsBy : MethodName := ⟨RX2, "versionsBy", "(I)I"⟩
def dkwX2_versionsBy_1 : List UInt8 := [46, 184, 1, 44, 96, 61, 132, 3, 1, 167, 255, 227, 28, 172]
abbrev dktX2_versionsBy_1 : List UInt8 := dkwX2_versionsBy_1 ++ []
def dkwX2_versionsBy_0 : List UInt8 := [3, 61, 3, 62, 29, 42, 180, 0, 35, 3, 46, 162, 0, 25, 28, 42, 180, 0, 50, 7, 27, 104, 29, 96]
abbrev dktX2_versionsBy_0 : List UInt8 := dkwX2_versionsBy_0 ++ dktX2_versionsBy_1
theorem dksX2_versionsBy_0 : cX2_versionsBy.data.toList.drop 0 = dktX2_versionsBy_0 := by decide +kernel
theorem dksX2_versionsBy_1 : cX2_versionsBy.data.toList.drop 24 = dktX2_versionsBy_1 := dk_seg dksX2_versionsBy_0 24 rfl rfl
theorem dX2_versionsBy_0 : decode cX2_versionsBy 0 = .ok (.iconst 0, 1) := dk_3 (dk_at dksX2_versionsBy_0 0 rfl rfl)
theorem dX2_versionsBy_1 : decode cX2_versionsBy 1 = .ok (.istore_n 2, 1) := dk_61 (dk_at dksX2_versionsBy_0 1 rfl rfl)
theorem dX2_versionsBy_2 : decode cX2_versionsBy 2 = .ok (.iconst 0, 1) := dk_3 (dk_at dksX2_versionsBy_0 2 rfl rfl)
theorem dX2_versionsBy_3 : decode cX2_versionsBy 3 = .ok (.istore_n 3, 1) := dk_62 (dk_at dksX2_versionsBy_0 3 rfl rfl)
theorem dX2_versionsBy_4 : decode cX2_versionsBy 4 = .ok (.iload_n 3, 1) := dk_29 (dk_at dksX2_versionsBy_0 4 rfl rfl)
theorem dX2_versionsBy_5 : decode cX2_versionsBy 5 = .ok (.aload_n 0, 1) := dk_42 (dk_at dksX2_versionsBy_0 5 rfl rfl)
theorem dX2_versionsBy_6 : decode cX2_versionsBy 6 = .ok (.getfield 35, 3) := dk_180 0 35 (dk_at dksX2_versionsBy_0 6 rfl rfl)
theorem dX2_versionsBy_9 : decode cX2_versionsBy 9 = .ok (.iconst 0, 1) := dk_3 (dk_at dksX2_versionsBy_0 9 rfl rfl)
theorem dX2_versionsBy_10 : decode cX2_versionsBy 10 = .ok (.iaload, 1) := dk_46 (dk_at dksX2_versionsBy_0 10 rfl rfl)
theorem dX2_versionsBy_11 : decode cX2_versionsBy 11 = .ok (.if_icmp .ge 25, 3) := dk_162 0 25 (dk_at dksX2_versionsBy_0 11 rfl rfl)
theorem dX2_versionsBy_14 : decode cX2_versionsBy 14 = .ok (.iload_n 2, 1) := dk_28 (dk_at dksX2_versionsBy_0 14 rfl rfl)
theorem dX2_versionsBy_15 : decode cX2_versionsBy 15 = .ok (.aload_n 0, 1) := dk_42 (dk_at dksX2_versionsBy_0 15 rfl rfl)
theorem dX2_versionsBy_16 : decode cX2_versionsBy 16 = .ok (.getfield 50, 3) := dk_180 0 50 (dk_at dksX2_versionsBy_0 16 rfl rfl)
theorem dX2_versionsBy_19 : decode cX2_versionsBy 19 = .ok (.iconst 4, 1) := dk_7 (dk_at dksX2_versionsBy_0 19 rfl rfl)
theorem dX2_versionsBy_20 : decode cX2_versionsBy 20 = .ok (.iload_n 1, 1) := dk_27 (dk_at dksX2_versionsBy_0 20 rfl rfl)
theorem dX2_versionsBy_21 : decode cX2_versionsBy 21 = .ok (.imul, 1) := dk_104 (dk_at dksX2_versionsBy_0 21 rfl rfl)
theorem dX2_versionsBy_22 : decode cX2_versionsBy 22 = .ok (.iload_n 3, 1) := dk_29 (dk_at dksX2_versionsBy_0 22 rfl rfl)
theorem dX2_versionsBy_23 : decode cX2_versionsBy 23 = .ok (.iadd, 1) := dk_96 (dk_at dksX2_versionsBy_0 23 rfl rfl)
theorem dX2_versionsBy_24 : decode cX2_versionsBy 24 = .ok (.iaload, 1) := dk_46 (dk_at dksX2_versionsBy_1 0 rfl rfl)
theorem dX2_versionsBy_25 : decode cX2_versionsBy 25 = .ok (.invokestatic 300, 3) := dk_184 1 44 (dk_at dksX2_versionsBy_1 1 rfl rfl)
theorem dX2_versionsBy_28 : decode cX2_versionsBy 28 = .ok (.iadd, 1) := dk_96 (dk_at dksX2_versionsBy_1 4 rfl rfl)
theorem dX2_versionsBy_29 : decode cX2_versionsBy 29 = .ok (.istore_n 2, 1) := dk_61 (dk_at dksX2_versionsBy_1 5 rfl rfl)
theorem dX2_versionsBy_30 : decode cX2_versionsBy 30 = .ok (.iinc 3 1, 3) := dk_132 3 1 (dk_at dksX2_versionsBy_1 6 rfl rfl)
theorem dX2_versionsBy_33 : decode cX2_versionsBy 33 = .ok (.goto (-29), 3) := dk_167 255 227 (dk_at dksX2_versionsBy_1 9 rfl rfl)
theorem dX2_versionsBy_36 : decode cX2_versionsBy 36 = .ok (.iload_n 2, 1) := dk_28 (dk_at dksX2_versionsBy_1 12 rfl rfl)
theorem dX2_versionsBy_37 : decode cX2_versionsBy 37 = .ok (.ireturn, 1) := dk_172 (dk_at dksX2_versionsBy_1 13 rfl rfl)
abbrev cX2_best : ByteArray := prog_25_method_109_code
def yX2_best : MethodName := ⟨RX2, "best", "(III)I"⟩
def dkwX2_best_1 : List UInt8 := [182, 1, 166, 167, 0, 17, 29, 4, 160, 0, 10, 42, 182, 1, 169, 167, 0, 5, 16, 254, 172]
abbrev dktX2_best_1 : List UInt8 := dkwX2_best_1 ++ []
def dkwX2_best_0 : List UInt8 := [42, 3, 181, 0, 60, 42, 27, 28, 182, 1, 139, 154, 0, 6, 16, 254, 172, 29, 154, 0, 10, 42]
abbrev dktX2_best_0 : List UInt8 := dkwX2_best_0 ++ dktX2_best_1
theorem dksX2_best_0 : cX2_best.data.toList.drop 0 = dktX2_best_0 := by decide +kernel
theorem dksX2_best_1 : cX2_best.data.toList.drop 22 = dktX2_best_1 := dk_seg dksX2_best_0 22 rfl rfl
theorem dX2_best_0 : decode cX2_best 0 = .ok (.aload_n 0, 1) := dk_42 (dk_at dksX2_best_0 0 rfl rfl)
theorem dX2_best_1 : decode cX2_best 1 = .ok (.iconst 0, 1) := dk_3 (dk_at dksX2_best_0 1 rfl rfl)
theorem dX2_best_2 : decode cX2_best 2 = .ok (.putfield 60, 3) := dk_181 0 60 (dk_at dksX2_best_0 2 rfl rfl)
theorem dX2_best_5 : decode cX2_best 5 = .ok (.aload_n 0, 1) := dk_42 (dk_at dksX2_best_0 5 rfl rfl)
theorem dX2_best_6 : decode cX2_best 6 = .ok (.iload_n 1, 1) := dk_27 (dk_at dksX2_best_0 6 rfl rfl)
theorem dX2_best_7 : decode cX2_best 7 = .ok (.iload_n 2, 1) := dk_28 (dk_at dksX2_best_0 7 rfl rfl)
theorem dX2_best_8 : decode cX2_best 8 = .ok (.invokevirtual 395, 3) := dk_182 1 139 (dk_at dksX2_best_0 8 rfl rfl)
theorem dX2_best_11 : decode cX2_best 11 = .ok (.ifCond .ne 6, 3) := dk_154 0 6 (dk_at dksX2_best_0 11 rfl rfl)
theorem dX2_best_14 : decode cX2_best 14 = .ok (.bipush (-2), 2) := dk_16 254 (dk_at dksX2_best_0 14 rfl rfl)
theorem dX2_best_16 : decode cX2_best 16 = .ok (.ireturn, 1) := dk_172 (dk_at dksX2_best_0 16 rfl rfl)
theorem dX2_best_17 : decode cX2_best 17 = .ok (.iload_n 3, 1) := dk_29 (dk_at dksX2_best_0 17 rfl rfl)
theorem dX2_best_18 : decode cX2_best 18 = .ok (.ifCond .ne 10, 3) := dk_154 0 10 (dk_at dksX2_best_0 18 rfl rfl)
theorem dX2_best_21 : decode cX2_best 21 = .ok (.aload_n 0, 1) := dk_42 (dk_at dksX2_best_0 21 rfl rfl)
theorem dX2_best_22 : decode cX2_best 22 = .ok (.invokevirtual 422, 3) := dk_182 1 166 (dk_at dksX2_best_1 0 rfl rfl)
theorem dX2_best_25 : decode cX2_best 25 = .ok (.goto 17, 3) := dk_167 0 17 (dk_at dksX2_best_1 3 rfl rfl)
theorem dX2_best_28 : decode cX2_best 28 = .ok (.iload_n 3, 1) := dk_29 (dk_at dksX2_best_1 6 rfl rfl)
theorem dX2_best_29 : decode cX2_best 29 = .ok (.iconst 1, 1) := dk_4 (dk_at dksX2_best_1 7 rfl rfl)
theorem dX2_best_30 : decode cX2_best 30 = .ok (.if_icmp .ne 10, 3) := dk_160 0 10 (dk_at dksX2_best_1 8 rfl rfl)
theorem dX2_best_33 : decode cX2_best 33 = .ok (.aload_n 0, 1) := dk_42 (dk_at dksX2_best_1 11 rfl rfl)
theorem dX2_best_34 : decode cX2_best 34 = .ok (.invokevirtual 425, 3) := dk_182 1 169 (dk_at dksX2_best_1 12 rfl rfl)
theorem dX2_best_37 : decode cX2_best 37 = .ok (.goto 5, 3) := dk_167 0 5 (dk_at dksX2_best_1 15 rfl rfl)
theorem dX2_best_40 : decode cX2_best 40 = .ok (.bipush (-2), 2) := dk_16 254 (dk_at dksX2_best_1 18 rfl rfl)
theorem dX2_best_42 : decode cX2_best 42 = .ok (.ireturn, 1) := dk_172 (dk_at dksX2_best_1 20 rfl rfl)
abbrev cX2_bestAsking : ByteArray := prog_25_method_107_code
def yX2_bestAsking : MethodName := ⟨RX2, "bestAsking", "()I"⟩
def dkwX2_bestAsking_1 : List UInt8 := [182, 1, 160, 164, 0, 7, 28, 167, 0, 4, 27, 60, 132, 2, 1, 167, 255, 221, 27, 172]
abbrev dktX2_bestAsking_1 : List UInt8 := dkwX2_bestAsking_1 ++ []
def dkwX2_bestAsking_0 : List UInt8 := [2, 60, 3, 61, 28, 42, 182, 1, 121, 162, 0, 33, 27, 2, 159, 0, 16, 42, 28, 182, 1, 160, 42, 27]
abbrev dktX2_bestAsking_0 : List UInt8 := dkwX2_bestAsking_0 ++ dktX2_bestAsking_1
theorem dksX2_bestAsking_0 : cX2_bestAsking.data.toList.drop 0 = dktX2_bestAsking_0 := by decide +kernel
theorem dksX2_bestAsking_1 : cX2_bestAsking.data.toList.drop 24 = dktX2_bestAsking_1 := dk_seg dksX2_bestAsking_0 24 rfl rfl
theorem dX2_bestAsking_0 : decode cX2_bestAsking 0 = .ok (.iconst (-1), 1) := dk_2 (dk_at dksX2_bestAsking_0 0 rfl rfl)
theorem dX2_bestAsking_1 : decode cX2_bestAsking 1 = .ok (.istore_n 1, 1) := dk_60 (dk_at dksX2_bestAsking_0 1 rfl rfl)
theorem dX2_bestAsking_2 : decode cX2_bestAsking 2 = .ok (.iconst 0, 1) := dk_3 (dk_at dksX2_bestAsking_0 2 rfl rfl)
theorem dX2_bestAsking_3 : decode cX2_bestAsking 3 = .ok (.istore_n 2, 1) := dk_61 (dk_at dksX2_bestAsking_0 3 rfl rfl)
theorem dX2_bestAsking_4 : decode cX2_bestAsking 4 = .ok (.iload_n 2, 1) := dk_28 (dk_at dksX2_bestAsking_0 4 rfl rfl)
theorem dX2_bestAsking_5 : decode cX2_bestAsking 5 = .ok (.aload_n 0, 1) := dk_42 (dk_at dksX2_bestAsking_0 5 rfl rfl)
theorem dX2_bestAsking_6 : decode cX2_bestAsking 6 = .ok (.invokevirtual 377, 3) := dk_182 1 121 (dk_at dksX2_bestAsking_0 6 rfl rfl)
theorem dX2_bestAsking_9 : decode cX2_bestAsking 9 = .ok (.if_icmp .ge 33, 3) := dk_162 0 33 (dk_at dksX2_bestAsking_0 9 rfl rfl)
theorem dX2_bestAsking_12 : decode cX2_bestAsking 12 = .ok (.iload_n 1, 1) := dk_27 (dk_at dksX2_bestAsking_0 12 rfl rfl)
theorem dX2_bestAsking_13 : decode cX2_bestAsking 13 = .ok (.iconst (-1), 1) := dk_2 (dk_at dksX2_bestAsking_0 13 rfl rfl)
theorem dX2_bestAsking_14 : decode cX2_bestAsking 14 = .ok (.if_icmp .eq 16, 3) := dk_159 0 16 (dk_at dksX2_bestAsking_0 14 rfl rfl)
theorem dX2_bestAsking_17 : decode cX2_bestAsking 17 = .ok (.aload_n 0, 1) := dk_42 (dk_at dksX2_bestAsking_0 17 rfl rfl)
theorem dX2_bestAsking_18 : decode cX2_bestAsking 18 = .ok (.iload_n 2, 1) := dk_28 (dk_at dksX2_bestAsking_0 18 rfl rfl)
theorem dX2_bestAsking_19 : decode cX2_bestAsking 19 = .ok (.invokevirtual 416, 3) := dk_182 1 160 (dk_at dksX2_bestAsking_0 19 rfl rfl)
theorem dX2_bestAsking_22 : decode cX2_bestAsking 22 = .ok (.aload_n 0, 1) := dk_42 (dk_at dksX2_bestAsking_0 22 rfl rfl)
theorem dX2_bestAsking_23 : decode cX2_bestAsking 23 = .ok (.iload_n 1, 1) := dk_27 (dk_at dksX2_bestAsking_0 23 rfl rfl)
theorem dX2_bestAsking_24 : decode cX2_bestAsking 24 = .ok (.invokevirtual 416, 3) := dk_182 1 160 (dk_at dksX2_bestAsking_1 0 rfl rfl)
theorem dX2_bestAsking_27 : decode cX2_bestAsking 27 = .ok (.if_icmp .le 7, 3) := dk_164 0 7 (dk_at dksX2_bestAsking_1 3 rfl rfl)
theorem dX2_bestAsking_30 : decode cX2_bestAsking 30 = .ok (.iload_n 2, 1) := dk_28 (dk_at dksX2_bestAsking_1 6 rfl rfl)
theorem dX2_bestAsking_31 : decode cX2_bestAsking 31 = .ok (.goto 4, 3) := dk_167 0 4 (dk_at dksX2_bestAsking_1 7 rfl rfl)
theorem dX2_bestAsking_34 : decode cX2_bestAsking 34 = .ok (.iload_n 1, 1) := dk_27 (dk_at dksX2_bestAsking_1 10 rfl rfl)
theorem dX2_bestAsking_35 : decode cX2_bestAsking 35 = .ok (.istore_n 1, 1) := dk_60 (dk_at dksX2_bestAsking_1 11 rfl rfl)
theorem dX2_bestAsking_36 : decode cX2_bestAsking 36 = .ok (.iinc 2 1, 3) := dk_132 2 1 (dk_at dksX2_bestAsking_1 12 rfl rfl)
theorem dX2_bestAsking_39 : decode cX2_bestAsking 39 = .ok (.goto (-35), 3) := dk_167 255 221 (dk_at dksX2_bestAsking_1 15 rfl rfl)
theorem dX2_bestAsking_42 : decode cX2_bestAsking 42 = .ok (.iload_n 1, 1) := dk_27 (dk_at dksX2_bestAsking_1 18 rfl rfl)
theorem dX2_bestAsking_43 : decode cX2_bestAsking 43 = .ok (.ireturn, 1) := dk_172 (dk_at dksX2_bestAsking_1 19 rfl rfl)
abbrev cX2_samePairs : ByteArray := prog_25_method_108_code
def yX2_samePairs : MethodName := ⟨RX2, "samePairs", "()I"⟩
def dkwX2_samePairs_2 : List UInt8 := [132, 3, 1, 167, 255, 222, 132, 2, 1, 167, 255, 206, 27, 172]
abbrev dktX2_samePairs_2 : List UInt8 := dkwX2_samePairs_2 ++ []
def dkwX2_samePairs_1 : List UInt8 := [182, 1, 163, 153, 0, 16, 42, 29, 28, 182, 1, 163, 153, 0, 7, 4, 167, 0, 4, 3, 96, 60]
abbrev dktX2_samePairs_1 : List UInt8 := dkwX2_samePairs_1 ++ dktX2_samePairs_2
def dkwX2_samePairs_0 : List UInt8 := [3, 60, 3, 61, 28, 42, 182, 1, 121, 162, 0, 48, 3, 62, 29, 28, 162, 0, 35, 27, 42, 28, 29]
abbrev dktX2_samePairs_0 : List UInt8 := dkwX2_samePairs_0 ++ dktX2_samePairs_1
theorem dksX2_samePairs_0 : cX2_samePairs.data.toList.drop 0 = dktX2_samePairs_0 := by decide +kernel
theorem dksX2_samePairs_1 : cX2_samePairs.data.toList.drop 23 = dktX2_samePairs_1 := dk_seg dksX2_samePairs_0 23 rfl rfl
theorem dksX2_samePairs_2 : cX2_samePairs.data.toList.drop 45 = dktX2_samePairs_2 := dk_seg dksX2_samePairs_1 22 rfl rfl
theorem dX2_samePairs_0 : decode cX2_samePairs 0 = .ok (.iconst 0, 1) := dk_3 (dk_at dksX2_samePairs_0 0 rfl rfl)
theorem dX2_samePairs_1 : decode cX2_samePairs 1 = .ok (.istore_n 1, 1) := dk_60 (dk_at dksX2_samePairs_0 1 rfl rfl)
theorem dX2_samePairs_2 : decode cX2_samePairs 2 = .ok (.iconst 0, 1) := dk_3 (dk_at dksX2_samePairs_0 2 rfl rfl)
theorem dX2_samePairs_3 : decode cX2_samePairs 3 = .ok (.istore_n 2, 1) := dk_61 (dk_at dksX2_samePairs_0 3 rfl rfl)
theorem dX2_samePairs_4 : decode cX2_samePairs 4 = .ok (.iload_n 2, 1) := dk_28 (dk_at dksX2_samePairs_0 4 rfl rfl)
theorem dX2_samePairs_5 : decode cX2_samePairs 5 = .ok (.aload_n 0, 1) := dk_42 (dk_at dksX2_samePairs_0 5 rfl rfl)
theorem dX2_samePairs_6 : decode cX2_samePairs 6 = .ok (.invokevirtual 377, 3) := dk_182 1 121 (dk_at dksX2_samePairs_0 6 rfl rfl)
theorem dX2_samePairs_9 : decode cX2_samePairs 9 = .ok (.if_icmp .ge 48, 3) := dk_162 0 48 (dk_at dksX2_samePairs_0 9 rfl rfl)
theorem dX2_samePairs_12 : decode cX2_samePairs 12 = .ok (.iconst 0, 1) := dk_3 (dk_at dksX2_samePairs_0 12 rfl rfl)
theorem dX2_samePairs_13 : decode cX2_samePairs 13 = .ok (.istore_n 3, 1) := dk_62 (dk_at dksX2_samePairs_0 13 rfl rfl)
theorem dX2_samePairs_14 : decode cX2_samePairs 14 = .ok (.iload_n 3, 1) := dk_29 (dk_at dksX2_samePairs_0 14 rfl rfl)
theorem dX2_samePairs_15 : decode cX2_samePairs 15 = .ok (.iload_n 2, 1) := dk_28 (dk_at dksX2_samePairs_0 15 rfl rfl)
theorem dX2_samePairs_16 : decode cX2_samePairs 16 = .ok (.if_icmp .ge 35, 3) := dk_162 0 35 (dk_at dksX2_samePairs_0 16 rfl rfl)
theorem dX2_samePairs_19 : decode cX2_samePairs 19 = .ok (.iload_n 1, 1) := dk_27 (dk_at dksX2_samePairs_0 19 rfl rfl)
theorem dX2_samePairs_20 : decode cX2_samePairs 20 = .ok (.aload_n 0, 1) := dk_42 (dk_at dksX2_samePairs_0 20 rfl rfl)
theorem dX2_samePairs_21 : decode cX2_samePairs 21 = .ok (.iload_n 2, 1) := dk_28 (dk_at dksX2_samePairs_0 21 rfl rfl)
theorem dX2_samePairs_22 : decode cX2_samePairs 22 = .ok (.iload_n 3, 1) := dk_29 (dk_at dksX2_samePairs_0 22 rfl rfl)
theorem dX2_samePairs_23 : decode cX2_samePairs 23 = .ok (.invokevirtual 419, 3) := dk_182 1 163 (dk_at dksX2_samePairs_1 0 rfl rfl)
theorem dX2_samePairs_26 : decode cX2_samePairs 26 = .ok (.ifCond .eq 16, 3) := dk_153 0 16 (dk_at dksX2_samePairs_1 3 rfl rfl)
theorem dX2_samePairs_29 : decode cX2_samePairs 29 = .ok (.aload_n 0, 1) := dk_42 (dk_at dksX2_samePairs_1 6 rfl rfl)
theorem dX2_samePairs_30 : decode cX2_samePairs 30 = .ok (.iload_n 3, 1) := dk_29 (dk_at dksX2_samePairs_1 7 rfl rfl)
theorem dX2_samePairs_31 : decode cX2_samePairs 31 = .ok (.iload_n 2, 1) := dk_28 (dk_at dksX2_samePairs_1 8 rfl rfl)
theorem dX2_samePairs_32 : decode cX2_samePairs 32 = .ok (.invokevirtual 419, 3) := dk_182 1 163 (dk_at dksX2_samePairs_1 9 rfl rfl)
theorem dX2_samePairs_35 : decode cX2_samePairs 35 = .ok (.ifCond .eq 7, 3) := dk_153 0 7 (dk_at dksX2_samePairs_1 12 rfl rfl)
theorem dX2_samePairs_38 : decode cX2_samePairs 38 = .ok (.iconst 1, 1) := dk_4 (dk_at dksX2_samePairs_1 15 rfl rfl)
theorem dX2_samePairs_39 : decode cX2_samePairs 39 = .ok (.goto 4, 3) := dk_167 0 4 (dk_at dksX2_samePairs_1 16 rfl rfl)
theorem dX2_samePairs_42 : decode cX2_samePairs 42 = .ok (.iconst 0, 1) := dk_3 (dk_at dksX2_samePairs_1 19 rfl rfl)
theorem dX2_samePairs_43 : decode cX2_samePairs 43 = .ok (.iadd, 1) := dk_96 (dk_at dksX2_samePairs_1 20 rfl rfl)
theorem dX2_samePairs_44 : decode cX2_samePairs 44 = .ok (.istore_n 1, 1) := dk_60 (dk_at dksX2_samePairs_1 21 rfl rfl)
theorem dX2_samePairs_45 : decode cX2_samePairs 45 = .ok (.iinc 3 1, 3) := dk_132 3 1 (dk_at dksX2_samePairs_2 0 rfl rfl)
theorem dX2_samePairs_48 : decode cX2_samePairs 48 = .ok (.goto (-34), 3) := dk_167 255 222 (dk_at dksX2_samePairs_2 3 rfl rfl)
theorem dX2_samePairs_51 : decode cX2_samePairs 51 = .ok (.iinc 2 1, 3) := dk_132 2 1 (dk_at dksX2_samePairs_2 6 rfl rfl)
theorem dX2_samePairs_54 : decode cX2_samePairs 54 = .ok (.goto (-50), 3) := dk_167 255 206 (dk_at dksX2_samePairs_2 9 rfl rfl)
theorem dX2_samePairs_57 : decode cX2_samePairs 57 = .ok (.iload_n 1, 1) := dk_27 (dk_at dksX2_samePairs_2 12 rfl rfl)
theorem dX2_samePairs_58 : decode cX2_samePairs 58 = .ok (.ireturn, 1) := dk_172 (dk_at dksX2_samePairs_2 13 rfl rfl)
abbrev cX2_isWithin : ByteArray := prog_25_method_106_code
def yX2_isWithin : MethodName := ⟨RX2, "isWithin", "(II)Z"⟩
def dkwX2_isWithin_2 : List UInt8 := [4, 167, 0, 4, 3, 62, 132, 4, 1, 167, 255, 204, 29, 172]
abbrev dktX2_isWithin_2 : List UInt8 := dkwX2_isWithin_2 ++ []
def dkwX2_isWithin_1 : List UInt8 := [7, 27, 104, 21, 4, 96, 46, 42, 180, 0, 50, 7, 28, 104, 21, 4, 96, 46, 2, 130, 126, 154, 0, 7]
abbrev dktX2_isWithin_1 : List UInt8 := dkwX2_isWithin_1 ++ dktX2_isWithin_2
def dkwX2_isWithin_0 : List UInt8 := [4, 62, 3, 54, 4, 21, 4, 42, 180, 0, 35, 3, 46, 162, 0, 47, 29, 153, 0, 35, 42, 180, 0, 50]
abbrev dktX2_isWithin_0 : List UInt8 := dkwX2_isWithin_0 ++ dktX2_isWithin_1
theorem dksX2_isWithin_0 : cX2_isWithin.data.toList.drop 0 = dktX2_isWithin_0 := by decide +kernel
theorem dksX2_isWithin_1 : cX2_isWithin.data.toList.drop 24 = dktX2_isWithin_1 := dk_seg dksX2_isWithin_0 24 rfl rfl
theorem dksX2_isWithin_2 : cX2_isWithin.data.toList.drop 48 = dktX2_isWithin_2 := dk_seg dksX2_isWithin_1 24 rfl rfl
theorem dX2_isWithin_0 : decode cX2_isWithin 0 = .ok (.iconst 1, 1) := dk_4 (dk_at dksX2_isWithin_0 0 rfl rfl)
theorem dX2_isWithin_1 : decode cX2_isWithin 1 = .ok (.istore_n 3, 1) := dk_62 (dk_at dksX2_isWithin_0 1 rfl rfl)
theorem dX2_isWithin_2 : decode cX2_isWithin 2 = .ok (.iconst 0, 1) := dk_3 (dk_at dksX2_isWithin_0 2 rfl rfl)
theorem dX2_isWithin_3 : decode cX2_isWithin 3 = .ok (.istore 4, 2) := dk_54 4 (dk_at dksX2_isWithin_0 3 rfl rfl)
theorem dX2_isWithin_5 : decode cX2_isWithin 5 = .ok (.iload 4, 2) := dk_21 4 (dk_at dksX2_isWithin_0 5 rfl rfl)
theorem dX2_isWithin_7 : decode cX2_isWithin 7 = .ok (.aload_n 0, 1) := dk_42 (dk_at dksX2_isWithin_0 7 rfl rfl)
theorem dX2_isWithin_8 : decode cX2_isWithin 8 = .ok (.getfield 35, 3) := dk_180 0 35 (dk_at dksX2_isWithin_0 8 rfl rfl)
theorem dX2_isWithin_11 : decode cX2_isWithin 11 = .ok (.iconst 0, 1) := dk_3 (dk_at dksX2_isWithin_0 11 rfl rfl)
theorem dX2_isWithin_12 : decode cX2_isWithin 12 = .ok (.iaload, 1) := dk_46 (dk_at dksX2_isWithin_0 12 rfl rfl)
theorem dX2_isWithin_13 : decode cX2_isWithin 13 = .ok (.if_icmp .ge 47, 3) := dk_162 0 47 (dk_at dksX2_isWithin_0 13 rfl rfl)
theorem dX2_isWithin_16 : decode cX2_isWithin 16 = .ok (.iload_n 3, 1) := dk_29 (dk_at dksX2_isWithin_0 16 rfl rfl)
theorem dX2_isWithin_17 : decode cX2_isWithin 17 = .ok (.ifCond .eq 35, 3) := dk_153 0 35 (dk_at dksX2_isWithin_0 17 rfl rfl)
theorem dX2_isWithin_20 : decode cX2_isWithin 20 = .ok (.aload_n 0, 1) := dk_42 (dk_at dksX2_isWithin_0 20 rfl rfl)
theorem dX2_isWithin_21 : decode cX2_isWithin 21 = .ok (.getfield 50, 3) := dk_180 0 50 (dk_at dksX2_isWithin_0 21 rfl rfl)
theorem dX2_isWithin_24 : decode cX2_isWithin 24 = .ok (.iconst 4, 1) := dk_7 (dk_at dksX2_isWithin_1 0 rfl rfl)
theorem dX2_isWithin_25 : decode cX2_isWithin 25 = .ok (.iload_n 1, 1) := dk_27 (dk_at dksX2_isWithin_1 1 rfl rfl)
theorem dX2_isWithin_26 : decode cX2_isWithin 26 = .ok (.imul, 1) := dk_104 (dk_at dksX2_isWithin_1 2 rfl rfl)
theorem dX2_isWithin_27 : decode cX2_isWithin 27 = .ok (.iload 4, 2) := dk_21 4 (dk_at dksX2_isWithin_1 3 rfl rfl)
theorem dX2_isWithin_29 : decode cX2_isWithin 29 = .ok (.iadd, 1) := dk_96 (dk_at dksX2_isWithin_1 5 rfl rfl)
theorem dX2_isWithin_30 : decode cX2_isWithin 30 = .ok (.iaload, 1) := dk_46 (dk_at dksX2_isWithin_1 6 rfl rfl)
theorem dX2_isWithin_31 : decode cX2_isWithin 31 = .ok (.aload_n 0, 1) := dk_42 (dk_at dksX2_isWithin_1 7 rfl rfl)
theorem dX2_isWithin_32 : decode cX2_isWithin 32 = .ok (.getfield 50, 3) := dk_180 0 50 (dk_at dksX2_isWithin_1 8 rfl rfl)
theorem dX2_isWithin_35 : decode cX2_isWithin 35 = .ok (.iconst 4, 1) := dk_7 (dk_at dksX2_isWithin_1 11 rfl rfl)
theorem dX2_isWithin_36 : decode cX2_isWithin 36 = .ok (.iload_n 2, 1) := dk_28 (dk_at dksX2_isWithin_1 12 rfl rfl)
theorem dX2_isWithin_37 : decode cX2_isWithin 37 = .ok (.imul, 1) := dk_104 (dk_at dksX2_isWithin_1 13 rfl rfl)
theorem dX2_isWithin_38 : decode cX2_isWithin 38 = .ok (.iload 4, 2) := dk_21 4 (dk_at dksX2_isWithin_1 14 rfl rfl)
theorem dX2_isWithin_40 : decode cX2_isWithin 40 = .ok (.iadd, 1) := dk_96 (dk_at dksX2_isWithin_1 16 rfl rfl)
theorem dX2_isWithin_41 : decode cX2_isWithin 41 = .ok (.iaload, 1) := dk_46 (dk_at dksX2_isWithin_1 17 rfl rfl)
theorem dX2_isWithin_42 : decode cX2_isWithin 42 = .ok (.iconst (-1), 1) := dk_2 (dk_at dksX2_isWithin_1 18 rfl rfl)
theorem dX2_isWithin_43 : decode cX2_isWithin 43 = .ok (.ixor, 1) := dk_130 (dk_at dksX2_isWithin_1 19 rfl rfl)
theorem dX2_isWithin_44 : decode cX2_isWithin 44 = .ok (.iand, 1) := dk_126 (dk_at dksX2_isWithin_1 20 rfl rfl)
theorem dX2_isWithin_45 : decode cX2_isWithin 45 = .ok (.ifCond .ne 7, 3) := dk_154 0 7 (dk_at dksX2_isWithin_1 21 rfl rfl)
theorem dX2_isWithin_48 : decode cX2_isWithin 48 = .ok (.iconst 1, 1) := dk_4 (dk_at dksX2_isWithin_2 0 rfl rfl)
theorem dX2_isWithin_49 : decode cX2_isWithin 49 = .ok (.goto 4, 3) := dk_167 0 4 (dk_at dksX2_isWithin_2 1 rfl rfl)
theorem dX2_isWithin_52 : decode cX2_isWithin 52 = .ok (.iconst 0, 1) := dk_3 (dk_at dksX2_isWithin_2 4 rfl rfl)
theorem dX2_isWithin_53 : decode cX2_isWithin 53 = .ok (.istore_n 3, 1) := dk_62 (dk_at dksX2_isWithin_2 5 rfl rfl)
theorem dX2_isWithin_54 : decode cX2_isWithin 54 = .ok (.iinc 4 1, 3) := dk_132 4 1 (dk_at dksX2_isWithin_2 6 rfl rfl)
theorem dX2_isWithin_57 : decode cX2_isWithin 57 = .ok (.goto (-52), 3) := dk_167 255 204 (dk_at dksX2_isWithin_2 9 rfl rfl)
theorem dX2_isWithin_60 : decode cX2_isWithin 60 = .ok (.iload_n 3, 1) := dk_29 (dk_at dksX2_isWithin_2 12 rfl rfl)
theorem dX2_isWithin_61 : decode cX2_isWithin 61 = .ok (.ireturn, 1) := dk_172 (dk_at dksX2_isWithin_2 13 rfl rfl)
abbrev cX2_implies : ByteArray := prog_25_method_110_code
def yX2_implies : MethodName := ⟨RX2, "implies", "(IIII)I"⟩
def dkwX2_implies_2 : List UInt8 := [3, 172]
abbrev dktX2_implies_2 : List UInt8 := dkwX2_implies_2 ++ []
def dkwX2_implies_1 : List UInt8 := [21, 4, 182, 1, 142, 154, 0, 5, 2, 172, 42, 29, 21, 4, 182, 1, 163, 153, 0, 7, 4, 167, 0, 4]
abbrev dktX2_implies_1 : List UInt8 := dkwX2_implies_1 ++ dktX2_implies_2
def dkwX2_implies_0 : List UInt8 := [42, 3, 181, 0, 60, 42, 27, 28, 182, 1, 139, 153, 0, 20, 42, 29, 182, 1, 142, 153, 0, 12, 42]
abbrev dktX2_implies_0 : List UInt8 := dkwX2_implies_0 ++ dktX2_implies_1
theorem dksX2_implies_0 : cX2_implies.data.toList.drop 0 = dktX2_implies_0 := by decide +kernel
theorem dksX2_implies_1 : cX2_implies.data.toList.drop 23 = dktX2_implies_1 := dk_seg dksX2_implies_0 23 rfl rfl
theorem dksX2_implies_2 : cX2_implies.data.toList.drop 47 = dktX2_implies_2 := dk_seg dksX2_implies_1 24 rfl rfl
theorem dX2_implies_0 : decode cX2_implies 0 = .ok (.aload_n 0, 1) := dk_42 (dk_at dksX2_implies_0 0 rfl rfl)
theorem dX2_implies_1 : decode cX2_implies 1 = .ok (.iconst 0, 1) := dk_3 (dk_at dksX2_implies_0 1 rfl rfl)
theorem dX2_implies_2 : decode cX2_implies 2 = .ok (.putfield 60, 3) := dk_181 0 60 (dk_at dksX2_implies_0 2 rfl rfl)
theorem dX2_implies_5 : decode cX2_implies 5 = .ok (.aload_n 0, 1) := dk_42 (dk_at dksX2_implies_0 5 rfl rfl)
theorem dX2_implies_6 : decode cX2_implies 6 = .ok (.iload_n 1, 1) := dk_27 (dk_at dksX2_implies_0 6 rfl rfl)
theorem dX2_implies_7 : decode cX2_implies 7 = .ok (.iload_n 2, 1) := dk_28 (dk_at dksX2_implies_0 7 rfl rfl)
theorem dX2_implies_8 : decode cX2_implies 8 = .ok (.invokevirtual 395, 3) := dk_182 1 139 (dk_at dksX2_implies_0 8 rfl rfl)
theorem dX2_implies_11 : decode cX2_implies 11 = .ok (.ifCond .eq 20, 3) := dk_153 0 20 (dk_at dksX2_implies_0 11 rfl rfl)
theorem dX2_implies_14 : decode cX2_implies 14 = .ok (.aload_n 0, 1) := dk_42 (dk_at dksX2_implies_0 14 rfl rfl)
theorem dX2_implies_15 : decode cX2_implies 15 = .ok (.iload_n 3, 1) := dk_29 (dk_at dksX2_implies_0 15 rfl rfl)
theorem dX2_implies_16 : decode cX2_implies 16 = .ok (.invokevirtual 398, 3) := dk_182 1 142 (dk_at dksX2_implies_0 16 rfl rfl)
theorem dX2_implies_19 : decode cX2_implies 19 = .ok (.ifCond .eq 12, 3) := dk_153 0 12 (dk_at dksX2_implies_0 19 rfl rfl)
theorem dX2_implies_22 : decode cX2_implies 22 = .ok (.aload_n 0, 1) := dk_42 (dk_at dksX2_implies_0 22 rfl rfl)
theorem dX2_implies_23 : decode cX2_implies 23 = .ok (.iload 4, 2) := dk_21 4 (dk_at dksX2_implies_1 0 rfl rfl)
theorem dX2_implies_25 : decode cX2_implies 25 = .ok (.invokevirtual 398, 3) := dk_182 1 142 (dk_at dksX2_implies_1 2 rfl rfl)
theorem dX2_implies_28 : decode cX2_implies 28 = .ok (.ifCond .ne 5, 3) := dk_154 0 5 (dk_at dksX2_implies_1 5 rfl rfl)
theorem dX2_implies_31 : decode cX2_implies 31 = .ok (.iconst (-1), 1) := dk_2 (dk_at dksX2_implies_1 8 rfl rfl)
theorem dX2_implies_32 : decode cX2_implies 32 = .ok (.ireturn, 1) := dk_172 (dk_at dksX2_implies_1 9 rfl rfl)
theorem dX2_implies_33 : decode cX2_implies 33 = .ok (.aload_n 0, 1) := dk_42 (dk_at dksX2_implies_1 10 rfl rfl)
theorem dX2_implies_34 : decode cX2_implies 34 = .ok (.iload_n 3, 1) := dk_29 (dk_at dksX2_implies_1 11 rfl rfl)
theorem dX2_implies_35 : decode cX2_implies 35 = .ok (.iload 4, 2) := dk_21 4 (dk_at dksX2_implies_1 12 rfl rfl)
theorem dX2_implies_37 : decode cX2_implies 37 = .ok (.invokevirtual 419, 3) := dk_182 1 163 (dk_at dksX2_implies_1 14 rfl rfl)
theorem dX2_implies_40 : decode cX2_implies 40 = .ok (.ifCond .eq 7, 3) := dk_153 0 7 (dk_at dksX2_implies_1 17 rfl rfl)
theorem dX2_implies_43 : decode cX2_implies 43 = .ok (.iconst 1, 1) := dk_4 (dk_at dksX2_implies_1 20 rfl rfl)
theorem dX2_implies_44 : decode cX2_implies 44 = .ok (.goto 4, 3) := dk_167 0 4 (dk_at dksX2_implies_1 21 rfl rfl)
theorem dX2_implies_47 : decode cX2_implies 47 = .ok (.iconst 0, 1) := dk_3 (dk_at dksX2_implies_2 0 rfl rfl)
theorem dX2_implies_48 : decode cX2_implies 48 = .ok (.ireturn, 1) := dk_172 (dk_at dksX2_implies_2 1 rfl rfl)
abbrev cX2_fact : ByteArray := prog_25_method_114_code
def yX2_fact : MethodName := ⟨RX2, "fact", "(III)I"⟩
def dkwX2_fact_2 : List UInt8 := [153, 0, 21, 29, 3, 5, 184, 0, 72, 153, 0, 12, 42, 28, 29, 182, 1, 181, 167, 0, 5, 16, 254, 172]
abbrev dktX2_fact_2 : List UInt8 := dkwX2_fact_2 ++ []
def dkwX2_fact_1 : List UInt8 := [154, 0, 10, 42, 182, 1, 178, 167, 0, 5, 16, 254, 172, 28, 3, 42, 182, 1, 178, 4, 100, 184, 0, 72]
abbrev dktX2_fact_1 : List UInt8 := dkwX2_fact_1 ++ dktX2_fact_2
def dkwX2_fact_0 : List UInt8 := [42, 3, 181, 0, 60, 42, 27, 182, 1, 175, 154, 0, 6, 16, 254, 172, 28, 2, 160, 0, 17, 29]
abbrev dktX2_fact_0 : List UInt8 := dkwX2_fact_0 ++ dktX2_fact_1
theorem dksX2_fact_0 : cX2_fact.data.toList.drop 0 = dktX2_fact_0 := by decide +kernel
theorem dksX2_fact_1 : cX2_fact.data.toList.drop 22 = dktX2_fact_1 := dk_seg dksX2_fact_0 22 rfl rfl
theorem dksX2_fact_2 : cX2_fact.data.toList.drop 46 = dktX2_fact_2 := dk_seg dksX2_fact_1 24 rfl rfl
theorem dX2_fact_0 : decode cX2_fact 0 = .ok (.aload_n 0, 1) := dk_42 (dk_at dksX2_fact_0 0 rfl rfl)
theorem dX2_fact_1 : decode cX2_fact 1 = .ok (.iconst 0, 1) := dk_3 (dk_at dksX2_fact_0 1 rfl rfl)
theorem dX2_fact_2 : decode cX2_fact 2 = .ok (.putfield 60, 3) := dk_181 0 60 (dk_at dksX2_fact_0 2 rfl rfl)
theorem dX2_fact_5 : decode cX2_fact 5 = .ok (.aload_n 0, 1) := dk_42 (dk_at dksX2_fact_0 5 rfl rfl)
theorem dX2_fact_6 : decode cX2_fact 6 = .ok (.iload_n 1, 1) := dk_27 (dk_at dksX2_fact_0 6 rfl rfl)
theorem dX2_fact_7 : decode cX2_fact 7 = .ok (.invokevirtual 431, 3) := dk_182 1 175 (dk_at dksX2_fact_0 7 rfl rfl)
theorem dX2_fact_10 : decode cX2_fact 10 = .ok (.ifCond .ne 6, 3) := dk_154 0 6 (dk_at dksX2_fact_0 10 rfl rfl)
theorem dX2_fact_13 : decode cX2_fact 13 = .ok (.bipush (-2), 2) := dk_16 254 (dk_at dksX2_fact_0 13 rfl rfl)
theorem dX2_fact_15 : decode cX2_fact 15 = .ok (.ireturn, 1) := dk_172 (dk_at dksX2_fact_0 15 rfl rfl)
theorem dX2_fact_16 : decode cX2_fact 16 = .ok (.iload_n 2, 1) := dk_28 (dk_at dksX2_fact_0 16 rfl rfl)
theorem dX2_fact_17 : decode cX2_fact 17 = .ok (.iconst (-1), 1) := dk_2 (dk_at dksX2_fact_0 17 rfl rfl)
theorem dX2_fact_18 : decode cX2_fact 18 = .ok (.if_icmp .ne 17, 3) := dk_160 0 17 (dk_at dksX2_fact_0 18 rfl rfl)
theorem dX2_fact_21 : decode cX2_fact 21 = .ok (.iload_n 3, 1) := dk_29 (dk_at dksX2_fact_0 21 rfl rfl)
theorem dX2_fact_22 : decode cX2_fact 22 = .ok (.ifCond .ne 10, 3) := dk_154 0 10 (dk_at dksX2_fact_1 0 rfl rfl)
theorem dX2_fact_25 : decode cX2_fact 25 = .ok (.aload_n 0, 1) := dk_42 (dk_at dksX2_fact_1 3 rfl rfl)
theorem dX2_fact_26 : decode cX2_fact 26 = .ok (.invokevirtual 434, 3) := dk_182 1 178 (dk_at dksX2_fact_1 4 rfl rfl)
theorem dX2_fact_29 : decode cX2_fact 29 = .ok (.goto 5, 3) := dk_167 0 5 (dk_at dksX2_fact_1 7 rfl rfl)
theorem dX2_fact_32 : decode cX2_fact 32 = .ok (.bipush (-2), 2) := dk_16 254 (dk_at dksX2_fact_1 10 rfl rfl)
theorem dX2_fact_34 : decode cX2_fact 34 = .ok (.ireturn, 1) := dk_172 (dk_at dksX2_fact_1 12 rfl rfl)
theorem dX2_fact_35 : decode cX2_fact 35 = .ok (.iload_n 2, 1) := dk_28 (dk_at dksX2_fact_1 13 rfl rfl)
theorem dX2_fact_36 : decode cX2_fact 36 = .ok (.iconst 0, 1) := dk_3 (dk_at dksX2_fact_1 14 rfl rfl)
theorem dX2_fact_37 : decode cX2_fact 37 = .ok (.aload_n 0, 1) := dk_42 (dk_at dksX2_fact_1 15 rfl rfl)
theorem dX2_fact_38 : decode cX2_fact 38 = .ok (.invokevirtual 434, 3) := dk_182 1 178 (dk_at dksX2_fact_1 16 rfl rfl)
theorem dX2_fact_41 : decode cX2_fact 41 = .ok (.iconst 1, 1) := dk_4 (dk_at dksX2_fact_1 19 rfl rfl)
theorem dX2_fact_42 : decode cX2_fact 42 = .ok (.isub, 1) := dk_100 (dk_at dksX2_fact_1 20 rfl rfl)
theorem dX2_fact_43 : decode cX2_fact 43 = .ok (.invokestatic 72, 3) := dk_184 0 72 (dk_at dksX2_fact_1 21 rfl rfl)
theorem dX2_fact_46 : decode cX2_fact 46 = .ok (.ifCond .eq 21, 3) := dk_153 0 21 (dk_at dksX2_fact_2 0 rfl rfl)
theorem dX2_fact_49 : decode cX2_fact 49 = .ok (.iload_n 3, 1) := dk_29 (dk_at dksX2_fact_2 3 rfl rfl)
theorem dX2_fact_50 : decode cX2_fact 50 = .ok (.iconst 0, 1) := dk_3 (dk_at dksX2_fact_2 4 rfl rfl)
theorem dX2_fact_51 : decode cX2_fact 51 = .ok (.iconst 2, 1) := dk_5 (dk_at dksX2_fact_2 5 rfl rfl)
theorem dX2_fact_52 : decode cX2_fact 52 = .ok (.invokestatic 72, 3) := dk_184 0 72 (dk_at dksX2_fact_2 6 rfl rfl)
theorem dX2_fact_55 : decode cX2_fact 55 = .ok (.ifCond .eq 12, 3) := dk_153 0 12 (dk_at dksX2_fact_2 9 rfl rfl)
theorem dX2_fact_58 : decode cX2_fact 58 = .ok (.aload_n 0, 1) := dk_42 (dk_at dksX2_fact_2 12 rfl rfl)
theorem dX2_fact_59 : decode cX2_fact 59 = .ok (.iload_n 2, 1) := dk_28 (dk_at dksX2_fact_2 13 rfl rfl)
theorem dX2_fact_60 : decode cX2_fact 60 = .ok (.iload_n 3, 1) := dk_29 (dk_at dksX2_fact_2 14 rfl rfl)
theorem dX2_fact_61 : decode cX2_fact 61 = .ok (.invokevirtual 437, 3) := dk_182 1 181 (dk_at dksX2_fact_2 15 rfl rfl)
theorem dX2_fact_64 : decode cX2_fact 64 = .ok (.goto 5, 3) := dk_167 0 5 (dk_at dksX2_fact_2 18 rfl rfl)
theorem dX2_fact_67 : decode cX2_fact 67 = .ok (.bipush (-2), 2) := dk_16 254 (dk_at dksX2_fact_2 21 rfl rfl)
theorem dX2_fact_69 : decode cX2_fact 69 = .ok (.ireturn, 1) := dk_172 (dk_at dksX2_fact_2 23 rfl rfl)
abbrev cX2_hasHunt : ByteArray := prog_25_method_113_code
def yX2_hasHunt : MethodName := ⟨RX2, "hasHunt", "(I)Z"⟩
def dkwX2_hasHunt_0 : List UInt8 := [42, 27, 181, 1, 172, 42, 5, 27, 182, 0, 243, 172]
abbrev dktX2_hasHunt_0 : List UInt8 := dkwX2_hasHunt_0 ++ []
theorem dksX2_hasHunt_0 : cX2_hasHunt.data.toList.drop 0 = dktX2_hasHunt_0 := by decide +kernel
theorem dX2_hasHunt_0 : decode cX2_hasHunt 0 = .ok (.aload_n 0, 1) := dk_42 (dk_at dksX2_hasHunt_0 0 rfl rfl)
theorem dX2_hasHunt_1 : decode cX2_hasHunt 1 = .ok (.iload_n 1, 1) := dk_27 (dk_at dksX2_hasHunt_0 1 rfl rfl)
theorem dX2_hasHunt_2 : decode cX2_hasHunt 2 = .ok (.putfield 428, 3) := dk_181 1 172 (dk_at dksX2_hasHunt_0 2 rfl rfl)
theorem dX2_hasHunt_5 : decode cX2_hasHunt 5 = .ok (.aload_n 0, 1) := dk_42 (dk_at dksX2_hasHunt_0 5 rfl rfl)
theorem dX2_hasHunt_6 : decode cX2_hasHunt 6 = .ok (.iconst 2, 1) := dk_5 (dk_at dksX2_hasHunt_0 6 rfl rfl)
theorem dX2_hasHunt_7 : decode cX2_hasHunt 7 = .ok (.iload_n 1, 1) := dk_27 (dk_at dksX2_hasHunt_0 7 rfl rfl)
theorem dX2_hasHunt_8 : decode cX2_hasHunt 8 = .ok (.invokevirtual 243, 3) := dk_182 0 243 (dk_at dksX2_hasHunt_0 8 rfl rfl)
theorem dX2_hasHunt_11 : decode cX2_hasHunt 11 = .ok (.ireturn, 1) := dk_172 (dk_at dksX2_hasHunt_0 11 rfl rfl)
abbrev cX2_facts : ByteArray := prog_25_method_111_code
def yX2_facts : MethodName := ⟨RX2, "facts", "()I"⟩
def dkwX2_facts_0 : List UInt8 := [42, 180, 0, 32, 16, 25, 42, 180, 1, 172, 104, 46, 172]
abbrev dktX2_facts_0 : List UInt8 := dkwX2_facts_0 ++ []
theorem dksX2_facts_0 : cX2_facts.data.toList.drop 0 = dktX2_facts_0 := by decide +kernel
theorem dX2_facts_0 : decode cX2_facts 0 = .ok (.aload_n 0, 1) := dk_42 (dk_at dksX2_facts_0 0 rfl rfl)
theorem dX2_facts_1 : decode cX2_facts 1 = .ok (.getfield 32, 3) := dk_180 0 32 (dk_at dksX2_facts_0 1 rfl rfl)
theorem dX2_facts_4 : decode cX2_facts 4 = .ok (.bipush 25, 2) := dk_16 25 (dk_at dksX2_facts_0 4 rfl rfl)
theorem dX2_facts_6 : decode cX2_facts 6 = .ok (.aload_n 0, 1) := dk_42 (dk_at dksX2_facts_0 6 rfl rfl)
theorem dX2_facts_7 : decode cX2_facts 7 = .ok (.getfield 428, 3) := dk_180 1 172 (dk_at dksX2_facts_0 7 rfl rfl)
theorem dX2_facts_10 : decode cX2_facts 10 = .ok (.imul, 1) := dk_104 (dk_at dksX2_facts_0 10 rfl rfl)
theorem dX2_facts_11 : decode cX2_facts 11 = .ok (.iaload, 1) := dk_46 (dk_at dksX2_facts_0 11 rfl rfl)
theorem dX2_facts_12 : decode cX2_facts 12 = .ok (.ireturn, 1) := dk_172 (dk_at dksX2_facts_0 12 rfl rfl)
abbrev cX2_factOf : ByteArray := prog_25_method_112_code
def yX2_factOf : MethodName := ⟨RX2, "factOf", "(II)I"⟩
def dkwX2_factOf_0 : List UInt8 := [42, 180, 0, 32, 16, 25, 42, 180, 1, 172, 104, 4, 96, 6, 27, 104, 96, 28, 96, 46, 172]
abbrev dktX2_factOf_0 : List UInt8 := dkwX2_factOf_0 ++ []
theorem dksX2_factOf_0 : cX2_factOf.data.toList.drop 0 = dktX2_factOf_0 := by decide +kernel
theorem dX2_factOf_0 : decode cX2_factOf 0 = .ok (.aload_n 0, 1) := dk_42 (dk_at dksX2_factOf_0 0 rfl rfl)
theorem dX2_factOf_1 : decode cX2_factOf 1 = .ok (.getfield 32, 3) := dk_180 0 32 (dk_at dksX2_factOf_0 1 rfl rfl)
theorem dX2_factOf_4 : decode cX2_factOf 4 = .ok (.bipush 25, 2) := dk_16 25 (dk_at dksX2_factOf_0 4 rfl rfl)
theorem dX2_factOf_6 : decode cX2_factOf 6 = .ok (.aload_n 0, 1) := dk_42 (dk_at dksX2_factOf_0 6 rfl rfl)
theorem dX2_factOf_7 : decode cX2_factOf 7 = .ok (.getfield 428, 3) := dk_180 1 172 (dk_at dksX2_factOf_0 7 rfl rfl)
theorem dX2_factOf_10 : decode cX2_factOf 10 = .ok (.imul, 1) := dk_104 (dk_at dksX2_factOf_0 10 rfl rfl)
theorem dX2_factOf_11 : decode cX2_factOf 11 = .ok (.iconst 1, 1) := dk_4 (dk_at dksX2_factOf_0 11 rfl rfl)
theorem dX2_factOf_12 : decode cX2_factOf 12 = .ok (.iadd, 1) := dk_96 (dk_at dksX2_factOf_0 12 rfl rfl)
theorem dX2_factOf_13 : decode cX2_factOf 13 = .ok (.iconst 3, 1) := dk_6 (dk_at dksX2_factOf_0 13 rfl rfl)
theorem dX2_factOf_14 : decode cX2_factOf 14 = .ok (.iload_n 1, 1) := dk_27 (dk_at dksX2_factOf_0 14 rfl rfl)
theorem dX2_factOf_15 : decode cX2_factOf 15 = .ok (.imul, 1) := dk_104 (dk_at dksX2_factOf_0 15 rfl rfl)
theorem dX2_factOf_16 : decode cX2_factOf 16 = .ok (.iadd, 1) := dk_96 (dk_at dksX2_factOf_0 16 rfl rfl)
theorem dX2_factOf_17 : decode cX2_factOf 17 = .ok (.iload_n 2, 1) := dk_28 (dk_at dksX2_factOf_0 17 rfl rfl)
theorem dX2_factOf_18 : decode cX2_factOf 18 = .ok (.iadd, 1) := dk_96 (dk_at dksX2_factOf_0 18 rfl rfl)
theorem dX2_factOf_19 : decode cX2_factOf 19 = .ok (.iaload, 1) := dk_46 (dk_at dksX2_factOf_0 19 rfl rfl)
theorem dX2_factOf_20 : decode cX2_factOf 20 = .ok (.ireturn, 1) := dk_172 (dk_at dksX2_factOf_0 20 rfl rfl)
abbrev cX2_fits : ByteArray := prog_25_method_120_code
def yX2_fits : MethodName := ⟨RX2, "fits", "(III)I"⟩
def dkwX2_fits_3 : List UInt8 := [42, 180, 1, 184, 172, 42, 182, 1, 202, 172, 42, 182, 1, 205, 172, 16, 254, 172]
abbrev dktX2_fits_3 : List UInt8 := dkwX2_fits_3 ++ []
def dkwX2_fits_2 : List UInt8 := [170, 0, 0, 0, 0, 0, 0, 43, 0, 0, 0, 0, 0, 0, 0, 2, 0, 0, 0, 28, 0, 0, 0, 33, 0, 0, 0, 38]
abbrev dktX2_fits_2 : List UInt8 := dkwX2_fits_2 ++ dktX2_fits_3
def dkwX2_fits_1 : List UInt8 := [42, 29, 16, 10, 100, 182, 1, 199, 29, 16, 10, 161, 0, 8, 42, 180, 1, 187, 172, 29]
abbrev dktX2_fits_1 : List UInt8 := dkwX2_fits_1 ++ dktX2_fits_2
def dkwX2_fits_0 : List UInt8 := [42, 3, 181, 0, 60, 42, 28, 182, 1, 175, 153, 0, 11, 42, 27, 182, 1, 57, 154, 0, 6, 16, 254, 172]
abbrev dktX2_fits_0 : List UInt8 := dkwX2_fits_0 ++ dktX2_fits_1
theorem dksX2_fits_0 : cX2_fits.data.toList.drop 0 = dktX2_fits_0 := by decide +kernel
theorem dksX2_fits_1 : cX2_fits.data.toList.drop 24 = dktX2_fits_1 := dk_seg dksX2_fits_0 24 rfl rfl
theorem dksX2_fits_2 : cX2_fits.data.toList.drop 44 = dktX2_fits_2 := dk_seg dksX2_fits_1 20 rfl rfl
theorem dksX2_fits_3 : cX2_fits.data.toList.drop 72 = dktX2_fits_3 := dk_seg dksX2_fits_2 28 rfl rfl
theorem dX2_fits_0 : decode cX2_fits 0 = .ok (.aload_n 0, 1) := dk_42 (dk_at dksX2_fits_0 0 rfl rfl)
theorem dX2_fits_1 : decode cX2_fits 1 = .ok (.iconst 0, 1) := dk_3 (dk_at dksX2_fits_0 1 rfl rfl)
theorem dX2_fits_2 : decode cX2_fits 2 = .ok (.putfield 60, 3) := dk_181 0 60 (dk_at dksX2_fits_0 2 rfl rfl)
theorem dX2_fits_5 : decode cX2_fits 5 = .ok (.aload_n 0, 1) := dk_42 (dk_at dksX2_fits_0 5 rfl rfl)
theorem dX2_fits_6 : decode cX2_fits 6 = .ok (.iload_n 2, 1) := dk_28 (dk_at dksX2_fits_0 6 rfl rfl)
theorem dX2_fits_7 : decode cX2_fits 7 = .ok (.invokevirtual 431, 3) := dk_182 1 175 (dk_at dksX2_fits_0 7 rfl rfl)
theorem dX2_fits_10 : decode cX2_fits 10 = .ok (.ifCond .eq 11, 3) := dk_153 0 11 (dk_at dksX2_fits_0 10 rfl rfl)
theorem dX2_fits_13 : decode cX2_fits 13 = .ok (.aload_n 0, 1) := dk_42 (dk_at dksX2_fits_0 13 rfl rfl)
theorem dX2_fits_14 : decode cX2_fits 14 = .ok (.iload_n 1, 1) := dk_27 (dk_at dksX2_fits_0 14 rfl rfl)
theorem dX2_fits_15 : decode cX2_fits 15 = .ok (.invokevirtual 313, 3) := dk_182 1 57 (dk_at dksX2_fits_0 15 rfl rfl)
theorem dX2_fits_18 : decode cX2_fits 18 = .ok (.ifCond .ne 6, 3) := dk_154 0 6 (dk_at dksX2_fits_0 18 rfl rfl)
theorem dX2_fits_21 : decode cX2_fits 21 = .ok (.bipush (-2), 2) := dk_16 254 (dk_at dksX2_fits_0 21 rfl rfl)
theorem dX2_fits_23 : decode cX2_fits 23 = .ok (.ireturn, 1) := dk_172 (dk_at dksX2_fits_0 23 rfl rfl)
theorem dX2_fits_24 : decode cX2_fits 24 = .ok (.aload_n 0, 1) := dk_42 (dk_at dksX2_fits_1 0 rfl rfl)
theorem dX2_fits_25 : decode cX2_fits 25 = .ok (.iload_n 3, 1) := dk_29 (dk_at dksX2_fits_1 1 rfl rfl)
theorem dX2_fits_26 : decode cX2_fits 26 = .ok (.bipush 10, 2) := dk_16 10 (dk_at dksX2_fits_1 2 rfl rfl)
theorem dX2_fits_28 : decode cX2_fits 28 = .ok (.isub, 1) := dk_100 (dk_at dksX2_fits_1 4 rfl rfl)
theorem dX2_fits_29 : decode cX2_fits 29 = .ok (.invokevirtual 455, 3) := dk_182 1 199 (dk_at dksX2_fits_1 5 rfl rfl)
theorem dX2_fits_32 : decode cX2_fits 32 = .ok (.iload_n 3, 1) := dk_29 (dk_at dksX2_fits_1 8 rfl rfl)
theorem dX2_fits_33 : decode cX2_fits 33 = .ok (.bipush 10, 2) := dk_16 10 (dk_at dksX2_fits_1 9 rfl rfl)
theorem dX2_fits_35 : decode cX2_fits 35 = .ok (.if_icmp .lt 8, 3) := dk_161 0 8 (dk_at dksX2_fits_1 11 rfl rfl)
theorem dX2_fits_38 : decode cX2_fits 38 = .ok (.aload_n 0, 1) := dk_42 (dk_at dksX2_fits_1 14 rfl rfl)
theorem dX2_fits_39 : decode cX2_fits 39 = .ok (.getfield 443, 3) := dk_180 1 187 (dk_at dksX2_fits_1 15 rfl rfl)
theorem dX2_fits_42 : decode cX2_fits 42 = .ok (.ireturn, 1) := dk_172 (dk_at dksX2_fits_1 18 rfl rfl)
theorem dX2_fits_43 : decode cX2_fits 43 = .ok (.iload_n 3, 1) := dk_29 (dk_at dksX2_fits_1 19 rfl rfl)
theorem dX2_fits_44 : decode cX2_fits 44 = .ok (.tableswitch 43 0 2 #[28, 33, 38], 28) := by decide +kernel
theorem dX2_fits_72 : decode cX2_fits 72 = .ok (.aload_n 0, 1) := dk_42 (dk_at dksX2_fits_3 0 rfl rfl)
theorem dX2_fits_73 : decode cX2_fits 73 = .ok (.getfield 440, 3) := dk_180 1 184 (dk_at dksX2_fits_3 1 rfl rfl)
theorem dX2_fits_76 : decode cX2_fits 76 = .ok (.ireturn, 1) := dk_172 (dk_at dksX2_fits_3 4 rfl rfl)
theorem dX2_fits_77 : decode cX2_fits 77 = .ok (.aload_n 0, 1) := dk_42 (dk_at dksX2_fits_3 5 rfl rfl)
theorem dX2_fits_78 : decode cX2_fits 78 = .ok (.invokevirtual 458, 3) := dk_182 1 202 (dk_at dksX2_fits_3 6 rfl rfl)
theorem dX2_fits_81 : decode cX2_fits 81 = .ok (.ireturn, 1) := dk_172 (dk_at dksX2_fits_3 9 rfl rfl)
theorem dX2_fits_82 : decode cX2_fits 82 = .ok (.aload_n 0, 1) := dk_42 (dk_at dksX2_fits_3 10 rfl rfl)
theorem dX2_fits_83 : decode cX2_fits 83 = .ok (.invokevirtual 461, 3) := dk_182 1 205 (dk_at dksX2_fits_3 11 rfl rfl)
theorem dX2_fits_86 : decode cX2_fits 86 = .ok (.ireturn, 1) := dk_172 (dk_at dksX2_fits_3 14 rfl rfl)
theorem dX2_fits_87 : decode cX2_fits 87 = .ok (.bipush (-2), 2) := dk_16 254 (dk_at dksX2_fits_3 15 rfl rfl)
theorem dX2_fits_89 : decode cX2_fits 89 = .ok (.ireturn, 1) := dk_172 (dk_at dksX2_fits_3 17 rfl rfl)
abbrev cX2_findWords : ByteArray := prog_25_method_117_code
def yX2_findWords : MethodName := ⟨RX2, "findWords", "(I)V"⟩
def dkwX2_findWords_3 : List UInt8 := [182, 1, 196, 132, 2, 1, 167, 255, 221, 177]
abbrev dktX2_findWords_3 : List UInt8 := dkwX2_findWords_3 ++ []
def dkwX2_findWords_2 : List UInt8 := [162, 0, 33, 42, 42, 180, 0, 44, 28, 46, 182, 1, 193, 153, 0, 14, 42, 42, 180, 0, 44, 28, 46, 27]
abbrev dktX2_findWords_2 : List UInt8 := dkwX2_findWords_2 ++ dktX2_findWords_3
def dkwX2_findWords_1 : List UInt8 := [42, 180, 0, 53, 28, 3, 79, 132, 2, 1, 167, 255, 240, 42, 182, 1, 78, 3, 61, 28, 42, 180, 1, 81]
abbrev dktX2_findWords_1 : List UInt8 := dkwX2_findWords_1 ++ dktX2_findWords_2
def dkwX2_findWords_0 : List UInt8 := [42, 3, 181, 1, 184, 42, 16, 254, 181, 1, 187, 42, 3, 181, 1, 190, 3, 61, 28, 16, 40, 162, 0, 16]
abbrev dktX2_findWords_0 : List UInt8 := dkwX2_findWords_0 ++ dktX2_findWords_1
theorem dksX2_findWords_0 : cX2_findWords.data.toList.drop 0 = dktX2_findWords_0 := by decide +kernel
theorem dksX2_findWords_1 : cX2_findWords.data.toList.drop 24 = dktX2_findWords_1 := dk_seg dksX2_findWords_0 24 rfl rfl
theorem dksX2_findWords_2 : cX2_findWords.data.toList.drop 48 = dktX2_findWords_2 := dk_seg dksX2_findWords_1 24 rfl rfl
theorem dksX2_findWords_3 : cX2_findWords.data.toList.drop 72 = dktX2_findWords_3 := dk_seg dksX2_findWords_2 24 rfl rfl
theorem dX2_findWords_0 : decode cX2_findWords 0 = .ok (.aload_n 0, 1) := dk_42 (dk_at dksX2_findWords_0 0 rfl rfl)
theorem dX2_findWords_1 : decode cX2_findWords 1 = .ok (.iconst 0, 1) := dk_3 (dk_at dksX2_findWords_0 1 rfl rfl)
theorem dX2_findWords_2 : decode cX2_findWords 2 = .ok (.putfield 440, 3) := dk_181 1 184 (dk_at dksX2_findWords_0 2 rfl rfl)
theorem dX2_findWords_5 : decode cX2_findWords 5 = .ok (.aload_n 0, 1) := dk_42 (dk_at dksX2_findWords_0 5 rfl rfl)
theorem dX2_findWords_6 : decode cX2_findWords 6 = .ok (.bipush (-2), 2) := dk_16 254 (dk_at dksX2_findWords_0 6 rfl rfl)
theorem dX2_findWords_8 : decode cX2_findWords 8 = .ok (.putfield 443, 3) := dk_181 1 187 (dk_at dksX2_findWords_0 8 rfl rfl)
theorem dX2_findWords_11 : decode cX2_findWords 11 = .ok (.aload_n 0, 1) := dk_42 (dk_at dksX2_findWords_0 11 rfl rfl)
theorem dX2_findWords_12 : decode cX2_findWords 12 = .ok (.iconst 0, 1) := dk_3 (dk_at dksX2_findWords_0 12 rfl rfl)
theorem dX2_findWords_13 : decode cX2_findWords 13 = .ok (.putfield 446, 3) := dk_181 1 190 (dk_at dksX2_findWords_0 13 rfl rfl)
theorem dX2_findWords_16 : decode cX2_findWords 16 = .ok (.iconst 0, 1) := dk_3 (dk_at dksX2_findWords_0 16 rfl rfl)
theorem dX2_findWords_17 : decode cX2_findWords 17 = .ok (.istore_n 2, 1) := dk_61 (dk_at dksX2_findWords_0 17 rfl rfl)
theorem dX2_findWords_18 : decode cX2_findWords 18 = .ok (.iload_n 2, 1) := dk_28 (dk_at dksX2_findWords_0 18 rfl rfl)
theorem dX2_findWords_19 : decode cX2_findWords 19 = .ok (.bipush 40, 2) := dk_16 40 (dk_at dksX2_findWords_0 19 rfl rfl)
theorem dX2_findWords_21 : decode cX2_findWords 21 = .ok (.if_icmp .ge 16, 3) := dk_162 0 16 (dk_at dksX2_findWords_0 21 rfl rfl)
theorem dX2_findWords_24 : decode cX2_findWords 24 = .ok (.aload_n 0, 1) := dk_42 (dk_at dksX2_findWords_1 0 rfl rfl)
theorem dX2_findWords_25 : decode cX2_findWords 25 = .ok (.getfield 53, 3) := dk_180 0 53 (dk_at dksX2_findWords_1 1 rfl rfl)
theorem dX2_findWords_28 : decode cX2_findWords 28 = .ok (.iload_n 2, 1) := dk_28 (dk_at dksX2_findWords_1 4 rfl rfl)
theorem dX2_findWords_29 : decode cX2_findWords 29 = .ok (.iconst 0, 1) := dk_3 (dk_at dksX2_findWords_1 5 rfl rfl)
theorem dX2_findWords_30 : decode cX2_findWords 30 = .ok (.iastore, 1) := dk_79 (dk_at dksX2_findWords_1 6 rfl rfl)
theorem dX2_findWords_31 : decode cX2_findWords 31 = .ok (.iinc 2 1, 3) := dk_132 2 1 (dk_at dksX2_findWords_1 7 rfl rfl)
theorem dX2_findWords_34 : decode cX2_findWords 34 = .ok (.goto (-16), 3) := dk_167 255 240 (dk_at dksX2_findWords_1 10 rfl rfl)
theorem dX2_findWords_37 : decode cX2_findWords 37 = .ok (.aload_n 0, 1) := dk_42 (dk_at dksX2_findWords_1 13 rfl rfl)
theorem dX2_findWords_38 : decode cX2_findWords 38 = .ok (.invokevirtual 334, 3) := dk_182 1 78 (dk_at dksX2_findWords_1 14 rfl rfl)
theorem dX2_findWords_41 : decode cX2_findWords 41 = .ok (.iconst 0, 1) := dk_3 (dk_at dksX2_findWords_1 17 rfl rfl)
theorem dX2_findWords_42 : decode cX2_findWords 42 = .ok (.istore_n 2, 1) := dk_61 (dk_at dksX2_findWords_1 18 rfl rfl)
theorem dX2_findWords_43 : decode cX2_findWords 43 = .ok (.iload_n 2, 1) := dk_28 (dk_at dksX2_findWords_1 19 rfl rfl)
theorem dX2_findWords_44 : decode cX2_findWords 44 = .ok (.aload_n 0, 1) := dk_42 (dk_at dksX2_findWords_1 20 rfl rfl)
theorem dX2_findWords_45 : decode cX2_findWords 45 = .ok (.getfield 337, 3) := dk_180 1 81 (dk_at dksX2_findWords_1 21 rfl rfl)
theorem dX2_findWords_48 : decode cX2_findWords 48 = .ok (.if_icmp .ge 33, 3) := dk_162 0 33 (dk_at dksX2_findWords_2 0 rfl rfl)
theorem dX2_findWords_51 : decode cX2_findWords 51 = .ok (.aload_n 0, 1) := dk_42 (dk_at dksX2_findWords_2 3 rfl rfl)
theorem dX2_findWords_52 : decode cX2_findWords 52 = .ok (.aload_n 0, 1) := dk_42 (dk_at dksX2_findWords_2 4 rfl rfl)
theorem dX2_findWords_53 : decode cX2_findWords 53 = .ok (.getfield 44, 3) := dk_180 0 44 (dk_at dksX2_findWords_2 5 rfl rfl)
theorem dX2_findWords_56 : decode cX2_findWords 56 = .ok (.iload_n 2, 1) := dk_28 (dk_at dksX2_findWords_2 8 rfl rfl)
theorem dX2_findWords_57 : decode cX2_findWords 57 = .ok (.iaload, 1) := dk_46 (dk_at dksX2_findWords_2 9 rfl rfl)
theorem dX2_findWords_58 : decode cX2_findWords 58 = .ok (.invokevirtual 449, 3) := dk_182 1 193 (dk_at dksX2_findWords_2 10 rfl rfl)
theorem dX2_findWords_61 : decode cX2_findWords 61 = .ok (.ifCond .eq 14, 3) := dk_153 0 14 (dk_at dksX2_findWords_2 13 rfl rfl)
theorem dX2_findWords_64 : decode cX2_findWords 64 = .ok (.aload_n 0, 1) := dk_42 (dk_at dksX2_findWords_2 16 rfl rfl)
theorem dX2_findWords_65 : decode cX2_findWords 65 = .ok (.aload_n 0, 1) := dk_42 (dk_at dksX2_findWords_2 17 rfl rfl)
theorem dX2_findWords_66 : decode cX2_findWords 66 = .ok (.getfield 44, 3) := dk_180 0 44 (dk_at dksX2_findWords_2 18 rfl rfl)
theorem dX2_findWords_69 : decode cX2_findWords 69 = .ok (.iload_n 2, 1) := dk_28 (dk_at dksX2_findWords_2 21 rfl rfl)
theorem dX2_findWords_70 : decode cX2_findWords 70 = .ok (.iaload, 1) := dk_46 (dk_at dksX2_findWords_2 22 rfl rfl)
theorem dX2_findWords_71 : decode cX2_findWords 71 = .ok (.iload_n 1, 1) := dk_27 (dk_at dksX2_findWords_2 23 rfl rfl)
theorem dX2_findWords_72 : decode cX2_findWords 72 = .ok (.invokevirtual 452, 3) := dk_182 1 196 (dk_at dksX2_findWords_3 0 rfl rfl)
theorem dX2_findWords_75 : decode cX2_findWords 75 = .ok (.iinc 2 1, 3) := dk_132 2 1 (dk_at dksX2_findWords_3 3 rfl rfl)
theorem dX2_findWords_78 : decode cX2_findWords 78 = .ok (.goto (-35), 3) := dk_167 255 221 (dk_at dksX2_findWords_3 6 rfl rfl)
theorem dX2_findWords_81 : decode cX2_findWords 81 = .ok (.return_, 1) := dk_177 (dk_at dksX2_findWords_3 9 rfl rfl)
abbrev cX2_isSo : ByteArray := prog_25_method_115_code
def yX2_isSo : MethodName := ⟨RX2, "isSo", "(I)Z"⟩
def dkwX2_isSo_3 : List UInt8 := [159, 0, 5, 3, 172, 132, 2, 1, 167, 255, 180, 4, 172]
abbrev dktX2_isSo_3 : List UInt8 := dkwX2_isSo_3 ++ []
def dkwX2_isSo_2 : List UInt8 := [167, 0, 4, 3, 54, 5, 21, 5, 42, 28, 3, 182, 1, 181, 4, 160, 0, 7, 4, 167, 0, 4, 3]
abbrev dktX2_isSo_2 : List UInt8 := dkwX2_isSo_2 ++ dktX2_isSo_3
def dkwX2_isSo_1 : List UInt8 := [54, 4, 42, 29, 21, 4, 182, 1, 28, 153, 0, 18, 42, 29, 21, 4, 27, 182, 1, 106, 158, 0, 7, 4]
abbrev dktX2_isSo_1 : List UInt8 := dkwX2_isSo_1 ++ dktX2_isSo_2
def dkwX2_isSo_0 : List UInt8 := [3, 61, 28, 42, 182, 1, 178, 162, 0, 74, 42, 28, 4, 182, 1, 181, 62, 42, 28, 5, 182, 1, 181]
abbrev dktX2_isSo_0 : List UInt8 := dkwX2_isSo_0 ++ dktX2_isSo_1
theorem dksX2_isSo_0 : cX2_isSo.data.toList.drop 0 = dktX2_isSo_0 := by decide +kernel
theorem dksX2_isSo_1 : cX2_isSo.data.toList.drop 23 = dktX2_isSo_1 := dk_seg dksX2_isSo_0 23 rfl rfl
theorem dksX2_isSo_2 : cX2_isSo.data.toList.drop 47 = dktX2_isSo_2 := dk_seg dksX2_isSo_1 24 rfl rfl
theorem dksX2_isSo_3 : cX2_isSo.data.toList.drop 70 = dktX2_isSo_3 := dk_seg dksX2_isSo_2 23 rfl rfl
theorem dX2_isSo_0 : decode cX2_isSo 0 = .ok (.iconst 0, 1) := dk_3 (dk_at dksX2_isSo_0 0 rfl rfl)
theorem dX2_isSo_1 : decode cX2_isSo 1 = .ok (.istore_n 2, 1) := dk_61 (dk_at dksX2_isSo_0 1 rfl rfl)
theorem dX2_isSo_2 : decode cX2_isSo 2 = .ok (.iload_n 2, 1) := dk_28 (dk_at dksX2_isSo_0 2 rfl rfl)
theorem dX2_isSo_3 : decode cX2_isSo 3 = .ok (.aload_n 0, 1) := dk_42 (dk_at dksX2_isSo_0 3 rfl rfl)
theorem dX2_isSo_4 : decode cX2_isSo 4 = .ok (.invokevirtual 434, 3) := dk_182 1 178 (dk_at dksX2_isSo_0 4 rfl rfl)
theorem dX2_isSo_7 : decode cX2_isSo 7 = .ok (.if_icmp .ge 74, 3) := dk_162 0 74 (dk_at dksX2_isSo_0 7 rfl rfl)
theorem dX2_isSo_10 : decode cX2_isSo 10 = .ok (.aload_n 0, 1) := dk_42 (dk_at dksX2_isSo_0 10 rfl rfl)
theorem dX2_isSo_11 : decode cX2_isSo 11 = .ok (.iload_n 2, 1) := dk_28 (dk_at dksX2_isSo_0 11 rfl rfl)
theorem dX2_isSo_12 : decode cX2_isSo 12 = .ok (.iconst 1, 1) := dk_4 (dk_at dksX2_isSo_0 12 rfl rfl)
theorem dX2_isSo_13 : decode cX2_isSo 13 = .ok (.invokevirtual 437, 3) := dk_182 1 181 (dk_at dksX2_isSo_0 13 rfl rfl)
theorem dX2_isSo_16 : decode cX2_isSo 16 = .ok (.istore_n 3, 1) := dk_62 (dk_at dksX2_isSo_0 16 rfl rfl)
theorem dX2_isSo_17 : decode cX2_isSo 17 = .ok (.aload_n 0, 1) := dk_42 (dk_at dksX2_isSo_0 17 rfl rfl)
theorem dX2_isSo_18 : decode cX2_isSo 18 = .ok (.iload_n 2, 1) := dk_28 (dk_at dksX2_isSo_0 18 rfl rfl)
theorem dX2_isSo_19 : decode cX2_isSo 19 = .ok (.iconst 2, 1) := dk_5 (dk_at dksX2_isSo_0 19 rfl rfl)
theorem dX2_isSo_20 : decode cX2_isSo 20 = .ok (.invokevirtual 437, 3) := dk_182 1 181 (dk_at dksX2_isSo_0 20 rfl rfl)
theorem dX2_isSo_23 : decode cX2_isSo 23 = .ok (.istore 4, 2) := dk_54 4 (dk_at dksX2_isSo_1 0 rfl rfl)
theorem dX2_isSo_25 : decode cX2_isSo 25 = .ok (.aload_n 0, 1) := dk_42 (dk_at dksX2_isSo_1 2 rfl rfl)
theorem dX2_isSo_26 : decode cX2_isSo 26 = .ok (.iload_n 3, 1) := dk_29 (dk_at dksX2_isSo_1 3 rfl rfl)
theorem dX2_isSo_27 : decode cX2_isSo 27 = .ok (.iload 4, 2) := dk_21 4 (dk_at dksX2_isSo_1 4 rfl rfl)
theorem dX2_isSo_29 : decode cX2_isSo 29 = .ok (.invokevirtual 284, 3) := dk_182 1 28 (dk_at dksX2_isSo_1 6 rfl rfl)
theorem dX2_isSo_32 : decode cX2_isSo 32 = .ok (.ifCond .eq 18, 3) := dk_153 0 18 (dk_at dksX2_isSo_1 9 rfl rfl)
theorem dX2_isSo_35 : decode cX2_isSo 35 = .ok (.aload_n 0, 1) := dk_42 (dk_at dksX2_isSo_1 12 rfl rfl)
theorem dX2_isSo_36 : decode cX2_isSo 36 = .ok (.iload_n 3, 1) := dk_29 (dk_at dksX2_isSo_1 13 rfl rfl)
theorem dX2_isSo_37 : decode cX2_isSo 37 = .ok (.iload 4, 2) := dk_21 4 (dk_at dksX2_isSo_1 14 rfl rfl)
theorem dX2_isSo_39 : decode cX2_isSo 39 = .ok (.iload_n 1, 1) := dk_27 (dk_at dksX2_isSo_1 16 rfl rfl)
theorem dX2_isSo_40 : decode cX2_isSo 40 = .ok (.invokevirtual 362, 3) := dk_182 1 106 (dk_at dksX2_isSo_1 17 rfl rfl)
theorem dX2_isSo_43 : decode cX2_isSo 43 = .ok (.ifCond .le 7, 3) := dk_158 0 7 (dk_at dksX2_isSo_1 20 rfl rfl)
theorem dX2_isSo_46 : decode cX2_isSo 46 = .ok (.iconst 1, 1) := dk_4 (dk_at dksX2_isSo_1 23 rfl rfl)
theorem dX2_isSo_47 : decode cX2_isSo 47 = .ok (.goto 4, 3) := dk_167 0 4 (dk_at dksX2_isSo_2 0 rfl rfl)
theorem dX2_isSo_50 : decode cX2_isSo 50 = .ok (.iconst 0, 1) := dk_3 (dk_at dksX2_isSo_2 3 rfl rfl)
theorem dX2_isSo_51 : decode cX2_isSo 51 = .ok (.istore 5, 2) := dk_54 5 (dk_at dksX2_isSo_2 4 rfl rfl)
theorem dX2_isSo_53 : decode cX2_isSo 53 = .ok (.iload 5, 2) := dk_21 5 (dk_at dksX2_isSo_2 6 rfl rfl)
theorem dX2_isSo_55 : decode cX2_isSo 55 = .ok (.aload_n 0, 1) := dk_42 (dk_at dksX2_isSo_2 8 rfl rfl)
theorem dX2_isSo_56 : decode cX2_isSo 56 = .ok (.iload_n 2, 1) := dk_28 (dk_at dksX2_isSo_2 9 rfl rfl)
theorem dX2_isSo_57 : decode cX2_isSo 57 = .ok (.iconst 0, 1) := dk_3 (dk_at dksX2_isSo_2 10 rfl rfl)
theorem dX2_isSo_58 : decode cX2_isSo 58 = .ok (.invokevirtual 437, 3) := dk_182 1 181 (dk_at dksX2_isSo_2 11 rfl rfl)
theorem dX2_isSo_61 : decode cX2_isSo 61 = .ok (.iconst 1, 1) := dk_4 (dk_at dksX2_isSo_2 14 rfl rfl)
theorem dX2_isSo_62 : decode cX2_isSo 62 = .ok (.if_icmp .ne 7, 3) := dk_160 0 7 (dk_at dksX2_isSo_2 15 rfl rfl)
theorem dX2_isSo_65 : decode cX2_isSo 65 = .ok (.iconst 1, 1) := dk_4 (dk_at dksX2_isSo_2 18 rfl rfl)
theorem dX2_isSo_66 : decode cX2_isSo 66 = .ok (.goto 4, 3) := dk_167 0 4 (dk_at dksX2_isSo_2 19 rfl rfl)
theorem dX2_isSo_69 : decode cX2_isSo 69 = .ok (.iconst 0, 1) := dk_3 (dk_at dksX2_isSo_2 22 rfl rfl)
theorem dX2_isSo_70 : decode cX2_isSo 70 = .ok (.if_icmp .eq 5, 3) := dk_159 0 5 (dk_at dksX2_isSo_3 0 rfl rfl)
theorem dX2_isSo_73 : decode cX2_isSo 73 = .ok (.iconst 0, 1) := dk_3 (dk_at dksX2_isSo_3 3 rfl rfl)
theorem dX2_isSo_74 : decode cX2_isSo 74 = .ok (.ireturn, 1) := dk_172 (dk_at dksX2_isSo_3 4 rfl rfl)
theorem dX2_isSo_75 : decode cX2_isSo 75 = .ok (.iinc 2 1, 3) := dk_132 2 1 (dk_at dksX2_isSo_3 5 rfl rfl)
theorem dX2_isSo_78 : decode cX2_isSo 78 = .ok (.goto (-76), 3) := dk_167 255 180 (dk_at dksX2_isSo_3 8 rfl rfl)
theorem dX2_isSo_81 : decode cX2_isSo 81 = .ok (.iconst 1, 1) := dk_4 (dk_at dksX2_isSo_3 11 rfl rfl)
theorem dX2_isSo_82 : decode cX2_isSo 82 = .ok (.ireturn, 1) := dk_172 (dk_at dksX2_isSo_3 12 rfl rfl)
abbrev cX2_noteFit : ByteArray := prog_25_method_116_code
def yX2_noteFit : MethodName := ⟨RX2, "noteFit", "(II)V"⟩
def dkwX2_noteFit_4 : List UInt8 := [182, 1, 106, 158, 0, 7, 4, 167, 0, 4, 3, 96, 79, 132, 3, 1, 167, 255, 198, 177]
abbrev dktX2_noteFit_4 : List UInt8 := dkwX2_noteFit_4 ++ []
def dkwX2_noteFit_3 : List UInt8 := [180, 0, 53, 29, 92, 46, 42, 21, 4, 21, 5, 182, 1, 28, 153, 0, 19, 42, 21, 4, 21, 5, 27]
abbrev dktX2_noteFit_3 : List UInt8 := dkwX2_noteFit_3 ++ dktX2_noteFit_4
def dkwX2_noteFit_2 : List UInt8 := [181, 1, 190, 3, 62, 29, 16, 40, 162, 0, 58, 29, 16, 10, 108, 54, 4, 29, 16, 10, 112, 54, 5, 42]
abbrev dktX2_noteFit_2 : List UInt8 := dkwX2_noteFit_2 ++ dktX2_noteFit_3
def dkwX2_noteFit_1 : List UInt8 := [180, 1, 184, 4, 96, 181, 1, 184, 42, 89, 180, 1, 190, 4, 27, 184, 1, 102, 17, 76, 227, 108, 120, 128]
abbrev dktX2_noteFit_1 : List UInt8 := dkwX2_noteFit_1 ++ dktX2_noteFit_2
def dkwX2_noteFit_0 : List UInt8 := [42, 42, 180, 1, 184, 28, 160, 0, 7, 27, 167, 0, 7, 42, 180, 1, 187, 181, 1, 187, 42, 89]
abbrev dktX2_noteFit_0 : List UInt8 := dkwX2_noteFit_0 ++ dktX2_noteFit_1
theorem dksX2_noteFit_0 : cX2_noteFit.data.toList.drop 0 = dktX2_noteFit_0 := by decide +kernel
theorem dksX2_noteFit_1 : cX2_noteFit.data.toList.drop 22 = dktX2_noteFit_1 := dk_seg dksX2_noteFit_0 22 rfl rfl
theorem dksX2_noteFit_2 : cX2_noteFit.data.toList.drop 46 = dktX2_noteFit_2 := dk_seg dksX2_noteFit_1 24 rfl rfl
theorem dksX2_noteFit_3 : cX2_noteFit.data.toList.drop 70 = dktX2_noteFit_3 := dk_seg dksX2_noteFit_2 24 rfl rfl
theorem dksX2_noteFit_4 : cX2_noteFit.data.toList.drop 93 = dktX2_noteFit_4 := dk_seg dksX2_noteFit_3 23 rfl rfl
theorem dX2_noteFit_0 : decode cX2_noteFit 0 = .ok (.aload_n 0, 1) := dk_42 (dk_at dksX2_noteFit_0 0 rfl rfl)
theorem dX2_noteFit_1 : decode cX2_noteFit 1 = .ok (.aload_n 0, 1) := dk_42 (dk_at dksX2_noteFit_0 1 rfl rfl)
theorem dX2_noteFit_2 : decode cX2_noteFit 2 = .ok (.getfield 440, 3) := dk_180 1 184 (dk_at dksX2_noteFit_0 2 rfl rfl)
theorem dX2_noteFit_5 : decode cX2_noteFit 5 = .ok (.iload_n 2, 1) := dk_28 (dk_at dksX2_noteFit_0 5 rfl rfl)
theorem dX2_noteFit_6 : decode cX2_noteFit 6 = .ok (.if_icmp .ne 7, 3) := dk_160 0 7 (dk_at dksX2_noteFit_0 6 rfl rfl)
theorem dX2_noteFit_9 : decode cX2_noteFit 9 = .ok (.iload_n 1, 1) := dk_27 (dk_at dksX2_noteFit_0 9 rfl rfl)
theorem dX2_noteFit_10 : decode cX2_noteFit 10 = .ok (.goto 7, 3) := dk_167 0 7 (dk_at dksX2_noteFit_0 10 rfl rfl)
theorem dX2_noteFit_13 : decode cX2_noteFit 13 = .ok (.aload_n 0, 1) := dk_42 (dk_at dksX2_noteFit_0 13 rfl rfl)
theorem dX2_noteFit_14 : decode cX2_noteFit 14 = .ok (.getfield 443, 3) := dk_180 1 187 (dk_at dksX2_noteFit_0 14 rfl rfl)
theorem dX2_noteFit_17 : decode cX2_noteFit 17 = .ok (.putfield 443, 3) := dk_181 1 187 (dk_at dksX2_noteFit_0 17 rfl rfl)
theorem dX2_noteFit_20 : decode cX2_noteFit 20 = .ok (.aload_n 0, 1) := dk_42 (dk_at dksX2_noteFit_0 20 rfl rfl)
theorem dX2_noteFit_21 : decode cX2_noteFit 21 = .ok (.dup, 1) := dk_89 (dk_at dksX2_noteFit_0 21 rfl rfl)
theorem dX2_noteFit_22 : decode cX2_noteFit 22 = .ok (.getfield 440, 3) := dk_180 1 184 (dk_at dksX2_noteFit_1 0 rfl rfl)
theorem dX2_noteFit_25 : decode cX2_noteFit 25 = .ok (.iconst 1, 1) := dk_4 (dk_at dksX2_noteFit_1 3 rfl rfl)
theorem dX2_noteFit_26 : decode cX2_noteFit 26 = .ok (.iadd, 1) := dk_96 (dk_at dksX2_noteFit_1 4 rfl rfl)
theorem dX2_noteFit_27 : decode cX2_noteFit 27 = .ok (.putfield 440, 3) := dk_181 1 184 (dk_at dksX2_noteFit_1 5 rfl rfl)
theorem dX2_noteFit_30 : decode cX2_noteFit 30 = .ok (.aload_n 0, 1) := dk_42 (dk_at dksX2_noteFit_1 8 rfl rfl)
theorem dX2_noteFit_31 : decode cX2_noteFit 31 = .ok (.dup, 1) := dk_89 (dk_at dksX2_noteFit_1 9 rfl rfl)
theorem dX2_noteFit_32 : decode cX2_noteFit 32 = .ok (.getfield 446, 3) := dk_180 1 190 (dk_at dksX2_noteFit_1 10 rfl rfl)
theorem dX2_noteFit_35 : decode cX2_noteFit 35 = .ok (.iconst 1, 1) := dk_4 (dk_at dksX2_noteFit_1 13 rfl rfl)
theorem dX2_noteFit_36 : decode cX2_noteFit 36 = .ok (.iload_n 1, 1) := dk_27 (dk_at dksX2_noteFit_1 14 rfl rfl)
theorem dX2_noteFit_37 : decode cX2_noteFit 37 = .ok (.invokestatic 358, 3) := dk_184 1 102 (dk_at dksX2_noteFit_1 15 rfl rfl)
theorem dX2_noteFit_40 : decode cX2_noteFit 40 = .ok (.sipush 19683, 3) := dk_17 76 227 (dk_at dksX2_noteFit_1 18 rfl rfl)
theorem dX2_noteFit_43 : decode cX2_noteFit 43 = .ok (.idiv, 1) := dk_108 (dk_at dksX2_noteFit_1 21 rfl rfl)
theorem dX2_noteFit_44 : decode cX2_noteFit 44 = .ok (.ishl, 1) := dk_120 (dk_at dksX2_noteFit_1 22 rfl rfl)
theorem dX2_noteFit_45 : decode cX2_noteFit 45 = .ok (.ior, 1) := dk_128 (dk_at dksX2_noteFit_1 23 rfl rfl)
theorem dX2_noteFit_46 : decode cX2_noteFit 46 = .ok (.putfield 446, 3) := dk_181 1 190 (dk_at dksX2_noteFit_2 0 rfl rfl)
theorem dX2_noteFit_49 : decode cX2_noteFit 49 = .ok (.iconst 0, 1) := dk_3 (dk_at dksX2_noteFit_2 3 rfl rfl)
theorem dX2_noteFit_50 : decode cX2_noteFit 50 = .ok (.istore_n 3, 1) := dk_62 (dk_at dksX2_noteFit_2 4 rfl rfl)
theorem dX2_noteFit_51 : decode cX2_noteFit 51 = .ok (.iload_n 3, 1) := dk_29 (dk_at dksX2_noteFit_2 5 rfl rfl)
theorem dX2_noteFit_52 : decode cX2_noteFit 52 = .ok (.bipush 40, 2) := dk_16 40 (dk_at dksX2_noteFit_2 6 rfl rfl)
theorem dX2_noteFit_54 : decode cX2_noteFit 54 = .ok (.if_icmp .ge 58, 3) := dk_162 0 58 (dk_at dksX2_noteFit_2 8 rfl rfl)
theorem dX2_noteFit_57 : decode cX2_noteFit 57 = .ok (.iload_n 3, 1) := dk_29 (dk_at dksX2_noteFit_2 11 rfl rfl)
theorem dX2_noteFit_58 : decode cX2_noteFit 58 = .ok (.bipush 10, 2) := dk_16 10 (dk_at dksX2_noteFit_2 12 rfl rfl)
theorem dX2_noteFit_60 : decode cX2_noteFit 60 = .ok (.idiv, 1) := dk_108 (dk_at dksX2_noteFit_2 14 rfl rfl)
theorem dX2_noteFit_61 : decode cX2_noteFit 61 = .ok (.istore 4, 2) := dk_54 4 (dk_at dksX2_noteFit_2 15 rfl rfl)
theorem dX2_noteFit_63 : decode cX2_noteFit 63 = .ok (.iload_n 3, 1) := dk_29 (dk_at dksX2_noteFit_2 17 rfl rfl)
theorem dX2_noteFit_64 : decode cX2_noteFit 64 = .ok (.bipush 10, 2) := dk_16 10 (dk_at dksX2_noteFit_2 18 rfl rfl)
theorem dX2_noteFit_66 : decode cX2_noteFit 66 = .ok (.irem, 1) := dk_112 (dk_at dksX2_noteFit_2 20 rfl rfl)
theorem dX2_noteFit_67 : decode cX2_noteFit 67 = .ok (.istore 5, 2) := dk_54 5 (dk_at dksX2_noteFit_2 21 rfl rfl)
theorem dX2_noteFit_69 : decode cX2_noteFit 69 = .ok (.aload_n 0, 1) := dk_42 (dk_at dksX2_noteFit_2 23 rfl rfl)
theorem dX2_noteFit_70 : decode cX2_noteFit 70 = .ok (.getfield 53, 3) := dk_180 0 53 (dk_at dksX2_noteFit_3 0 rfl rfl)
theorem dX2_noteFit_73 : decode cX2_noteFit 73 = .ok (.iload_n 3, 1) := dk_29 (dk_at dksX2_noteFit_3 3 rfl rfl)
theorem dX2_noteFit_74 : decode cX2_noteFit 74 = .ok (.dup2, 1) := dk_92 (dk_at dksX2_noteFit_3 4 rfl rfl)
theorem dX2_noteFit_75 : decode cX2_noteFit 75 = .ok (.iaload, 1) := dk_46 (dk_at dksX2_noteFit_3 5 rfl rfl)
theorem dX2_noteFit_76 : decode cX2_noteFit 76 = .ok (.aload_n 0, 1) := dk_42 (dk_at dksX2_noteFit_3 6 rfl rfl)
theorem dX2_noteFit_77 : decode cX2_noteFit 77 = .ok (.iload 4, 2) := dk_21 4 (dk_at dksX2_noteFit_3 7 rfl rfl)
theorem dX2_noteFit_79 : decode cX2_noteFit 79 = .ok (.iload 5, 2) := dk_21 5 (dk_at dksX2_noteFit_3 9 rfl rfl)
theorem dX2_noteFit_81 : decode cX2_noteFit 81 = .ok (.invokevirtual 284, 3) := dk_182 1 28 (dk_at dksX2_noteFit_3 11 rfl rfl)
theorem dX2_noteFit_84 : decode cX2_noteFit 84 = .ok (.ifCond .eq 19, 3) := dk_153 0 19 (dk_at dksX2_noteFit_3 14 rfl rfl)
theorem dX2_noteFit_87 : decode cX2_noteFit 87 = .ok (.aload_n 0, 1) := dk_42 (dk_at dksX2_noteFit_3 17 rfl rfl)
theorem dX2_noteFit_88 : decode cX2_noteFit 88 = .ok (.iload 4, 2) := dk_21 4 (dk_at dksX2_noteFit_3 18 rfl rfl)
theorem dX2_noteFit_90 : decode cX2_noteFit 90 = .ok (.iload 5, 2) := dk_21 5 (dk_at dksX2_noteFit_3 20 rfl rfl)
theorem dX2_noteFit_92 : decode cX2_noteFit 92 = .ok (.iload_n 1, 1) := dk_27 (dk_at dksX2_noteFit_3 22 rfl rfl)
theorem dX2_noteFit_93 : decode cX2_noteFit 93 = .ok (.invokevirtual 362, 3) := dk_182 1 106 (dk_at dksX2_noteFit_4 0 rfl rfl)
theorem dX2_noteFit_96 : decode cX2_noteFit 96 = .ok (.ifCond .le 7, 3) := dk_158 0 7 (dk_at dksX2_noteFit_4 3 rfl rfl)
theorem dX2_noteFit_99 : decode cX2_noteFit 99 = .ok (.iconst 1, 1) := dk_4 (dk_at dksX2_noteFit_4 6 rfl rfl)
theorem dX2_noteFit_100 : decode cX2_noteFit 100 = .ok (.goto 4, 3) := dk_167 0 4 (dk_at dksX2_noteFit_4 7 rfl rfl)
theorem dX2_noteFit_103 : decode cX2_noteFit 103 = .ok (.iconst 0, 1) := dk_3 (dk_at dksX2_noteFit_4 10 rfl rfl)
theorem dX2_noteFit_104 : decode cX2_noteFit 104 = .ok (.iadd, 1) := dk_96 (dk_at dksX2_noteFit_4 11 rfl rfl)
theorem dX2_noteFit_105 : decode cX2_noteFit 105 = .ok (.iastore, 1) := dk_79 (dk_at dksX2_noteFit_4 12 rfl rfl)
theorem dX2_noteFit_106 : decode cX2_noteFit 106 = .ok (.iinc 3 1, 3) := dk_132 3 1 (dk_at dksX2_noteFit_4 13 rfl rfl)
theorem dX2_noteFit_109 : decode cX2_noteFit 109 = .ok (.goto (-58), 3) := dk_167 255 198 (dk_at dksX2_noteFit_4 16 rfl rfl)
theorem dX2_noteFit_112 : decode cX2_noteFit 112 = .ok (.return_, 1) := dk_177 (dk_at dksX2_noteFit_4 19 rfl rfl)
abbrev cX2_sureLetter : ByteArray := prog_25_method_118_code
def yX2_sureLetter : MethodName := ⟨RX2, "sureLetter", "()I"⟩
def dkwX2_sureLetter_1 : List UInt8 := [167, 255, 235, 2, 172]
abbrev dktX2_sureLetter_1 : List UInt8 := dkwX2_sureLetter_1 ++ []
def dkwX2_sureLetter_0 : List UInt8 := [4, 60, 27, 16, 27, 162, 0, 21, 42, 180, 1, 190, 4, 27, 120, 160, 0, 5, 27, 172, 132, 1, 1]
abbrev dktX2_sureLetter_0 : List UInt8 := dkwX2_sureLetter_0 ++ dktX2_sureLetter_1
theorem dksX2_sureLetter_0 : cX2_sureLetter.data.toList.drop 0 = dktX2_sureLetter_0 := by decide +kernel
theorem dksX2_sureLetter_1 : cX2_sureLetter.data.toList.drop 23 = dktX2_sureLetter_1 := dk_seg dksX2_sureLetter_0 23 rfl rfl
theorem dX2_sureLetter_0 : decode cX2_sureLetter 0 = .ok (.iconst 1, 1) := dk_4 (dk_at dksX2_sureLetter_0 0 rfl rfl)
theorem dX2_sureLetter_1 : decode cX2_sureLetter 1 = .ok (.istore_n 1, 1) := dk_60 (dk_at dksX2_sureLetter_0 1 rfl rfl)
theorem dX2_sureLetter_2 : decode cX2_sureLetter 2 = .ok (.iload_n 1, 1) := dk_27 (dk_at dksX2_sureLetter_0 2 rfl rfl)
theorem dX2_sureLetter_3 : decode cX2_sureLetter 3 = .ok (.bipush 27, 2) := dk_16 27 (dk_at dksX2_sureLetter_0 3 rfl rfl)
theorem dX2_sureLetter_5 : decode cX2_sureLetter 5 = .ok (.if_icmp .ge 21, 3) := dk_162 0 21 (dk_at dksX2_sureLetter_0 5 rfl rfl)
theorem dX2_sureLetter_8 : decode cX2_sureLetter 8 = .ok (.aload_n 0, 1) := dk_42 (dk_at dksX2_sureLetter_0 8 rfl rfl)
theorem dX2_sureLetter_9 : decode cX2_sureLetter 9 = .ok (.getfield 446, 3) := dk_180 1 190 (dk_at dksX2_sureLetter_0 9 rfl rfl)
theorem dX2_sureLetter_12 : decode cX2_sureLetter 12 = .ok (.iconst 1, 1) := dk_4 (dk_at dksX2_sureLetter_0 12 rfl rfl)
theorem dX2_sureLetter_13 : decode cX2_sureLetter 13 = .ok (.iload_n 1, 1) := dk_27 (dk_at dksX2_sureLetter_0 13 rfl rfl)
theorem dX2_sureLetter_14 : decode cX2_sureLetter 14 = .ok (.ishl, 1) := dk_120 (dk_at dksX2_sureLetter_0 14 rfl rfl)
theorem dX2_sureLetter_15 : decode cX2_sureLetter 15 = .ok (.if_icmp .ne 5, 3) := dk_160 0 5 (dk_at dksX2_sureLetter_0 15 rfl rfl)
theorem dX2_sureLetter_18 : decode cX2_sureLetter 18 = .ok (.iload_n 1, 1) := dk_27 (dk_at dksX2_sureLetter_0 18 rfl rfl)
theorem dX2_sureLetter_19 : decode cX2_sureLetter 19 = .ok (.ireturn, 1) := dk_172 (dk_at dksX2_sureLetter_0 19 rfl rfl)
theorem dX2_sureLetter_20 : decode cX2_sureLetter 20 = .ok (.iinc 1 1, 3) := dk_132 1 1 (dk_at dksX2_sureLetter_0 20 rfl rfl)
theorem dX2_sureLetter_23 : decode cX2_sureLetter 23 = .ok (.goto (-21), 3) := dk_167 255 235 (dk_at dksX2_sureLetter_1 0 rfl rfl)
theorem dX2_sureLetter_26 : decode cX2_sureLetter 26 = .ok (.iconst (-1), 1) := dk_2 (dk_at dksX2_sureLetter_1 3 rfl rfl)
theorem dX2_sureLetter_27 : decode cX2_sureLetter 27 = .ok (.ireturn, 1) := dk_172 (dk_at dksX2_sureLetter_1 4 rfl rfl)
abbrev cX2_askWhere : ByteArray := prog_25_method_119_code
def yX2_askWhere : MethodName := ⟨RX2, "askWhere", "()I"⟩
def dkwX2_askWhere_3 : List UInt8 := [132, 3, 1, 167, 255, 192, 27, 172]
abbrev dktX2_askWhere_3 : List UInt8 := dkwX2_askWhere_3 ++ []
def dkwX2_askWhere_2 : List UInt8 := [16, 10, 108, 29, 16, 10, 112, 182, 1, 28, 153, 0, 14, 21, 4, 28, 162, 0, 8, 29, 60, 21, 4, 61]
abbrev dktX2_askWhere_2 : List UInt8 := dkwX2_askWhere_2 ++ dktX2_askWhere_3
def dkwX2_askWhere_1 : List UInt8 := [180, 0, 53, 29, 46, 42, 180, 1, 184, 42, 180, 0, 53, 29, 46, 100, 184, 1, 41, 54, 4, 42, 29]
abbrev dktX2_askWhere_1 : List UInt8 := dkwX2_askWhere_1 ++ dktX2_askWhere_2
def dkwX2_askWhere_0 : List UInt8 := [2, 60, 19, 1, 105, 61, 3, 62, 29, 16, 40, 162, 0, 64, 42, 180, 1, 184, 158, 0, 57, 42]
abbrev dktX2_askWhere_0 : List UInt8 := dkwX2_askWhere_0 ++ dktX2_askWhere_1
theorem dksX2_askWhere_0 : cX2_askWhere.data.toList.drop 0 = dktX2_askWhere_0 := by decide +kernel
theorem dksX2_askWhere_1 : cX2_askWhere.data.toList.drop 22 = dktX2_askWhere_1 := dk_seg dksX2_askWhere_0 22 rfl rfl
theorem dksX2_askWhere_2 : cX2_askWhere.data.toList.drop 45 = dktX2_askWhere_2 := dk_seg dksX2_askWhere_1 23 rfl rfl
theorem dksX2_askWhere_3 : cX2_askWhere.data.toList.drop 69 = dktX2_askWhere_3 := dk_seg dksX2_askWhere_2 24 rfl rfl
theorem dX2_askWhere_0 : decode cX2_askWhere 0 = .ok (.iconst (-1), 1) := dk_2 (dk_at dksX2_askWhere_0 0 rfl rfl)
theorem dX2_askWhere_1 : decode cX2_askWhere 1 = .ok (.istore_n 1, 1) := dk_60 (dk_at dksX2_askWhere_0 1 rfl rfl)
theorem dX2_askWhere_2 : decode cX2_askWhere 2 = .ok (.ldc_w 361, 3) := dk_19 1 105 (dk_at dksX2_askWhere_0 2 rfl rfl)
theorem dX2_askWhere_5 : decode cX2_askWhere 5 = .ok (.istore_n 2, 1) := dk_61 (dk_at dksX2_askWhere_0 5 rfl rfl)
theorem dX2_askWhere_6 : decode cX2_askWhere 6 = .ok (.iconst 0, 1) := dk_3 (dk_at dksX2_askWhere_0 6 rfl rfl)
theorem dX2_askWhere_7 : decode cX2_askWhere 7 = .ok (.istore_n 3, 1) := dk_62 (dk_at dksX2_askWhere_0 7 rfl rfl)
theorem dX2_askWhere_8 : decode cX2_askWhere 8 = .ok (.iload_n 3, 1) := dk_29 (dk_at dksX2_askWhere_0 8 rfl rfl)
theorem dX2_askWhere_9 : decode cX2_askWhere 9 = .ok (.bipush 40, 2) := dk_16 40 (dk_at dksX2_askWhere_0 9 rfl rfl)
theorem dX2_askWhere_11 : decode cX2_askWhere 11 = .ok (.if_icmp .ge 64, 3) := dk_162 0 64 (dk_at dksX2_askWhere_0 11 rfl rfl)
theorem dX2_askWhere_14 : decode cX2_askWhere 14 = .ok (.aload_n 0, 1) := dk_42 (dk_at dksX2_askWhere_0 14 rfl rfl)
theorem dX2_askWhere_15 : decode cX2_askWhere 15 = .ok (.getfield 440, 3) := dk_180 1 184 (dk_at dksX2_askWhere_0 15 rfl rfl)
theorem dX2_askWhere_18 : decode cX2_askWhere 18 = .ok (.ifCond .le 57, 3) := dk_158 0 57 (dk_at dksX2_askWhere_0 18 rfl rfl)
theorem dX2_askWhere_21 : decode cX2_askWhere 21 = .ok (.aload_n 0, 1) := dk_42 (dk_at dksX2_askWhere_0 21 rfl rfl)
theorem dX2_askWhere_22 : decode cX2_askWhere 22 = .ok (.getfield 53, 3) := dk_180 0 53 (dk_at dksX2_askWhere_1 0 rfl rfl)
theorem dX2_askWhere_25 : decode cX2_askWhere 25 = .ok (.iload_n 3, 1) := dk_29 (dk_at dksX2_askWhere_1 3 rfl rfl)
theorem dX2_askWhere_26 : decode cX2_askWhere 26 = .ok (.iaload, 1) := dk_46 (dk_at dksX2_askWhere_1 4 rfl rfl)
theorem dX2_askWhere_27 : decode cX2_askWhere 27 = .ok (.aload_n 0, 1) := dk_42 (dk_at dksX2_askWhere_1 5 rfl rfl)
theorem dX2_askWhere_28 : decode cX2_askWhere 28 = .ok (.getfield 440, 3) := dk_180 1 184 (dk_at dksX2_askWhere_1 6 rfl rfl)
theorem dX2_askWhere_31 : decode cX2_askWhere 31 = .ok (.aload_n 0, 1) := dk_42 (dk_at dksX2_askWhere_1 9 rfl rfl)
theorem dX2_askWhere_32 : decode cX2_askWhere 32 = .ok (.getfield 53, 3) := dk_180 0 53 (dk_at dksX2_askWhere_1 10 rfl rfl)
theorem dX2_askWhere_35 : decode cX2_askWhere 35 = .ok (.iload_n 3, 1) := dk_29 (dk_at dksX2_askWhere_1 13 rfl rfl)
theorem dX2_askWhere_36 : decode cX2_askWhere 36 = .ok (.iaload, 1) := dk_46 (dk_at dksX2_askWhere_1 14 rfl rfl)
theorem dX2_askWhere_37 : decode cX2_askWhere 37 = .ok (.isub, 1) := dk_100 (dk_at dksX2_askWhere_1 15 rfl rfl)
theorem dX2_askWhere_38 : decode cX2_askWhere 38 = .ok (.invokestatic 297, 3) := dk_184 1 41 (dk_at dksX2_askWhere_1 16 rfl rfl)
theorem dX2_askWhere_41 : decode cX2_askWhere 41 = .ok (.istore 4, 2) := dk_54 4 (dk_at dksX2_askWhere_1 19 rfl rfl)
theorem dX2_askWhere_43 : decode cX2_askWhere 43 = .ok (.aload_n 0, 1) := dk_42 (dk_at dksX2_askWhere_1 21 rfl rfl)
theorem dX2_askWhere_44 : decode cX2_askWhere 44 = .ok (.iload_n 3, 1) := dk_29 (dk_at dksX2_askWhere_1 22 rfl rfl)
theorem dX2_askWhere_45 : decode cX2_askWhere 45 = .ok (.bipush 10, 2) := dk_16 10 (dk_at dksX2_askWhere_2 0 rfl rfl)
theorem dX2_askWhere_47 : decode cX2_askWhere 47 = .ok (.idiv, 1) := dk_108 (dk_at dksX2_askWhere_2 2 rfl rfl)
theorem dX2_askWhere_48 : decode cX2_askWhere 48 = .ok (.iload_n 3, 1) := dk_29 (dk_at dksX2_askWhere_2 3 rfl rfl)
theorem dX2_askWhere_49 : decode cX2_askWhere 49 = .ok (.bipush 10, 2) := dk_16 10 (dk_at dksX2_askWhere_2 4 rfl rfl)
theorem dX2_askWhere_51 : decode cX2_askWhere 51 = .ok (.irem, 1) := dk_112 (dk_at dksX2_askWhere_2 6 rfl rfl)
theorem dX2_askWhere_52 : decode cX2_askWhere 52 = .ok (.invokevirtual 284, 3) := dk_182 1 28 (dk_at dksX2_askWhere_2 7 rfl rfl)
theorem dX2_askWhere_55 : decode cX2_askWhere 55 = .ok (.ifCond .eq 14, 3) := dk_153 0 14 (dk_at dksX2_askWhere_2 10 rfl rfl)
theorem dX2_askWhere_58 : decode cX2_askWhere 58 = .ok (.iload 4, 2) := dk_21 4 (dk_at dksX2_askWhere_2 13 rfl rfl)
theorem dX2_askWhere_60 : decode cX2_askWhere 60 = .ok (.iload_n 2, 1) := dk_28 (dk_at dksX2_askWhere_2 15 rfl rfl)
theorem dX2_askWhere_61 : decode cX2_askWhere 61 = .ok (.if_icmp .ge 8, 3) := dk_162 0 8 (dk_at dksX2_askWhere_2 16 rfl rfl)
theorem dX2_askWhere_64 : decode cX2_askWhere 64 = .ok (.iload_n 3, 1) := dk_29 (dk_at dksX2_askWhere_2 19 rfl rfl)
theorem dX2_askWhere_65 : decode cX2_askWhere 65 = .ok (.istore_n 1, 1) := dk_60 (dk_at dksX2_askWhere_2 20 rfl rfl)
theorem dX2_askWhere_66 : decode cX2_askWhere 66 = .ok (.iload 4, 2) := dk_21 4 (dk_at dksX2_askWhere_2 21 rfl rfl)
theorem dX2_askWhere_68 : decode cX2_askWhere 68 = .ok (.istore_n 2, 1) := dk_61 (dk_at dksX2_askWhere_2 23 rfl rfl)
theorem dX2_askWhere_69 : decode cX2_askWhere 69 = .ok (.iinc 3 1, 3) := dk_132 3 1 (dk_at dksX2_askWhere_3 0 rfl rfl)
theorem dX2_askWhere_72 : decode cX2_askWhere 72 = .ok (.goto (-64), 3) := dk_167 255 192 (dk_at dksX2_askWhere_3 3 rfl rfl)
theorem dX2_askWhere_75 : decode cX2_askWhere 75 = .ok (.iload_n 1, 1) := dk_27 (dk_at dksX2_askWhere_3 6 rfl rfl)
theorem dX2_askWhere_76 : decode cX2_askWhere 76 = .ok (.ireturn, 1) := dk_172 (dk_at dksX2_askWhere_3 7 rfl rfl)
abbrev cX2_drawn : ByteArray := prog_25_method_126_code
def yX2_drawn : MethodName := ⟨RX2, "drawn", "(IIIII)I"⟩
def dkwX2_drawn_6 : List UInt8 := [160, 0, 12, 42, 21, 4, 182, 1, 224, 167, 0, 4, 2, 172]
abbrev dktX2_drawn_6 : List UInt8 := dkwX2_drawn_6 ++ []
def dkwX2_drawn_5 : List UInt8 := [167, 0, 36, 21, 5, 4, 160, 0, 14, 42, 21, 4, 21, 6, 182, 1, 13, 167, 0, 19, 21, 5, 5]
abbrev dktX2_drawn_5 : List UInt8 := dkwX2_drawn_5 ++ dktX2_drawn_6
def dkwX2_drawn_4 : List UInt8 := [21, 5, 16, 10, 100, 182, 1, 19, 167, 0, 4, 2, 172, 21, 5, 154, 0, 10, 21, 6, 4, 96]
abbrev dktX2_drawn_4 : List UInt8 := dkwX2_drawn_4 ++ dktX2_drawn_5
def dkwX2_drawn_3 : List UInt8 := [161, 0, 37, 21, 5, 16, 10, 100, 42, 21, 4, 21, 6, 182, 1, 13, 162, 0, 19, 42, 21, 4, 21, 6]
abbrev dktX2_drawn_3 : List UInt8 := dkwX2_drawn_3 ++ dktX2_drawn_4
def dkwX2_drawn_2 : List UInt8 := [42, 182, 1, 221, 132, 6, 1, 167, 255, 243, 42, 21, 4, 182, 1, 3, 4, 100, 54, 6, 21, 5, 16, 10]
abbrev dktX2_drawn_2 : List UInt8 := dkwX2_drawn_2 ++ dktX2_drawn_3
def dkwX2_drawn_1 : List UInt8 := [21, 4, 182, 1, 0, 154, 0, 5, 2, 172, 42, 28, 181, 1, 208, 3, 54, 6, 21, 6, 29, 162, 0, 13]
abbrev dktX2_drawn_1 : List UInt8 := dkwX2_drawn_1 ++ dktX2_drawn_2
def dkwX2_drawn_0 : List UInt8 := [42, 3, 181, 0, 60, 29, 3, 16, 40, 184, 0, 72, 153, 0, 20, 42, 27, 182, 1, 57, 153, 0, 12, 42]
abbrev dktX2_drawn_0 : List UInt8 := dkwX2_drawn_0 ++ dktX2_drawn_1
theorem dksX2_drawn_0 : cX2_drawn.data.toList.drop 0 = dktX2_drawn_0 := by decide +kernel
theorem dksX2_drawn_1 : cX2_drawn.data.toList.drop 24 = dktX2_drawn_1 := dk_seg dksX2_drawn_0 24 rfl rfl
theorem dksX2_drawn_2 : cX2_drawn.data.toList.drop 48 = dktX2_drawn_2 := dk_seg dksX2_drawn_1 24 rfl rfl
theorem dksX2_drawn_3 : cX2_drawn.data.toList.drop 72 = dktX2_drawn_3 := dk_seg dksX2_drawn_2 24 rfl rfl
theorem dksX2_drawn_4 : cX2_drawn.data.toList.drop 96 = dktX2_drawn_4 := dk_seg dksX2_drawn_3 24 rfl rfl
theorem dksX2_drawn_5 : cX2_drawn.data.toList.drop 118 = dktX2_drawn_5 := dk_seg dksX2_drawn_4 22 rfl rfl
theorem dksX2_drawn_6 : cX2_drawn.data.toList.drop 141 = dktX2_drawn_6 := dk_seg dksX2_drawn_5 23 rfl rfl
theorem dX2_drawn_0 : decode cX2_drawn 0 = .ok (.aload_n 0, 1) := dk_42 (dk_at dksX2_drawn_0 0 rfl rfl)
theorem dX2_drawn_1 : decode cX2_drawn 1 = .ok (.iconst 0, 1) := dk_3 (dk_at dksX2_drawn_0 1 rfl rfl)
theorem dX2_drawn_2 : decode cX2_drawn 2 = .ok (.putfield 60, 3) := dk_181 0 60 (dk_at dksX2_drawn_0 2 rfl rfl)
theorem dX2_drawn_5 : decode cX2_drawn 5 = .ok (.iload_n 3, 1) := dk_29 (dk_at dksX2_drawn_0 5 rfl rfl)
theorem dX2_drawn_6 : decode cX2_drawn 6 = .ok (.iconst 0, 1) := dk_3 (dk_at dksX2_drawn_0 6 rfl rfl)
theorem dX2_drawn_7 : decode cX2_drawn 7 = .ok (.bipush 40, 2) := dk_16 40 (dk_at dksX2_drawn_0 7 rfl rfl)
theorem dX2_drawn_9 : decode cX2_drawn 9 = .ok (.invokestatic 72, 3) := dk_184 0 72 (dk_at dksX2_drawn_0 9 rfl rfl)
theorem dX2_drawn_12 : decode cX2_drawn 12 = .ok (.ifCond .eq 20, 3) := dk_153 0 20 (dk_at dksX2_drawn_0 12 rfl rfl)
theorem dX2_drawn_15 : decode cX2_drawn 15 = .ok (.aload_n 0, 1) := dk_42 (dk_at dksX2_drawn_0 15 rfl rfl)
theorem dX2_drawn_16 : decode cX2_drawn 16 = .ok (.iload_n 1, 1) := dk_27 (dk_at dksX2_drawn_0 16 rfl rfl)
theorem dX2_drawn_17 : decode cX2_drawn 17 = .ok (.invokevirtual 313, 3) := dk_182 1 57 (dk_at dksX2_drawn_0 17 rfl rfl)
theorem dX2_drawn_20 : decode cX2_drawn 20 = .ok (.ifCond .eq 12, 3) := dk_153 0 12 (dk_at dksX2_drawn_0 20 rfl rfl)
theorem dX2_drawn_23 : decode cX2_drawn 23 = .ok (.aload_n 0, 1) := dk_42 (dk_at dksX2_drawn_0 23 rfl rfl)
theorem dX2_drawn_24 : decode cX2_drawn 24 = .ok (.iload 4, 2) := dk_21 4 (dk_at dksX2_drawn_1 0 rfl rfl)
theorem dX2_drawn_26 : decode cX2_drawn 26 = .ok (.invokevirtual 256, 3) := dk_182 1 0 (dk_at dksX2_drawn_1 2 rfl rfl)
theorem dX2_drawn_29 : decode cX2_drawn 29 = .ok (.ifCond .ne 5, 3) := dk_154 0 5 (dk_at dksX2_drawn_1 5 rfl rfl)
theorem dX2_drawn_32 : decode cX2_drawn 32 = .ok (.iconst (-1), 1) := dk_2 (dk_at dksX2_drawn_1 8 rfl rfl)
theorem dX2_drawn_33 : decode cX2_drawn 33 = .ok (.ireturn, 1) := dk_172 (dk_at dksX2_drawn_1 9 rfl rfl)
theorem dX2_drawn_34 : decode cX2_drawn 34 = .ok (.aload_n 0, 1) := dk_42 (dk_at dksX2_drawn_1 10 rfl rfl)
theorem dX2_drawn_35 : decode cX2_drawn 35 = .ok (.iload_n 2, 1) := dk_28 (dk_at dksX2_drawn_1 11 rfl rfl)
theorem dX2_drawn_36 : decode cX2_drawn 36 = .ok (.putfield 464, 3) := dk_181 1 208 (dk_at dksX2_drawn_1 12 rfl rfl)
theorem dX2_drawn_39 : decode cX2_drawn 39 = .ok (.iconst 0, 1) := dk_3 (dk_at dksX2_drawn_1 15 rfl rfl)
theorem dX2_drawn_40 : decode cX2_drawn 40 = .ok (.istore 6, 2) := dk_54 6 (dk_at dksX2_drawn_1 16 rfl rfl)
theorem dX2_drawn_42 : decode cX2_drawn 42 = .ok (.iload 6, 2) := dk_21 6 (dk_at dksX2_drawn_1 18 rfl rfl)
theorem dX2_drawn_44 : decode cX2_drawn 44 = .ok (.iload_n 3, 1) := dk_29 (dk_at dksX2_drawn_1 20 rfl rfl)
theorem dX2_drawn_45 : decode cX2_drawn 45 = .ok (.if_icmp .ge 13, 3) := dk_162 0 13 (dk_at dksX2_drawn_1 21 rfl rfl)
theorem dX2_drawn_48 : decode cX2_drawn 48 = .ok (.aload_n 0, 1) := dk_42 (dk_at dksX2_drawn_2 0 rfl rfl)
theorem dX2_drawn_49 : decode cX2_drawn 49 = .ok (.invokevirtual 477, 3) := dk_182 1 221 (dk_at dksX2_drawn_2 1 rfl rfl)
theorem dX2_drawn_52 : decode cX2_drawn 52 = .ok (.iinc 6 1, 3) := dk_132 6 1 (dk_at dksX2_drawn_2 4 rfl rfl)
theorem dX2_drawn_55 : decode cX2_drawn 55 = .ok (.goto (-13), 3) := dk_167 255 243 (dk_at dksX2_drawn_2 7 rfl rfl)
theorem dX2_drawn_58 : decode cX2_drawn 58 = .ok (.aload_n 0, 1) := dk_42 (dk_at dksX2_drawn_2 10 rfl rfl)
theorem dX2_drawn_59 : decode cX2_drawn 59 = .ok (.iload 4, 2) := dk_21 4 (dk_at dksX2_drawn_2 11 rfl rfl)
theorem dX2_drawn_61 : decode cX2_drawn 61 = .ok (.invokevirtual 259, 3) := dk_182 1 3 (dk_at dksX2_drawn_2 13 rfl rfl)
theorem dX2_drawn_64 : decode cX2_drawn 64 = .ok (.iconst 1, 1) := dk_4 (dk_at dksX2_drawn_2 16 rfl rfl)
theorem dX2_drawn_65 : decode cX2_drawn 65 = .ok (.isub, 1) := dk_100 (dk_at dksX2_drawn_2 17 rfl rfl)
theorem dX2_drawn_66 : decode cX2_drawn 66 = .ok (.istore 6, 2) := dk_54 6 (dk_at dksX2_drawn_2 18 rfl rfl)
theorem dX2_drawn_68 : decode cX2_drawn 68 = .ok (.iload 5, 2) := dk_21 5 (dk_at dksX2_drawn_2 20 rfl rfl)
theorem dX2_drawn_70 : decode cX2_drawn 70 = .ok (.bipush 10, 2) := dk_16 10 (dk_at dksX2_drawn_2 22 rfl rfl)
theorem dX2_drawn_72 : decode cX2_drawn 72 = .ok (.if_icmp .lt 37, 3) := dk_161 0 37 (dk_at dksX2_drawn_3 0 rfl rfl)
theorem dX2_drawn_75 : decode cX2_drawn 75 = .ok (.iload 5, 2) := dk_21 5 (dk_at dksX2_drawn_3 3 rfl rfl)
theorem dX2_drawn_77 : decode cX2_drawn 77 = .ok (.bipush 10, 2) := dk_16 10 (dk_at dksX2_drawn_3 5 rfl rfl)
theorem dX2_drawn_79 : decode cX2_drawn 79 = .ok (.isub, 1) := dk_100 (dk_at dksX2_drawn_3 7 rfl rfl)
theorem dX2_drawn_80 : decode cX2_drawn 80 = .ok (.aload_n 0, 1) := dk_42 (dk_at dksX2_drawn_3 8 rfl rfl)
theorem dX2_drawn_81 : decode cX2_drawn 81 = .ok (.iload 4, 2) := dk_21 4 (dk_at dksX2_drawn_3 9 rfl rfl)
theorem dX2_drawn_83 : decode cX2_drawn 83 = .ok (.iload 6, 2) := dk_21 6 (dk_at dksX2_drawn_3 11 rfl rfl)
theorem dX2_drawn_85 : decode cX2_drawn 85 = .ok (.invokevirtual 269, 3) := dk_182 1 13 (dk_at dksX2_drawn_3 13 rfl rfl)
theorem dX2_drawn_88 : decode cX2_drawn 88 = .ok (.if_icmp .ge 19, 3) := dk_162 0 19 (dk_at dksX2_drawn_3 16 rfl rfl)
theorem dX2_drawn_91 : decode cX2_drawn 91 = .ok (.aload_n 0, 1) := dk_42 (dk_at dksX2_drawn_3 19 rfl rfl)
theorem dX2_drawn_92 : decode cX2_drawn 92 = .ok (.iload 4, 2) := dk_21 4 (dk_at dksX2_drawn_3 20 rfl rfl)
theorem dX2_drawn_94 : decode cX2_drawn 94 = .ok (.iload 6, 2) := dk_21 6 (dk_at dksX2_drawn_3 22 rfl rfl)
theorem dX2_drawn_96 : decode cX2_drawn 96 = .ok (.iload 5, 2) := dk_21 5 (dk_at dksX2_drawn_4 0 rfl rfl)
theorem dX2_drawn_98 : decode cX2_drawn 98 = .ok (.bipush 10, 2) := dk_16 10 (dk_at dksX2_drawn_4 2 rfl rfl)
theorem dX2_drawn_100 : decode cX2_drawn 100 = .ok (.isub, 1) := dk_100 (dk_at dksX2_drawn_4 4 rfl rfl)
theorem dX2_drawn_101 : decode cX2_drawn 101 = .ok (.invokevirtual 275, 3) := dk_182 1 19 (dk_at dksX2_drawn_4 5 rfl rfl)
theorem dX2_drawn_104 : decode cX2_drawn 104 = .ok (.goto 4, 3) := dk_167 0 4 (dk_at dksX2_drawn_4 8 rfl rfl)
theorem dX2_drawn_107 : decode cX2_drawn 107 = .ok (.iconst (-1), 1) := dk_2 (dk_at dksX2_drawn_4 11 rfl rfl)
theorem dX2_drawn_108 : decode cX2_drawn 108 = .ok (.ireturn, 1) := dk_172 (dk_at dksX2_drawn_4 12 rfl rfl)
theorem dX2_drawn_109 : decode cX2_drawn 109 = .ok (.iload 5, 2) := dk_21 5 (dk_at dksX2_drawn_4 13 rfl rfl)
theorem dX2_drawn_111 : decode cX2_drawn 111 = .ok (.ifCond .ne 10, 3) := dk_154 0 10 (dk_at dksX2_drawn_4 15 rfl rfl)
theorem dX2_drawn_114 : decode cX2_drawn 114 = .ok (.iload 6, 2) := dk_21 6 (dk_at dksX2_drawn_4 18 rfl rfl)
theorem dX2_drawn_116 : decode cX2_drawn 116 = .ok (.iconst 1, 1) := dk_4 (dk_at dksX2_drawn_4 20 rfl rfl)
theorem dX2_drawn_117 : decode cX2_drawn 117 = .ok (.iadd, 1) := dk_96 (dk_at dksX2_drawn_4 21 rfl rfl)
theorem dX2_drawn_118 : decode cX2_drawn 118 = .ok (.goto 36, 3) := dk_167 0 36 (dk_at dksX2_drawn_5 0 rfl rfl)
theorem dX2_drawn_121 : decode cX2_drawn 121 = .ok (.iload 5, 2) := dk_21 5 (dk_at dksX2_drawn_5 3 rfl rfl)
theorem dX2_drawn_123 : decode cX2_drawn 123 = .ok (.iconst 1, 1) := dk_4 (dk_at dksX2_drawn_5 5 rfl rfl)
theorem dX2_drawn_124 : decode cX2_drawn 124 = .ok (.if_icmp .ne 14, 3) := dk_160 0 14 (dk_at dksX2_drawn_5 6 rfl rfl)
theorem dX2_drawn_127 : decode cX2_drawn 127 = .ok (.aload_n 0, 1) := dk_42 (dk_at dksX2_drawn_5 9 rfl rfl)
theorem dX2_drawn_128 : decode cX2_drawn 128 = .ok (.iload 4, 2) := dk_21 4 (dk_at dksX2_drawn_5 10 rfl rfl)
theorem dX2_drawn_130 : decode cX2_drawn 130 = .ok (.iload 6, 2) := dk_21 6 (dk_at dksX2_drawn_5 12 rfl rfl)
theorem dX2_drawn_132 : decode cX2_drawn 132 = .ok (.invokevirtual 269, 3) := dk_182 1 13 (dk_at dksX2_drawn_5 14 rfl rfl)
theorem dX2_drawn_135 : decode cX2_drawn 135 = .ok (.goto 19, 3) := dk_167 0 19 (dk_at dksX2_drawn_5 17 rfl rfl)
theorem dX2_drawn_138 : decode cX2_drawn 138 = .ok (.iload 5, 2) := dk_21 5 (dk_at dksX2_drawn_5 20 rfl rfl)
theorem dX2_drawn_140 : decode cX2_drawn 140 = .ok (.iconst 2, 1) := dk_5 (dk_at dksX2_drawn_5 22 rfl rfl)
theorem dX2_drawn_141 : decode cX2_drawn 141 = .ok (.if_icmp .ne 12, 3) := dk_160 0 12 (dk_at dksX2_drawn_6 0 rfl rfl)
theorem dX2_drawn_144 : decode cX2_drawn 144 = .ok (.aload_n 0, 1) := dk_42 (dk_at dksX2_drawn_6 3 rfl rfl)
theorem dX2_drawn_145 : decode cX2_drawn 145 = .ok (.iload 4, 2) := dk_21 4 (dk_at dksX2_drawn_6 4 rfl rfl)
theorem dX2_drawn_147 : decode cX2_drawn 147 = .ok (.invokevirtual 480, 3) := dk_182 1 224 (dk_at dksX2_drawn_6 6 rfl rfl)
theorem dX2_drawn_150 : decode cX2_drawn 150 = .ok (.goto 4, 3) := dk_167 0 4 (dk_at dksX2_drawn_6 9 rfl rfl)
theorem dX2_drawn_153 : decode cX2_drawn 153 = .ok (.iconst (-1), 1) := dk_2 (dk_at dksX2_drawn_6 12 rfl rfl)
theorem dX2_drawn_154 : decode cX2_drawn 154 = .ok (.ireturn, 1) := dk_172 (dk_at dksX2_drawn_6 13 rfl rfl)
abbrev cX2_drawChange : ByteArray := prog_25_method_124_code
def yX2_drawChange : MethodName := ⟨RX2, "drawChange", "()V"⟩
def dkwX2_drawChange_9 : List UInt8 := [28, 7, 162, 0, 7, 3, 167, 0, 4, 5, 182, 1, 218, 177]
abbrev dktX2_drawChange_9 : List UInt8 := dkwX2_drawChange_9 ++ []
def dkwX2_drawChange_8 : List UInt8 := [160, 0, 12, 42, 21, 4, 182, 1, 10, 167, 0, 4, 3, 79, 42, 28, 5, 162, 0, 7, 4, 167, 0, 13]
abbrev dktX2_drawChange_8 : List UInt8 := dkwX2_drawChange_8 ++ dktX2_drawChange_9
def dkwX2_drawChange_7 : List UInt8 := [28, 6, 160, 0, 7, 4, 167, 0, 4, 3, 181, 0, 129, 42, 180, 0, 41, 3, 42, 180, 0, 129, 4]
abbrev dktX2_drawChange_7 : List UInt8 := dkwX2_drawChange_7 ++ dktX2_drawChange_8
def dkwX2_drawChange_6 : List UInt8 := [167, 0, 17, 28, 7, 160, 0, 11, 42, 29, 182, 1, 212, 167, 0, 4, 2, 79, 42, 28, 5, 159, 0, 8]
abbrev dktX2_drawChange_6 : List UInt8 := dkwX2_drawChange_6 ++ dktX2_drawChange_7
def dkwX2_drawChange_5 : List UInt8 := [29, 4, 96, 167, 0, 4, 29, 182, 1, 212, 79, 42, 180, 0, 38, 5, 28, 5, 162, 0, 7, 4]
abbrev dktX2_drawChange_5 : List UInt8 := dkwX2_drawChange_5 ++ dktX2_drawChange_6
def dkwX2_drawChange_4 : List UInt8 := [167, 0, 7, 29, 154, 0, 4, 177, 42, 180, 0, 38, 4, 42, 28, 5, 159, 0, 8, 28, 6, 160, 0, 9]
abbrev dktX2_drawChange_4 : List UInt8 := dkwX2_drawChange_4 ++ dktX2_drawChange_5
def dkwX2_drawChange_3 : List UInt8 := [42, 6, 182, 1, 218, 177, 28, 5, 159, 0, 8, 28, 6, 160, 0, 12, 21, 4, 2, 160, 0, 11]
abbrev dktX2_drawChange_3 : List UInt8 := dkwX2_drawChange_3 ++ dktX2_drawChange_4
def dkwX2_drawChange_2 : List UInt8 := [3, 181, 0, 129, 28, 8, 160, 0, 24, 42, 180, 0, 38, 4, 42, 42, 27, 182, 1, 3, 182, 1, 212, 79]
abbrev dktX2_drawChange_2 : List UInt8 := dkwX2_drawChange_2 ++ dktX2_drawChange_3
def dkwX2_drawChange_1 : List UInt8 := [182, 1, 3, 4, 100, 182, 1, 13, 62, 42, 27, 182, 1, 215, 54, 4, 42, 180, 0, 38, 3, 27, 79, 42]
abbrev dktX2_drawChange_1 : List UInt8 := dkwX2_drawChange_1 ++ dktX2_drawChange_2
def dkwX2_drawChange_0 : List UInt8 := [42, 42, 180, 0, 35, 3, 46, 182, 1, 212, 60, 42, 16, 6, 182, 1, 212, 61, 42, 27, 42, 27]
abbrev dktX2_drawChange_0 : List UInt8 := dkwX2_drawChange_0 ++ dktX2_drawChange_1
theorem dksX2_drawChange_0 : cX2_drawChange.data.toList.drop 0 = dktX2_drawChange_0 := by decide +kernel
theorem dksX2_drawChange_1 : cX2_drawChange.data.toList.drop 22 = dktX2_drawChange_1 := dk_seg dksX2_drawChange_0 22 rfl rfl
theorem dksX2_drawChange_2 : cX2_drawChange.data.toList.drop 46 = dktX2_drawChange_2 := dk_seg dksX2_drawChange_1 24 rfl rfl
theorem dksX2_drawChange_3 : cX2_drawChange.data.toList.drop 70 = dktX2_drawChange_3 := dk_seg dksX2_drawChange_2 24 rfl rfl
theorem dksX2_drawChange_4 : cX2_drawChange.data.toList.drop 92 = dktX2_drawChange_4 := dk_seg dksX2_drawChange_3 22 rfl rfl
theorem dksX2_drawChange_5 : cX2_drawChange.data.toList.drop 116 = dktX2_drawChange_5 := dk_seg dksX2_drawChange_4 24 rfl rfl
theorem dksX2_drawChange_6 : cX2_drawChange.data.toList.drop 138 = dktX2_drawChange_6 := dk_seg dksX2_drawChange_5 22 rfl rfl
theorem dksX2_drawChange_7 : cX2_drawChange.data.toList.drop 162 = dktX2_drawChange_7 := dk_seg dksX2_drawChange_6 24 rfl rfl
theorem dksX2_drawChange_8 : cX2_drawChange.data.toList.drop 185 = dktX2_drawChange_8 := dk_seg dksX2_drawChange_7 23 rfl rfl
theorem dksX2_drawChange_9 : cX2_drawChange.data.toList.drop 209 = dktX2_drawChange_9 := dk_seg dksX2_drawChange_8 24 rfl rfl
theorem dX2_drawChange_0 : decode cX2_drawChange 0 = .ok (.aload_n 0, 1) := dk_42 (dk_at dksX2_drawChange_0 0 rfl rfl)
theorem dX2_drawChange_1 : decode cX2_drawChange 1 = .ok (.aload_n 0, 1) := dk_42 (dk_at dksX2_drawChange_0 1 rfl rfl)
theorem dX2_drawChange_2 : decode cX2_drawChange 2 = .ok (.getfield 35, 3) := dk_180 0 35 (dk_at dksX2_drawChange_0 2 rfl rfl)
theorem dX2_drawChange_5 : decode cX2_drawChange 5 = .ok (.iconst 0, 1) := dk_3 (dk_at dksX2_drawChange_0 5 rfl rfl)
theorem dX2_drawChange_6 : decode cX2_drawChange 6 = .ok (.iaload, 1) := dk_46 (dk_at dksX2_drawChange_0 6 rfl rfl)
theorem dX2_drawChange_7 : decode cX2_drawChange 7 = .ok (.invokevirtual 468, 3) := dk_182 1 212 (dk_at dksX2_drawChange_0 7 rfl rfl)
theorem dX2_drawChange_10 : decode cX2_drawChange 10 = .ok (.istore_n 1, 1) := dk_60 (dk_at dksX2_drawChange_0 10 rfl rfl)
theorem dX2_drawChange_11 : decode cX2_drawChange 11 = .ok (.aload_n 0, 1) := dk_42 (dk_at dksX2_drawChange_0 11 rfl rfl)
theorem dX2_drawChange_12 : decode cX2_drawChange 12 = .ok (.bipush 6, 2) := dk_16 6 (dk_at dksX2_drawChange_0 12 rfl rfl)
theorem dX2_drawChange_14 : decode cX2_drawChange 14 = .ok (.invokevirtual 468, 3) := dk_182 1 212 (dk_at dksX2_drawChange_0 14 rfl rfl)
theorem dX2_drawChange_17 : decode cX2_drawChange 17 = .ok (.istore_n 2, 1) := dk_61 (dk_at dksX2_drawChange_0 17 rfl rfl)
theorem dX2_drawChange_18 : decode cX2_drawChange 18 = .ok (.aload_n 0, 1) := dk_42 (dk_at dksX2_drawChange_0 18 rfl rfl)
theorem dX2_drawChange_19 : decode cX2_drawChange 19 = .ok (.iload_n 1, 1) := dk_27 (dk_at dksX2_drawChange_0 19 rfl rfl)
theorem dX2_drawChange_20 : decode cX2_drawChange 20 = .ok (.aload_n 0, 1) := dk_42 (dk_at dksX2_drawChange_0 20 rfl rfl)
theorem dX2_drawChange_21 : decode cX2_drawChange 21 = .ok (.iload_n 1, 1) := dk_27 (dk_at dksX2_drawChange_0 21 rfl rfl)
theorem dX2_drawChange_22 : decode cX2_drawChange 22 = .ok (.invokevirtual 259, 3) := dk_182 1 3 (dk_at dksX2_drawChange_1 0 rfl rfl)
theorem dX2_drawChange_25 : decode cX2_drawChange 25 = .ok (.iconst 1, 1) := dk_4 (dk_at dksX2_drawChange_1 3 rfl rfl)
theorem dX2_drawChange_26 : decode cX2_drawChange 26 = .ok (.isub, 1) := dk_100 (dk_at dksX2_drawChange_1 4 rfl rfl)
theorem dX2_drawChange_27 : decode cX2_drawChange 27 = .ok (.invokevirtual 269, 3) := dk_182 1 13 (dk_at dksX2_drawChange_1 5 rfl rfl)
theorem dX2_drawChange_30 : decode cX2_drawChange 30 = .ok (.istore_n 3, 1) := dk_62 (dk_at dksX2_drawChange_1 8 rfl rfl)
theorem dX2_drawChange_31 : decode cX2_drawChange 31 = .ok (.aload_n 0, 1) := dk_42 (dk_at dksX2_drawChange_1 9 rfl rfl)
theorem dX2_drawChange_32 : decode cX2_drawChange 32 = .ok (.iload_n 1, 1) := dk_27 (dk_at dksX2_drawChange_1 10 rfl rfl)
theorem dX2_drawChange_33 : decode cX2_drawChange 33 = .ok (.invokevirtual 471, 3) := dk_182 1 215 (dk_at dksX2_drawChange_1 11 rfl rfl)
theorem dX2_drawChange_36 : decode cX2_drawChange 36 = .ok (.istore 4, 2) := dk_54 4 (dk_at dksX2_drawChange_1 14 rfl rfl)
theorem dX2_drawChange_38 : decode cX2_drawChange 38 = .ok (.aload_n 0, 1) := dk_42 (dk_at dksX2_drawChange_1 16 rfl rfl)
theorem dX2_drawChange_39 : decode cX2_drawChange 39 = .ok (.getfield 38, 3) := dk_180 0 38 (dk_at dksX2_drawChange_1 17 rfl rfl)
theorem dX2_drawChange_42 : decode cX2_drawChange 42 = .ok (.iconst 0, 1) := dk_3 (dk_at dksX2_drawChange_1 20 rfl rfl)
theorem dX2_drawChange_43 : decode cX2_drawChange 43 = .ok (.iload_n 1, 1) := dk_27 (dk_at dksX2_drawChange_1 21 rfl rfl)
theorem dX2_drawChange_44 : decode cX2_drawChange 44 = .ok (.iastore, 1) := dk_79 (dk_at dksX2_drawChange_1 22 rfl rfl)
theorem dX2_drawChange_45 : decode cX2_drawChange 45 = .ok (.aload_n 0, 1) := dk_42 (dk_at dksX2_drawChange_1 23 rfl rfl)
theorem dX2_drawChange_46 : decode cX2_drawChange 46 = .ok (.iconst 0, 1) := dk_3 (dk_at dksX2_drawChange_2 0 rfl rfl)
theorem dX2_drawChange_47 : decode cX2_drawChange 47 = .ok (.putfield 129, 3) := dk_181 0 129 (dk_at dksX2_drawChange_2 1 rfl rfl)
theorem dX2_drawChange_50 : decode cX2_drawChange 50 = .ok (.iload_n 2, 1) := dk_28 (dk_at dksX2_drawChange_2 4 rfl rfl)
theorem dX2_drawChange_51 : decode cX2_drawChange 51 = .ok (.iconst 5, 1) := dk_8 (dk_at dksX2_drawChange_2 5 rfl rfl)
theorem dX2_drawChange_52 : decode cX2_drawChange 52 = .ok (.if_icmp .ne 24, 3) := dk_160 0 24 (dk_at dksX2_drawChange_2 6 rfl rfl)
theorem dX2_drawChange_55 : decode cX2_drawChange 55 = .ok (.aload_n 0, 1) := dk_42 (dk_at dksX2_drawChange_2 9 rfl rfl)
theorem dX2_drawChange_56 : decode cX2_drawChange 56 = .ok (.getfield 38, 3) := dk_180 0 38 (dk_at dksX2_drawChange_2 10 rfl rfl)
theorem dX2_drawChange_59 : decode cX2_drawChange 59 = .ok (.iconst 1, 1) := dk_4 (dk_at dksX2_drawChange_2 13 rfl rfl)
theorem dX2_drawChange_60 : decode cX2_drawChange 60 = .ok (.aload_n 0, 1) := dk_42 (dk_at dksX2_drawChange_2 14 rfl rfl)
theorem dX2_drawChange_61 : decode cX2_drawChange 61 = .ok (.aload_n 0, 1) := dk_42 (dk_at dksX2_drawChange_2 15 rfl rfl)
theorem dX2_drawChange_62 : decode cX2_drawChange 62 = .ok (.iload_n 1, 1) := dk_27 (dk_at dksX2_drawChange_2 16 rfl rfl)
theorem dX2_drawChange_63 : decode cX2_drawChange 63 = .ok (.invokevirtual 259, 3) := dk_182 1 3 (dk_at dksX2_drawChange_2 17 rfl rfl)
theorem dX2_drawChange_66 : decode cX2_drawChange 66 = .ok (.invokevirtual 468, 3) := dk_182 1 212 (dk_at dksX2_drawChange_2 20 rfl rfl)
theorem dX2_drawChange_69 : decode cX2_drawChange 69 = .ok (.iastore, 1) := dk_79 (dk_at dksX2_drawChange_2 23 rfl rfl)
theorem dX2_drawChange_70 : decode cX2_drawChange 70 = .ok (.aload_n 0, 1) := dk_42 (dk_at dksX2_drawChange_3 0 rfl rfl)
theorem dX2_drawChange_71 : decode cX2_drawChange 71 = .ok (.iconst 3, 1) := dk_6 (dk_at dksX2_drawChange_3 1 rfl rfl)
theorem dX2_drawChange_72 : decode cX2_drawChange 72 = .ok (.invokevirtual 474, 3) := dk_182 1 218 (dk_at dksX2_drawChange_3 2 rfl rfl)
theorem dX2_drawChange_75 : decode cX2_drawChange 75 = .ok (.return_, 1) := dk_177 (dk_at dksX2_drawChange_3 5 rfl rfl)
theorem dX2_drawChange_76 : decode cX2_drawChange 76 = .ok (.iload_n 2, 1) := dk_28 (dk_at dksX2_drawChange_3 6 rfl rfl)
theorem dX2_drawChange_77 : decode cX2_drawChange 77 = .ok (.iconst 2, 1) := dk_5 (dk_at dksX2_drawChange_3 7 rfl rfl)
theorem dX2_drawChange_78 : decode cX2_drawChange 78 = .ok (.if_icmp .eq 8, 3) := dk_159 0 8 (dk_at dksX2_drawChange_3 8 rfl rfl)
theorem dX2_drawChange_81 : decode cX2_drawChange 81 = .ok (.iload_n 2, 1) := dk_28 (dk_at dksX2_drawChange_3 11 rfl rfl)
theorem dX2_drawChange_82 : decode cX2_drawChange 82 = .ok (.iconst 3, 1) := dk_6 (dk_at dksX2_drawChange_3 12 rfl rfl)
theorem dX2_drawChange_83 : decode cX2_drawChange 83 = .ok (.if_icmp .ne 12, 3) := dk_160 0 12 (dk_at dksX2_drawChange_3 13 rfl rfl)
theorem dX2_drawChange_86 : decode cX2_drawChange 86 = .ok (.iload 4, 2) := dk_21 4 (dk_at dksX2_drawChange_3 16 rfl rfl)
theorem dX2_drawChange_88 : decode cX2_drawChange 88 = .ok (.iconst (-1), 1) := dk_2 (dk_at dksX2_drawChange_3 18 rfl rfl)
theorem dX2_drawChange_89 : decode cX2_drawChange 89 = .ok (.if_icmp .ne 11, 3) := dk_160 0 11 (dk_at dksX2_drawChange_3 19 rfl rfl)
theorem dX2_drawChange_92 : decode cX2_drawChange 92 = .ok (.goto 7, 3) := dk_167 0 7 (dk_at dksX2_drawChange_4 0 rfl rfl)
theorem dX2_drawChange_95 : decode cX2_drawChange 95 = .ok (.iload_n 3, 1) := dk_29 (dk_at dksX2_drawChange_4 3 rfl rfl)
theorem dX2_drawChange_96 : decode cX2_drawChange 96 = .ok (.ifCond .ne 4, 3) := dk_154 0 4 (dk_at dksX2_drawChange_4 4 rfl rfl)
theorem dX2_drawChange_99 : decode cX2_drawChange 99 = .ok (.return_, 1) := dk_177 (dk_at dksX2_drawChange_4 7 rfl rfl)
theorem dX2_drawChange_100 : decode cX2_drawChange 100 = .ok (.aload_n 0, 1) := dk_42 (dk_at dksX2_drawChange_4 8 rfl rfl)
theorem dX2_drawChange_101 : decode cX2_drawChange 101 = .ok (.getfield 38, 3) := dk_180 0 38 (dk_at dksX2_drawChange_4 9 rfl rfl)
theorem dX2_drawChange_104 : decode cX2_drawChange 104 = .ok (.iconst 1, 1) := dk_4 (dk_at dksX2_drawChange_4 12 rfl rfl)
theorem dX2_drawChange_105 : decode cX2_drawChange 105 = .ok (.aload_n 0, 1) := dk_42 (dk_at dksX2_drawChange_4 13 rfl rfl)
theorem dX2_drawChange_106 : decode cX2_drawChange 106 = .ok (.iload_n 2, 1) := dk_28 (dk_at dksX2_drawChange_4 14 rfl rfl)
theorem dX2_drawChange_107 : decode cX2_drawChange 107 = .ok (.iconst 2, 1) := dk_5 (dk_at dksX2_drawChange_4 15 rfl rfl)
theorem dX2_drawChange_108 : decode cX2_drawChange 108 = .ok (.if_icmp .eq 8, 3) := dk_159 0 8 (dk_at dksX2_drawChange_4 16 rfl rfl)
theorem dX2_drawChange_111 : decode cX2_drawChange 111 = .ok (.iload_n 2, 1) := dk_28 (dk_at dksX2_drawChange_4 19 rfl rfl)
theorem dX2_drawChange_112 : decode cX2_drawChange 112 = .ok (.iconst 3, 1) := dk_6 (dk_at dksX2_drawChange_4 20 rfl rfl)
theorem dX2_drawChange_113 : decode cX2_drawChange 113 = .ok (.if_icmp .ne 9, 3) := dk_160 0 9 (dk_at dksX2_drawChange_4 21 rfl rfl)
theorem dX2_drawChange_116 : decode cX2_drawChange 116 = .ok (.iload_n 3, 1) := dk_29 (dk_at dksX2_drawChange_5 0 rfl rfl)
theorem dX2_drawChange_117 : decode cX2_drawChange 117 = .ok (.iconst 1, 1) := dk_4 (dk_at dksX2_drawChange_5 1 rfl rfl)
theorem dX2_drawChange_118 : decode cX2_drawChange 118 = .ok (.iadd, 1) := dk_96 (dk_at dksX2_drawChange_5 2 rfl rfl)
theorem dX2_drawChange_119 : decode cX2_drawChange 119 = .ok (.goto 4, 3) := dk_167 0 4 (dk_at dksX2_drawChange_5 3 rfl rfl)
theorem dX2_drawChange_122 : decode cX2_drawChange 122 = .ok (.iload_n 3, 1) := dk_29 (dk_at dksX2_drawChange_5 6 rfl rfl)
theorem dX2_drawChange_123 : decode cX2_drawChange 123 = .ok (.invokevirtual 468, 3) := dk_182 1 212 (dk_at dksX2_drawChange_5 7 rfl rfl)
theorem dX2_drawChange_126 : decode cX2_drawChange 126 = .ok (.iastore, 1) := dk_79 (dk_at dksX2_drawChange_5 10 rfl rfl)
theorem dX2_drawChange_127 : decode cX2_drawChange 127 = .ok (.aload_n 0, 1) := dk_42 (dk_at dksX2_drawChange_5 11 rfl rfl)
theorem dX2_drawChange_128 : decode cX2_drawChange 128 = .ok (.getfield 38, 3) := dk_180 0 38 (dk_at dksX2_drawChange_5 12 rfl rfl)
theorem dX2_drawChange_131 : decode cX2_drawChange 131 = .ok (.iconst 2, 1) := dk_5 (dk_at dksX2_drawChange_5 15 rfl rfl)
theorem dX2_drawChange_132 : decode cX2_drawChange 132 = .ok (.iload_n 2, 1) := dk_28 (dk_at dksX2_drawChange_5 16 rfl rfl)
theorem dX2_drawChange_133 : decode cX2_drawChange 133 = .ok (.iconst 2, 1) := dk_5 (dk_at dksX2_drawChange_5 17 rfl rfl)
theorem dX2_drawChange_134 : decode cX2_drawChange 134 = .ok (.if_icmp .ge 7, 3) := dk_162 0 7 (dk_at dksX2_drawChange_5 18 rfl rfl)
theorem dX2_drawChange_137 : decode cX2_drawChange 137 = .ok (.iconst 1, 1) := dk_4 (dk_at dksX2_drawChange_5 21 rfl rfl)
theorem dX2_drawChange_138 : decode cX2_drawChange 138 = .ok (.goto 17, 3) := dk_167 0 17 (dk_at dksX2_drawChange_6 0 rfl rfl)
theorem dX2_drawChange_141 : decode cX2_drawChange 141 = .ok (.iload_n 2, 1) := dk_28 (dk_at dksX2_drawChange_6 3 rfl rfl)
theorem dX2_drawChange_142 : decode cX2_drawChange 142 = .ok (.iconst 4, 1) := dk_7 (dk_at dksX2_drawChange_6 4 rfl rfl)
theorem dX2_drawChange_143 : decode cX2_drawChange 143 = .ok (.if_icmp .ne 11, 3) := dk_160 0 11 (dk_at dksX2_drawChange_6 5 rfl rfl)
theorem dX2_drawChange_146 : decode cX2_drawChange 146 = .ok (.aload_n 0, 1) := dk_42 (dk_at dksX2_drawChange_6 8 rfl rfl)
theorem dX2_drawChange_147 : decode cX2_drawChange 147 = .ok (.iload_n 3, 1) := dk_29 (dk_at dksX2_drawChange_6 9 rfl rfl)
theorem dX2_drawChange_148 : decode cX2_drawChange 148 = .ok (.invokevirtual 468, 3) := dk_182 1 212 (dk_at dksX2_drawChange_6 10 rfl rfl)
theorem dX2_drawChange_151 : decode cX2_drawChange 151 = .ok (.goto 4, 3) := dk_167 0 4 (dk_at dksX2_drawChange_6 13 rfl rfl)
theorem dX2_drawChange_154 : decode cX2_drawChange 154 = .ok (.iconst (-1), 1) := dk_2 (dk_at dksX2_drawChange_6 16 rfl rfl)
theorem dX2_drawChange_155 : decode cX2_drawChange 155 = .ok (.iastore, 1) := dk_79 (dk_at dksX2_drawChange_6 17 rfl rfl)
theorem dX2_drawChange_156 : decode cX2_drawChange 156 = .ok (.aload_n 0, 1) := dk_42 (dk_at dksX2_drawChange_6 18 rfl rfl)
theorem dX2_drawChange_157 : decode cX2_drawChange 157 = .ok (.iload_n 2, 1) := dk_28 (dk_at dksX2_drawChange_6 19 rfl rfl)
theorem dX2_drawChange_158 : decode cX2_drawChange 158 = .ok (.iconst 2, 1) := dk_5 (dk_at dksX2_drawChange_6 20 rfl rfl)
theorem dX2_drawChange_159 : decode cX2_drawChange 159 = .ok (.if_icmp .eq 8, 3) := dk_159 0 8 (dk_at dksX2_drawChange_6 21 rfl rfl)
theorem dX2_drawChange_162 : decode cX2_drawChange 162 = .ok (.iload_n 2, 1) := dk_28 (dk_at dksX2_drawChange_7 0 rfl rfl)
theorem dX2_drawChange_163 : decode cX2_drawChange 163 = .ok (.iconst 3, 1) := dk_6 (dk_at dksX2_drawChange_7 1 rfl rfl)
theorem dX2_drawChange_164 : decode cX2_drawChange 164 = .ok (.if_icmp .ne 7, 3) := dk_160 0 7 (dk_at dksX2_drawChange_7 2 rfl rfl)
theorem dX2_drawChange_167 : decode cX2_drawChange 167 = .ok (.iconst 1, 1) := dk_4 (dk_at dksX2_drawChange_7 5 rfl rfl)
theorem dX2_drawChange_168 : decode cX2_drawChange 168 = .ok (.goto 4, 3) := dk_167 0 4 (dk_at dksX2_drawChange_7 6 rfl rfl)
theorem dX2_drawChange_171 : decode cX2_drawChange 171 = .ok (.iconst 0, 1) := dk_3 (dk_at dksX2_drawChange_7 9 rfl rfl)
theorem dX2_drawChange_172 : decode cX2_drawChange 172 = .ok (.putfield 129, 3) := dk_181 0 129 (dk_at dksX2_drawChange_7 10 rfl rfl)
theorem dX2_drawChange_175 : decode cX2_drawChange 175 = .ok (.aload_n 0, 1) := dk_42 (dk_at dksX2_drawChange_7 13 rfl rfl)
theorem dX2_drawChange_176 : decode cX2_drawChange 176 = .ok (.getfield 41, 3) := dk_180 0 41 (dk_at dksX2_drawChange_7 14 rfl rfl)
theorem dX2_drawChange_179 : decode cX2_drawChange 179 = .ok (.iconst 0, 1) := dk_3 (dk_at dksX2_drawChange_7 17 rfl rfl)
theorem dX2_drawChange_180 : decode cX2_drawChange 180 = .ok (.aload_n 0, 1) := dk_42 (dk_at dksX2_drawChange_7 18 rfl rfl)
theorem dX2_drawChange_181 : decode cX2_drawChange 181 = .ok (.getfield 129, 3) := dk_180 0 129 (dk_at dksX2_drawChange_7 19 rfl rfl)
theorem dX2_drawChange_184 : decode cX2_drawChange 184 = .ok (.iconst 1, 1) := dk_4 (dk_at dksX2_drawChange_7 22 rfl rfl)
theorem dX2_drawChange_185 : decode cX2_drawChange 185 = .ok (.if_icmp .ne 12, 3) := dk_160 0 12 (dk_at dksX2_drawChange_8 0 rfl rfl)
theorem dX2_drawChange_188 : decode cX2_drawChange 188 = .ok (.aload_n 0, 1) := dk_42 (dk_at dksX2_drawChange_8 3 rfl rfl)
theorem dX2_drawChange_189 : decode cX2_drawChange 189 = .ok (.iload 4, 2) := dk_21 4 (dk_at dksX2_drawChange_8 4 rfl rfl)
theorem dX2_drawChange_191 : decode cX2_drawChange 191 = .ok (.invokevirtual 266, 3) := dk_182 1 10 (dk_at dksX2_drawChange_8 6 rfl rfl)
theorem dX2_drawChange_194 : decode cX2_drawChange 194 = .ok (.goto 4, 3) := dk_167 0 4 (dk_at dksX2_drawChange_8 9 rfl rfl)
theorem dX2_drawChange_197 : decode cX2_drawChange 197 = .ok (.iconst 0, 1) := dk_3 (dk_at dksX2_drawChange_8 12 rfl rfl)
theorem dX2_drawChange_198 : decode cX2_drawChange 198 = .ok (.iastore, 1) := dk_79 (dk_at dksX2_drawChange_8 13 rfl rfl)
theorem dX2_drawChange_199 : decode cX2_drawChange 199 = .ok (.aload_n 0, 1) := dk_42 (dk_at dksX2_drawChange_8 14 rfl rfl)
theorem dX2_drawChange_200 : decode cX2_drawChange 200 = .ok (.iload_n 2, 1) := dk_28 (dk_at dksX2_drawChange_8 15 rfl rfl)
theorem dX2_drawChange_201 : decode cX2_drawChange 201 = .ok (.iconst 2, 1) := dk_5 (dk_at dksX2_drawChange_8 16 rfl rfl)
theorem dX2_drawChange_202 : decode cX2_drawChange 202 = .ok (.if_icmp .ge 7, 3) := dk_162 0 7 (dk_at dksX2_drawChange_8 17 rfl rfl)
theorem dX2_drawChange_205 : decode cX2_drawChange 205 = .ok (.iconst 1, 1) := dk_4 (dk_at dksX2_drawChange_8 20 rfl rfl)
theorem dX2_drawChange_206 : decode cX2_drawChange 206 = .ok (.goto 13, 3) := dk_167 0 13 (dk_at dksX2_drawChange_8 21 rfl rfl)
theorem dX2_drawChange_209 : decode cX2_drawChange 209 = .ok (.iload_n 2, 1) := dk_28 (dk_at dksX2_drawChange_9 0 rfl rfl)
theorem dX2_drawChange_210 : decode cX2_drawChange 210 = .ok (.iconst 4, 1) := dk_7 (dk_at dksX2_drawChange_9 1 rfl rfl)
theorem dX2_drawChange_211 : decode cX2_drawChange 211 = .ok (.if_icmp .ge 7, 3) := dk_162 0 7 (dk_at dksX2_drawChange_9 2 rfl rfl)
theorem dX2_drawChange_214 : decode cX2_drawChange 214 = .ok (.iconst 0, 1) := dk_3 (dk_at dksX2_drawChange_9 5 rfl rfl)
theorem dX2_drawChange_215 : decode cX2_drawChange 215 = .ok (.goto 4, 3) := dk_167 0 4 (dk_at dksX2_drawChange_9 6 rfl rfl)
theorem dX2_drawChange_218 : decode cX2_drawChange 218 = .ok (.iconst 2, 1) := dk_5 (dk_at dksX2_drawChange_9 9 rfl rfl)
theorem dX2_drawChange_219 : decode cX2_drawChange 219 = .ok (.invokevirtual 474, 3) := dk_182 1 218 (dk_at dksX2_drawChange_9 10 rfl rfl)
theorem dX2_drawChange_222 : decode cX2_drawChange 222 = .ok (.return_, 1) := dk_177 (dk_at dksX2_drawChange_9 13 rfl rfl)
abbrev cX2_draw : ByteArray := prog_25_method_121_code
def yX2_draw : MethodName := ⟨RX2, "draw", "(I)I"⟩
def dkwX2_draw_1 : List UInt8 := [112, 172]
abbrev dktX2_draw_1 : List UInt8 := dkwX2_draw_1 ++ []
def dkwX2_draw_0 : List UInt8 := [42, 42, 180, 1, 208, 19, 1, 211, 104, 17, 48, 57, 96, 181, 1, 208, 42, 180, 1, 208, 16, 16, 124, 27]
abbrev dktX2_draw_0 : List UInt8 := dkwX2_draw_0 ++ dktX2_draw_1
theorem dksX2_draw_0 : cX2_draw.data.toList.drop 0 = dktX2_draw_0 := by decide +kernel
theorem dksX2_draw_1 : cX2_draw.data.toList.drop 24 = dktX2_draw_1 := dk_seg dksX2_draw_0 24 rfl rfl
theorem dX2_draw_0 : decode cX2_draw 0 = .ok (.aload_n 0, 1) := dk_42 (dk_at dksX2_draw_0 0 rfl rfl)
theorem dX2_draw_1 : decode cX2_draw 1 = .ok (.aload_n 0, 1) := dk_42 (dk_at dksX2_draw_0 1 rfl rfl)
theorem dX2_draw_2 : decode cX2_draw 2 = .ok (.getfield 464, 3) := dk_180 1 208 (dk_at dksX2_draw_0 2 rfl rfl)
theorem dX2_draw_5 : decode cX2_draw 5 = .ok (.ldc_w 467, 3) := dk_19 1 211 (dk_at dksX2_draw_0 5 rfl rfl)
theorem dX2_draw_8 : decode cX2_draw 8 = .ok (.imul, 1) := dk_104 (dk_at dksX2_draw_0 8 rfl rfl)
theorem dX2_draw_9 : decode cX2_draw 9 = .ok (.sipush 12345, 3) := dk_17 48 57 (dk_at dksX2_draw_0 9 rfl rfl)
theorem dX2_draw_12 : decode cX2_draw 12 = .ok (.iadd, 1) := dk_96 (dk_at dksX2_draw_0 12 rfl rfl)
theorem dX2_draw_13 : decode cX2_draw 13 = .ok (.putfield 464, 3) := dk_181 1 208 (dk_at dksX2_draw_0 13 rfl rfl)
theorem dX2_draw_16 : decode cX2_draw 16 = .ok (.aload_n 0, 1) := dk_42 (dk_at dksX2_draw_0 16 rfl rfl)
theorem dX2_draw_17 : decode cX2_draw 17 = .ok (.getfield 464, 3) := dk_180 1 208 (dk_at dksX2_draw_0 17 rfl rfl)
theorem dX2_draw_20 : decode cX2_draw 20 = .ok (.bipush 16, 2) := dk_16 16 (dk_at dksX2_draw_0 20 rfl rfl)
theorem dX2_draw_22 : decode cX2_draw 22 = .ok (.iushr, 1) := dk_124 (dk_at dksX2_draw_0 22 rfl rfl)
theorem dX2_draw_23 : decode cX2_draw 23 = .ok (.iload_n 1, 1) := dk_27 (dk_at dksX2_draw_0 23 rfl rfl)
theorem dX2_draw_24 : decode cX2_draw 24 = .ok (.irem, 1) := dk_112 (dk_at dksX2_draw_1 0 rfl rfl)
theorem dX2_draw_25 : decode cX2_draw 25 = .ok (.ireturn, 1) := dk_172 (dk_at dksX2_draw_1 1 rfl rfl)
abbrev cX2_firstToken : ByteArray := prog_25_method_122_code
def yX2_firstToken : MethodName := ⟨RX2, "firstToken", "(I)I"⟩
def dkwX2_firstToken_1 : List UInt8 := [160, 0, 5, 28, 172, 132, 2, 1, 167, 255, 227, 2, 172]
abbrev dktX2_firstToken_1 : List UInt8 := dkwX2_firstToken_1 ++ []
def dkwX2_firstToken_0 : List UInt8 := [3, 61, 28, 42, 180, 0, 35, 8, 46, 162, 0, 25, 42, 180, 0, 35, 17, 4, 182, 28, 96, 46, 27]
abbrev dktX2_firstToken_0 : List UInt8 := dkwX2_firstToken_0 ++ dktX2_firstToken_1
theorem dksX2_firstToken_0 : cX2_firstToken.data.toList.drop 0 = dktX2_firstToken_0 := by decide +kernel
theorem dksX2_firstToken_1 : cX2_firstToken.data.toList.drop 23 = dktX2_firstToken_1 := dk_seg dksX2_firstToken_0 23 rfl rfl
theorem dX2_firstToken_0 : decode cX2_firstToken 0 = .ok (.iconst 0, 1) := dk_3 (dk_at dksX2_firstToken_0 0 rfl rfl)
theorem dX2_firstToken_1 : decode cX2_firstToken 1 = .ok (.istore_n 2, 1) := dk_61 (dk_at dksX2_firstToken_0 1 rfl rfl)
theorem dX2_firstToken_2 : decode cX2_firstToken 2 = .ok (.iload_n 2, 1) := dk_28 (dk_at dksX2_firstToken_0 2 rfl rfl)
theorem dX2_firstToken_3 : decode cX2_firstToken 3 = .ok (.aload_n 0, 1) := dk_42 (dk_at dksX2_firstToken_0 3 rfl rfl)
theorem dX2_firstToken_4 : decode cX2_firstToken 4 = .ok (.getfield 35, 3) := dk_180 0 35 (dk_at dksX2_firstToken_0 4 rfl rfl)
theorem dX2_firstToken_7 : decode cX2_firstToken 7 = .ok (.iconst 5, 1) := dk_8 (dk_at dksX2_firstToken_0 7 rfl rfl)
theorem dX2_firstToken_8 : decode cX2_firstToken 8 = .ok (.iaload, 1) := dk_46 (dk_at dksX2_firstToken_0 8 rfl rfl)
theorem dX2_firstToken_9 : decode cX2_firstToken 9 = .ok (.if_icmp .ge 25, 3) := dk_162 0 25 (dk_at dksX2_firstToken_0 9 rfl rfl)
theorem dX2_firstToken_12 : decode cX2_firstToken 12 = .ok (.aload_n 0, 1) := dk_42 (dk_at dksX2_firstToken_0 12 rfl rfl)
theorem dX2_firstToken_13 : decode cX2_firstToken 13 = .ok (.getfield 35, 3) := dk_180 0 35 (dk_at dksX2_firstToken_0 13 rfl rfl)
theorem dX2_firstToken_16 : decode cX2_firstToken 16 = .ok (.sipush 1206, 3) := dk_17 4 182 (dk_at dksX2_firstToken_0 16 rfl rfl)
theorem dX2_firstToken_19 : decode cX2_firstToken 19 = .ok (.iload_n 2, 1) := dk_28 (dk_at dksX2_firstToken_0 19 rfl rfl)
theorem dX2_firstToken_20 : decode cX2_firstToken 20 = .ok (.iadd, 1) := dk_96 (dk_at dksX2_firstToken_0 20 rfl rfl)
theorem dX2_firstToken_21 : decode cX2_firstToken 21 = .ok (.iaload, 1) := dk_46 (dk_at dksX2_firstToken_0 21 rfl rfl)
theorem dX2_firstToken_22 : decode cX2_firstToken 22 = .ok (.iload_n 1, 1) := dk_27 (dk_at dksX2_firstToken_0 22 rfl rfl)
theorem dX2_firstToken_23 : decode cX2_firstToken 23 = .ok (.if_icmp .ne 5, 3) := dk_160 0 5 (dk_at dksX2_firstToken_1 0 rfl rfl)
theorem dX2_firstToken_26 : decode cX2_firstToken 26 = .ok (.iload_n 2, 1) := dk_28 (dk_at dksX2_firstToken_1 3 rfl rfl)
theorem dX2_firstToken_27 : decode cX2_firstToken 27 = .ok (.ireturn, 1) := dk_172 (dk_at dksX2_firstToken_1 4 rfl rfl)
theorem dX2_firstToken_28 : decode cX2_firstToken 28 = .ok (.iinc 2 1, 3) := dk_132 2 1 (dk_at dksX2_firstToken_1 5 rfl rfl)
theorem dX2_firstToken_31 : decode cX2_firstToken 31 = .ok (.goto (-29), 3) := dk_167 255 227 (dk_at dksX2_firstToken_1 8 rfl rfl)
theorem dX2_firstToken_34 : decode cX2_firstToken 34 = .ok (.iconst (-1), 1) := dk_2 (dk_at dksX2_firstToken_1 11 rfl rfl)
theorem dX2_firstToken_35 : decode cX2_firstToken 35 = .ok (.ireturn, 1) := dk_172 (dk_at dksX2_firstToken_1 12 rfl rfl)
abbrev cX2_makes : ByteArray := prog_25_method_123_code
def yX2_makes : MethodName := ⟨RX2, "makes", "(I)V"⟩
def dkwX2_makes_2 : List UInt8 := [182, 1, 13, 16, 20, 162, 0, 8, 42, 27, 182, 0, 190, 177]
abbrev dktX2_makes_2 : List UInt8 := dkwX2_makes_2 ++ []
def dkwX2_makes_1 : List UInt8 := [154, 0, 30, 42, 42, 180, 0, 38, 3, 46, 42, 42, 180, 0, 38, 3, 46, 182, 1, 3, 4, 100]
abbrev dktX2_makes_1 : List UInt8 := dkwX2_makes_1 ++ dktX2_makes_2
def dkwX2_makes_0 : List UInt8 := [42, 42, 180, 0, 38, 3, 46, 182, 1, 3, 16, 10, 162, 0, 47, 42, 27, 182, 0, 187, 153, 0, 39, 27]
abbrev dktX2_makes_0 : List UInt8 := dkwX2_makes_0 ++ dktX2_makes_1
theorem dksX2_makes_0 : cX2_makes.data.toList.drop 0 = dktX2_makes_0 := by decide +kernel
theorem dksX2_makes_1 : cX2_makes.data.toList.drop 24 = dktX2_makes_1 := dk_seg dksX2_makes_0 24 rfl rfl
theorem dksX2_makes_2 : cX2_makes.data.toList.drop 46 = dktX2_makes_2 := dk_seg dksX2_makes_1 22 rfl rfl
theorem dX2_makes_0 : decode cX2_makes 0 = .ok (.aload_n 0, 1) := dk_42 (dk_at dksX2_makes_0 0 rfl rfl)
theorem dX2_makes_1 : decode cX2_makes 1 = .ok (.aload_n 0, 1) := dk_42 (dk_at dksX2_makes_0 1 rfl rfl)
theorem dX2_makes_2 : decode cX2_makes 2 = .ok (.getfield 38, 3) := dk_180 0 38 (dk_at dksX2_makes_0 2 rfl rfl)
theorem dX2_makes_5 : decode cX2_makes 5 = .ok (.iconst 0, 1) := dk_3 (dk_at dksX2_makes_0 5 rfl rfl)
theorem dX2_makes_6 : decode cX2_makes 6 = .ok (.iaload, 1) := dk_46 (dk_at dksX2_makes_0 6 rfl rfl)
theorem dX2_makes_7 : decode cX2_makes 7 = .ok (.invokevirtual 259, 3) := dk_182 1 3 (dk_at dksX2_makes_0 7 rfl rfl)
theorem dX2_makes_10 : decode cX2_makes 10 = .ok (.bipush 10, 2) := dk_16 10 (dk_at dksX2_makes_0 10 rfl rfl)
theorem dX2_makes_12 : decode cX2_makes 12 = .ok (.if_icmp .ge 47, 3) := dk_162 0 47 (dk_at dksX2_makes_0 12 rfl rfl)
theorem dX2_makes_15 : decode cX2_makes 15 = .ok (.aload_n 0, 1) := dk_42 (dk_at dksX2_makes_0 15 rfl rfl)
theorem dX2_makes_16 : decode cX2_makes 16 = .ok (.iload_n 1, 1) := dk_27 (dk_at dksX2_makes_0 16 rfl rfl)
theorem dX2_makes_17 : decode cX2_makes 17 = .ok (.invokevirtual 187, 3) := dk_182 0 187 (dk_at dksX2_makes_0 17 rfl rfl)
theorem dX2_makes_20 : decode cX2_makes 20 = .ok (.ifCond .eq 39, 3) := dk_153 0 39 (dk_at dksX2_makes_0 20 rfl rfl)
theorem dX2_makes_23 : decode cX2_makes 23 = .ok (.iload_n 1, 1) := dk_27 (dk_at dksX2_makes_0 23 rfl rfl)
theorem dX2_makes_24 : decode cX2_makes 24 = .ok (.ifCond .ne 30, 3) := dk_154 0 30 (dk_at dksX2_makes_1 0 rfl rfl)
theorem dX2_makes_27 : decode cX2_makes 27 = .ok (.aload_n 0, 1) := dk_42 (dk_at dksX2_makes_1 3 rfl rfl)
theorem dX2_makes_28 : decode cX2_makes 28 = .ok (.aload_n 0, 1) := dk_42 (dk_at dksX2_makes_1 4 rfl rfl)
theorem dX2_makes_29 : decode cX2_makes 29 = .ok (.getfield 38, 3) := dk_180 0 38 (dk_at dksX2_makes_1 5 rfl rfl)
theorem dX2_makes_32 : decode cX2_makes 32 = .ok (.iconst 0, 1) := dk_3 (dk_at dksX2_makes_1 8 rfl rfl)
theorem dX2_makes_33 : decode cX2_makes 33 = .ok (.iaload, 1) := dk_46 (dk_at dksX2_makes_1 9 rfl rfl)
theorem dX2_makes_34 : decode cX2_makes 34 = .ok (.aload_n 0, 1) := dk_42 (dk_at dksX2_makes_1 10 rfl rfl)
theorem dX2_makes_35 : decode cX2_makes 35 = .ok (.aload_n 0, 1) := dk_42 (dk_at dksX2_makes_1 11 rfl rfl)
theorem dX2_makes_36 : decode cX2_makes 36 = .ok (.getfield 38, 3) := dk_180 0 38 (dk_at dksX2_makes_1 12 rfl rfl)
theorem dX2_makes_39 : decode cX2_makes 39 = .ok (.iconst 0, 1) := dk_3 (dk_at dksX2_makes_1 15 rfl rfl)
theorem dX2_makes_40 : decode cX2_makes 40 = .ok (.iaload, 1) := dk_46 (dk_at dksX2_makes_1 16 rfl rfl)
theorem dX2_makes_41 : decode cX2_makes 41 = .ok (.invokevirtual 259, 3) := dk_182 1 3 (dk_at dksX2_makes_1 17 rfl rfl)
theorem dX2_makes_44 : decode cX2_makes 44 = .ok (.iconst 1, 1) := dk_4 (dk_at dksX2_makes_1 20 rfl rfl)
theorem dX2_makes_45 : decode cX2_makes 45 = .ok (.isub, 1) := dk_100 (dk_at dksX2_makes_1 21 rfl rfl)
theorem dX2_makes_46 : decode cX2_makes 46 = .ok (.invokevirtual 269, 3) := dk_182 1 13 (dk_at dksX2_makes_2 0 rfl rfl)
theorem dX2_makes_49 : decode cX2_makes 49 = .ok (.bipush 20, 2) := dk_16 20 (dk_at dksX2_makes_2 3 rfl rfl)
theorem dX2_makes_51 : decode cX2_makes 51 = .ok (.if_icmp .ge 8, 3) := dk_162 0 8 (dk_at dksX2_makes_2 5 rfl rfl)
theorem dX2_makes_54 : decode cX2_makes 54 = .ok (.aload_n 0, 1) := dk_42 (dk_at dksX2_makes_2 8 rfl rfl)
theorem dX2_makes_55 : decode cX2_makes 55 = .ok (.iload_n 1, 1) := dk_27 (dk_at dksX2_makes_2 9 rfl rfl)
theorem dX2_makes_56 : decode cX2_makes 56 = .ok (.invokevirtual 190, 3) := dk_182 0 190 (dk_at dksX2_makes_2 10 rfl rfl)
theorem dX2_makes_59 : decode cX2_makes 59 = .ok (.return_, 1) := dk_177 (dk_at dksX2_makes_2 13 rfl rfl)
abbrev cX2_tokensOf : ByteArray := prog_25_method_125_code
def yX2_tokensOf : MethodName := ⟨RX2, "tokensOf", "(I)I"⟩
def dkwX2_tokensOf_1 : List UInt8 := [46, 27, 160, 0, 7, 4, 167, 0, 4, 3, 96, 61, 132, 3, 1, 167, 255, 221, 28, 172]
abbrev dktX2_tokensOf_1 : List UInt8 := dkwX2_tokensOf_1 ++ []
def dkwX2_tokensOf_0 : List UInt8 := [3, 61, 3, 62, 29, 42, 180, 0, 35, 8, 46, 162, 0, 31, 28, 42, 180, 0, 35, 17, 4, 182, 29, 96]
abbrev dktX2_tokensOf_0 : List UInt8 := dkwX2_tokensOf_0 ++ dktX2_tokensOf_1
theorem dksX2_tokensOf_0 : cX2_tokensOf.data.toList.drop 0 = dktX2_tokensOf_0 := by decide +kernel
theorem dksX2_tokensOf_1 : cX2_tokensOf.data.toList.drop 24 = dktX2_tokensOf_1 := dk_seg dksX2_tokensOf_0 24 rfl rfl
theorem dX2_tokensOf_0 : decode cX2_tokensOf 0 = .ok (.iconst 0, 1) := dk_3 (dk_at dksX2_tokensOf_0 0 rfl rfl)
theorem dX2_tokensOf_1 : decode cX2_tokensOf 1 = .ok (.istore_n 2, 1) := dk_61 (dk_at dksX2_tokensOf_0 1 rfl rfl)
theorem dX2_tokensOf_2 : decode cX2_tokensOf 2 = .ok (.iconst 0, 1) := dk_3 (dk_at dksX2_tokensOf_0 2 rfl rfl)
theorem dX2_tokensOf_3 : decode cX2_tokensOf 3 = .ok (.istore_n 3, 1) := dk_62 (dk_at dksX2_tokensOf_0 3 rfl rfl)
theorem dX2_tokensOf_4 : decode cX2_tokensOf 4 = .ok (.iload_n 3, 1) := dk_29 (dk_at dksX2_tokensOf_0 4 rfl rfl)
theorem dX2_tokensOf_5 : decode cX2_tokensOf 5 = .ok (.aload_n 0, 1) := dk_42 (dk_at dksX2_tokensOf_0 5 rfl rfl)
theorem dX2_tokensOf_6 : decode cX2_tokensOf 6 = .ok (.getfield 35, 3) := dk_180 0 35 (dk_at dksX2_tokensOf_0 6 rfl rfl)
theorem dX2_tokensOf_9 : decode cX2_tokensOf 9 = .ok (.iconst 5, 1) := dk_8 (dk_at dksX2_tokensOf_0 9 rfl rfl)
theorem dX2_tokensOf_10 : decode cX2_tokensOf 10 = .ok (.iaload, 1) := dk_46 (dk_at dksX2_tokensOf_0 10 rfl rfl)
theorem dX2_tokensOf_11 : decode cX2_tokensOf 11 = .ok (.if_icmp .ge 31, 3) := dk_162 0 31 (dk_at dksX2_tokensOf_0 11 rfl rfl)
theorem dX2_tokensOf_14 : decode cX2_tokensOf 14 = .ok (.iload_n 2, 1) := dk_28 (dk_at dksX2_tokensOf_0 14 rfl rfl)
theorem dX2_tokensOf_15 : decode cX2_tokensOf 15 = .ok (.aload_n 0, 1) := dk_42 (dk_at dksX2_tokensOf_0 15 rfl rfl)
theorem dX2_tokensOf_16 : decode cX2_tokensOf 16 = .ok (.getfield 35, 3) := dk_180 0 35 (dk_at dksX2_tokensOf_0 16 rfl rfl)
theorem dX2_tokensOf_19 : decode cX2_tokensOf 19 = .ok (.sipush 1206, 3) := dk_17 4 182 (dk_at dksX2_tokensOf_0 19 rfl rfl)
theorem dX2_tokensOf_22 : decode cX2_tokensOf 22 = .ok (.iload_n 3, 1) := dk_29 (dk_at dksX2_tokensOf_0 22 rfl rfl)
theorem dX2_tokensOf_23 : decode cX2_tokensOf 23 = .ok (.iadd, 1) := dk_96 (dk_at dksX2_tokensOf_0 23 rfl rfl)
theorem dX2_tokensOf_24 : decode cX2_tokensOf 24 = .ok (.iaload, 1) := dk_46 (dk_at dksX2_tokensOf_1 0 rfl rfl)
theorem dX2_tokensOf_25 : decode cX2_tokensOf 25 = .ok (.iload_n 1, 1) := dk_27 (dk_at dksX2_tokensOf_1 1 rfl rfl)
theorem dX2_tokensOf_26 : decode cX2_tokensOf 26 = .ok (.if_icmp .ne 7, 3) := dk_160 0 7 (dk_at dksX2_tokensOf_1 2 rfl rfl)
theorem dX2_tokensOf_29 : decode cX2_tokensOf 29 = .ok (.iconst 1, 1) := dk_4 (dk_at dksX2_tokensOf_1 5 rfl rfl)
theorem dX2_tokensOf_30 : decode cX2_tokensOf 30 = .ok (.goto 4, 3) := dk_167 0 4 (dk_at dksX2_tokensOf_1 6 rfl rfl)
theorem dX2_tokensOf_33 : decode cX2_tokensOf 33 = .ok (.iconst 0, 1) := dk_3 (dk_at dksX2_tokensOf_1 9 rfl rfl)
theorem dX2_tokensOf_34 : decode cX2_tokensOf 34 = .ok (.iadd, 1) := dk_96 (dk_at dksX2_tokensOf_1 10 rfl rfl)
theorem dX2_tokensOf_35 : decode cX2_tokensOf 35 = .ok (.istore_n 2, 1) := dk_61 (dk_at dksX2_tokensOf_1 11 rfl rfl)
theorem dX2_tokensOf_36 : decode cX2_tokensOf 36 = .ok (.iinc 3 1, 3) := dk_132 3 1 (dk_at dksX2_tokensOf_1 12 rfl rfl)
theorem dX2_tokensOf_39 : decode cX2_tokensOf 39 = .ok (.goto (-35), 3) := dk_167 255 221 (dk_at dksX2_tokensOf_1 15 rfl rfl)
theorem dX2_tokensOf_42 : decode cX2_tokensOf 42 = .ok (.iload_n 2, 1) := dk_28 (dk_at dksX2_tokensOf_1 18 rfl rfl)
theorem dX2_tokensOf_43 : decode cX2_tokensOf 43 = .ok (.ireturn, 1) := dk_172 (dk_at dksX2_tokensOf_1 19 rfl rfl)
abbrev cX2_count : ByteArray := prog_25_method_127_code
def yX2_count : MethodName := ⟨RX2, "count", "(I)I"⟩
def dkwX2_count_1 : List UInt8 := [16, 254, 172]
abbrev dktX2_count_1 : List UInt8 := dkwX2_count_1 ++ []
def dkwX2_count_0 : List UInt8 := [42, 3, 181, 0, 60, 27, 3, 5, 184, 0, 72, 153, 0, 12, 42, 180, 0, 23, 27, 46, 167, 0, 5]
abbrev dktX2_count_0 : List UInt8 := dkwX2_count_0 ++ dktX2_count_1
theorem dksX2_count_0 : cX2_count.data.toList.drop 0 = dktX2_count_0 := by decide +kernel
theorem dksX2_count_1 : cX2_count.data.toList.drop 23 = dktX2_count_1 := dk_seg dksX2_count_0 23 rfl rfl
theorem dX2_count_0 : decode cX2_count 0 = .ok (.aload_n 0, 1) := dk_42 (dk_at dksX2_count_0 0 rfl rfl)
theorem dX2_count_1 : decode cX2_count 1 = .ok (.iconst 0, 1) := dk_3 (dk_at dksX2_count_0 1 rfl rfl)
theorem dX2_count_2 : decode cX2_count 2 = .ok (.putfield 60, 3) := dk_181 0 60 (dk_at dksX2_count_0 2 rfl rfl)
theorem dX2_count_5 : decode cX2_count 5 = .ok (.iload_n 1, 1) := dk_27 (dk_at dksX2_count_0 5 rfl rfl)
theorem dX2_count_6 : decode cX2_count 6 = .ok (.iconst 0, 1) := dk_3 (dk_at dksX2_count_0 6 rfl rfl)
theorem dX2_count_7 : decode cX2_count 7 = .ok (.iconst 2, 1) := dk_5 (dk_at dksX2_count_0 7 rfl rfl)
theorem dX2_count_8 : decode cX2_count 8 = .ok (.invokestatic 72, 3) := dk_184 0 72 (dk_at dksX2_count_0 8 rfl rfl)
theorem dX2_count_11 : decode cX2_count 11 = .ok (.ifCond .eq 12, 3) := dk_153 0 12 (dk_at dksX2_count_0 11 rfl rfl)
theorem dX2_count_14 : decode cX2_count 14 = .ok (.aload_n 0, 1) := dk_42 (dk_at dksX2_count_0 14 rfl rfl)
theorem dX2_count_15 : decode cX2_count 15 = .ok (.getfield 23, 3) := dk_180 0 23 (dk_at dksX2_count_0 15 rfl rfl)
theorem dX2_count_18 : decode cX2_count 18 = .ok (.iload_n 1, 1) := dk_27 (dk_at dksX2_count_0 18 rfl rfl)
theorem dX2_count_19 : decode cX2_count 19 = .ok (.iaload, 1) := dk_46 (dk_at dksX2_count_0 19 rfl rfl)
theorem dX2_count_20 : decode cX2_count 20 = .ok (.goto 5, 3) := dk_167 0 5 (dk_at dksX2_count_0 20 rfl rfl)
theorem dX2_count_23 : decode cX2_count 23 = .ok (.bipush (-2), 2) := dk_16 254 (dk_at dksX2_count_1 0 rfl rfl)
theorem dX2_count_25 : decode cX2_count 25 = .ok (.ireturn, 1) := dk_172 (dk_at dksX2_count_1 2 rfl rfl)
abbrev cX2_image : ByteArray := prog_25_method_128_code
def yX2_image : MethodName := ⟨RX2, "image", "(I)Z"⟩
def dkwX2_image_1 : List UInt8 := [42, 180, 0, 56, 27, 4, 84, 4, 172]
abbrev dktX2_image_1 : List UInt8 := dkwX2_image_1 ++ []
def dkwX2_image_0 : List UInt8 := [42, 3, 181, 0, 60, 27, 3, 5, 184, 0, 72, 154, 0, 5, 3, 172, 42, 3, 27, 4, 96, 182, 1, 227]
abbrev dktX2_image_0 : List UInt8 := dkwX2_image_0 ++ dktX2_image_1
theorem dksX2_image_0 : cX2_image.data.toList.drop 0 = dktX2_image_0 := by decide +kernel
theorem dksX2_image_1 : cX2_image.data.toList.drop 24 = dktX2_image_1 := dk_seg dksX2_image_0 24 rfl rfl
theorem dX2_image_0 : decode cX2_image 0 = .ok (.aload_n 0, 1) := dk_42 (dk_at dksX2_image_0 0 rfl rfl)
theorem dX2_image_1 : decode cX2_image 1 = .ok (.iconst 0, 1) := dk_3 (dk_at dksX2_image_0 1 rfl rfl)
theorem dX2_image_2 : decode cX2_image 2 = .ok (.putfield 60, 3) := dk_181 0 60 (dk_at dksX2_image_0 2 rfl rfl)
theorem dX2_image_5 : decode cX2_image 5 = .ok (.iload_n 1, 1) := dk_27 (dk_at dksX2_image_0 5 rfl rfl)
theorem dX2_image_6 : decode cX2_image 6 = .ok (.iconst 0, 1) := dk_3 (dk_at dksX2_image_0 6 rfl rfl)
theorem dX2_image_7 : decode cX2_image 7 = .ok (.iconst 2, 1) := dk_5 (dk_at dksX2_image_0 7 rfl rfl)
theorem dX2_image_8 : decode cX2_image 8 = .ok (.invokestatic 72, 3) := dk_184 0 72 (dk_at dksX2_image_0 8 rfl rfl)
theorem dX2_image_11 : decode cX2_image 11 = .ok (.ifCond .ne 5, 3) := dk_154 0 5 (dk_at dksX2_image_0 11 rfl rfl)
theorem dX2_image_14 : decode cX2_image 14 = .ok (.iconst 0, 1) := dk_3 (dk_at dksX2_image_0 14 rfl rfl)
theorem dX2_image_15 : decode cX2_image 15 = .ok (.ireturn, 1) := dk_172 (dk_at dksX2_image_0 15 rfl rfl)
theorem dX2_image_16 : decode cX2_image 16 = .ok (.aload_n 0, 1) := dk_42 (dk_at dksX2_image_0 16 rfl rfl)
theorem dX2_image_17 : decode cX2_image 17 = .ok (.iconst 0, 1) := dk_3 (dk_at dksX2_image_0 17 rfl rfl)
theorem dX2_image_18 : decode cX2_image 18 = .ok (.iload_n 1, 1) := dk_27 (dk_at dksX2_image_0 18 rfl rfl)
theorem dX2_image_19 : decode cX2_image 19 = .ok (.iconst 1, 1) := dk_4 (dk_at dksX2_image_0 19 rfl rfl)
theorem dX2_image_20 : decode cX2_image 20 = .ok (.iadd, 1) := dk_96 (dk_at dksX2_image_0 20 rfl rfl)
theorem dX2_image_21 : decode cX2_image 21 = .ok (.invokevirtual 483, 3) := dk_182 1 227 (dk_at dksX2_image_0 21 rfl rfl)
theorem dX2_image_24 : decode cX2_image 24 = .ok (.aload_n 0, 1) := dk_42 (dk_at dksX2_image_1 0 rfl rfl)
theorem dX2_image_25 : decode cX2_image 25 = .ok (.getfield 56, 3) := dk_180 0 56 (dk_at dksX2_image_1 1 rfl rfl)
theorem dX2_image_28 : decode cX2_image 28 = .ok (.iload_n 1, 1) := dk_27 (dk_at dksX2_image_1 4 rfl rfl)
theorem dX2_image_29 : decode cX2_image 29 = .ok (.iconst 1, 1) := dk_4 (dk_at dksX2_image_1 5 rfl rfl)
theorem dX2_image_30 : decode cX2_image 30 = .ok (.bastore, 1) := dk_84 (dk_at dksX2_image_1 6 rfl rfl)
theorem dX2_image_31 : decode cX2_image 31 = .ok (.iconst 1, 1) := dk_4 (dk_at dksX2_image_1 7 rfl rfl)
theorem dX2_image_32 : decode cX2_image 32 = .ok (.ireturn, 1) := dk_172 (dk_at dksX2_image_1 8 rfl rfl)
abbrev cX2_copyAll : ByteArray := prog_25_method_9_code
def yX2_copyAll : MethodName := ⟨RX2, "copyAll", "(II)V"⟩
def dkwX2_copyAll_4 : List UInt8 := [180, 0, 29, 16, 114, 27, 28, 184, 0, 68, 42, 180, 0, 32, 16, 50, 27, 28, 184, 0, 68, 177]
abbrev dktX2_copyAll_4 : List UInt8 := dkwX2_copyAll_4 ++ []
def dkwX2_copyAll_3 : List UInt8 := [180, 0, 23, 6, 27, 28, 184, 0, 68, 42, 180, 0, 26, 17, 11, 236, 27, 28, 184, 0, 68, 42]
abbrev dktX2_copyAll_3 : List UInt8 := dkwX2_copyAll_3 ++ dktX2_copyAll_4
def dkwX2_copyAll_2 : List UInt8 := [184, 0, 68, 42, 180, 0, 17, 4, 27, 28, 184, 0, 68, 42, 180, 0, 20, 4, 27, 28, 184, 0, 68, 42]
abbrev dktX2_copyAll_2 : List UInt8 := dkwX2_copyAll_2 ++ dktX2_copyAll_3
def dkwX2_copyAll_1 : List UInt8 := [17, 2, 88, 27, 104, 29, 96, 51, 84, 132, 3, 1, 167, 255, 222, 42, 180, 0, 13, 4, 27, 28]
abbrev dktX2_copyAll_1 : List UInt8 := dkwX2_copyAll_1 ++ dktX2_copyAll_2
def dkwX2_copyAll_0 : List UInt8 := [3, 62, 29, 17, 2, 88, 162, 0, 33, 42, 180, 0, 7, 17, 2, 88, 28, 104, 29, 96, 42, 180, 0, 7]
abbrev dktX2_copyAll_0 : List UInt8 := dkwX2_copyAll_0 ++ dktX2_copyAll_1
theorem dksX2_copyAll_0 : cX2_copyAll.data.toList.drop 0 = dktX2_copyAll_0 := by decide +kernel
theorem dksX2_copyAll_1 : cX2_copyAll.data.toList.drop 24 = dktX2_copyAll_1 := dk_seg dksX2_copyAll_0 24 rfl rfl
theorem dksX2_copyAll_2 : cX2_copyAll.data.toList.drop 46 = dktX2_copyAll_2 := dk_seg dksX2_copyAll_1 22 rfl rfl
theorem dksX2_copyAll_3 : cX2_copyAll.data.toList.drop 70 = dktX2_copyAll_3 := dk_seg dksX2_copyAll_2 24 rfl rfl
theorem dksX2_copyAll_4 : cX2_copyAll.data.toList.drop 92 = dktX2_copyAll_4 := dk_seg dksX2_copyAll_3 22 rfl rfl
theorem dX2_copyAll_0 : decode cX2_copyAll 0 = .ok (.iconst 0, 1) := dk_3 (dk_at dksX2_copyAll_0 0 rfl rfl)
theorem dX2_copyAll_1 : decode cX2_copyAll 1 = .ok (.istore_n 3, 1) := dk_62 (dk_at dksX2_copyAll_0 1 rfl rfl)
theorem dX2_copyAll_2 : decode cX2_copyAll 2 = .ok (.iload_n 3, 1) := dk_29 (dk_at dksX2_copyAll_0 2 rfl rfl)
theorem dX2_copyAll_3 : decode cX2_copyAll 3 = .ok (.sipush 600, 3) := dk_17 2 88 (dk_at dksX2_copyAll_0 3 rfl rfl)
theorem dX2_copyAll_6 : decode cX2_copyAll 6 = .ok (.if_icmp .ge 33, 3) := dk_162 0 33 (dk_at dksX2_copyAll_0 6 rfl rfl)
theorem dX2_copyAll_9 : decode cX2_copyAll 9 = .ok (.aload_n 0, 1) := dk_42 (dk_at dksX2_copyAll_0 9 rfl rfl)
theorem dX2_copyAll_10 : decode cX2_copyAll 10 = .ok (.getfield 7, 3) := dk_180 0 7 (dk_at dksX2_copyAll_0 10 rfl rfl)
theorem dX2_copyAll_13 : decode cX2_copyAll 13 = .ok (.sipush 600, 3) := dk_17 2 88 (dk_at dksX2_copyAll_0 13 rfl rfl)
theorem dX2_copyAll_16 : decode cX2_copyAll 16 = .ok (.iload_n 2, 1) := dk_28 (dk_at dksX2_copyAll_0 16 rfl rfl)
theorem dX2_copyAll_17 : decode cX2_copyAll 17 = .ok (.imul, 1) := dk_104 (dk_at dksX2_copyAll_0 17 rfl rfl)
theorem dX2_copyAll_18 : decode cX2_copyAll 18 = .ok (.iload_n 3, 1) := dk_29 (dk_at dksX2_copyAll_0 18 rfl rfl)
theorem dX2_copyAll_19 : decode cX2_copyAll 19 = .ok (.iadd, 1) := dk_96 (dk_at dksX2_copyAll_0 19 rfl rfl)
theorem dX2_copyAll_20 : decode cX2_copyAll 20 = .ok (.aload_n 0, 1) := dk_42 (dk_at dksX2_copyAll_0 20 rfl rfl)
theorem dX2_copyAll_21 : decode cX2_copyAll 21 = .ok (.getfield 7, 3) := dk_180 0 7 (dk_at dksX2_copyAll_0 21 rfl rfl)
theorem dX2_copyAll_24 : decode cX2_copyAll 24 = .ok (.sipush 600, 3) := dk_17 2 88 (dk_at dksX2_copyAll_1 0 rfl rfl)
theorem dX2_copyAll_27 : decode cX2_copyAll 27 = .ok (.iload_n 1, 1) := dk_27 (dk_at dksX2_copyAll_1 3 rfl rfl)
theorem dX2_copyAll_28 : decode cX2_copyAll 28 = .ok (.imul, 1) := dk_104 (dk_at dksX2_copyAll_1 4 rfl rfl)
theorem dX2_copyAll_29 : decode cX2_copyAll 29 = .ok (.iload_n 3, 1) := dk_29 (dk_at dksX2_copyAll_1 5 rfl rfl)
theorem dX2_copyAll_30 : decode cX2_copyAll 30 = .ok (.iadd, 1) := dk_96 (dk_at dksX2_copyAll_1 6 rfl rfl)
theorem dX2_copyAll_31 : decode cX2_copyAll 31 = .ok (.baload, 1) := dk_51 (dk_at dksX2_copyAll_1 7 rfl rfl)
theorem dX2_copyAll_32 : decode cX2_copyAll 32 = .ok (.bastore, 1) := dk_84 (dk_at dksX2_copyAll_1 8 rfl rfl)
theorem dX2_copyAll_33 : decode cX2_copyAll 33 = .ok (.iinc 3 1, 3) := dk_132 3 1 (dk_at dksX2_copyAll_1 9 rfl rfl)
theorem dX2_copyAll_36 : decode cX2_copyAll 36 = .ok (.goto (-34), 3) := dk_167 255 222 (dk_at dksX2_copyAll_1 12 rfl rfl)
theorem dX2_copyAll_39 : decode cX2_copyAll 39 = .ok (.aload_n 0, 1) := dk_42 (dk_at dksX2_copyAll_1 15 rfl rfl)
theorem dX2_copyAll_40 : decode cX2_copyAll 40 = .ok (.getfield 13, 3) := dk_180 0 13 (dk_at dksX2_copyAll_1 16 rfl rfl)
theorem dX2_copyAll_43 : decode cX2_copyAll 43 = .ok (.iconst 1, 1) := dk_4 (dk_at dksX2_copyAll_1 19 rfl rfl)
theorem dX2_copyAll_44 : decode cX2_copyAll 44 = .ok (.iload_n 1, 1) := dk_27 (dk_at dksX2_copyAll_1 20 rfl rfl)
theorem dX2_copyAll_45 : decode cX2_copyAll 45 = .ok (.iload_n 2, 1) := dk_28 (dk_at dksX2_copyAll_1 21 rfl rfl)
theorem dX2_copyAll_46 : decode cX2_copyAll 46 = .ok (.invokestatic 68, 3) := dk_184 0 68 (dk_at dksX2_copyAll_2 0 rfl rfl)
theorem dX2_copyAll_49 : decode cX2_copyAll 49 = .ok (.aload_n 0, 1) := dk_42 (dk_at dksX2_copyAll_2 3 rfl rfl)
theorem dX2_copyAll_50 : decode cX2_copyAll 50 = .ok (.getfield 17, 3) := dk_180 0 17 (dk_at dksX2_copyAll_2 4 rfl rfl)
theorem dX2_copyAll_53 : decode cX2_copyAll 53 = .ok (.iconst 1, 1) := dk_4 (dk_at dksX2_copyAll_2 7 rfl rfl)
theorem dX2_copyAll_54 : decode cX2_copyAll 54 = .ok (.iload_n 1, 1) := dk_27 (dk_at dksX2_copyAll_2 8 rfl rfl)
theorem dX2_copyAll_55 : decode cX2_copyAll 55 = .ok (.iload_n 2, 1) := dk_28 (dk_at dksX2_copyAll_2 9 rfl rfl)
theorem dX2_copyAll_56 : decode cX2_copyAll 56 = .ok (.invokestatic 68, 3) := dk_184 0 68 (dk_at dksX2_copyAll_2 10 rfl rfl)
theorem dX2_copyAll_59 : decode cX2_copyAll 59 = .ok (.aload_n 0, 1) := dk_42 (dk_at dksX2_copyAll_2 13 rfl rfl)
theorem dX2_copyAll_60 : decode cX2_copyAll 60 = .ok (.getfield 20, 3) := dk_180 0 20 (dk_at dksX2_copyAll_2 14 rfl rfl)
theorem dX2_copyAll_63 : decode cX2_copyAll 63 = .ok (.iconst 1, 1) := dk_4 (dk_at dksX2_copyAll_2 17 rfl rfl)
theorem dX2_copyAll_64 : decode cX2_copyAll 64 = .ok (.iload_n 1, 1) := dk_27 (dk_at dksX2_copyAll_2 18 rfl rfl)
theorem dX2_copyAll_65 : decode cX2_copyAll 65 = .ok (.iload_n 2, 1) := dk_28 (dk_at dksX2_copyAll_2 19 rfl rfl)
theorem dX2_copyAll_66 : decode cX2_copyAll 66 = .ok (.invokestatic 68, 3) := dk_184 0 68 (dk_at dksX2_copyAll_2 20 rfl rfl)
theorem dX2_copyAll_69 : decode cX2_copyAll 69 = .ok (.aload_n 0, 1) := dk_42 (dk_at dksX2_copyAll_2 23 rfl rfl)
theorem dX2_copyAll_70 : decode cX2_copyAll 70 = .ok (.getfield 23, 3) := dk_180 0 23 (dk_at dksX2_copyAll_3 0 rfl rfl)
theorem dX2_copyAll_73 : decode cX2_copyAll 73 = .ok (.iconst 3, 1) := dk_6 (dk_at dksX2_copyAll_3 3 rfl rfl)
theorem dX2_copyAll_74 : decode cX2_copyAll 74 = .ok (.iload_n 1, 1) := dk_27 (dk_at dksX2_copyAll_3 4 rfl rfl)
theorem dX2_copyAll_75 : decode cX2_copyAll 75 = .ok (.iload_n 2, 1) := dk_28 (dk_at dksX2_copyAll_3 5 rfl rfl)
theorem dX2_copyAll_76 : decode cX2_copyAll 76 = .ok (.invokestatic 68, 3) := dk_184 0 68 (dk_at dksX2_copyAll_3 6 rfl rfl)
theorem dX2_copyAll_79 : decode cX2_copyAll 79 = .ok (.aload_n 0, 1) := dk_42 (dk_at dksX2_copyAll_3 9 rfl rfl)
theorem dX2_copyAll_80 : decode cX2_copyAll 80 = .ok (.getfield 26, 3) := dk_180 0 26 (dk_at dksX2_copyAll_3 10 rfl rfl)
theorem dX2_copyAll_83 : decode cX2_copyAll 83 = .ok (.sipush 3052, 3) := dk_17 11 236 (dk_at dksX2_copyAll_3 13 rfl rfl)
theorem dX2_copyAll_86 : decode cX2_copyAll 86 = .ok (.iload_n 1, 1) := dk_27 (dk_at dksX2_copyAll_3 16 rfl rfl)
theorem dX2_copyAll_87 : decode cX2_copyAll 87 = .ok (.iload_n 2, 1) := dk_28 (dk_at dksX2_copyAll_3 17 rfl rfl)
theorem dX2_copyAll_88 : decode cX2_copyAll 88 = .ok (.invokestatic 68, 3) := dk_184 0 68 (dk_at dksX2_copyAll_3 18 rfl rfl)
theorem dX2_copyAll_91 : decode cX2_copyAll 91 = .ok (.aload_n 0, 1) := dk_42 (dk_at dksX2_copyAll_3 21 rfl rfl)
theorem dX2_copyAll_92 : decode cX2_copyAll 92 = .ok (.getfield 29, 3) := dk_180 0 29 (dk_at dksX2_copyAll_4 0 rfl rfl)
theorem dX2_copyAll_95 : decode cX2_copyAll 95 = .ok (.bipush 114, 2) := dk_16 114 (dk_at dksX2_copyAll_4 3 rfl rfl)
theorem dX2_copyAll_97 : decode cX2_copyAll 97 = .ok (.iload_n 1, 1) := dk_27 (dk_at dksX2_copyAll_4 5 rfl rfl)
theorem dX2_copyAll_98 : decode cX2_copyAll 98 = .ok (.iload_n 2, 1) := dk_28 (dk_at dksX2_copyAll_4 6 rfl rfl)
theorem dX2_copyAll_99 : decode cX2_copyAll 99 = .ok (.invokestatic 68, 3) := dk_184 0 68 (dk_at dksX2_copyAll_4 7 rfl rfl)
theorem dX2_copyAll_102 : decode cX2_copyAll 102 = .ok (.aload_n 0, 1) := dk_42 (dk_at dksX2_copyAll_4 10 rfl rfl)
theorem dX2_copyAll_103 : decode cX2_copyAll 103 = .ok (.getfield 32, 3) := dk_180 0 32 (dk_at dksX2_copyAll_4 11 rfl rfl)
theorem dX2_copyAll_106 : decode cX2_copyAll 106 = .ok (.bipush 50, 2) := dk_16 50 (dk_at dksX2_copyAll_4 14 rfl rfl)
theorem dX2_copyAll_108 : decode cX2_copyAll 108 = .ok (.iload_n 1, 1) := dk_27 (dk_at dksX2_copyAll_4 16 rfl rfl)
theorem dX2_copyAll_109 : decode cX2_copyAll 109 = .ok (.iload_n 2, 1) := dk_28 (dk_at dksX2_copyAll_4 17 rfl rfl)
theorem dX2_copyAll_110 : decode cX2_copyAll 110 = .ok (.invokestatic 68, 3) := dk_184 0 68 (dk_at dksX2_copyAll_4 18 rfl rfl)
theorem dX2_copyAll_113 : decode cX2_copyAll 113 = .ok (.return_, 1) := dk_177 (dk_at dksX2_copyAll_4 21 rfl rfl)
abbrev cX2_copyRow : ByteArray := prog_25_method_8_code
def yX2_copyRow : MethodName := ⟨RX2, "copyRow", "([IIII)V"⟩
def dkwX2_copyRow_1 : List UInt8 := [79, 132, 4, 1, 167, 255, 231, 177]
abbrev dktX2_copyRow_1 : List UInt8 := dkwX2_copyRow_1 ++ []
def dkwX2_copyRow_0 : List UInt8 := [3, 54, 4, 21, 4, 27, 162, 0, 25, 42, 27, 29, 104, 21, 4, 96, 42, 27, 28, 104, 21, 4, 96, 46]
abbrev dktX2_copyRow_0 : List UInt8 := dkwX2_copyRow_0 ++ dktX2_copyRow_1
theorem dksX2_copyRow_0 : cX2_copyRow.data.toList.drop 0 = dktX2_copyRow_0 := by decide +kernel
theorem dksX2_copyRow_1 : cX2_copyRow.data.toList.drop 24 = dktX2_copyRow_1 := dk_seg dksX2_copyRow_0 24 rfl rfl
theorem dX2_copyRow_0 : decode cX2_copyRow 0 = .ok (.iconst 0, 1) := dk_3 (dk_at dksX2_copyRow_0 0 rfl rfl)
theorem dX2_copyRow_1 : decode cX2_copyRow 1 = .ok (.istore 4, 2) := dk_54 4 (dk_at dksX2_copyRow_0 1 rfl rfl)
theorem dX2_copyRow_3 : decode cX2_copyRow 3 = .ok (.iload 4, 2) := dk_21 4 (dk_at dksX2_copyRow_0 3 rfl rfl)
theorem dX2_copyRow_5 : decode cX2_copyRow 5 = .ok (.iload_n 1, 1) := dk_27 (dk_at dksX2_copyRow_0 5 rfl rfl)
theorem dX2_copyRow_6 : decode cX2_copyRow 6 = .ok (.if_icmp .ge 25, 3) := dk_162 0 25 (dk_at dksX2_copyRow_0 6 rfl rfl)
theorem dX2_copyRow_9 : decode cX2_copyRow 9 = .ok (.aload_n 0, 1) := dk_42 (dk_at dksX2_copyRow_0 9 rfl rfl)
theorem dX2_copyRow_10 : decode cX2_copyRow 10 = .ok (.iload_n 1, 1) := dk_27 (dk_at dksX2_copyRow_0 10 rfl rfl)
theorem dX2_copyRow_11 : decode cX2_copyRow 11 = .ok (.iload_n 3, 1) := dk_29 (dk_at dksX2_copyRow_0 11 rfl rfl)
theorem dX2_copyRow_12 : decode cX2_copyRow 12 = .ok (.imul, 1) := dk_104 (dk_at dksX2_copyRow_0 12 rfl rfl)
theorem dX2_copyRow_13 : decode cX2_copyRow 13 = .ok (.iload 4, 2) := dk_21 4 (dk_at dksX2_copyRow_0 13 rfl rfl)
theorem dX2_copyRow_15 : decode cX2_copyRow 15 = .ok (.iadd, 1) := dk_96 (dk_at dksX2_copyRow_0 15 rfl rfl)
theorem dX2_copyRow_16 : decode cX2_copyRow 16 = .ok (.aload_n 0, 1) := dk_42 (dk_at dksX2_copyRow_0 16 rfl rfl)
theorem dX2_copyRow_17 : decode cX2_copyRow 17 = .ok (.iload_n 1, 1) := dk_27 (dk_at dksX2_copyRow_0 17 rfl rfl)
theorem dX2_copyRow_18 : decode cX2_copyRow 18 = .ok (.iload_n 2, 1) := dk_28 (dk_at dksX2_copyRow_0 18 rfl rfl)
theorem dX2_copyRow_19 : decode cX2_copyRow 19 = .ok (.imul, 1) := dk_104 (dk_at dksX2_copyRow_0 19 rfl rfl)
theorem dX2_copyRow_20 : decode cX2_copyRow 20 = .ok (.iload 4, 2) := dk_21 4 (dk_at dksX2_copyRow_0 20 rfl rfl)
theorem dX2_copyRow_22 : decode cX2_copyRow 22 = .ok (.iadd, 1) := dk_96 (dk_at dksX2_copyRow_0 22 rfl rfl)
theorem dX2_copyRow_23 : decode cX2_copyRow 23 = .ok (.iaload, 1) := dk_46 (dk_at dksX2_copyRow_0 23 rfl rfl)
theorem dX2_copyRow_24 : decode cX2_copyRow 24 = .ok (.iastore, 1) := dk_79 (dk_at dksX2_copyRow_1 0 rfl rfl)
theorem dX2_copyRow_25 : decode cX2_copyRow 25 = .ok (.iinc 4 1, 3) := dk_132 4 1 (dk_at dksX2_copyRow_1 1 rfl rfl)
theorem dX2_copyRow_28 : decode cX2_copyRow 28 = .ok (.goto (-25), 3) := dk_167 255 231 (dk_at dksX2_copyRow_1 4 rfl rfl)
theorem dX2_copyRow_31 : decode cX2_copyRow 31 = .ok (.return_, 1) := dk_177 (dk_at dksX2_copyRow_1 7 rfl rfl)
abbrev cX2_again : ByteArray := prog_25_method_129_code
def yX2_again : MethodName := ⟨RX2, "again", "(I)Z"⟩
def dkwX2_again_1 : List UInt8 := [172, 42, 27, 4, 96, 3, 182, 1, 227, 4, 172]
abbrev dktX2_again_1 : List UInt8 := dkwX2_again_1 ++ []
def dkwX2_again_0 : List UInt8 := [42, 3, 181, 0, 60, 27, 3, 5, 184, 0, 72, 153, 0, 12, 42, 180, 0, 56, 27, 51, 154, 0, 5, 3]
abbrev dktX2_again_0 : List UInt8 := dkwX2_again_0 ++ dktX2_again_1
theorem dksX2_again_0 : cX2_again.data.toList.drop 0 = dktX2_again_0 := by decide +kernel
theorem dksX2_again_1 : cX2_again.data.toList.drop 24 = dktX2_again_1 := dk_seg dksX2_again_0 24 rfl rfl
theorem dX2_again_0 : decode cX2_again 0 = .ok (.aload_n 0, 1) := dk_42 (dk_at dksX2_again_0 0 rfl rfl)
theorem dX2_again_1 : decode cX2_again 1 = .ok (.iconst 0, 1) := dk_3 (dk_at dksX2_again_0 1 rfl rfl)
theorem dX2_again_2 : decode cX2_again 2 = .ok (.putfield 60, 3) := dk_181 0 60 (dk_at dksX2_again_0 2 rfl rfl)
theorem dX2_again_5 : decode cX2_again 5 = .ok (.iload_n 1, 1) := dk_27 (dk_at dksX2_again_0 5 rfl rfl)
theorem dX2_again_6 : decode cX2_again 6 = .ok (.iconst 0, 1) := dk_3 (dk_at dksX2_again_0 6 rfl rfl)
theorem dX2_again_7 : decode cX2_again 7 = .ok (.iconst 2, 1) := dk_5 (dk_at dksX2_again_0 7 rfl rfl)
theorem dX2_again_8 : decode cX2_again 8 = .ok (.invokestatic 72, 3) := dk_184 0 72 (dk_at dksX2_again_0 8 rfl rfl)
theorem dX2_again_11 : decode cX2_again 11 = .ok (.ifCond .eq 12, 3) := dk_153 0 12 (dk_at dksX2_again_0 11 rfl rfl)
theorem dX2_again_14 : decode cX2_again 14 = .ok (.aload_n 0, 1) := dk_42 (dk_at dksX2_again_0 14 rfl rfl)
theorem dX2_again_15 : decode cX2_again 15 = .ok (.getfield 56, 3) := dk_180 0 56 (dk_at dksX2_again_0 15 rfl rfl)
theorem dX2_again_18 : decode cX2_again 18 = .ok (.iload_n 1, 1) := dk_27 (dk_at dksX2_again_0 18 rfl rfl)
theorem dX2_again_19 : decode cX2_again 19 = .ok (.baload, 1) := dk_51 (dk_at dksX2_again_0 19 rfl rfl)
theorem dX2_again_20 : decode cX2_again 20 = .ok (.ifCond .ne 5, 3) := dk_154 0 5 (dk_at dksX2_again_0 20 rfl rfl)
theorem dX2_again_23 : decode cX2_again 23 = .ok (.iconst 0, 1) := dk_3 (dk_at dksX2_again_0 23 rfl rfl)
theorem dX2_again_24 : decode cX2_again 24 = .ok (.ireturn, 1) := dk_172 (dk_at dksX2_again_1 0 rfl rfl)
theorem dX2_again_25 : decode cX2_again 25 = .ok (.aload_n 0, 1) := dk_42 (dk_at dksX2_again_1 1 rfl rfl)
theorem dX2_again_26 : decode cX2_again 26 = .ok (.iload_n 1, 1) := dk_27 (dk_at dksX2_again_1 2 rfl rfl)
theorem dX2_again_27 : decode cX2_again 27 = .ok (.iconst 1, 1) := dk_4 (dk_at dksX2_again_1 3 rfl rfl)
theorem dX2_again_28 : decode cX2_again 28 = .ok (.iadd, 1) := dk_96 (dk_at dksX2_again_1 4 rfl rfl)
theorem dX2_again_29 : decode cX2_again 29 = .ok (.iconst 0, 1) := dk_3 (dk_at dksX2_again_1 5 rfl rfl)
theorem dX2_again_30 : decode cX2_again 30 = .ok (.invokevirtual 483, 3) := dk_182 1 227 (dk_at dksX2_again_1 6 rfl rfl)
theorem dX2_again_33 : decode cX2_again 33 = .ok (.iconst 1, 1) := dk_4 (dk_at dksX2_again_1 9 rfl rfl)
theorem dX2_again_34 : decode cX2_again 34 = .ok (.ireturn, 1) := dk_172 (dk_at dksX2_again_1 10 rfl rfl)
theorem q139 : (Jvm.Cond.initialized "VersionSearchModel") ∈ lw_all := lw_g (lw_at lw_m1 6 rfl) rfl
theorem q807 : (Jvm.Cond.selects "VersionSearchModel" ({ cls := "java/lang/Object", name := "getClass", desc := "()Ljava/lang/Class;" } : Jvm.MethodName) ({ cls := "java/lang/Object", name := "getClass", desc := "()Ljava/lang/Class;" } : Jvm.MethodName)) ∈ lw_all := lw_g (lw_at lw_m3 194 rfl) rfl
theorem q2572 : (Jvm.Cond.instantiable "VersionSearchModel" (37 : Nat)) ∈ lw_all := lw_g (lw_at lw_m11 39 rfl) rfl
theorem q2574 : (Jvm.Cond.instanceMethod ({ cls := "VersionSearchModel", name := "<init>", desc := "()V" } : Jvm.MethodName)) ∈ lw_all := lw_g (lw_at lw_m11 41 rfl) rfl
theorem q2575 : (Jvm.Cond.code ({ cls := "VersionSearchModel", name := "<init>", desc := "()V" } : Jvm.MethodName) prog_25_method_1_code (1 : Nat) (Option.none : Option Jvm.ClassFile.FieldType)) ∈ lw_all := lw_g (lw_at lw_m11 42 rfl) rfl
theorem q2576 : (Jvm.Cond.methodLink "VersionSearchModel" (1 : Nat) ({ cls := "java/lang/Object", name := "<init>", desc := "()V" } : Jvm.MethodName)) ∈ lw_all := lw_g (lw_at lw_m11 43 rfl) rfl
theorem q2577 : (Jvm.Cond.fieldLink "VersionSearchModel" (60 : Nat) "VersionSearchModel" "code" "I") ∈ lw_all := lw_g (lw_at lw_m11 44 rfl) rfl
theorem q2578 : (Jvm.Cond.fieldLink "VersionSearchModel" (7 : Nat) "VersionSearchModel" "tape" "[B") ∈ lw_all := lw_g (lw_at lw_m11 45 rfl) rfl
theorem q2579 : (Jvm.Cond.fieldLink "VersionSearchModel" (13 : Nat) "VersionSearchModel" "size" "[I") ∈ lw_all := lw_g (lw_at lw_m11 46 rfl) rfl
theorem q2580 : (Jvm.Cond.fieldLink "VersionSearchModel" (17 : Nat) "VersionSearchModel" "fault" "[I") ∈ lw_all := lw_g (lw_at lw_m11 47 rfl) rfl
theorem q2581 : (Jvm.Cond.fieldLink "VersionSearchModel" (20 : Nat) "VersionSearchModel" "faultPlace" "[I") ∈ lw_all := lw_g (lw_at lw_m11 48 rfl) rfl
theorem q2582 : (Jvm.Cond.fieldLink "VersionSearchModel" (23 : Nat) "VersionSearchModel" "many" "[I") ∈ lw_all := lw_g (lw_at lw_m11 49 rfl) rfl
theorem q2583 : (Jvm.Cond.fieldLink "VersionSearchModel" (26 : Nat) "VersionSearchModel" "archives" "[I") ∈ lw_all := lw_g (lw_at lw_m11 50 rfl) rfl
theorem q2584 : (Jvm.Cond.fieldLink "VersionSearchModel" (29 : Nat) "VersionSearchModel" "askings" "[I") ∈ lw_all := lw_g (lw_at lw_m11 51 rfl) rfl
theorem q2585 : (Jvm.Cond.fieldLink "VersionSearchModel" (32 : Nat) "VersionSearchModel" "hunts" "[I") ∈ lw_all := lw_g (lw_at lw_m11 52 rfl) rfl
theorem q2586 : (Jvm.Cond.fieldLink "VersionSearchModel" (80 : Nat) "VersionSearchModel" "reached" "I") ∈ lw_all := lw_g (lw_at lw_m11 53 rfl) rfl
theorem q2587 : (Jvm.Cond.fieldLink "VersionSearchModel" (83 : Nat) "VersionSearchModel" "length" "I") ∈ lw_all := lw_g (lw_at lw_m11 54 rfl) rfl
theorem q2588 : (Jvm.Cond.fieldLink "VersionSearchModel" (90 : Nat) "VersionSearchModel" "begins" "I") ∈ lw_all := lw_g (lw_at lw_m11 55 rfl) rfl
theorem q2589 : (Jvm.Cond.fieldLink "VersionSearchModel" (97 : Nat) "VersionSearchModel" "sort" "I") ∈ lw_all := lw_g (lw_at lw_m11 56 rfl) rfl
theorem q2590 : (Jvm.Cond.fieldLink "VersionSearchModel" (100 : Nat) "VersionSearchModel" "value" "I") ∈ lw_all := lw_g (lw_at lw_m11 57 rfl) rfl
theorem q2591 : (Jvm.Cond.fieldLink "VersionSearchModel" (93 : Nat) "VersionSearchModel" "word" "J") ∈ lw_all := lw_g (lw_at lw_m11 58 rfl) rfl
theorem q2592 : (Jvm.Cond.fieldLink "VersionSearchModel" (103 : Nat) "VersionSearchModel" "wrongAt" "I") ∈ lw_all := lw_g (lw_at lw_m11 59 rfl) rfl
theorem q2593 : (Jvm.Cond.fieldLink "VersionSearchModel" (106 : Nat) "VersionSearchModel" "laterFault" "I") ∈ lw_all := lw_g (lw_at lw_m11 60 rfl) rfl
theorem q2594 : (Jvm.Cond.fieldLink "VersionSearchModel" (109 : Nat) "VersionSearchModel" "laterPlace" "I") ∈ lw_all := lw_g (lw_at lw_m11 61 rfl) rfl
theorem q2595 : (Jvm.Cond.fieldLink "VersionSearchModel" (35 : Nat) "VersionSearchModel" "told" "[I") ∈ lw_all := lw_g (lw_at lw_m11 62 rfl) rfl
theorem q2596 : (Jvm.Cond.fieldLink "VersionSearchModel" (38 : Nat) "VersionSearchModel" "read" "[I") ∈ lw_all := lw_g (lw_at lw_m11 63 rfl) rfl
theorem q2597 : (Jvm.Cond.fieldLink "VersionSearchModel" (41 : Nat) "VersionSearchModel" "readWords" "[I") ∈ lw_all := lw_g (lw_at lw_m11 64 rfl) rfl
theorem q2598 : (Jvm.Cond.fieldLink "VersionSearchModel" (129 : Nat) "VersionSearchModel" "wordsRead" "I") ∈ lw_all := lw_g (lw_at lw_m11 65 rfl) rfl
theorem q2599 : (Jvm.Cond.fieldLink "VersionSearchModel" (120 : Nat) "VersionSearchModel" "good" "Z") ∈ lw_all := lw_g (lw_at lw_m11 66 rfl) rfl
theorem q2600 : (Jvm.Cond.fieldLink "VersionSearchModel" (143 : Nat) "VersionSearchModel" "line" "I") ∈ lw_all := lw_g (lw_at lw_m11 67 rfl) rfl
theorem q2601 : (Jvm.Cond.fieldLink "VersionSearchModel" (253 : Nat) "VersionSearchModel" "tokens" "I") ∈ lw_all := lw_g (lw_at lw_m11 68 rfl) rfl
theorem q2602 : (Jvm.Cond.fieldLink "VersionSearchModel" (337 : Nat) "VersionSearchModel" "wordsAll" "I") ∈ lw_all := lw_g (lw_at lw_m11 69 rfl) rfl
theorem q2603 : (Jvm.Cond.fieldLink "VersionSearchModel" (44 : Nat) "VersionSearchModel" "words" "[I") ∈ lw_all := lw_g (lw_at lw_m11 70 rfl) rfl
theorem q2604 : (Jvm.Cond.fieldLink "VersionSearchModel" (47 : Nat) "VersionSearchModel" "same" "[I") ∈ lw_all := lw_g (lw_at lw_m11 71 rfl) rfl
theorem q2605 : (Jvm.Cond.fieldLink "VersionSearchModel" (368 : Nat) "VersionSearchModel" "asking" "I") ∈ lw_all := lw_g (lw_at lw_m11 72 rfl) rfl
theorem q2606 : (Jvm.Cond.fieldLink "VersionSearchModel" (50 : Nat) "VersionSearchModel" "held" "[I") ∈ lw_all := lw_g (lw_at lw_m11 73 rfl) rfl
theorem q2607 : (Jvm.Cond.fieldLink "VersionSearchModel" (428 : Nat) "VersionSearchModel" "hunt" "I") ∈ lw_all := lw_g (lw_at lw_m11 74 rfl) rfl
theorem q2608 : (Jvm.Cond.fieldLink "VersionSearchModel" (440 : Nat) "VersionSearchModel" "fit" "I") ∈ lw_all := lw_g (lw_at lw_m11 75 rfl) rfl
theorem q2609 : (Jvm.Cond.fieldLink "VersionSearchModel" (443 : Nat) "VersionSearchModel" "asked" "I") ∈ lw_all := lw_g (lw_at lw_m11 76 rfl) rfl
theorem q2610 : (Jvm.Cond.fieldLink "VersionSearchModel" (446 : Nat) "VersionSearchModel" "firsts" "I") ∈ lw_all := lw_g (lw_at lw_m11 77 rfl) rfl
theorem q2611 : (Jvm.Cond.fieldLink "VersionSearchModel" (53 : Nat) "VersionSearchModel" "seen" "[I") ∈ lw_all := lw_g (lw_at lw_m11 78 rfl) rfl
theorem q2612 : (Jvm.Cond.fieldLink "VersionSearchModel" (464 : Nat) "VersionSearchModel" "seed" "I") ∈ lw_all := lw_g (lw_at lw_m11 79 rfl) rfl
theorem q2613 : (Jvm.Cond.fieldLink "VersionSearchModel" (56 : Nat) "VersionSearchModel" "saved" "[Z") ∈ lw_all := lw_g (lw_at lw_m11 80 rfl) rfl
theorem q2614 : (Jvm.Cond.lays "VersionSearchModel" "VersionSearchModel" "code" "I") ∈ lw_all := lw_g (lw_at lw_m11 81 rfl) rfl
theorem q2615 : (Jvm.Cond.soleField "VersionSearchModel" "code") ∈ lw_all := lw_g (lw_at lw_m11 82 rfl) rfl
theorem q2616 : (Jvm.Cond.laysFinal "VersionSearchModel" "VersionSearchModel" "tape" "[B") ∈ lw_all := lw_g (lw_at lw_m11 83 rfl) rfl
theorem q2617 : (Jvm.Cond.soleField "VersionSearchModel" "tape") ∈ lw_all := lw_g (lw_at lw_m11 84 rfl) rfl
theorem q2618 : (Jvm.Cond.laysFinal "VersionSearchModel" "VersionSearchModel" "size" "[I") ∈ lw_all := lw_g (lw_at lw_m11 85 rfl) rfl
theorem q2619 : (Jvm.Cond.soleField "VersionSearchModel" "size") ∈ lw_all := lw_g (lw_at lw_m11 86 rfl) rfl
theorem q2620 : (Jvm.Cond.laysFinal "VersionSearchModel" "VersionSearchModel" "fault" "[I") ∈ lw_all := lw_g (lw_at lw_m11 87 rfl) rfl
theorem q2621 : (Jvm.Cond.soleField "VersionSearchModel" "fault") ∈ lw_all := lw_g (lw_at lw_m11 88 rfl) rfl
theorem q2622 : (Jvm.Cond.laysFinal "VersionSearchModel" "VersionSearchModel" "faultPlace" "[I") ∈ lw_all := lw_g (lw_at lw_m11 89 rfl) rfl
theorem q2623 : (Jvm.Cond.soleField "VersionSearchModel" "faultPlace") ∈ lw_all := lw_g (lw_at lw_m11 90 rfl) rfl
theorem q2624 : (Jvm.Cond.laysFinal "VersionSearchModel" "VersionSearchModel" "many" "[I") ∈ lw_all := lw_g (lw_at lw_m11 91 rfl) rfl
theorem q2625 : (Jvm.Cond.soleField "VersionSearchModel" "many") ∈ lw_all := lw_g (lw_at lw_m11 92 rfl) rfl
theorem q2626 : (Jvm.Cond.laysFinal "VersionSearchModel" "VersionSearchModel" "archives" "[I") ∈ lw_all := lw_g (lw_at lw_m11 93 rfl) rfl
theorem q2627 : (Jvm.Cond.soleField "VersionSearchModel" "archives") ∈ lw_all := lw_g (lw_at lw_m11 94 rfl) rfl
theorem q2628 : (Jvm.Cond.laysFinal "VersionSearchModel" "VersionSearchModel" "askings" "[I") ∈ lw_all := lw_g (lw_at lw_m11 95 rfl) rfl
theorem q2629 : (Jvm.Cond.soleField "VersionSearchModel" "askings") ∈ lw_all := lw_g (lw_at lw_m11 96 rfl) rfl
theorem q2630 : (Jvm.Cond.laysFinal "VersionSearchModel" "VersionSearchModel" "hunts" "[I") ∈ lw_all := lw_g (lw_at lw_m11 97 rfl) rfl
theorem q2631 : (Jvm.Cond.soleField "VersionSearchModel" "hunts") ∈ lw_all := lw_g (lw_at lw_m11 98 rfl) rfl
theorem q2632 : (Jvm.Cond.lays "VersionSearchModel" "VersionSearchModel" "reached" "I") ∈ lw_all := lw_g (lw_at lw_m11 99 rfl) rfl
theorem q2633 : (Jvm.Cond.soleField "VersionSearchModel" "reached") ∈ lw_all := lw_g (lw_at lw_m11 100 rfl) rfl
theorem q2634 : (Jvm.Cond.lays "VersionSearchModel" "VersionSearchModel" "length" "I") ∈ lw_all := lw_g (lw_at lw_m11 101 rfl) rfl
theorem q2635 : (Jvm.Cond.soleField "VersionSearchModel" "length") ∈ lw_all := lw_g (lw_at lw_m11 102 rfl) rfl
theorem q2636 : (Jvm.Cond.lays "VersionSearchModel" "VersionSearchModel" "begins" "I") ∈ lw_all := lw_g (lw_at lw_m11 103 rfl) rfl
theorem q2637 : (Jvm.Cond.soleField "VersionSearchModel" "begins") ∈ lw_all := lw_g (lw_at lw_m11 104 rfl) rfl
theorem q2638 : (Jvm.Cond.lays "VersionSearchModel" "VersionSearchModel" "sort" "I") ∈ lw_all := lw_g (lw_at lw_m11 105 rfl) rfl
theorem q2639 : (Jvm.Cond.soleField "VersionSearchModel" "sort") ∈ lw_all := lw_g (lw_at lw_m11 106 rfl) rfl
theorem q2640 : (Jvm.Cond.lays "VersionSearchModel" "VersionSearchModel" "value" "I") ∈ lw_all := lw_g (lw_at lw_m11 107 rfl) rfl
theorem q2641 : (Jvm.Cond.soleField "VersionSearchModel" "value") ∈ lw_all := lw_g (lw_at lw_m11 108 rfl) rfl
theorem q2642 : (Jvm.Cond.lays "VersionSearchModel" "VersionSearchModel" "word" "J") ∈ lw_all := lw_g (lw_at lw_m11 109 rfl) rfl
theorem q2643 : (Jvm.Cond.soleField "VersionSearchModel" "word") ∈ lw_all := lw_g (lw_at lw_m11 110 rfl) rfl
theorem q2644 : (Jvm.Cond.lays "VersionSearchModel" "VersionSearchModel" "wrongAt" "I") ∈ lw_all := lw_g (lw_at lw_m11 111 rfl) rfl
theorem q2645 : (Jvm.Cond.soleField "VersionSearchModel" "wrongAt") ∈ lw_all := lw_g (lw_at lw_m11 112 rfl) rfl
theorem q2646 : (Jvm.Cond.lays "VersionSearchModel" "VersionSearchModel" "laterFault" "I") ∈ lw_all := lw_g (lw_at lw_m11 113 rfl) rfl
theorem q2647 : (Jvm.Cond.soleField "VersionSearchModel" "laterFault") ∈ lw_all := lw_g (lw_at lw_m11 114 rfl) rfl
theorem q2648 : (Jvm.Cond.lays "VersionSearchModel" "VersionSearchModel" "laterPlace" "I") ∈ lw_all := lw_g (lw_at lw_m11 115 rfl) rfl
theorem q2649 : (Jvm.Cond.soleField "VersionSearchModel" "laterPlace") ∈ lw_all := lw_g (lw_at lw_m11 116 rfl) rfl
theorem q2650 : (Jvm.Cond.laysFinal "VersionSearchModel" "VersionSearchModel" "told" "[I") ∈ lw_all := lw_g (lw_at lw_m11 117 rfl) rfl
theorem q2651 : (Jvm.Cond.soleField "VersionSearchModel" "told") ∈ lw_all := lw_g (lw_at lw_m11 118 rfl) rfl
theorem q2652 : (Jvm.Cond.laysFinal "VersionSearchModel" "VersionSearchModel" "read" "[I") ∈ lw_all := lw_g (lw_at lw_m11 119 rfl) rfl
theorem q2653 : (Jvm.Cond.soleField "VersionSearchModel" "read") ∈ lw_all := lw_g (lw_at lw_m11 120 rfl) rfl
theorem q2654 : (Jvm.Cond.laysFinal "VersionSearchModel" "VersionSearchModel" "readWords" "[I") ∈ lw_all := lw_g (lw_at lw_m11 121 rfl) rfl
theorem q2655 : (Jvm.Cond.soleField "VersionSearchModel" "readWords") ∈ lw_all := lw_g (lw_at lw_m11 122 rfl) rfl
theorem q2656 : (Jvm.Cond.lays "VersionSearchModel" "VersionSearchModel" "wordsRead" "I") ∈ lw_all := lw_g (lw_at lw_m11 123 rfl) rfl
theorem q2657 : (Jvm.Cond.soleField "VersionSearchModel" "wordsRead") ∈ lw_all := lw_g (lw_at lw_m11 124 rfl) rfl
theorem q2658 : (Jvm.Cond.lays "VersionSearchModel" "VersionSearchModel" "good" "Z") ∈ lw_all := lw_g (lw_at lw_m11 125 rfl) rfl
theorem q2659 : (Jvm.Cond.soleField "VersionSearchModel" "good") ∈ lw_all := lw_g (lw_at lw_m11 126 rfl) rfl
theorem q2660 : (Jvm.Cond.lays "VersionSearchModel" "VersionSearchModel" "line" "I") ∈ lw_all := lw_g (lw_at lw_m11 127 rfl) rfl
theorem q2661 : (Jvm.Cond.soleField "VersionSearchModel" "line") ∈ lw_all := lw_g (lw_at lw_m11 128 rfl) rfl
theorem q2662 : (Jvm.Cond.lays "VersionSearchModel" "VersionSearchModel" "tokens" "I") ∈ lw_all := lw_g (lw_at lw_m11 129 rfl) rfl
theorem q2663 : (Jvm.Cond.soleField "VersionSearchModel" "tokens") ∈ lw_all := lw_g (lw_at lw_m11 130 rfl) rfl
theorem q2664 : (Jvm.Cond.lays "VersionSearchModel" "VersionSearchModel" "wordsAll" "I") ∈ lw_all := lw_g (lw_at lw_m11 131 rfl) rfl
theorem q2665 : (Jvm.Cond.soleField "VersionSearchModel" "wordsAll") ∈ lw_all := lw_g (lw_at lw_m11 132 rfl) rfl
theorem q2666 : (Jvm.Cond.laysFinal "VersionSearchModel" "VersionSearchModel" "words" "[I") ∈ lw_all := lw_g (lw_at lw_m11 133 rfl) rfl
theorem q2667 : (Jvm.Cond.soleField "VersionSearchModel" "words") ∈ lw_all := lw_g (lw_at lw_m11 134 rfl) rfl
theorem q2668 : (Jvm.Cond.laysFinal "VersionSearchModel" "VersionSearchModel" "same" "[I") ∈ lw_all := lw_g (lw_at lw_m11 135 rfl) rfl
theorem q2669 : (Jvm.Cond.soleField "VersionSearchModel" "same") ∈ lw_all := lw_g (lw_at lw_m11 136 rfl) rfl
theorem q2670 : (Jvm.Cond.lays "VersionSearchModel" "VersionSearchModel" "asking" "I") ∈ lw_all := lw_g (lw_at lw_m11 137 rfl) rfl
theorem q2671 : (Jvm.Cond.soleField "VersionSearchModel" "asking") ∈ lw_all := lw_g (lw_at lw_m11 138 rfl) rfl
theorem q2672 : (Jvm.Cond.laysFinal "VersionSearchModel" "VersionSearchModel" "held" "[I") ∈ lw_all := lw_g (lw_at lw_m11 139 rfl) rfl
theorem q2673 : (Jvm.Cond.soleField "VersionSearchModel" "held") ∈ lw_all := lw_g (lw_at lw_m11 140 rfl) rfl
theorem q2674 : (Jvm.Cond.lays "VersionSearchModel" "VersionSearchModel" "hunt" "I") ∈ lw_all := lw_g (lw_at lw_m11 141 rfl) rfl
theorem q2675 : (Jvm.Cond.soleField "VersionSearchModel" "hunt") ∈ lw_all := lw_g (lw_at lw_m11 142 rfl) rfl
theorem q2676 : (Jvm.Cond.lays "VersionSearchModel" "VersionSearchModel" "fit" "I") ∈ lw_all := lw_g (lw_at lw_m11 143 rfl) rfl
theorem q2677 : (Jvm.Cond.soleField "VersionSearchModel" "fit") ∈ lw_all := lw_g (lw_at lw_m11 144 rfl) rfl
theorem q2678 : (Jvm.Cond.lays "VersionSearchModel" "VersionSearchModel" "asked" "I") ∈ lw_all := lw_g (lw_at lw_m11 145 rfl) rfl
theorem q2679 : (Jvm.Cond.soleField "VersionSearchModel" "asked") ∈ lw_all := lw_g (lw_at lw_m11 146 rfl) rfl
theorem q2680 : (Jvm.Cond.lays "VersionSearchModel" "VersionSearchModel" "firsts" "I") ∈ lw_all := lw_g (lw_at lw_m11 147 rfl) rfl
theorem q2681 : (Jvm.Cond.soleField "VersionSearchModel" "firsts") ∈ lw_all := lw_g (lw_at lw_m11 148 rfl) rfl
theorem q2682 : (Jvm.Cond.laysFinal "VersionSearchModel" "VersionSearchModel" "seen" "[I") ∈ lw_all := lw_g (lw_at lw_m11 149 rfl) rfl
theorem q2683 : (Jvm.Cond.soleField "VersionSearchModel" "seen") ∈ lw_all := lw_g (lw_at lw_m11 150 rfl) rfl
theorem q2684 : (Jvm.Cond.lays "VersionSearchModel" "VersionSearchModel" "seed" "I") ∈ lw_all := lw_g (lw_at lw_m11 151 rfl) rfl
theorem q2685 : (Jvm.Cond.soleField "VersionSearchModel" "seed") ∈ lw_all := lw_g (lw_at lw_m11 152 rfl) rfl
theorem q2686 : (Jvm.Cond.laysFinal "VersionSearchModel" "VersionSearchModel" "saved" "[Z") ∈ lw_all := lw_g (lw_at lw_m11 153 rfl) rfl
theorem q2687 : (Jvm.Cond.soleField "VersionSearchModel" "saved") ∈ lw_all := lw_g (lw_at lw_m11 154 rfl) rfl
theorem q2688 : (Jvm.Cond.superclass "VersionSearchModel" "java/lang/Object") ∈ lw_all := lw_g (lw_at lw_m11 155 rfl) rfl
theorem q2691 : (Jvm.Cond.instanceMethod ({ cls := "VersionSearchModel", name := "feed", desc := "(IIIII)I" } : Jvm.MethodName)) ∈ lw_all := lw_g (lw_at lw_m11 158 rfl) rfl
theorem q2692 : (Jvm.Cond.selects "VersionSearchModel" ({ cls := "VersionSearchModel", name := "feed", desc := "(IIIII)I" } : Jvm.MethodName) ({ cls := "VersionSearchModel", name := "feed", desc := "(IIIII)I" } : Jvm.MethodName)) ∈ lw_all := lw_g (lw_at lw_m11 159 rfl) rfl
theorem q2693 : (Jvm.Cond.code ({ cls := "VersionSearchModel", name := "feed", desc := "(IIIII)I" } : Jvm.MethodName) prog_25_method_11_code (6 : Nat) (Option.some Jvm.ClassFile.FieldType.int)) ∈ lw_all := lw_g (lw_at lw_m11 160 rfl) rfl
theorem q2694 : (Jvm.Cond.methodLink "VersionSearchModel" (76 : Nat) ({ cls := "VersionSearchModel", name := "four", desc := "(I)V" } : Jvm.MethodName)) ∈ lw_all := lw_g (lw_at lw_m11 161 rfl) rfl
theorem q2695 : (Jvm.Cond.privateMethod ({ cls := "VersionSearchModel", name := "four", desc := "(I)V" } : Jvm.MethodName)) ∈ lw_tbl := lw_at lw_m11 162 rfl
theorem q2696 : (Jvm.Cond.instanceMethod ({ cls := "VersionSearchModel", name := "four", desc := "(I)V" } : Jvm.MethodName)) ∈ lw_all := lw_g (lw_at lw_m11 163 rfl) rfl
theorem q2697 : (Jvm.Cond.code ({ cls := "VersionSearchModel", name := "four", desc := "(I)V" } : Jvm.MethodName) prog_25_method_12_code (3 : Nat) (Option.none : Option Jvm.ClassFile.FieldType)) ∈ lw_all := lw_g (lw_at lw_m11 164 rfl) rfl
theorem q2699 : (Jvm.Cond.instanceMethod ({ cls := "VersionSearchModel", name := "end", desc := "(I)I" } : Jvm.MethodName)) ∈ lw_all := lw_g (lw_at lw_m11 166 rfl) rfl
theorem q2700 : (Jvm.Cond.selects "VersionSearchModel" ({ cls := "VersionSearchModel", name := "end", desc := "(I)I" } : Jvm.MethodName) ({ cls := "VersionSearchModel", name := "end", desc := "(I)I" } : Jvm.MethodName)) ∈ lw_all := lw_g (lw_at lw_m11 167 rfl) rfl
theorem q2701 : (Jvm.Cond.code ({ cls := "VersionSearchModel", name := "end", desc := "(I)I" } : Jvm.MethodName) prog_25_method_13_code (2 : Nat) (Option.some Jvm.ClassFile.FieldType.int)) ∈ lw_all := lw_g (lw_at lw_m11 168 rfl) rfl
theorem q2702 : (Jvm.Cond.methodLink "VersionSearchModel" (72 : Nat) ({ cls := "VersionSearchModel", name := "in", desc := "(III)Z" } : Jvm.MethodName)) ∈ lw_all := lw_g (lw_at lw_m11 169 rfl) rfl
theorem q2703 : (Jvm.Cond.static ({ cls := "VersionSearchModel", name := "in", desc := "(III)Z" } : Jvm.MethodName)) ∈ lw_all := lw_g (lw_at lw_m11 170 rfl) rfl
theorem q2704 : (Jvm.Cond.code ({ cls := "VersionSearchModel", name := "in", desc := "(III)Z" } : Jvm.MethodName) prog_25_method_3_code (3 : Nat) (Option.some Jvm.ClassFile.FieldType.boolean)) ∈ lw_all := lw_g (lw_at lw_m11 171 rfl) rfl
theorem q2706 : (Jvm.Cond.instanceMethod ({ cls := "VersionSearchModel", name := "text", desc := "(II)I" } : Jvm.MethodName)) ∈ lw_all := lw_g (lw_at lw_m11 173 rfl) rfl
theorem q2707 : (Jvm.Cond.selects "VersionSearchModel" ({ cls := "VersionSearchModel", name := "text", desc := "(II)I" } : Jvm.MethodName) ({ cls := "VersionSearchModel", name := "text", desc := "(II)I" } : Jvm.MethodName)) ∈ lw_all := lw_g (lw_at lw_m11 174 rfl) rfl
theorem q2708 : (Jvm.Cond.code ({ cls := "VersionSearchModel", name := "text", desc := "(II)I" } : Jvm.MethodName) prog_25_method_43_code (4 : Nat) (Option.some Jvm.ClassFile.FieldType.int)) ∈ lw_all := lw_g (lw_at lw_m11 175 rfl) rfl
theorem q2709 : (Jvm.Cond.methodLink "VersionSearchModel" (243 : Nat) ({ cls := "VersionSearchModel", name := "is", desc := "(II)Z" } : Jvm.MethodName)) ∈ lw_all := lw_g (lw_at lw_m11 176 rfl) rfl
theorem q2710 : (Jvm.Cond.privateMethod ({ cls := "VersionSearchModel", name := "is", desc := "(II)Z" } : Jvm.MethodName)) ∈ lw_tbl := lw_at lw_m11 177 rfl
theorem q2711 : (Jvm.Cond.instanceMethod ({ cls := "VersionSearchModel", name := "is", desc := "(II)Z" } : Jvm.MethodName)) ∈ lw_all := lw_g (lw_at lw_m11 178 rfl) rfl
theorem q2712 : (Jvm.Cond.code ({ cls := "VersionSearchModel", name := "is", desc := "(II)Z" } : Jvm.MethodName) prog_25_method_10_code (3 : Nat) (Option.some Jvm.ClassFile.FieldType.boolean)) ∈ lw_all := lw_g (lw_at lw_m11 179 rfl) rfl
theorem q2713 : (Jvm.Cond.methodLink "VersionSearchModel" (246 : Nat) ({ cls := "VersionSearchModel", name := "readText", desc := "(I)Z" } : Jvm.MethodName)) ∈ lw_all := lw_g (lw_at lw_m11 180 rfl) rfl
theorem q2714 : (Jvm.Cond.privateMethod ({ cls := "VersionSearchModel", name := "readText", desc := "(I)Z" } : Jvm.MethodName)) ∈ lw_tbl := lw_at lw_m11 181 rfl
theorem q2715 : (Jvm.Cond.instanceMethod ({ cls := "VersionSearchModel", name := "readText", desc := "(I)Z" } : Jvm.MethodName)) ∈ lw_all := lw_g (lw_at lw_m11 182 rfl) rfl
theorem q2716 : (Jvm.Cond.code ({ cls := "VersionSearchModel", name := "readText", desc := "(I)Z" } : Jvm.MethodName) prog_25_method_41_code (3 : Nat) (Option.some Jvm.ClassFile.FieldType.boolean)) ∈ lw_all := lw_g (lw_at lw_m11 183 rfl) rfl
theorem q2717 : (Jvm.Cond.methodLink "VersionSearchModel" (124 : Nat) ({ cls := "VersionSearchModel", name := "token", desc := "()V" } : Jvm.MethodName)) ∈ lw_all := lw_g (lw_at lw_m11 184 rfl) rfl
theorem q2718 : (Jvm.Cond.privateMethod ({ cls := "VersionSearchModel", name := "token", desc := "()V" } : Jvm.MethodName)) ∈ lw_tbl := lw_at lw_m11 185 rfl
theorem q2719 : (Jvm.Cond.instanceMethod ({ cls := "VersionSearchModel", name := "token", desc := "()V" } : Jvm.MethodName)) ∈ lw_all := lw_g (lw_at lw_m11 186 rfl) rfl
theorem q2720 : (Jvm.Cond.code ({ cls := "VersionSearchModel", name := "token", desc := "()V" } : Jvm.MethodName) prog_25_method_15_code (3 : Nat) (Option.none : Option Jvm.ClassFile.FieldType)) ∈ lw_all := lw_g (lw_at lw_m11 187 rfl) rfl
theorem q2721 : (Jvm.Cond.methodLink "VersionSearchModel" (86 : Nat) ({ cls := "VersionSearchModel", name := "see", desc := "()I" } : Jvm.MethodName)) ∈ lw_all := lw_g (lw_at lw_m11 188 rfl) rfl
theorem q2722 : (Jvm.Cond.privateMethod ({ cls := "VersionSearchModel", name := "see", desc := "()I" } : Jvm.MethodName)) ∈ lw_tbl := lw_at lw_m11 189 rfl
theorem q2723 : (Jvm.Cond.instanceMethod ({ cls := "VersionSearchModel", name := "see", desc := "()I" } : Jvm.MethodName)) ∈ lw_all := lw_g (lw_at lw_m11 190 rfl) rfl
theorem q2724 : (Jvm.Cond.code ({ cls := "VersionSearchModel", name := "see", desc := "()I" } : Jvm.MethodName) prog_25_method_14_code (1 : Nat) (Option.some Jvm.ClassFile.FieldType.int)) ∈ lw_all := lw_g (lw_at lw_m11 191 rfl) rfl
theorem q2725 : (Jvm.Cond.methodLink "VersionSearchModel" (240 : Nat) ({ cls := "VersionSearchModel", name := "allLines", desc := "(I)Z" } : Jvm.MethodName)) ∈ lw_all := lw_g (lw_at lw_m11 192 rfl) rfl
theorem q2726 : (Jvm.Cond.privateMethod ({ cls := "VersionSearchModel", name := "allLines", desc := "(I)Z" } : Jvm.MethodName)) ∈ lw_tbl := lw_at lw_m11 193 rfl
theorem q2727 : (Jvm.Cond.instanceMethod ({ cls := "VersionSearchModel", name := "allLines", desc := "(I)Z" } : Jvm.MethodName)) ∈ lw_all := lw_g (lw_at lw_m11 194 rfl) rfl
theorem q2728 : (Jvm.Cond.code ({ cls := "VersionSearchModel", name := "allLines", desc := "(I)Z" } : Jvm.MethodName) prog_25_method_40_code (6 : Nat) (Option.some Jvm.ClassFile.FieldType.boolean)) ∈ lw_all := lw_g (lw_at lw_m11 195 rfl) rfl
theorem q2729 : (Jvm.Cond.methodLink "VersionSearchModel" (230 : Nat) ({ cls := "VersionSearchModel", name := "archiveLine", desc := "(JI)Z" } : Jvm.MethodName)) ∈ lw_all := lw_g (lw_at lw_m11 196 rfl) rfl
theorem q2730 : (Jvm.Cond.privateMethod ({ cls := "VersionSearchModel", name := "archiveLine", desc := "(JI)Z" } : Jvm.MethodName)) ∈ lw_tbl := lw_at lw_m11 197 rfl
theorem q2731 : (Jvm.Cond.instanceMethod ({ cls := "VersionSearchModel", name := "archiveLine", desc := "(JI)Z" } : Jvm.MethodName)) ∈ lw_all := lw_g (lw_at lw_m11 198 rfl) rfl
theorem q2732 : (Jvm.Cond.code ({ cls := "VersionSearchModel", name := "archiveLine", desc := "(JI)Z" } : Jvm.MethodName) prog_25_method_35_code (5 : Nat) (Option.some Jvm.ClassFile.FieldType.boolean)) ∈ lw_all := lw_g (lw_at lw_m11 199 rfl) rfl
theorem q2733 : (Jvm.Cond.methodLink "VersionSearchModel" (193 : Nat) ({ cls := "VersionSearchModel", name := "changeBy", desc := "(J)I" } : Jvm.MethodName)) ∈ lw_all := lw_g (lw_at lw_m11 200 rfl) rfl
theorem q2734 : (Jvm.Cond.privateMethod ({ cls := "VersionSearchModel", name := "changeBy", desc := "(J)I" } : Jvm.MethodName)) ∈ lw_tbl := lw_at lw_m11 201 rfl
theorem q2735 : (Jvm.Cond.instanceMethod ({ cls := "VersionSearchModel", name := "changeBy", desc := "(J)I" } : Jvm.MethodName)) ∈ lw_all := lw_g (lw_at lw_m11 202 rfl) rfl
theorem q2736 : (Jvm.Cond.code ({ cls := "VersionSearchModel", name := "changeBy", desc := "(J)I" } : Jvm.MethodName) prog_25_method_28_code (3 : Nat) (Option.some Jvm.ClassFile.FieldType.int)) ∈ lw_all := lw_g (lw_at lw_m11 203 rfl) rfl
theorem q2737 : (Jvm.Cond.constantLong "VersionSearchModel" (165 : Nat) (7370100 : Int64)) ∈ lw_all := lw_g (lw_at lw_m11 204 rfl) rfl
theorem q2738 : (Jvm.Cond.constantLong "VersionSearchModel" (167 : Nat) (6518132 : Int64)) ∈ lw_all := lw_g (lw_at lw_m11 205 rfl) rfl
theorem q2739 : (Jvm.Cond.constantLong "VersionSearchModel" (169 : Nat) (1836021349 : Int64)) ∈ lw_all := lw_g (lw_at lw_m11 206 rfl) rfl
theorem q2740 : (Jvm.Cond.constantLong "VersionSearchModel" (171 : Nat) (1650549611 : Int64)) ∈ lw_all := lw_g (lw_at lw_m11 207 rfl) rfl
theorem q2741 : (Jvm.Cond.constantLong "VersionSearchModel" (196 : Nat) (6582115 : Int64)) ∈ lw_all := lw_g (lw_at lw_m11 208 rfl) rfl
theorem q2742 : (Jvm.Cond.methodLink "VersionSearchModel" (198 : Nat) ({ cls := "VersionSearchModel", name := "docLine", desc := "(I)Z" } : Jvm.MethodName)) ∈ lw_all := lw_g (lw_at lw_m11 209 rfl) rfl
theorem q2743 : (Jvm.Cond.privateMethod ({ cls := "VersionSearchModel", name := "docLine", desc := "(I)Z" } : Jvm.MethodName)) ∈ lw_tbl := lw_at lw_m11 210 rfl
theorem q2744 : (Jvm.Cond.instanceMethod ({ cls := "VersionSearchModel", name := "docLine", desc := "(I)Z" } : Jvm.MethodName)) ∈ lw_all := lw_g (lw_at lw_m11 211 rfl) rfl
theorem q2745 : (Jvm.Cond.code ({ cls := "VersionSearchModel", name := "docLine", desc := "(I)Z" } : Jvm.MethodName) prog_25_method_27_code (4 : Nat) (Option.some Jvm.ClassFile.FieldType.boolean)) ∈ lw_all := lw_g (lw_at lw_m11 212 rfl) rfl
theorem q2746 : (Jvm.Cond.methodLink "VersionSearchModel" (116 : Nat) ({ cls := "VersionSearchModel", name := "addsFault", desc := "(II)V" } : Jvm.MethodName)) ∈ lw_all := lw_g (lw_at lw_m11 213 rfl) rfl
theorem q2747 : (Jvm.Cond.privateMethod ({ cls := "VersionSearchModel", name := "addsFault", desc := "(II)V" } : Jvm.MethodName)) ∈ lw_tbl := lw_at lw_m11 214 rfl
theorem q2748 : (Jvm.Cond.instanceMethod ({ cls := "VersionSearchModel", name := "addsFault", desc := "(II)V" } : Jvm.MethodName)) ∈ lw_all := lw_g (lw_at lw_m11 215 rfl) rfl
theorem q2749 : (Jvm.Cond.code ({ cls := "VersionSearchModel", name := "addsFault", desc := "(II)V" } : Jvm.MethodName) prog_25_method_17_code (3 : Nat) (Option.none : Option Jvm.ClassFile.FieldType)) ∈ lw_all := lw_g (lw_at lw_m11 216 rfl) rfl
theorem q2750 : (Jvm.Cond.methodLink "VersionSearchModel" (153 : Nat) ({ cls := "VersionSearchModel", name := "takeWords", desc := "(I)V" } : Jvm.MethodName)) ∈ lw_all := lw_g (lw_at lw_m11 217 rfl) rfl
theorem q2751 : (Jvm.Cond.privateMethod ({ cls := "VersionSearchModel", name := "takeWords", desc := "(I)V" } : Jvm.MethodName)) ∈ lw_tbl := lw_at lw_m11 218 rfl
theorem q2752 : (Jvm.Cond.instanceMethod ({ cls := "VersionSearchModel", name := "takeWords", desc := "(I)V" } : Jvm.MethodName)) ∈ lw_all := lw_g (lw_at lw_m11 219 rfl) rfl
theorem q2753 : (Jvm.Cond.code ({ cls := "VersionSearchModel", name := "takeWords", desc := "(I)V" } : Jvm.MethodName) prog_25_method_21_code (2 : Nat) (Option.none : Option Jvm.ClassFile.FieldType)) ∈ lw_all := lw_g (lw_at lw_m11 220 rfl) rfl
theorem q2754 : (Jvm.Cond.methodLink "VersionSearchModel" (136 : Nat) ({ cls := "VersionSearchModel", name := "takeWord", desc := "()Z" } : Jvm.MethodName)) ∈ lw_all := lw_g (lw_at lw_m11 221 rfl) rfl
theorem q2755 : (Jvm.Cond.privateMethod ({ cls := "VersionSearchModel", name := "takeWord", desc := "()Z" } : Jvm.MethodName)) ∈ lw_tbl := lw_at lw_m11 222 rfl
theorem q2756 : (Jvm.Cond.instanceMethod ({ cls := "VersionSearchModel", name := "takeWord", desc := "()Z" } : Jvm.MethodName)) ∈ lw_all := lw_g (lw_at lw_m11 223 rfl) rfl
theorem q2757 : (Jvm.Cond.code ({ cls := "VersionSearchModel", name := "takeWord", desc := "()Z" } : Jvm.MethodName) prog_25_method_20_code (1 : Nat) (Option.some Jvm.ClassFile.FieldType.boolean)) ∈ lw_all := lw_g (lw_at lw_m11 224 rfl) rfl
theorem q2758 : (Jvm.Cond.methodLink "VersionSearchModel" (112 : Nat) ({ cls := "VersionSearchModel", name := "fails", desc := "()Z" } : Jvm.MethodName)) ∈ lw_all := lw_g (lw_at lw_m11 225 rfl) rfl
theorem q2759 : (Jvm.Cond.privateMethod ({ cls := "VersionSearchModel", name := "fails", desc := "()Z" } : Jvm.MethodName)) ∈ lw_tbl := lw_at lw_m11 226 rfl
theorem q2760 : (Jvm.Cond.instanceMethod ({ cls := "VersionSearchModel", name := "fails", desc := "()Z" } : Jvm.MethodName)) ∈ lw_all := lw_g (lw_at lw_m11 227 rfl) rfl
theorem q2761 : (Jvm.Cond.code ({ cls := "VersionSearchModel", name := "fails", desc := "()Z" } : Jvm.MethodName) prog_25_method_16_code (1 : Nat) (Option.some Jvm.ClassFile.FieldType.boolean)) ∈ lw_all := lw_g (lw_at lw_m11 228 rfl) rfl
theorem q2762 : (Jvm.Cond.methodLink "VersionSearchModel" (132 : Nat) ({ cls := "VersionSearchModel", name := "numberOf", desc := "(J)I" } : Jvm.MethodName)) ∈ lw_all := lw_g (lw_at lw_m11 229 rfl) rfl
theorem q2763 : (Jvm.Cond.static ({ cls := "VersionSearchModel", name := "numberOf", desc := "(J)I" } : Jvm.MethodName)) ∈ lw_all := lw_g (lw_at lw_m11 230 rfl) rfl
theorem q2764 : (Jvm.Cond.code ({ cls := "VersionSearchModel", name := "numberOf", desc := "(J)I" } : Jvm.MethodName) prog_25_method_19_code (5 : Nat) (Option.some Jvm.ClassFile.FieldType.int)) ∈ lw_all := lw_g (lw_at lw_m11 231 rfl) rfl
theorem q2765 : (Jvm.Cond.constantLong "VersionSearchModel" (127 : Nat) (255 : Int64)) ∈ lw_all := lw_g (lw_at lw_m11 232 rfl) rfl
theorem q2766 : (Jvm.Cond.methodLink "VersionSearchModel" (156 : Nat) ({ cls := "VersionSearchModel", name := "beginVersion", desc := "(I)V" } : Jvm.MethodName)) ∈ lw_all := lw_g (lw_at lw_m11 233 rfl) rfl
theorem q2767 : (Jvm.Cond.privateMethod ({ cls := "VersionSearchModel", name := "beginVersion", desc := "(I)V" } : Jvm.MethodName)) ∈ lw_tbl := lw_at lw_m11 234 rfl
theorem q2768 : (Jvm.Cond.instanceMethod ({ cls := "VersionSearchModel", name := "beginVersion", desc := "(I)V" } : Jvm.MethodName)) ∈ lw_all := lw_g (lw_at lw_m11 235 rfl) rfl
theorem q2769 : (Jvm.Cond.code ({ cls := "VersionSearchModel", name := "beginVersion", desc := "(I)V" } : Jvm.MethodName) prog_25_method_23_code (2 : Nat) (Option.none : Option Jvm.ClassFile.FieldType)) ∈ lw_all := lw_g (lw_at lw_m11 236 rfl) rfl
theorem q2770 : (Jvm.Cond.methodLink "VersionSearchModel" (139 : Nat) ({ cls := "VersionSearchModel", name := "latest", desc := "(I)I" } : Jvm.MethodName)) ∈ lw_all := lw_g (lw_at lw_m11 237 rfl) rfl
theorem q2771 : (Jvm.Cond.privateMethod ({ cls := "VersionSearchModel", name := "latest", desc := "(I)I" } : Jvm.MethodName)) ∈ lw_tbl := lw_at lw_m11 238 rfl
theorem q2772 : (Jvm.Cond.instanceMethod ({ cls := "VersionSearchModel", name := "latest", desc := "(I)I" } : Jvm.MethodName)) ∈ lw_all := lw_g (lw_at lw_m11 239 rfl) rfl
theorem q2773 : (Jvm.Cond.code ({ cls := "VersionSearchModel", name := "latest", desc := "(I)I" } : Jvm.MethodName) prog_25_method_24_code (2 : Nat) (Option.some Jvm.ClassFile.FieldType.int)) ∈ lw_all := lw_g (lw_at lw_m12 0 rfl) rfl
theorem q2774 : (Jvm.Cond.methodLink "VersionSearchModel" (146 : Nat) ({ cls := "VersionSearchModel", name := "at", desc := "(II)I" } : Jvm.MethodName)) ∈ lw_all := lw_g (lw_at lw_m12 1 rfl) rfl
theorem q2775 : (Jvm.Cond.static ({ cls := "VersionSearchModel", name := "at", desc := "(II)I" } : Jvm.MethodName)) ∈ lw_all := lw_g (lw_at lw_m12 2 rfl) rfl
theorem q2776 : (Jvm.Cond.code ({ cls := "VersionSearchModel", name := "at", desc := "(II)I" } : Jvm.MethodName) prog_25_method_22_code (2 : Nat) (Option.some Jvm.ClassFile.FieldType.int)) ∈ lw_all := lw_g (lw_at lw_m12 3 rfl) rfl
theorem q2777 : (Jvm.Cond.methodLink "VersionSearchModel" (159 : Nat) ({ cls := "VersionSearchModel", name := "newToken", desc := "(II)I" } : Jvm.MethodName)) ∈ lw_all := lw_g (lw_at lw_m12 4 rfl) rfl
theorem q2778 : (Jvm.Cond.privateMethod ({ cls := "VersionSearchModel", name := "newToken", desc := "(II)I" } : Jvm.MethodName)) ∈ lw_tbl := lw_at lw_m12 5 rfl
theorem q2779 : (Jvm.Cond.instanceMethod ({ cls := "VersionSearchModel", name := "newToken", desc := "(II)I" } : Jvm.MethodName)) ∈ lw_all := lw_g (lw_at lw_m12 6 rfl) rfl
theorem q2780 : (Jvm.Cond.code ({ cls := "VersionSearchModel", name := "newToken", desc := "(II)I" } : Jvm.MethodName) prog_25_method_26_code (4 : Nat) (Option.some Jvm.ClassFile.FieldType.int)) ∈ lw_all := lw_g (lw_at lw_m12 7 rfl) rfl
theorem q2781 : (Jvm.Cond.methodLink "VersionSearchModel" (150 : Nat) ({ cls := "VersionSearchModel", name := "lesser", desc := "(II)I" } : Jvm.MethodName)) ∈ lw_all := lw_g (lw_at lw_m12 8 rfl) rfl
theorem q2782 : (Jvm.Cond.static ({ cls := "VersionSearchModel", name := "lesser", desc := "(II)I" } : Jvm.MethodName)) ∈ lw_all := lw_g (lw_at lw_m12 9 rfl) rfl
theorem q2783 : (Jvm.Cond.code ({ cls := "VersionSearchModel", name := "lesser", desc := "(II)I" } : Jvm.MethodName) prog_25_method_6_code (2 : Nat) (Option.some Jvm.ClassFile.FieldType.int)) ∈ lw_all := lw_g (lw_at lw_m12 10 rfl) rfl
theorem q2784 : (Jvm.Cond.methodLink "VersionSearchModel" (162 : Nat) ({ cls := "VersionSearchModel", name := "addWord", desc := "(II)V" } : Jvm.MethodName)) ∈ lw_all := lw_g (lw_at lw_m12 11 rfl) rfl
theorem q2785 : (Jvm.Cond.privateMethod ({ cls := "VersionSearchModel", name := "addWord", desc := "(II)V" } : Jvm.MethodName)) ∈ lw_tbl := lw_at lw_m12 12 rfl
theorem q2786 : (Jvm.Cond.instanceMethod ({ cls := "VersionSearchModel", name := "addWord", desc := "(II)V" } : Jvm.MethodName)) ∈ lw_all := lw_g (lw_at lw_m12 13 rfl) rfl
theorem q2787 : (Jvm.Cond.code ({ cls := "VersionSearchModel", name := "addWord", desc := "(II)V" } : Jvm.MethodName) prog_25_method_25_code (5 : Nat) (Option.none : Option Jvm.ClassFile.FieldType)) ∈ lw_all := lw_g (lw_at lw_m12 14 rfl) rfl
theorem q2788 : (Jvm.Cond.methodLink "VersionSearchModel" (201 : Nat) ({ cls := "VersionSearchModel", name := "changeLine", desc := "(II)Z" } : Jvm.MethodName)) ∈ lw_all := lw_g (lw_at lw_m12 15 rfl) rfl
theorem q2789 : (Jvm.Cond.privateMethod ({ cls := "VersionSearchModel", name := "changeLine", desc := "(II)Z" } : Jvm.MethodName)) ∈ lw_tbl := lw_at lw_m12 16 rfl
theorem q2790 : (Jvm.Cond.instanceMethod ({ cls := "VersionSearchModel", name := "changeLine", desc := "(II)Z" } : Jvm.MethodName)) ∈ lw_all := lw_g (lw_at lw_m12 17 rfl) rfl
theorem q2791 : (Jvm.Cond.code ({ cls := "VersionSearchModel", name := "changeLine", desc := "(II)Z" } : Jvm.MethodName) prog_25_method_34_code (4 : Nat) (Option.some Jvm.ClassFile.FieldType.boolean)) ∈ lw_all := lw_g (lw_at lw_m12 18 rfl) rfl
theorem q2792 : (Jvm.Cond.methodLink "VersionSearchModel" (183 : Nat) ({ cls := "VersionSearchModel", name := "readChange", desc := "(I)Z" } : Jvm.MethodName)) ∈ lw_all := lw_g (lw_at lw_m12 19 rfl) rfl
theorem q2793 : (Jvm.Cond.privateMethod ({ cls := "VersionSearchModel", name := "readChange", desc := "(I)Z" } : Jvm.MethodName)) ∈ lw_tbl := lw_at lw_m12 20 rfl
theorem q2794 : (Jvm.Cond.instanceMethod ({ cls := "VersionSearchModel", name := "readChange", desc := "(I)Z" } : Jvm.MethodName)) ∈ lw_all := lw_g (lw_at lw_m12 21 rfl) rfl
theorem q2795 : (Jvm.Cond.code ({ cls := "VersionSearchModel", name := "readChange", desc := "(I)Z" } : Jvm.MethodName) prog_25_method_33_code (2 : Nat) (Option.some Jvm.ClassFile.FieldType.boolean)) ∈ lw_all := lw_g (lw_at lw_m12 22 rfl) rfl
theorem q2796 : (Jvm.Cond.methodLink "VersionSearchModel" (177 : Nat) ({ cls := "VersionSearchModel", name := "take", desc := "(III)Z" } : Jvm.MethodName)) ∈ lw_all := lw_g (lw_at lw_m12 23 rfl) rfl
theorem q2797 : (Jvm.Cond.privateMethod ({ cls := "VersionSearchModel", name := "take", desc := "(III)Z" } : Jvm.MethodName)) ∈ lw_tbl := lw_at lw_m12 24 rfl
theorem q2798 : (Jvm.Cond.instanceMethod ({ cls := "VersionSearchModel", name := "take", desc := "(III)Z" } : Jvm.MethodName)) ∈ lw_all := lw_g (lw_at lw_m12 25 rfl) rfl
theorem q2799 : (Jvm.Cond.code ({ cls := "VersionSearchModel", name := "take", desc := "(III)Z" } : Jvm.MethodName) prog_25_method_18_code (4 : Nat) (Option.some Jvm.ClassFile.FieldType.boolean)) ∈ lw_all := lw_g (lw_at lw_m12 26 rfl) rfl
theorem q2800 : (Jvm.Cond.methodLink "VersionSearchModel" (180 : Nat) ({ cls := "VersionSearchModel", name := "readPut", desc := "()Z" } : Jvm.MethodName)) ∈ lw_all := lw_g (lw_at lw_m12 27 rfl) rfl
theorem q2801 : (Jvm.Cond.privateMethod ({ cls := "VersionSearchModel", name := "readPut", desc := "()Z" } : Jvm.MethodName)) ∈ lw_tbl := lw_at lw_m12 28 rfl
theorem q2802 : (Jvm.Cond.instanceMethod ({ cls := "VersionSearchModel", name := "readPut", desc := "()Z" } : Jvm.MethodName)) ∈ lw_all := lw_g (lw_at lw_m12 29 rfl) rfl
theorem q2803 : (Jvm.Cond.code ({ cls := "VersionSearchModel", name := "readPut", desc := "()Z" } : Jvm.MethodName) prog_25_method_32_code (2 : Nat) (Option.some Jvm.ClassFile.FieldType.boolean)) ∈ lw_all := lw_g (lw_at lw_m12 30 rfl) rfl
theorem q2804 : (Jvm.Cond.methodLink "VersionSearchModel" (187 : Nat) ({ cls := "VersionSearchModel", name := "isThere", desc := "(I)Z" } : Jvm.MethodName)) ∈ lw_all := lw_g (lw_at lw_m12 31 rfl) rfl
theorem q2805 : (Jvm.Cond.privateMethod ({ cls := "VersionSearchModel", name := "isThere", desc := "(I)Z" } : Jvm.MethodName)) ∈ lw_tbl := lw_at lw_m12 32 rfl
theorem q2806 : (Jvm.Cond.instanceMethod ({ cls := "VersionSearchModel", name := "isThere", desc := "(I)Z" } : Jvm.MethodName)) ∈ lw_all := lw_g (lw_at lw_m12 33 rfl) rfl
theorem q2807 : (Jvm.Cond.code ({ cls := "VersionSearchModel", name := "isThere", desc := "(I)Z" } : Jvm.MethodName) prog_25_method_29_code (3 : Nat) (Option.some Jvm.ClassFile.FieldType.boolean)) ∈ lw_all := lw_g (lw_at lw_m12 34 rfl) rfl
theorem q2808 : (Jvm.Cond.methodLink "VersionSearchModel" (190 : Nat) ({ cls := "VersionSearchModel", name := "makeVersion", desc := "(I)V" } : Jvm.MethodName)) ∈ lw_all := lw_g (lw_at lw_m12 35 rfl) rfl
theorem q2809 : (Jvm.Cond.privateMethod ({ cls := "VersionSearchModel", name := "makeVersion", desc := "(I)V" } : Jvm.MethodName)) ∈ lw_tbl := lw_at lw_m12 36 rfl
theorem q2810 : (Jvm.Cond.instanceMethod ({ cls := "VersionSearchModel", name := "makeVersion", desc := "(I)V" } : Jvm.MethodName)) ∈ lw_all := lw_g (lw_at lw_m12 37 rfl) rfl
theorem q2811 : (Jvm.Cond.code ({ cls := "VersionSearchModel", name := "makeVersion", desc := "(I)V" } : Jvm.MethodName) prog_25_method_30_code (7 : Nat) (Option.none : Option Jvm.ClassFile.FieldType)) ∈ lw_all := lw_g (lw_at lw_m12 38 rfl) rfl
theorem q2812 : (Jvm.Cond.methodLink "VersionSearchModel" (173 : Nat) ({ cls := "VersionSearchModel", name := "moves", desc := "(III)V" } : Jvm.MethodName)) ∈ lw_all := lw_g (lw_at lw_m12 39 rfl) rfl
theorem q2813 : (Jvm.Cond.privateMethod ({ cls := "VersionSearchModel", name := "moves", desc := "(III)V" } : Jvm.MethodName)) ∈ lw_tbl := lw_at lw_m12 40 rfl
theorem q2814 : (Jvm.Cond.instanceMethod ({ cls := "VersionSearchModel", name := "moves", desc := "(III)V" } : Jvm.MethodName)) ∈ lw_all := lw_g (lw_at lw_m12 41 rfl) rfl
theorem q2815 : (Jvm.Cond.code ({ cls := "VersionSearchModel", name := "moves", desc := "(III)V" } : Jvm.MethodName) prog_25_method_31_code (6 : Nat) (Option.none : Option Jvm.ClassFile.FieldType)) ∈ lw_all := lw_g (lw_at lw_m12 42 rfl) rfl
theorem q2816 : (Jvm.Cond.methodLink "VersionSearchModel" (234 : Nat) ({ cls := "VersionSearchModel", name := "askingLine", desc := "(JI)Z" } : Jvm.MethodName)) ∈ lw_all := lw_g (lw_at lw_m12 43 rfl) rfl
theorem q2817 : (Jvm.Cond.privateMethod ({ cls := "VersionSearchModel", name := "askingLine", desc := "(JI)Z" } : Jvm.MethodName)) ∈ lw_tbl := lw_at lw_m12 44 rfl
theorem q2818 : (Jvm.Cond.instanceMethod ({ cls := "VersionSearchModel", name := "askingLine", desc := "(JI)Z" } : Jvm.MethodName)) ∈ lw_all := lw_g (lw_at lw_m12 45 rfl) rfl
theorem q2819 : (Jvm.Cond.code ({ cls := "VersionSearchModel", name := "askingLine", desc := "(JI)Z" } : Jvm.MethodName) prog_25_method_38_code (7 : Nat) (Option.some Jvm.ClassFile.FieldType.boolean)) ∈ lw_all := lw_g (lw_at lw_m12 46 rfl) rfl
theorem q2820 : (Jvm.Cond.methodLink "VersionSearchModel" (220 : Nat) ({ cls := "VersionSearchModel", name := "askingBy", desc := "(J)I" } : Jvm.MethodName)) ∈ lw_all := lw_g (lw_at lw_m12 47 rfl) rfl
theorem q2821 : (Jvm.Cond.privateMethod ({ cls := "VersionSearchModel", name := "askingBy", desc := "(J)I" } : Jvm.MethodName)) ∈ lw_tbl := lw_at lw_m12 48 rfl
theorem q2822 : (Jvm.Cond.instanceMethod ({ cls := "VersionSearchModel", name := "askingBy", desc := "(J)I" } : Jvm.MethodName)) ∈ lw_all := lw_g (lw_at lw_m12 49 rfl) rfl
theorem q2823 : (Jvm.Cond.code ({ cls := "VersionSearchModel", name := "askingBy", desc := "(J)I" } : Jvm.MethodName) prog_25_method_36_code (3 : Nat) (Option.some Jvm.ClassFile.FieldType.int)) ∈ lw_all := lw_g (lw_at lw_m12 50 rfl) rfl
theorem q2824 : (Jvm.Cond.constantLong "VersionSearchModel" (204 : Nat) (123593897898853 : Int64)) ∈ lw_all := lw_g (lw_at lw_m12 51 rfl) rfl
theorem q2825 : (Jvm.Cond.constantLong "VersionSearchModel" (206 : Nat) (1852137842 : Int64)) ∈ lw_all := lw_g (lw_at lw_m12 52 rfl) rfl
theorem q2826 : (Jvm.Cond.constantLong "VersionSearchModel" (208 : Nat) (1835101817 : Int64)) ∈ lw_all := lw_g (lw_at lw_m12 53 rfl) rfl
theorem q2827 : (Jvm.Cond.constantLong "VersionSearchModel" (210 : Nat) (7237492 : Int64)) ∈ lw_all := lw_g (lw_at lw_m12 54 rfl) rfl
theorem q2828 : (Jvm.Cond.constantLong "VersionSearchModel" (212 : Nat) (1702258034 : Int64)) ∈ lw_all := lw_g (lw_at lw_m12 55 rfl) rfl
theorem q2829 : (Jvm.Cond.constantLong "VersionSearchModel" (214 : Nat) (7234935 : Int64)) ∈ lw_all := lw_g (lw_at lw_m12 56 rfl) rfl
theorem q2830 : (Jvm.Cond.constantLong "VersionSearchModel" (216 : Nat) (6385252 : Int64)) ∈ lw_all := lw_g (lw_at lw_m12 57 rfl) rfl
theorem q2831 : (Jvm.Cond.constantLong "VersionSearchModel" (218 : Nat) (28530 : Int64)) ∈ lw_all := lw_g (lw_at lw_m12 58 rfl) rfl
theorem q2832 : (Jvm.Cond.methodLink "VersionSearchModel" (223 : Nat) ({ cls := "VersionSearchModel", name := "readAsking", desc := "(II)Z" } : Jvm.MethodName)) ∈ lw_all := lw_g (lw_at lw_m12 59 rfl) rfl
theorem q2833 : (Jvm.Cond.privateMethod ({ cls := "VersionSearchModel", name := "readAsking", desc := "(II)Z" } : Jvm.MethodName)) ∈ lw_tbl := lw_at lw_m12 60 rfl
theorem q2834 : (Jvm.Cond.instanceMethod ({ cls := "VersionSearchModel", name := "readAsking", desc := "(II)Z" } : Jvm.MethodName)) ∈ lw_all := lw_g (lw_at lw_m12 61 rfl) rfl
theorem q2835 : (Jvm.Cond.code ({ cls := "VersionSearchModel", name := "readAsking", desc := "(II)Z" } : Jvm.MethodName) prog_25_method_37_code (3 : Nat) (Option.some Jvm.ClassFile.FieldType.boolean)) ∈ lw_all := lw_g (lw_at lw_m12 62 rfl) rfl
theorem q2836 : (Jvm.Cond.methodLink "VersionSearchModel" (237 : Nat) ({ cls := "VersionSearchModel", name := "huntLine", desc := "(JI)Z" } : Jvm.MethodName)) ∈ lw_all := lw_g (lw_at lw_m12 63 rfl) rfl
theorem q2837 : (Jvm.Cond.privateMethod ({ cls := "VersionSearchModel", name := "huntLine", desc := "(JI)Z" } : Jvm.MethodName)) ∈ lw_tbl := lw_at lw_m12 64 rfl
theorem q2838 : (Jvm.Cond.instanceMethod ({ cls := "VersionSearchModel", name := "huntLine", desc := "(JI)Z" } : Jvm.MethodName)) ∈ lw_all := lw_g (lw_at lw_m12 65 rfl) rfl
theorem q2839 : (Jvm.Cond.code ({ cls := "VersionSearchModel", name := "huntLine", desc := "(JI)Z" } : Jvm.MethodName) prog_25_method_39_code (6 : Nat) (Option.some Jvm.ClassFile.FieldType.boolean)) ∈ lw_all := lw_g (lw_at lw_m12 66 rfl) rfl
theorem q2840 : (Jvm.Cond.constantLong "VersionSearchModel" (226 : Nat) (26990 : Int64)) ∈ lw_all := lw_g (lw_at lw_m12 67 rfl) rfl
theorem q2841 : (Jvm.Cond.constantLong "VersionSearchModel" (228 : Nat) (7304564 : Int64)) ∈ lw_all := lw_g (lw_at lw_m12 68 rfl) rfl
theorem q2842 : (Jvm.Cond.methodLink "VersionSearchModel" (249 : Nat) ({ cls := "VersionSearchModel", name := "store", desc := "([III)V" } : Jvm.MethodName)) ∈ lw_all := lw_g (lw_at lw_m12 69 rfl) rfl
theorem q2843 : (Jvm.Cond.privateMethod ({ cls := "VersionSearchModel", name := "store", desc := "([III)V" } : Jvm.MethodName)) ∈ lw_tbl := lw_at lw_m12 70 rfl
theorem q2844 : (Jvm.Cond.instanceMethod ({ cls := "VersionSearchModel", name := "store", desc := "([III)V" } : Jvm.MethodName)) ∈ lw_all := lw_g (lw_at lw_m12 71 rfl) rfl
theorem q2845 : (Jvm.Cond.code ({ cls := "VersionSearchModel", name := "store", desc := "([III)V" } : Jvm.MethodName) prog_25_method_42_code (5 : Nat) (Option.none : Option Jvm.ClassFile.FieldType)) ∈ lw_all := lw_g (lw_at lw_m12 72 rfl) rfl
theorem q2847 : (Jvm.Cond.instanceMethod ({ cls := "VersionSearchModel", name := "fault", desc := "(I)I" } : Jvm.MethodName)) ∈ lw_all := lw_g (lw_at lw_m12 74 rfl) rfl
theorem q2848 : (Jvm.Cond.selects "VersionSearchModel" ({ cls := "VersionSearchModel", name := "fault", desc := "(I)I" } : Jvm.MethodName) ({ cls := "VersionSearchModel", name := "fault", desc := "(I)I" } : Jvm.MethodName)) ∈ lw_all := lw_g (lw_at lw_m12 75 rfl) rfl
theorem q2849 : (Jvm.Cond.code ({ cls := "VersionSearchModel", name := "fault", desc := "(I)I" } : Jvm.MethodName) prog_25_method_44_code (2 : Nat) (Option.some Jvm.ClassFile.FieldType.int)) ∈ lw_all := lw_g (lw_at lw_m12 76 rfl) rfl
theorem q2851 : (Jvm.Cond.instanceMethod ({ cls := "VersionSearchModel", name := "archive", desc := "(II)I" } : Jvm.MethodName)) ∈ lw_all := lw_g (lw_at lw_m12 78 rfl) rfl
theorem q2852 : (Jvm.Cond.selects "VersionSearchModel" ({ cls := "VersionSearchModel", name := "archive", desc := "(II)I" } : Jvm.MethodName) ({ cls := "VersionSearchModel", name := "archive", desc := "(II)I" } : Jvm.MethodName)) ∈ lw_all := lw_g (lw_at lw_m12 79 rfl) rfl
theorem q2853 : (Jvm.Cond.code ({ cls := "VersionSearchModel", name := "archive", desc := "(II)I" } : Jvm.MethodName) prog_25_method_70_code (3 : Nat) (Option.some Jvm.ClassFile.FieldType.int)) ∈ lw_all := lw_g (lw_at lw_m12 80 rfl) rfl
theorem q2854 : (Jvm.Cond.methodLink "VersionSearchModel" (313 : Nat) ({ cls := "VersionSearchModel", name := "hand", desc := "(I)Z" } : Jvm.MethodName)) ∈ lw_all := lw_g (lw_at lw_m12 81 rfl) rfl
theorem q2855 : (Jvm.Cond.privateMethod ({ cls := "VersionSearchModel", name := "hand", desc := "(I)Z" } : Jvm.MethodName)) ∈ lw_tbl := lw_at lw_m12 82 rfl
theorem q2856 : (Jvm.Cond.instanceMethod ({ cls := "VersionSearchModel", name := "hand", desc := "(I)Z" } : Jvm.MethodName)) ∈ lw_all := lw_g (lw_at lw_m12 83 rfl) rfl
theorem q2857 : (Jvm.Cond.code ({ cls := "VersionSearchModel", name := "hand", desc := "(I)Z" } : Jvm.MethodName) prog_25_method_45_code (3 : Nat) (Option.some Jvm.ClassFile.FieldType.boolean)) ∈ lw_all := lw_g (lw_at lw_m12 84 rfl) rfl
theorem q2858 : (Jvm.Cond.methodLink "VersionSearchModel" (316 : Nat) ({ cls := "VersionSearchModel", name := "ofDoc", desc := "(II)I" } : Jvm.MethodName)) ∈ lw_all := lw_g (lw_at lw_m12 85 rfl) rfl
theorem q2859 : (Jvm.Cond.privateMethod ({ cls := "VersionSearchModel", name := "ofDoc", desc := "(II)I" } : Jvm.MethodName)) ∈ lw_tbl := lw_at lw_m12 86 rfl
theorem q2860 : (Jvm.Cond.instanceMethod ({ cls := "VersionSearchModel", name := "ofDoc", desc := "(II)I" } : Jvm.MethodName)) ∈ lw_all := lw_g (lw_at lw_m12 87 rfl) rfl
theorem q2861 : (Jvm.Cond.code ({ cls := "VersionSearchModel", name := "ofDoc", desc := "(II)I" } : Jvm.MethodName) prog_25_method_69_code (3 : Nat) (Option.some Jvm.ClassFile.FieldType.int)) ∈ lw_all := lw_g (lw_at lw_m12 88 rfl) rfl
theorem q2862 : (Jvm.Cond.methodLink "VersionSearchModel" (256 : Nat) ({ cls := "VersionSearchModel", name := "isDoc", desc := "(I)Z" } : Jvm.MethodName)) ∈ lw_all := lw_g (lw_at lw_m12 89 rfl) rfl
theorem q2863 : (Jvm.Cond.privateMethod ({ cls := "VersionSearchModel", name := "isDoc", desc := "(I)Z" } : Jvm.MethodName)) ∈ lw_tbl := lw_at lw_m12 90 rfl
theorem q2864 : (Jvm.Cond.instanceMethod ({ cls := "VersionSearchModel", name := "isDoc", desc := "(I)Z" } : Jvm.MethodName)) ∈ lw_all := lw_g (lw_at lw_m12 91 rfl) rfl
theorem q2865 : (Jvm.Cond.code ({ cls := "VersionSearchModel", name := "isDoc", desc := "(I)Z" } : Jvm.MethodName) prog_25_method_46_code (2 : Nat) (Option.some Jvm.ClassFile.FieldType.boolean)) ∈ lw_all := lw_g (lw_at lw_m12 92 rfl) rfl
theorem q2866 : (Jvm.Cond.methodLink "VersionSearchModel" (259 : Nat) ({ cls := "VersionSearchModel", name := "versions", desc := "(I)I" } : Jvm.MethodName)) ∈ lw_all := lw_g (lw_at lw_m12 93 rfl) rfl
theorem q2867 : (Jvm.Cond.privateMethod ({ cls := "VersionSearchModel", name := "versions", desc := "(I)I" } : Jvm.MethodName)) ∈ lw_tbl := lw_at lw_m12 94 rfl
theorem q2868 : (Jvm.Cond.instanceMethod ({ cls := "VersionSearchModel", name := "versions", desc := "(I)I" } : Jvm.MethodName)) ∈ lw_all := lw_g (lw_at lw_m12 95 rfl) rfl
theorem q2869 : (Jvm.Cond.code ({ cls := "VersionSearchModel", name := "versions", desc := "(I)I" } : Jvm.MethodName) prog_25_method_47_code (2 : Nat) (Option.some Jvm.ClassFile.FieldType.int)) ∈ lw_all := lw_g (lw_at lw_m12 96 rfl) rfl
theorem q2870 : (Jvm.Cond.methodLink "VersionSearchModel" (303 : Nat) ({ cls := "VersionSearchModel", name := "passages", desc := "(IZ)I" } : Jvm.MethodName)) ∈ lw_all := lw_g (lw_at lw_m12 97 rfl) rfl
theorem q2871 : (Jvm.Cond.privateMethod ({ cls := "VersionSearchModel", name := "passages", desc := "(IZ)I" } : Jvm.MethodName)) ∈ lw_tbl := lw_at lw_m12 98 rfl
theorem q2872 : (Jvm.Cond.instanceMethod ({ cls := "VersionSearchModel", name := "passages", desc := "(IZ)I" } : Jvm.MethodName)) ∈ lw_all := lw_g (lw_at lw_m12 99 rfl) rfl
theorem q2873 : (Jvm.Cond.code ({ cls := "VersionSearchModel", name := "passages", desc := "(IZ)I" } : Jvm.MethodName) prog_25_method_66_code (9 : Nat) (Option.some Jvm.ClassFile.FieldType.int)) ∈ lw_all := lw_g (lw_at lw_m12 100 rfl) rfl
theorem q2874 : (Jvm.Cond.methodLink "VersionSearchModel" (278 : Nat) ({ cls := "VersionSearchModel", name := "whereIs", desc := "(I)I" } : Jvm.MethodName)) ∈ lw_all := lw_g (lw_at lw_m12 101 rfl) rfl
theorem q2875 : (Jvm.Cond.privateMethod ({ cls := "VersionSearchModel", name := "whereIs", desc := "(I)I" } : Jvm.MethodName)) ∈ lw_tbl := lw_at lw_m12 102 rfl
theorem q2876 : (Jvm.Cond.instanceMethod ({ cls := "VersionSearchModel", name := "whereIs", desc := "(I)I" } : Jvm.MethodName)) ∈ lw_all := lw_g (lw_at lw_m12 103 rfl) rfl
theorem q2877 : (Jvm.Cond.code ({ cls := "VersionSearchModel", name := "whereIs", desc := "(I)I" } : Jvm.MethodName) prog_25_method_54_code (5 : Nat) (Option.some Jvm.ClassFile.FieldType.int)) ∈ lw_all := lw_g (lw_at lw_m12 104 rfl) rfl
theorem q2878 : (Jvm.Cond.methodLink "VersionSearchModel" (272 : Nat) ({ cls := "VersionSearchModel", name := "placeOf", desc := "(III)I" } : Jvm.MethodName)) ∈ lw_all := lw_g (lw_at lw_m12 105 rfl) rfl
theorem q2879 : (Jvm.Cond.privateMethod ({ cls := "VersionSearchModel", name := "placeOf", desc := "(III)I" } : Jvm.MethodName)) ∈ lw_tbl := lw_at lw_m12 106 rfl
theorem q2880 : (Jvm.Cond.instanceMethod ({ cls := "VersionSearchModel", name := "placeOf", desc := "(III)I" } : Jvm.MethodName)) ∈ lw_all := lw_g (lw_at lw_m12 107 rfl) rfl
theorem q2881 : (Jvm.Cond.code ({ cls := "VersionSearchModel", name := "placeOf", desc := "(III)I" } : Jvm.MethodName) prog_25_method_53_code (6 : Nat) (Option.some Jvm.ClassFile.FieldType.int)) ∈ lw_all := lw_g (lw_at lw_m12 108 rfl) rfl
theorem q2882 : (Jvm.Cond.methodLink "VersionSearchModel" (269 : Nat) ({ cls := "VersionSearchModel", name := "longOf", desc := "(II)I" } : Jvm.MethodName)) ∈ lw_all := lw_g (lw_at lw_m12 109 rfl) rfl
theorem q2883 : (Jvm.Cond.privateMethod ({ cls := "VersionSearchModel", name := "longOf", desc := "(II)I" } : Jvm.MethodName)) ∈ lw_tbl := lw_at lw_m12 110 rfl
theorem q2884 : (Jvm.Cond.instanceMethod ({ cls := "VersionSearchModel", name := "longOf", desc := "(II)I" } : Jvm.MethodName)) ∈ lw_all := lw_g (lw_at lw_m12 111 rfl) rfl
theorem q2885 : (Jvm.Cond.code ({ cls := "VersionSearchModel", name := "longOf", desc := "(II)I" } : Jvm.MethodName) prog_25_method_49_code (3 : Nat) (Option.some Jvm.ClassFile.FieldType.int)) ∈ lw_all := lw_g (lw_at lw_m12 112 rfl) rfl
theorem q2886 : (Jvm.Cond.methodLink "VersionSearchModel" (262 : Nat) ({ cls := "VersionSearchModel", name := "tokenAt", desc := "(III)I" } : Jvm.MethodName)) ∈ lw_all := lw_g (lw_at lw_m12 113 rfl) rfl
theorem q2887 : (Jvm.Cond.privateMethod ({ cls := "VersionSearchModel", name := "tokenAt", desc := "(III)I" } : Jvm.MethodName)) ∈ lw_tbl := lw_at lw_m12 114 rfl
theorem q2888 : (Jvm.Cond.instanceMethod ({ cls := "VersionSearchModel", name := "tokenAt", desc := "(III)I" } : Jvm.MethodName)) ∈ lw_all := lw_g (lw_at lw_m12 115 rfl) rfl
theorem q2889 : (Jvm.Cond.code ({ cls := "VersionSearchModel", name := "tokenAt", desc := "(III)I" } : Jvm.MethodName) prog_25_method_50_code (4 : Nat) (Option.some Jvm.ClassFile.FieldType.int)) ∈ lw_all := lw_g (lw_at lw_m12 116 rfl) rfl
theorem q2890 : (Jvm.Cond.methodLink "VersionSearchModel" (294 : Nat) ({ cls := "VersionSearchModel", name := "hasAhead", desc := "(III)Z" } : Jvm.MethodName)) ∈ lw_all := lw_g (lw_at lw_m12 117 rfl) rfl
theorem q2891 : (Jvm.Cond.privateMethod ({ cls := "VersionSearchModel", name := "hasAhead", desc := "(III)Z" } : Jvm.MethodName)) ∈ lw_tbl := lw_at lw_m12 118 rfl
theorem q2892 : (Jvm.Cond.instanceMethod ({ cls := "VersionSearchModel", name := "hasAhead", desc := "(III)Z" } : Jvm.MethodName)) ∈ lw_all := lw_g (lw_at lw_m12 119 rfl) rfl
theorem q2893 : (Jvm.Cond.code ({ cls := "VersionSearchModel", name := "hasAhead", desc := "(III)Z" } : Jvm.MethodName) prog_25_method_65_code (5 : Nat) (Option.some Jvm.ClassFile.FieldType.boolean)) ∈ lw_all := lw_g (lw_at lw_m12 120 rfl) rfl
theorem q2894 : (Jvm.Cond.methodLink "VersionSearchModel" (291 : Nat) ({ cls := "VersionSearchModel", name := "behindOf", desc := "(III)I" } : Jvm.MethodName)) ∈ lw_all := lw_g (lw_at lw_m12 121 rfl) rfl
theorem q2895 : (Jvm.Cond.privateMethod ({ cls := "VersionSearchModel", name := "behindOf", desc := "(III)I" } : Jvm.MethodName)) ∈ lw_tbl := lw_at lw_m12 122 rfl
theorem q2896 : (Jvm.Cond.instanceMethod ({ cls := "VersionSearchModel", name := "behindOf", desc := "(III)I" } : Jvm.MethodName)) ∈ lw_all := lw_g (lw_at lw_m12 123 rfl) rfl
theorem q2897 : (Jvm.Cond.code ({ cls := "VersionSearchModel", name := "behindOf", desc := "(III)I" } : Jvm.MethodName) prog_25_method_64_code (8 : Nat) (Option.some Jvm.ClassFile.FieldType.int)) ∈ lw_all := lw_g (lw_at lw_m12 124 rfl) rfl
theorem q2898 : (Jvm.Cond.methodLink "VersionSearchModel" (64 : Nat) ({ cls := "VersionSearchModel", name := "has", desc := "(II)Z" } : Jvm.MethodName)) ∈ lw_all := lw_g (lw_at lw_m12 125 rfl) rfl
theorem q2899 : (Jvm.Cond.static ({ cls := "VersionSearchModel", name := "has", desc := "(II)Z" } : Jvm.MethodName)) ∈ lw_all := lw_g (lw_at lw_m12 126 rfl) rfl
theorem q2900 : (Jvm.Cond.code ({ cls := "VersionSearchModel", name := "has", desc := "(II)Z" } : Jvm.MethodName) prog_25_method_4_code (2 : Nat) (Option.some Jvm.ClassFile.FieldType.boolean)) ∈ lw_all := lw_g (lw_at lw_m12 127 rfl) rfl
theorem q2901 : (Jvm.Cond.methodLink "VersionSearchModel" (297 : Nat) ({ cls := "VersionSearchModel", name := "greater", desc := "(II)I" } : Jvm.MethodName)) ∈ lw_all := lw_g (lw_at lw_m12 128 rfl) rfl
theorem q2902 : (Jvm.Cond.static ({ cls := "VersionSearchModel", name := "greater", desc := "(II)I" } : Jvm.MethodName)) ∈ lw_all := lw_g (lw_at lw_m12 129 rfl) rfl
theorem q2903 : (Jvm.Cond.code ({ cls := "VersionSearchModel", name := "greater", desc := "(II)I" } : Jvm.MethodName) prog_25_method_5_code (2 : Nat) (Option.some Jvm.ClassFile.FieldType.int)) ∈ lw_all := lw_g (lw_at lw_m12 130 rfl) rfl
theorem q2904 : (Jvm.Cond.methodLink "VersionSearchModel" (307 : Nat) ({ cls := "VersionSearchModel", name := "keptIn", desc := "(I)I" } : Jvm.MethodName)) ∈ lw_all := lw_g (lw_at lw_m12 131 rfl) rfl
theorem q2905 : (Jvm.Cond.privateMethod ({ cls := "VersionSearchModel", name := "keptIn", desc := "(I)I" } : Jvm.MethodName)) ∈ lw_tbl := lw_at lw_m12 132 rfl
theorem q2906 : (Jvm.Cond.instanceMethod ({ cls := "VersionSearchModel", name := "keptIn", desc := "(I)I" } : Jvm.MethodName)) ∈ lw_all := lw_g (lw_at lw_m12 133 rfl) rfl
theorem q2907 : (Jvm.Cond.code ({ cls := "VersionSearchModel", name := "keptIn", desc := "(I)I" } : Jvm.MethodName) prog_25_method_67_code (4 : Nat) (Option.some Jvm.ClassFile.FieldType.int)) ∈ lw_all := lw_g (lw_at lw_m12 134 rfl) rfl
theorem q2908 : (Jvm.Cond.methodLink "VersionSearchModel" (300 : Nat) ({ cls := "VersionSearchModel", name := "ones", desc := "(I)I" } : Jvm.MethodName)) ∈ lw_all := lw_g (lw_at lw_m12 135 rfl) rfl
theorem q2909 : (Jvm.Cond.static ({ cls := "VersionSearchModel", name := "ones", desc := "(I)I" } : Jvm.MethodName)) ∈ lw_all := lw_g (lw_at lw_m12 136 rfl) rfl
theorem q2910 : (Jvm.Cond.code ({ cls := "VersionSearchModel", name := "ones", desc := "(I)I" } : Jvm.MethodName) prog_25_method_7_code (3 : Nat) (Option.some Jvm.ClassFile.FieldType.int)) ∈ lw_all := lw_g (lw_at lw_m12 137 rfl) rfl
theorem q2911 : (Jvm.Cond.methodLink "VersionSearchModel" (310 : Nat) ({ cls := "VersionSearchModel", name := "returns", desc := "(I)I" } : Jvm.MethodName)) ∈ lw_all := lw_g (lw_at lw_m12 138 rfl) rfl
theorem q2912 : (Jvm.Cond.privateMethod ({ cls := "VersionSearchModel", name := "returns", desc := "(I)I" } : Jvm.MethodName)) ∈ lw_tbl := lw_at lw_m12 139 rfl
theorem q2913 : (Jvm.Cond.instanceMethod ({ cls := "VersionSearchModel", name := "returns", desc := "(I)I" } : Jvm.MethodName)) ∈ lw_all := lw_g (lw_at lw_m12 140 rfl) rfl
theorem q2914 : (Jvm.Cond.code ({ cls := "VersionSearchModel", name := "returns", desc := "(I)I" } : Jvm.MethodName) prog_25_method_68_code (6 : Nat) (Option.some Jvm.ClassFile.FieldType.int)) ∈ lw_all := lw_g (lw_at lw_m12 141 rfl) rfl
theorem q2915 : (Jvm.Cond.methodLink "VersionSearchModel" (287 : Nat) ({ cls := "VersionSearchModel", name := "areAlike", desc := "(IIII)Z" } : Jvm.MethodName)) ∈ lw_all := lw_g (lw_at lw_m12 142 rfl) rfl
theorem q2916 : (Jvm.Cond.privateMethod ({ cls := "VersionSearchModel", name := "areAlike", desc := "(IIII)Z" } : Jvm.MethodName)) ∈ lw_tbl := lw_at lw_m12 143 rfl
theorem q2917 : (Jvm.Cond.instanceMethod ({ cls := "VersionSearchModel", name := "areAlike", desc := "(IIII)Z" } : Jvm.MethodName)) ∈ lw_all := lw_g (lw_at lw_m12 144 rfl) rfl
theorem q2918 : (Jvm.Cond.code ({ cls := "VersionSearchModel", name := "areAlike", desc := "(IIII)Z" } : Jvm.MethodName) prog_25_method_58_code (7 : Nat) (Option.some Jvm.ClassFile.FieldType.boolean)) ∈ lw_all := lw_g (lw_at lw_m12 145 rfl) rfl
theorem q2919 : (Jvm.Cond.methodLink "VersionSearchModel" (275 : Nat) ({ cls := "VersionSearchModel", name := "wordAt", desc := "(III)I" } : Jvm.MethodName)) ∈ lw_all := lw_g (lw_at lw_m12 146 rfl) rfl
theorem q2920 : (Jvm.Cond.privateMethod ({ cls := "VersionSearchModel", name := "wordAt", desc := "(III)I" } : Jvm.MethodName)) ∈ lw_tbl := lw_at lw_m12 147 rfl
theorem q2921 : (Jvm.Cond.instanceMethod ({ cls := "VersionSearchModel", name := "wordAt", desc := "(III)I" } : Jvm.MethodName)) ∈ lw_all := lw_g (lw_at lw_m12 148 rfl) rfl
theorem q2922 : (Jvm.Cond.code ({ cls := "VersionSearchModel", name := "wordAt", desc := "(III)I" } : Jvm.MethodName) prog_25_method_52_code (4 : Nat) (Option.some Jvm.ClassFile.FieldType.int)) ∈ lw_all := lw_g (lw_at lw_m12 149 rfl) rfl
theorem q2923 : (Jvm.Cond.methodLink "VersionSearchModel" (266 : Nat) ({ cls := "VersionSearchModel", name := "wordOf", desc := "(I)I" } : Jvm.MethodName)) ∈ lw_all := lw_g (lw_at lw_m12 150 rfl) rfl
theorem q2924 : (Jvm.Cond.privateMethod ({ cls := "VersionSearchModel", name := "wordOf", desc := "(I)I" } : Jvm.MethodName)) ∈ lw_tbl := lw_at lw_m12 151 rfl
theorem q2925 : (Jvm.Cond.instanceMethod ({ cls := "VersionSearchModel", name := "wordOf", desc := "(I)I" } : Jvm.MethodName)) ∈ lw_all := lw_g (lw_at lw_m12 152 rfl) rfl
theorem q2926 : (Jvm.Cond.code ({ cls := "VersionSearchModel", name := "wordOf", desc := "(I)I" } : Jvm.MethodName) prog_25_method_51_code (2 : Nat) (Option.some Jvm.ClassFile.FieldType.int)) ∈ lw_all := lw_g (lw_at lw_m12 153 rfl) rfl
theorem q2927 : (Jvm.Cond.methodLink "VersionSearchModel" (319 : Nat) ({ cls := "VersionSearchModel", name := "versionsAll", desc := "()I" } : Jvm.MethodName)) ∈ lw_all := lw_g (lw_at lw_m12 154 rfl) rfl
theorem q2928 : (Jvm.Cond.privateMethod ({ cls := "VersionSearchModel", name := "versionsAll", desc := "()I" } : Jvm.MethodName)) ∈ lw_tbl := lw_at lw_m12 155 rfl
theorem q2929 : (Jvm.Cond.instanceMethod ({ cls := "VersionSearchModel", name := "versionsAll", desc := "()I" } : Jvm.MethodName)) ∈ lw_all := lw_g (lw_at lw_m12 156 rfl) rfl
theorem q2930 : (Jvm.Cond.code ({ cls := "VersionSearchModel", name := "versionsAll", desc := "()I" } : Jvm.MethodName) prog_25_method_59_code (3 : Nat) (Option.some Jvm.ClassFile.FieldType.int)) ∈ lw_all := lw_g (lw_at lw_m12 157 rfl) rfl
theorem q2931 : (Jvm.Cond.methodLink "VersionSearchModel" (322 : Nat) ({ cls := "VersionSearchModel", name := "sizeAll", desc := "()I" } : Jvm.MethodName)) ∈ lw_all := lw_g (lw_at lw_m12 158 rfl) rfl
theorem q2932 : (Jvm.Cond.privateMethod ({ cls := "VersionSearchModel", name := "sizeAll", desc := "()I" } : Jvm.MethodName)) ∈ lw_tbl := lw_at lw_m12 159 rfl
theorem q2933 : (Jvm.Cond.instanceMethod ({ cls := "VersionSearchModel", name := "sizeAll", desc := "()I" } : Jvm.MethodName)) ∈ lw_all := lw_g (lw_at lw_m12 160 rfl) rfl
theorem q2934 : (Jvm.Cond.code ({ cls := "VersionSearchModel", name := "sizeAll", desc := "()I" } : Jvm.MethodName) prog_25_method_60_code (4 : Nat) (Option.some Jvm.ClassFile.FieldType.int)) ∈ lw_all := lw_g (lw_at lw_m12 161 rfl) rfl
theorem q2935 : (Jvm.Cond.methodLink "VersionSearchModel" (325 : Nat) ({ cls := "VersionSearchModel", name := "postings", desc := "()I" } : Jvm.MethodName)) ∈ lw_all := lw_g (lw_at lw_m12 162 rfl) rfl
theorem q2936 : (Jvm.Cond.privateMethod ({ cls := "VersionSearchModel", name := "postings", desc := "()I" } : Jvm.MethodName)) ∈ lw_tbl := lw_at lw_m12 163 rfl
theorem q2937 : (Jvm.Cond.instanceMethod ({ cls := "VersionSearchModel", name := "postings", desc := "()I" } : Jvm.MethodName)) ∈ lw_all := lw_g (lw_at lw_m12 164 rfl) rfl
theorem q2938 : (Jvm.Cond.code ({ cls := "VersionSearchModel", name := "postings", desc := "()I" } : Jvm.MethodName) prog_25_method_61_code (3 : Nat) (Option.some Jvm.ClassFile.FieldType.int)) ∈ lw_all := lw_g (lw_at lw_m12 165 rfl) rfl
theorem q2939 : (Jvm.Cond.methodLink "VersionSearchModel" (281 : Nat) ({ cls := "VersionSearchModel", name := "rowsIn", desc := "(I)I" } : Jvm.MethodName)) ∈ lw_all := lw_g (lw_at lw_m12 166 rfl) rfl
theorem q2940 : (Jvm.Cond.static ({ cls := "VersionSearchModel", name := "rowsIn", desc := "(I)I" } : Jvm.MethodName)) ∈ lw_all := lw_g (lw_at lw_m12 167 rfl) rfl
theorem q2941 : (Jvm.Cond.code ({ cls := "VersionSearchModel", name := "rowsIn", desc := "(I)I" } : Jvm.MethodName) prog_25_method_55_code (3 : Nat) (Option.some Jvm.ClassFile.FieldType.int)) ∈ lw_all := lw_g (lw_at lw_m12 168 rfl) rfl
theorem q2942 : (Jvm.Cond.methodLink "VersionSearchModel" (328 : Nat) ({ cls := "VersionSearchModel", name := "longest", desc := "()I" } : Jvm.MethodName)) ∈ lw_all := lw_g (lw_at lw_m12 169 rfl) rfl
theorem q2943 : (Jvm.Cond.privateMethod ({ cls := "VersionSearchModel", name := "longest", desc := "()I" } : Jvm.MethodName)) ∈ lw_tbl := lw_at lw_m12 170 rfl
theorem q2944 : (Jvm.Cond.instanceMethod ({ cls := "VersionSearchModel", name := "longest", desc := "()I" } : Jvm.MethodName)) ∈ lw_all := lw_g (lw_at lw_m12 171 rfl) rfl
theorem q2945 : (Jvm.Cond.code ({ cls := "VersionSearchModel", name := "longest", desc := "()I" } : Jvm.MethodName) prog_25_method_62_code (3 : Nat) (Option.some Jvm.ClassFile.FieldType.int)) ∈ lw_all := lw_g (lw_at lw_m12 172 rfl) rfl
theorem q2946 : (Jvm.Cond.methodLink "VersionSearchModel" (331 : Nat) ({ cls := "VersionSearchModel", name := "twins", desc := "()I" } : Jvm.MethodName)) ∈ lw_all := lw_g (lw_at lw_m12 173 rfl) rfl
theorem q2947 : (Jvm.Cond.privateMethod ({ cls := "VersionSearchModel", name := "twins", desc := "()I" } : Jvm.MethodName)) ∈ lw_tbl := lw_at lw_m12 174 rfl
theorem q2948 : (Jvm.Cond.instanceMethod ({ cls := "VersionSearchModel", name := "twins", desc := "()I" } : Jvm.MethodName)) ∈ lw_all := lw_g (lw_at lw_m12 175 rfl) rfl
theorem q2949 : (Jvm.Cond.code ({ cls := "VersionSearchModel", name := "twins", desc := "()I" } : Jvm.MethodName) prog_25_method_63_code (5 : Nat) (Option.some Jvm.ClassFile.FieldType.int)) ∈ lw_all := lw_g (lw_at lw_m12 176 rfl) rfl
theorem q2950 : (Jvm.Cond.methodLink "VersionSearchModel" (284 : Nat) ({ cls := "VersionSearchModel", name := "isVersion", desc := "(II)Z" } : Jvm.MethodName)) ∈ lw_all := lw_g (lw_at lw_m12 177 rfl) rfl
theorem q2951 : (Jvm.Cond.privateMethod ({ cls := "VersionSearchModel", name := "isVersion", desc := "(II)Z" } : Jvm.MethodName)) ∈ lw_tbl := lw_at lw_m12 178 rfl
theorem q2952 : (Jvm.Cond.instanceMethod ({ cls := "VersionSearchModel", name := "isVersion", desc := "(II)Z" } : Jvm.MethodName)) ∈ lw_all := lw_g (lw_at lw_m12 179 rfl) rfl
theorem q2953 : (Jvm.Cond.code ({ cls := "VersionSearchModel", name := "isVersion", desc := "(II)Z" } : Jvm.MethodName) prog_25_method_48_code (3 : Nat) (Option.some Jvm.ClassFile.FieldType.boolean)) ∈ lw_all := lw_g (lw_at lw_m12 180 rfl) rfl
theorem q2954 : (Jvm.Cond.methodLink "VersionSearchModel" (334 : Nat) ({ cls := "VersionSearchModel", name := "layWords", desc := "()V" } : Jvm.MethodName)) ∈ lw_all := lw_g (lw_at lw_m12 181 rfl) rfl
theorem q2955 : (Jvm.Cond.privateMethod ({ cls := "VersionSearchModel", name := "layWords", desc := "()V" } : Jvm.MethodName)) ∈ lw_tbl := lw_at lw_m12 182 rfl
theorem q2956 : (Jvm.Cond.instanceMethod ({ cls := "VersionSearchModel", name := "layWords", desc := "()V" } : Jvm.MethodName)) ∈ lw_all := lw_g (lw_at lw_m12 183 rfl) rfl
theorem q2957 : (Jvm.Cond.code ({ cls := "VersionSearchModel", name := "layWords", desc := "()V" } : Jvm.MethodName) prog_25_method_78_code (6 : Nat) (Option.none : Option Jvm.ClassFile.FieldType)) ∈ lw_all := lw_g (lw_at lw_m12 184 rfl) rfl
theorem q2958 : (Jvm.Cond.methodLink "VersionSearchModel" (358 : Nat) ({ cls := "VersionSearchModel", name := "widened", desc := "(I)I" } : Jvm.MethodName)) ∈ lw_all := lw_g (lw_at lw_m12 185 rfl) rfl
theorem q2959 : (Jvm.Cond.static ({ cls := "VersionSearchModel", name := "widened", desc := "(I)I" } : Jvm.MethodName)) ∈ lw_all := lw_g (lw_at lw_m12 186 rfl) rfl
theorem q2960 : (Jvm.Cond.code ({ cls := "VersionSearchModel", name := "widened", desc := "(I)I" } : Jvm.MethodName) prog_25_method_77_code (2 : Nat) (Option.some Jvm.ClassFile.FieldType.int)) ∈ lw_all := lw_g (lw_at lw_m12 187 rfl) rfl
theorem q2962 : (Jvm.Cond.instanceMethod ({ cls := "VersionSearchModel", name := "version", desc := "(IIII)I" } : Jvm.MethodName)) ∈ lw_all := lw_g (lw_at lw_m12 189 rfl) rfl
theorem q2963 : (Jvm.Cond.selects "VersionSearchModel" ({ cls := "VersionSearchModel", name := "version", desc := "(IIII)I" } : Jvm.MethodName) ({ cls := "VersionSearchModel", name := "version", desc := "(IIII)I" } : Jvm.MethodName)) ∈ lw_all := lw_g (lw_at lw_m12 190 rfl) rfl
theorem q2964 : (Jvm.Cond.code ({ cls := "VersionSearchModel", name := "version", desc := "(IIII)I" } : Jvm.MethodName) prog_25_method_75_code (5 : Nat) (Option.some Jvm.ClassFile.FieldType.int)) ∈ lw_all := lw_g (lw_at lw_m12 191 rfl) rfl
theorem q2965 : (Jvm.Cond.methodLink "VersionSearchModel" (340 : Nat) ({ cls := "VersionSearchModel", name := "fresh", desc := "(II)I" } : Jvm.MethodName)) ∈ lw_all := lw_g (lw_at lw_m12 192 rfl) rfl
theorem q2966 : (Jvm.Cond.privateMethod ({ cls := "VersionSearchModel", name := "fresh", desc := "(II)I" } : Jvm.MethodName)) ∈ lw_tbl := lw_at lw_m12 193 rfl
theorem q2967 : (Jvm.Cond.instanceMethod ({ cls := "VersionSearchModel", name := "fresh", desc := "(II)I" } : Jvm.MethodName)) ∈ lw_all := lw_g (lw_at lw_m12 194 rfl) rfl
theorem q2968 : (Jvm.Cond.code ({ cls := "VersionSearchModel", name := "fresh", desc := "(II)I" } : Jvm.MethodName) prog_25_method_71_code (5 : Nat) (Option.some Jvm.ClassFile.FieldType.int)) ∈ lw_all := lw_g (lw_at lw_m12 195 rfl) rfl
theorem q2969 : (Jvm.Cond.methodLink "VersionSearchModel" (343 : Nat) ({ cls := "VersionSearchModel", name := "lost", desc := "(II)I" } : Jvm.MethodName)) ∈ lw_all := lw_g (lw_at lw_m12 196 rfl) rfl
theorem q2970 : (Jvm.Cond.privateMethod ({ cls := "VersionSearchModel", name := "lost", desc := "(II)I" } : Jvm.MethodName)) ∈ lw_tbl := lw_at lw_m12 197 rfl
theorem q2971 : (Jvm.Cond.instanceMethod ({ cls := "VersionSearchModel", name := "lost", desc := "(II)I" } : Jvm.MethodName)) ∈ lw_all := lw_g (lw_at lw_m12 198 rfl) rfl
theorem q2972 : (Jvm.Cond.code ({ cls := "VersionSearchModel", name := "lost", desc := "(II)I" } : Jvm.MethodName) prog_25_method_72_code (5 : Nat) (Option.some Jvm.ClassFile.FieldType.int)) ∈ lw_all := lw_g (lw_at lw_m12 199 rfl) rfl
theorem q2973 : (Jvm.Cond.methodLink "VersionSearchModel" (346 : Nat) ({ cls := "VersionSearchModel", name := "turned", desc := "(II)I" } : Jvm.MethodName)) ∈ lw_all := lw_g (lw_at lw_m12 200 rfl) rfl
theorem q2974 : (Jvm.Cond.privateMethod ({ cls := "VersionSearchModel", name := "turned", desc := "(II)I" } : Jvm.MethodName)) ∈ lw_tbl := lw_at lw_m12 201 rfl
theorem q2975 : (Jvm.Cond.instanceMethod ({ cls := "VersionSearchModel", name := "turned", desc := "(II)I" } : Jvm.MethodName)) ∈ lw_all := lw_g (lw_at lw_m12 202 rfl) rfl
theorem q2976 : (Jvm.Cond.code ({ cls := "VersionSearchModel", name := "turned", desc := "(II)I" } : Jvm.MethodName) prog_25_method_73_code (8 : Nat) (Option.some Jvm.ClassFile.FieldType.int)) ∈ lw_all := lw_g (lw_at lw_m12 203 rfl) rfl
theorem q2977 : (Jvm.Cond.methodLink "VersionSearchModel" (349 : Nat) ({ cls := "VersionSearchModel", name := "oldest", desc := "(II)I" } : Jvm.MethodName)) ∈ lw_all := lw_g (lw_at lw_m12 204 rfl) rfl
theorem q2978 : (Jvm.Cond.privateMethod ({ cls := "VersionSearchModel", name := "oldest", desc := "(II)I" } : Jvm.MethodName)) ∈ lw_tbl := lw_at lw_m12 205 rfl
theorem q2979 : (Jvm.Cond.instanceMethod ({ cls := "VersionSearchModel", name := "oldest", desc := "(II)I" } : Jvm.MethodName)) ∈ lw_all := lw_g (lw_at lw_m12 206 rfl) rfl
theorem q2980 : (Jvm.Cond.code ({ cls := "VersionSearchModel", name := "oldest", desc := "(II)I" } : Jvm.MethodName) prog_25_method_74_code (7 : Nat) (Option.some Jvm.ClassFile.FieldType.int)) ∈ lw_all := lw_g (lw_at lw_m12 207 rfl) rfl
theorem q2982 : (Jvm.Cond.instanceMethod ({ cls := "VersionSearchModel", name := "life", desc := "(IIIII)I" } : Jvm.MethodName)) ∈ lw_all := lw_g (lw_at lw_m12 209 rfl) rfl
theorem q2983 : (Jvm.Cond.selects "VersionSearchModel" ({ cls := "VersionSearchModel", name := "life", desc := "(IIIII)I" } : Jvm.MethodName) ({ cls := "VersionSearchModel", name := "life", desc := "(IIIII)I" } : Jvm.MethodName)) ∈ lw_all := lw_g (lw_at lw_m12 210 rfl) rfl
theorem q2984 : (Jvm.Cond.code ({ cls := "VersionSearchModel", name := "life", desc := "(IIIII)I" } : Jvm.MethodName) prog_25_method_76_code (7 : Nat) (Option.some Jvm.ClassFile.FieldType.int)) ∈ lw_all := lw_g (lw_at lw_m12 211 rfl) rfl
theorem q2985 : (Jvm.Cond.methodLink "VersionSearchModel" (352 : Nat) ({ cls := "VersionSearchModel", name := "firstIn", desc := "(I)I" } : Jvm.MethodName)) ∈ lw_all := lw_g (lw_at lw_m12 212 rfl) rfl
theorem q2986 : (Jvm.Cond.static ({ cls := "VersionSearchModel", name := "firstIn", desc := "(I)I" } : Jvm.MethodName)) ∈ lw_all := lw_g (lw_at lw_m12 213 rfl) rfl
theorem q2987 : (Jvm.Cond.code ({ cls := "VersionSearchModel", name := "firstIn", desc := "(I)I" } : Jvm.MethodName) prog_25_method_56_code (2 : Nat) (Option.some Jvm.ClassFile.FieldType.int)) ∈ lw_all := lw_g (lw_at lw_m12 214 rfl) rfl
theorem q2988 : (Jvm.Cond.methodLink "VersionSearchModel" (355 : Nat) ({ cls := "VersionSearchModel", name := "lastIn", desc := "(I)I" } : Jvm.MethodName)) ∈ lw_all := lw_g (lw_at lw_m12 215 rfl) rfl
theorem q2989 : (Jvm.Cond.static ({ cls := "VersionSearchModel", name := "lastIn", desc := "(I)I" } : Jvm.MethodName)) ∈ lw_all := lw_g (lw_at lw_m12 216 rfl) rfl
theorem q2990 : (Jvm.Cond.code ({ cls := "VersionSearchModel", name := "lastIn", desc := "(I)I" } : Jvm.MethodName) prog_25_method_57_code (3 : Nat) (Option.some Jvm.ClassFile.FieldType.int)) ∈ lw_all := lw_g (lw_at lw_m12 217 rfl) rfl
theorem q2992 : (Jvm.Cond.instanceMethod ({ cls := "VersionSearchModel", name := "word", desc := "(III)I" } : Jvm.MethodName)) ∈ lw_all := lw_g (lw_at lw_m12 219 rfl) rfl
theorem q2993 : (Jvm.Cond.selects "VersionSearchModel" ({ cls := "VersionSearchModel", name := "word", desc := "(III)I" } : Jvm.MethodName) ({ cls := "VersionSearchModel", name := "word", desc := "(III)I" } : Jvm.MethodName)) ∈ lw_all := lw_g (lw_at lw_m12 220 rfl) rfl
theorem q2994 : (Jvm.Cond.code ({ cls := "VersionSearchModel", name := "word", desc := "(III)I" } : Jvm.MethodName) prog_25_method_81_code (4 : Nat) (Option.some Jvm.ClassFile.FieldType.int)) ∈ lw_all := lw_g (lw_at lw_m12 221 rfl) rfl
theorem q2995 : (Jvm.Cond.methodLink "VersionSearchModel" (365 : Nat) ({ cls := "VersionSearchModel", name := "ofWord", desc := "(II)I" } : Jvm.MethodName)) ∈ lw_all := lw_g (lw_at lw_m12 222 rfl) rfl
theorem q2996 : (Jvm.Cond.privateMethod ({ cls := "VersionSearchModel", name := "ofWord", desc := "(II)I" } : Jvm.MethodName)) ∈ lw_tbl := lw_at lw_m12 223 rfl
theorem q2997 : (Jvm.Cond.instanceMethod ({ cls := "VersionSearchModel", name := "ofWord", desc := "(II)I" } : Jvm.MethodName)) ∈ lw_all := lw_g (lw_at lw_m12 224 rfl) rfl
theorem q2998 : (Jvm.Cond.code ({ cls := "VersionSearchModel", name := "ofWord", desc := "(II)I" } : Jvm.MethodName) prog_25_method_80_code (11 : Nat) (Option.some Jvm.ClassFile.FieldType.int)) ∈ lw_all := lw_g (lw_at lw_m12 225 rfl) rfl
theorem q2999 : (Jvm.Cond.constant "VersionSearchModel" (361 : Nat) (1000000 : Int32)) ∈ lw_all := lw_g (lw_at lw_m12 226 rfl) rfl
theorem q3000 : (Jvm.Cond.methodLink "VersionSearchModel" (362 : Nat) ({ cls := "VersionSearchModel", name := "timesIn", desc := "(III)I" } : Jvm.MethodName)) ∈ lw_all := lw_g (lw_at lw_m12 227 rfl) rfl
theorem q3001 : (Jvm.Cond.privateMethod ({ cls := "VersionSearchModel", name := "timesIn", desc := "(III)I" } : Jvm.MethodName)) ∈ lw_tbl := lw_at lw_m12 228 rfl
theorem q3002 : (Jvm.Cond.instanceMethod ({ cls := "VersionSearchModel", name := "timesIn", desc := "(III)I" } : Jvm.MethodName)) ∈ lw_all := lw_g (lw_at lw_m12 229 rfl) rfl
theorem q3003 : (Jvm.Cond.code ({ cls := "VersionSearchModel", name := "timesIn", desc := "(III)I" } : Jvm.MethodName) prog_25_method_79_code (6 : Nat) (Option.some Jvm.ClassFile.FieldType.int)) ∈ lw_all := lw_g (lw_at lw_m12 230 rfl) rfl
theorem q3005 : (Jvm.Cond.instanceMethod ({ cls := "VersionSearchModel", name := "dated", desc := "(II)I" } : Jvm.MethodName)) ∈ lw_all := lw_g (lw_at lw_m12 232 rfl) rfl
theorem q3006 : (Jvm.Cond.selects "VersionSearchModel" ({ cls := "VersionSearchModel", name := "dated", desc := "(II)I" } : Jvm.MethodName) ({ cls := "VersionSearchModel", name := "dated", desc := "(II)I" } : Jvm.MethodName)) ∈ lw_all := lw_g (lw_at lw_m12 233 rfl) rfl
theorem q3007 : (Jvm.Cond.code ({ cls := "VersionSearchModel", name := "dated", desc := "(II)I" } : Jvm.MethodName) prog_25_method_82_code (4 : Nat) (Option.some Jvm.ClassFile.FieldType.int)) ∈ lw_all := lw_g (lw_at lw_m12 234 rfl) rfl
theorem q3009 : (Jvm.Cond.instanceMethod ({ cls := "VersionSearchModel", name := "shared", desc := "(IIII)I" } : Jvm.MethodName)) ∈ lw_all := lw_g (lw_at lw_m12 236 rfl) rfl
theorem q3010 : (Jvm.Cond.selects "VersionSearchModel" ({ cls := "VersionSearchModel", name := "shared", desc := "(IIII)I" } : Jvm.MethodName) ({ cls := "VersionSearchModel", name := "shared", desc := "(IIII)I" } : Jvm.MethodName)) ∈ lw_all := lw_g (lw_at lw_m12 237 rfl) rfl
theorem q3011 : (Jvm.Cond.code ({ cls := "VersionSearchModel", name := "shared", desc := "(IIII)I" } : Jvm.MethodName) prog_25_method_83_code (7 : Nat) (Option.some Jvm.ClassFile.FieldType.int)) ∈ lw_all := lw_g (lw_at lw_m12 238 rfl) rfl
theorem q3013 : (Jvm.Cond.instanceMethod ({ cls := "VersionSearchModel", name := "common", desc := "(IIIII)I" } : Jvm.MethodName)) ∈ lw_all := lw_g (lw_at lw_m13 0 rfl) rfl
theorem q3014 : (Jvm.Cond.selects "VersionSearchModel" ({ cls := "VersionSearchModel", name := "common", desc := "(IIIII)I" } : Jvm.MethodName) ({ cls := "VersionSearchModel", name := "common", desc := "(IIIII)I" } : Jvm.MethodName)) ∈ lw_all := lw_g (lw_at lw_m13 1 rfl) rfl
theorem q3015 : (Jvm.Cond.code ({ cls := "VersionSearchModel", name := "common", desc := "(IIIII)I" } : Jvm.MethodName) prog_25_method_84_code (12 : Nat) (Option.some Jvm.ClassFile.FieldType.int)) ∈ lw_all := lw_g (lw_at lw_m13 2 rfl) rfl
theorem q3017 : (Jvm.Cond.instanceMethod ({ cls := "VersionSearchModel", name := "question", desc := "(III)I" } : Jvm.MethodName)) ∈ lw_all := lw_g (lw_at lw_m13 4 rfl) rfl
theorem q3018 : (Jvm.Cond.selects "VersionSearchModel" ({ cls := "VersionSearchModel", name := "question", desc := "(III)I" } : Jvm.MethodName) ({ cls := "VersionSearchModel", name := "question", desc := "(III)I" } : Jvm.MethodName)) ∈ lw_all := lw_g (lw_at lw_m13 5 rfl) rfl
theorem q3019 : (Jvm.Cond.code ({ cls := "VersionSearchModel", name := "question", desc := "(III)I" } : Jvm.MethodName) prog_25_method_89_code (4 : Nat) (Option.some Jvm.ClassFile.FieldType.int)) ∈ lw_all := lw_g (lw_at lw_m13 6 rfl) rfl
theorem q3020 : (Jvm.Cond.methodLink "VersionSearchModel" (374 : Nat) ({ cls := "VersionSearchModel", name := "hasAsking", desc := "(I)Z" } : Jvm.MethodName)) ∈ lw_all := lw_g (lw_at lw_m13 7 rfl) rfl
theorem q3021 : (Jvm.Cond.privateMethod ({ cls := "VersionSearchModel", name := "hasAsking", desc := "(I)Z" } : Jvm.MethodName)) ∈ lw_tbl := lw_at lw_m13 8 rfl
theorem q3022 : (Jvm.Cond.instanceMethod ({ cls := "VersionSearchModel", name := "hasAsking", desc := "(I)Z" } : Jvm.MethodName)) ∈ lw_all := lw_g (lw_at lw_m13 9 rfl) rfl
theorem q3023 : (Jvm.Cond.code ({ cls := "VersionSearchModel", name := "hasAsking", desc := "(I)Z" } : Jvm.MethodName) prog_25_method_87_code (2 : Nat) (Option.some Jvm.ClassFile.FieldType.boolean)) ∈ lw_all := lw_g (lw_at lw_m13 10 rfl) rfl
theorem q3024 : (Jvm.Cond.methodLink "VersionSearchModel" (377 : Nat) ({ cls := "VersionSearchModel", name := "askedMany", desc := "()I" } : Jvm.MethodName)) ∈ lw_all := lw_g (lw_at lw_m13 11 rfl) rfl
theorem q3025 : (Jvm.Cond.privateMethod ({ cls := "VersionSearchModel", name := "askedMany", desc := "()I" } : Jvm.MethodName)) ∈ lw_tbl := lw_at lw_m13 12 rfl
theorem q3026 : (Jvm.Cond.instanceMethod ({ cls := "VersionSearchModel", name := "askedMany", desc := "()I" } : Jvm.MethodName)) ∈ lw_all := lw_g (lw_at lw_m13 13 rfl) rfl
theorem q3027 : (Jvm.Cond.code ({ cls := "VersionSearchModel", name := "askedMany", desc := "()I" } : Jvm.MethodName) prog_25_method_85_code (1 : Nat) (Option.some Jvm.ClassFile.FieldType.int)) ∈ lw_all := lw_g (lw_at lw_m13 14 rfl) rfl
theorem q3028 : (Jvm.Cond.methodLink "VersionSearchModel" (380 : Nat) ({ cls := "VersionSearchModel", name := "wordsOf", desc := "(I)I" } : Jvm.MethodName)) ∈ lw_all := lw_g (lw_at lw_m13 15 rfl) rfl
theorem q3029 : (Jvm.Cond.privateMethod ({ cls := "VersionSearchModel", name := "wordsOf", desc := "(I)I" } : Jvm.MethodName)) ∈ lw_tbl := lw_at lw_m13 16 rfl
theorem q3030 : (Jvm.Cond.instanceMethod ({ cls := "VersionSearchModel", name := "wordsOf", desc := "(I)I" } : Jvm.MethodName)) ∈ lw_all := lw_g (lw_at lw_m13 17 rfl) rfl
theorem q3031 : (Jvm.Cond.code ({ cls := "VersionSearchModel", name := "wordsOf", desc := "(I)I" } : Jvm.MethodName) prog_25_method_88_code (3 : Nat) (Option.some Jvm.ClassFile.FieldType.int)) ∈ lw_all := lw_g (lw_at lw_m13 18 rfl) rfl
theorem q3032 : (Jvm.Cond.methodLink "VersionSearchModel" (371 : Nat) ({ cls := "VersionSearchModel", name := "ofAsking", desc := "(II)I" } : Jvm.MethodName)) ∈ lw_all := lw_g (lw_at lw_m13 19 rfl) rfl
theorem q3033 : (Jvm.Cond.privateMethod ({ cls := "VersionSearchModel", name := "ofAsking", desc := "(II)I" } : Jvm.MethodName)) ∈ lw_tbl := lw_at lw_m13 20 rfl
theorem q3034 : (Jvm.Cond.instanceMethod ({ cls := "VersionSearchModel", name := "ofAsking", desc := "(II)I" } : Jvm.MethodName)) ∈ lw_all := lw_g (lw_at lw_m13 21 rfl) rfl
theorem q3035 : (Jvm.Cond.code ({ cls := "VersionSearchModel", name := "ofAsking", desc := "(II)I" } : Jvm.MethodName) prog_25_method_86_code (3 : Nat) (Option.some Jvm.ClassFile.FieldType.int)) ∈ lw_all := lw_g (lw_at lw_m13 22 rfl) rfl
theorem q3037 : (Jvm.Cond.instanceMethod ({ cls := "VersionSearchModel", name := "holds", desc := "(IIIII)I" } : Jvm.MethodName)) ∈ lw_all := lw_g (lw_at lw_m13 24 rfl) rfl
theorem q3038 : (Jvm.Cond.selects "VersionSearchModel" ({ cls := "VersionSearchModel", name := "holds", desc := "(IIIII)I" } : Jvm.MethodName) ({ cls := "VersionSearchModel", name := "holds", desc := "(IIIII)I" } : Jvm.MethodName)) ∈ lw_all := lw_g (lw_at lw_m13 25 rfl) rfl
theorem q3039 : (Jvm.Cond.code ({ cls := "VersionSearchModel", name := "holds", desc := "(IIIII)I" } : Jvm.MethodName) prog_25_method_96_code (6 : Nat) (Option.some Jvm.ClassFile.FieldType.int)) ∈ lw_all := lw_g (lw_at lw_m13 26 rfl) rfl
theorem q3040 : (Jvm.Cond.methodLink "VersionSearchModel" (395 : Nat) ({ cls := "VersionSearchModel", name := "layHeld", desc := "(II)Z" } : Jvm.MethodName)) ∈ lw_all := lw_g (lw_at lw_m13 27 rfl) rfl
theorem q3041 : (Jvm.Cond.privateMethod ({ cls := "VersionSearchModel", name := "layHeld", desc := "(II)Z" } : Jvm.MethodName)) ∈ lw_tbl := lw_at lw_m13 28 rfl
theorem q3042 : (Jvm.Cond.instanceMethod ({ cls := "VersionSearchModel", name := "layHeld", desc := "(II)Z" } : Jvm.MethodName)) ∈ lw_all := lw_g (lw_at lw_m13 29 rfl) rfl
theorem q3043 : (Jvm.Cond.code ({ cls := "VersionSearchModel", name := "layHeld", desc := "(II)Z" } : Jvm.MethodName) prog_25_method_94_code (6 : Nat) (Option.some Jvm.ClassFile.FieldType.boolean)) ∈ lw_all := lw_g (lw_at lw_m13 30 rfl) rfl
theorem q3044 : (Jvm.Cond.methodLink "VersionSearchModel" (392 : Nat) ({ cls := "VersionSearchModel", name := "holdsBy", desc := "(III)Z" } : Jvm.MethodName)) ∈ lw_all := lw_g (lw_at lw_m13 31 rfl) rfl
theorem q3045 : (Jvm.Cond.privateMethod ({ cls := "VersionSearchModel", name := "holdsBy", desc := "(III)Z" } : Jvm.MethodName)) ∈ lw_tbl := lw_at lw_m13 32 rfl
theorem q3046 : (Jvm.Cond.instanceMethod ({ cls := "VersionSearchModel", name := "holdsBy", desc := "(III)Z" } : Jvm.MethodName)) ∈ lw_all := lw_g (lw_at lw_m13 33 rfl) rfl
theorem q3047 : (Jvm.Cond.code ({ cls := "VersionSearchModel", name := "holdsBy", desc := "(III)Z" } : Jvm.MethodName) prog_25_method_93_code (6 : Nat) (Option.some Jvm.ClassFile.FieldType.boolean)) ∈ lw_all := lw_g (lw_at lw_m13 34 rfl) rfl
theorem q3048 : (Jvm.Cond.methodLink "VersionSearchModel" (386 : Nat) ({ cls := "VersionSearchModel", name := "timesOf", desc := "(III)I" } : Jvm.MethodName)) ∈ lw_all := lw_g (lw_at lw_m13 35 rfl) rfl
theorem q3049 : (Jvm.Cond.privateMethod ({ cls := "VersionSearchModel", name := "timesOf", desc := "(III)I" } : Jvm.MethodName)) ∈ lw_tbl := lw_at lw_m13 36 rfl
theorem q3050 : (Jvm.Cond.instanceMethod ({ cls := "VersionSearchModel", name := "timesOf", desc := "(III)I" } : Jvm.MethodName)) ∈ lw_all := lw_g (lw_at lw_m13 37 rfl) rfl
theorem q3051 : (Jvm.Cond.code ({ cls := "VersionSearchModel", name := "timesOf", desc := "(III)I" } : Jvm.MethodName) prog_25_method_91_code (6 : Nat) (Option.some Jvm.ClassFile.FieldType.int)) ∈ lw_all := lw_g (lw_at lw_m13 38 rfl) rfl
theorem q3052 : (Jvm.Cond.methodLink "VersionSearchModel" (383 : Nat) ({ cls := "VersionSearchModel", name := "beginsAt", desc := "(IIII)Z" } : Jvm.MethodName)) ∈ lw_all := lw_g (lw_at lw_m13 39 rfl) rfl
theorem q3053 : (Jvm.Cond.privateMethod ({ cls := "VersionSearchModel", name := "beginsAt", desc := "(IIII)Z" } : Jvm.MethodName)) ∈ lw_tbl := lw_at lw_m13 40 rfl
theorem q3054 : (Jvm.Cond.instanceMethod ({ cls := "VersionSearchModel", name := "beginsAt", desc := "(IIII)Z" } : Jvm.MethodName)) ∈ lw_all := lw_g (lw_at lw_m13 41 rfl) rfl
theorem q3055 : (Jvm.Cond.code ({ cls := "VersionSearchModel", name := "beginsAt", desc := "(IIII)Z" } : Jvm.MethodName) prog_25_method_90_code (8 : Nat) (Option.some Jvm.ClassFile.FieldType.boolean)) ∈ lw_all := lw_g (lw_at lw_m13 42 rfl) rfl
theorem q3056 : (Jvm.Cond.methodLink "VersionSearchModel" (389 : Nat) ({ cls := "VersionSearchModel", name := "areNear", desc := "(III)Z" } : Jvm.MethodName)) ∈ lw_all := lw_g (lw_at lw_m13 43 rfl) rfl
theorem q3057 : (Jvm.Cond.privateMethod ({ cls := "VersionSearchModel", name := "areNear", desc := "(III)Z" } : Jvm.MethodName)) ∈ lw_tbl := lw_at lw_m13 44 rfl
theorem q3058 : (Jvm.Cond.instanceMethod ({ cls := "VersionSearchModel", name := "areNear", desc := "(III)Z" } : Jvm.MethodName)) ∈ lw_all := lw_g (lw_at lw_m13 45 rfl) rfl
theorem q3059 : (Jvm.Cond.code ({ cls := "VersionSearchModel", name := "areNear", desc := "(III)Z" } : Jvm.MethodName) prog_25_method_92_code (8 : Nat) (Option.some Jvm.ClassFile.FieldType.boolean)) ∈ lw_all := lw_g (lw_at lw_m13 46 rfl) rfl
theorem q3060 : (Jvm.Cond.methodLink "VersionSearchModel" (398 : Nat) ({ cls := "VersionSearchModel", name := "isAsking", desc := "(I)Z" } : Jvm.MethodName)) ∈ lw_all := lw_g (lw_at lw_m13 47 rfl) rfl
theorem q3061 : (Jvm.Cond.privateMethod ({ cls := "VersionSearchModel", name := "isAsking", desc := "(I)Z" } : Jvm.MethodName)) ∈ lw_tbl := lw_at lw_m13 48 rfl
theorem q3062 : (Jvm.Cond.instanceMethod ({ cls := "VersionSearchModel", name := "isAsking", desc := "(I)Z" } : Jvm.MethodName)) ∈ lw_all := lw_g (lw_at lw_m13 49 rfl) rfl
theorem q3063 : (Jvm.Cond.code ({ cls := "VersionSearchModel", name := "isAsking", desc := "(I)Z" } : Jvm.MethodName) prog_25_method_95_code (2 : Nat) (Option.some Jvm.ClassFile.FieldType.boolean)) ∈ lw_all := lw_g (lw_at lw_m13 50 rfl) rfl
theorem q3065 : (Jvm.Cond.instanceMethod ({ cls := "VersionSearchModel", name := "spans", desc := "(IIIIIZ)I" } : Jvm.MethodName)) ∈ lw_all := lw_g (lw_at lw_m13 52 rfl) rfl
theorem q3066 : (Jvm.Cond.selects "VersionSearchModel" ({ cls := "VersionSearchModel", name := "spans", desc := "(IIIIIZ)I" } : Jvm.MethodName) ({ cls := "VersionSearchModel", name := "spans", desc := "(IIIIIZ)I" } : Jvm.MethodName)) ∈ lw_all := lw_g (lw_at lw_m13 53 rfl) rfl
theorem q3067 : (Jvm.Cond.code ({ cls := "VersionSearchModel", name := "spans", desc := "(IIIIIZ)I" } : Jvm.MethodName) prog_25_method_97_code (11 : Nat) (Option.some Jvm.ClassFile.FieldType.int)) ∈ lw_all := lw_g (lw_at lw_m13 54 rfl) rfl
theorem q3069 : (Jvm.Cond.instanceMethod ({ cls := "VersionSearchModel", name := "times", desc := "(IIIII)I" } : Jvm.MethodName)) ∈ lw_all := lw_g (lw_at lw_m13 56 rfl) rfl
theorem q3070 : (Jvm.Cond.selects "VersionSearchModel" ({ cls := "VersionSearchModel", name := "times", desc := "(IIIII)I" } : Jvm.MethodName) ({ cls := "VersionSearchModel", name := "times", desc := "(IIIII)I" } : Jvm.MethodName)) ∈ lw_all := lw_g (lw_at lw_m13 57 rfl) rfl
theorem q3071 : (Jvm.Cond.code ({ cls := "VersionSearchModel", name := "times", desc := "(IIIII)I" } : Jvm.MethodName) prog_25_method_98_code (6 : Nat) (Option.some Jvm.ClassFile.FieldType.int)) ∈ lw_all := lw_g (lw_at lw_m13 58 rfl) rfl
theorem q3073 : (Jvm.Cond.instanceMethod ({ cls := "VersionSearchModel", name := "found", desc := "(IIII)I" } : Jvm.MethodName)) ∈ lw_all := lw_g (lw_at lw_m13 60 rfl) rfl
theorem q3074 : (Jvm.Cond.selects "VersionSearchModel" ({ cls := "VersionSearchModel", name := "found", desc := "(IIII)I" } : Jvm.MethodName) ({ cls := "VersionSearchModel", name := "found", desc := "(IIII)I" } : Jvm.MethodName)) ∈ lw_all := lw_g (lw_at lw_m13 61 rfl) rfl
theorem q3075 : (Jvm.Cond.code ({ cls := "VersionSearchModel", name := "found", desc := "(IIII)I" } : Jvm.MethodName) prog_25_method_105_code (5 : Nat) (Option.some Jvm.ClassFile.FieldType.int)) ∈ lw_all := lw_g (lw_at lw_m13 62 rfl) rfl
theorem q3076 : (Jvm.Cond.methodLink "VersionSearchModel" (401 : Nat) ({ cls := "VersionSearchModel", name := "asOf", desc := "(II)I" } : Jvm.MethodName)) ∈ lw_all := lw_g (lw_at lw_m13 63 rfl) rfl
theorem q3077 : (Jvm.Cond.privateMethod ({ cls := "VersionSearchModel", name := "asOf", desc := "(II)I" } : Jvm.MethodName)) ∈ lw_tbl := lw_at lw_m13 64 rfl
theorem q3078 : (Jvm.Cond.instanceMethod ({ cls := "VersionSearchModel", name := "asOf", desc := "(II)I" } : Jvm.MethodName)) ∈ lw_all := lw_g (lw_at lw_m13 65 rfl) rfl
theorem q3079 : (Jvm.Cond.code ({ cls := "VersionSearchModel", name := "asOf", desc := "(II)I" } : Jvm.MethodName) prog_25_method_100_code (7 : Nat) (Option.some Jvm.ClassFile.FieldType.int)) ∈ lw_all := lw_g (lw_at lw_m13 66 rfl) rfl
theorem q3080 : (Jvm.Cond.methodLink "VersionSearchModel" (407 : Nat) ({ cls := "VersionSearchModel", name := "changes", desc := "(II)I" } : Jvm.MethodName)) ∈ lw_all := lw_g (lw_at lw_m13 67 rfl) rfl
theorem q3081 : (Jvm.Cond.privateMethod ({ cls := "VersionSearchModel", name := "changes", desc := "(II)I" } : Jvm.MethodName)) ∈ lw_tbl := lw_at lw_m13 68 rfl
theorem q3082 : (Jvm.Cond.instanceMethod ({ cls := "VersionSearchModel", name := "changes", desc := "(II)I" } : Jvm.MethodName)) ∈ lw_all := lw_g (lw_at lw_m13 69 rfl) rfl
theorem q3083 : (Jvm.Cond.code ({ cls := "VersionSearchModel", name := "changes", desc := "(II)I" } : Jvm.MethodName) prog_25_method_101_code (7 : Nat) (Option.some Jvm.ClassFile.FieldType.int)) ∈ lw_all := lw_g (lw_at lw_m13 70 rfl) rfl
theorem q3084 : (Jvm.Cond.methodLink "VersionSearchModel" (410 : Nat) ({ cls := "VersionSearchModel", name := "rank", desc := "(II)I" } : Jvm.MethodName)) ∈ lw_all := lw_g (lw_at lw_m13 71 rfl) rfl
theorem q3085 : (Jvm.Cond.privateMethod ({ cls := "VersionSearchModel", name := "rank", desc := "(II)I" } : Jvm.MethodName)) ∈ lw_tbl := lw_at lw_m13 72 rfl
theorem q3086 : (Jvm.Cond.instanceMethod ({ cls := "VersionSearchModel", name := "rank", desc := "(II)I" } : Jvm.MethodName)) ∈ lw_all := lw_g (lw_at lw_m13 73 rfl) rfl
theorem q3087 : (Jvm.Cond.code ({ cls := "VersionSearchModel", name := "rank", desc := "(II)I" } : Jvm.MethodName) prog_25_method_104_code (6 : Nat) (Option.some Jvm.ClassFile.FieldType.int)) ∈ lw_all := lw_g (lw_at lw_m13 74 rfl) rfl
theorem q3088 : (Jvm.Cond.methodLink "VersionSearchModel" (404 : Nat) ({ cls := "VersionSearchModel", name := "rankOf", desc := "(II)I" } : Jvm.MethodName)) ∈ lw_all := lw_g (lw_at lw_m13 75 rfl) rfl
theorem q3089 : (Jvm.Cond.privateMethod ({ cls := "VersionSearchModel", name := "rankOf", desc := "(II)I" } : Jvm.MethodName)) ∈ lw_tbl := lw_at lw_m13 76 rfl
theorem q3090 : (Jvm.Cond.instanceMethod ({ cls := "VersionSearchModel", name := "rankOf", desc := "(II)I" } : Jvm.MethodName)) ∈ lw_all := lw_g (lw_at lw_m13 77 rfl) rfl
theorem q3091 : (Jvm.Cond.code ({ cls := "VersionSearchModel", name := "rankOf", desc := "(II)I" } : Jvm.MethodName) prog_25_method_103_code (3 : Nat) (Option.some Jvm.ClassFile.FieldType.int)) ∈ lw_all := lw_g (lw_at lw_m13 78 rfl) rfl
theorem q3092 : (Jvm.Cond.methodLink "VersionSearchModel" (413 : Nat) ({ cls := "VersionSearchModel", name := "docsBy", desc := "(IZ)I" } : Jvm.MethodName)) ∈ lw_all := lw_g (lw_at lw_m13 79 rfl) rfl
theorem q3093 : (Jvm.Cond.privateMethod ({ cls := "VersionSearchModel", name := "docsBy", desc := "(IZ)I" } : Jvm.MethodName)) ∈ lw_tbl := lw_at lw_m13 80 rfl
theorem q3094 : (Jvm.Cond.instanceMethod ({ cls := "VersionSearchModel", name := "docsBy", desc := "(IZ)I" } : Jvm.MethodName)) ∈ lw_all := lw_g (lw_at lw_m13 81 rfl) rfl
theorem q3095 : (Jvm.Cond.code ({ cls := "VersionSearchModel", name := "docsBy", desc := "(IZ)I" } : Jvm.MethodName) prog_25_method_99_code (6 : Nat) (Option.some Jvm.ClassFile.FieldType.int)) ∈ lw_all := lw_g (lw_at lw_m13 82 rfl) rfl
theorem q3096 : (Jvm.Cond.methodLink "VersionSearchModel" (416 : Nat) ({ cls := "VersionSearchModel", name := "versionsBy", desc := "(I)I" } : Jvm.MethodName)) ∈ lw_all := lw_g (lw_at lw_m13 83 rfl) rfl
theorem q3097 : (Jvm.Cond.privateMethod ({ cls := "VersionSearchModel", name := "versionsBy", desc := "(I)I" } : Jvm.MethodName)) ∈ lw_tbl := lw_at lw_m13 84 rfl
theorem q3098 : (Jvm.Cond.instanceMethod ({ cls := "VersionSearchModel", name := "versionsBy", desc := "(I)I" } : Jvm.MethodName)) ∈ lw_all := lw_g (lw_at lw_m13 85 rfl) rfl
theorem q3099 : (Jvm.Cond.code ({ cls := "VersionSearchModel", name := "versionsBy", desc := "(I)I" } : Jvm.MethodName) prog_25_method_102_code (4 : Nat) (Option.some Jvm.ClassFile.FieldType.int)) ∈ lw_all := lw_g (lw_at lw_m13 86 rfl) rfl
theorem q3101 : (Jvm.Cond.instanceMethod ({ cls := "VersionSearchModel", name := "best", desc := "(III)I" } : Jvm.MethodName)) ∈ lw_all := lw_g (lw_at lw_m13 88 rfl) rfl
theorem q3102 : (Jvm.Cond.selects "VersionSearchModel" ({ cls := "VersionSearchModel", name := "best", desc := "(III)I" } : Jvm.MethodName) ({ cls := "VersionSearchModel", name := "best", desc := "(III)I" } : Jvm.MethodName)) ∈ lw_all := lw_g (lw_at lw_m13 89 rfl) rfl
theorem q3103 : (Jvm.Cond.code ({ cls := "VersionSearchModel", name := "best", desc := "(III)I" } : Jvm.MethodName) prog_25_method_109_code (4 : Nat) (Option.some Jvm.ClassFile.FieldType.int)) ∈ lw_all := lw_g (lw_at lw_m13 90 rfl) rfl
theorem q3104 : (Jvm.Cond.methodLink "VersionSearchModel" (422 : Nat) ({ cls := "VersionSearchModel", name := "bestAsking", desc := "()I" } : Jvm.MethodName)) ∈ lw_all := lw_g (lw_at lw_m13 91 rfl) rfl
theorem q3105 : (Jvm.Cond.privateMethod ({ cls := "VersionSearchModel", name := "bestAsking", desc := "()I" } : Jvm.MethodName)) ∈ lw_tbl := lw_at lw_m13 92 rfl
theorem q3106 : (Jvm.Cond.instanceMethod ({ cls := "VersionSearchModel", name := "bestAsking", desc := "()I" } : Jvm.MethodName)) ∈ lw_all := lw_g (lw_at lw_m13 93 rfl) rfl
theorem q3107 : (Jvm.Cond.code ({ cls := "VersionSearchModel", name := "bestAsking", desc := "()I" } : Jvm.MethodName) prog_25_method_107_code (3 : Nat) (Option.some Jvm.ClassFile.FieldType.int)) ∈ lw_all := lw_g (lw_at lw_m13 94 rfl) rfl
theorem q3108 : (Jvm.Cond.methodLink "VersionSearchModel" (425 : Nat) ({ cls := "VersionSearchModel", name := "samePairs", desc := "()I" } : Jvm.MethodName)) ∈ lw_all := lw_g (lw_at lw_m13 95 rfl) rfl
theorem q3109 : (Jvm.Cond.privateMethod ({ cls := "VersionSearchModel", name := "samePairs", desc := "()I" } : Jvm.MethodName)) ∈ lw_tbl := lw_at lw_m13 96 rfl
theorem q3110 : (Jvm.Cond.instanceMethod ({ cls := "VersionSearchModel", name := "samePairs", desc := "()I" } : Jvm.MethodName)) ∈ lw_all := lw_g (lw_at lw_m13 97 rfl) rfl
theorem q3111 : (Jvm.Cond.code ({ cls := "VersionSearchModel", name := "samePairs", desc := "()I" } : Jvm.MethodName) prog_25_method_108_code (4 : Nat) (Option.some Jvm.ClassFile.FieldType.int)) ∈ lw_all := lw_g (lw_at lw_m13 98 rfl) rfl
theorem q3112 : (Jvm.Cond.methodLink "VersionSearchModel" (419 : Nat) ({ cls := "VersionSearchModel", name := "isWithin", desc := "(II)Z" } : Jvm.MethodName)) ∈ lw_all := lw_g (lw_at lw_m13 99 rfl) rfl
theorem q3113 : (Jvm.Cond.privateMethod ({ cls := "VersionSearchModel", name := "isWithin", desc := "(II)Z" } : Jvm.MethodName)) ∈ lw_tbl := lw_at lw_m13 100 rfl
theorem q3114 : (Jvm.Cond.instanceMethod ({ cls := "VersionSearchModel", name := "isWithin", desc := "(II)Z" } : Jvm.MethodName)) ∈ lw_all := lw_g (lw_at lw_m13 101 rfl) rfl
theorem q3115 : (Jvm.Cond.code ({ cls := "VersionSearchModel", name := "isWithin", desc := "(II)Z" } : Jvm.MethodName) prog_25_method_106_code (5 : Nat) (Option.some Jvm.ClassFile.FieldType.boolean)) ∈ lw_all := lw_g (lw_at lw_m13 102 rfl) rfl
theorem q3117 : (Jvm.Cond.instanceMethod ({ cls := "VersionSearchModel", name := "implies", desc := "(IIII)I" } : Jvm.MethodName)) ∈ lw_all := lw_g (lw_at lw_m13 104 rfl) rfl
theorem q3118 : (Jvm.Cond.selects "VersionSearchModel" ({ cls := "VersionSearchModel", name := "implies", desc := "(IIII)I" } : Jvm.MethodName) ({ cls := "VersionSearchModel", name := "implies", desc := "(IIII)I" } : Jvm.MethodName)) ∈ lw_all := lw_g (lw_at lw_m13 105 rfl) rfl
theorem q3119 : (Jvm.Cond.code ({ cls := "VersionSearchModel", name := "implies", desc := "(IIII)I" } : Jvm.MethodName) prog_25_method_110_code (5 : Nat) (Option.some Jvm.ClassFile.FieldType.int)) ∈ lw_all := lw_g (lw_at lw_m13 106 rfl) rfl
theorem q3121 : (Jvm.Cond.instanceMethod ({ cls := "VersionSearchModel", name := "fact", desc := "(III)I" } : Jvm.MethodName)) ∈ lw_all := lw_g (lw_at lw_m13 108 rfl) rfl
theorem q3122 : (Jvm.Cond.selects "VersionSearchModel" ({ cls := "VersionSearchModel", name := "fact", desc := "(III)I" } : Jvm.MethodName) ({ cls := "VersionSearchModel", name := "fact", desc := "(III)I" } : Jvm.MethodName)) ∈ lw_all := lw_g (lw_at lw_m13 109 rfl) rfl
theorem q3123 : (Jvm.Cond.code ({ cls := "VersionSearchModel", name := "fact", desc := "(III)I" } : Jvm.MethodName) prog_25_method_114_code (4 : Nat) (Option.some Jvm.ClassFile.FieldType.int)) ∈ lw_all := lw_g (lw_at lw_m13 110 rfl) rfl
theorem q3124 : (Jvm.Cond.methodLink "VersionSearchModel" (431 : Nat) ({ cls := "VersionSearchModel", name := "hasHunt", desc := "(I)Z" } : Jvm.MethodName)) ∈ lw_all := lw_g (lw_at lw_m13 111 rfl) rfl
theorem q3125 : (Jvm.Cond.privateMethod ({ cls := "VersionSearchModel", name := "hasHunt", desc := "(I)Z" } : Jvm.MethodName)) ∈ lw_tbl := lw_at lw_m13 112 rfl
theorem q3126 : (Jvm.Cond.instanceMethod ({ cls := "VersionSearchModel", name := "hasHunt", desc := "(I)Z" } : Jvm.MethodName)) ∈ lw_all := lw_g (lw_at lw_m13 113 rfl) rfl
theorem q3127 : (Jvm.Cond.code ({ cls := "VersionSearchModel", name := "hasHunt", desc := "(I)Z" } : Jvm.MethodName) prog_25_method_113_code (2 : Nat) (Option.some Jvm.ClassFile.FieldType.boolean)) ∈ lw_all := lw_g (lw_at lw_m13 114 rfl) rfl
theorem q3128 : (Jvm.Cond.methodLink "VersionSearchModel" (434 : Nat) ({ cls := "VersionSearchModel", name := "facts", desc := "()I" } : Jvm.MethodName)) ∈ lw_all := lw_g (lw_at lw_m13 115 rfl) rfl
theorem q3129 : (Jvm.Cond.privateMethod ({ cls := "VersionSearchModel", name := "facts", desc := "()I" } : Jvm.MethodName)) ∈ lw_tbl := lw_at lw_m13 116 rfl
theorem q3130 : (Jvm.Cond.instanceMethod ({ cls := "VersionSearchModel", name := "facts", desc := "()I" } : Jvm.MethodName)) ∈ lw_all := lw_g (lw_at lw_m13 117 rfl) rfl
theorem q3131 : (Jvm.Cond.code ({ cls := "VersionSearchModel", name := "facts", desc := "()I" } : Jvm.MethodName) prog_25_method_111_code (1 : Nat) (Option.some Jvm.ClassFile.FieldType.int)) ∈ lw_all := lw_g (lw_at lw_m13 118 rfl) rfl
theorem q3132 : (Jvm.Cond.methodLink "VersionSearchModel" (437 : Nat) ({ cls := "VersionSearchModel", name := "factOf", desc := "(II)I" } : Jvm.MethodName)) ∈ lw_all := lw_g (lw_at lw_m13 119 rfl) rfl
theorem q3133 : (Jvm.Cond.privateMethod ({ cls := "VersionSearchModel", name := "factOf", desc := "(II)I" } : Jvm.MethodName)) ∈ lw_tbl := lw_at lw_m13 120 rfl
theorem q3134 : (Jvm.Cond.instanceMethod ({ cls := "VersionSearchModel", name := "factOf", desc := "(II)I" } : Jvm.MethodName)) ∈ lw_all := lw_g (lw_at lw_m13 121 rfl) rfl
theorem q3135 : (Jvm.Cond.code ({ cls := "VersionSearchModel", name := "factOf", desc := "(II)I" } : Jvm.MethodName) prog_25_method_112_code (3 : Nat) (Option.some Jvm.ClassFile.FieldType.int)) ∈ lw_all := lw_g (lw_at lw_m13 122 rfl) rfl
theorem q3137 : (Jvm.Cond.instanceMethod ({ cls := "VersionSearchModel", name := "fits", desc := "(III)I" } : Jvm.MethodName)) ∈ lw_all := lw_g (lw_at lw_m13 124 rfl) rfl
theorem q3138 : (Jvm.Cond.selects "VersionSearchModel" ({ cls := "VersionSearchModel", name := "fits", desc := "(III)I" } : Jvm.MethodName) ({ cls := "VersionSearchModel", name := "fits", desc := "(III)I" } : Jvm.MethodName)) ∈ lw_all := lw_g (lw_at lw_m13 125 rfl) rfl
theorem q3139 : (Jvm.Cond.code ({ cls := "VersionSearchModel", name := "fits", desc := "(III)I" } : Jvm.MethodName) prog_25_method_120_code (4 : Nat) (Option.some Jvm.ClassFile.FieldType.int)) ∈ lw_all := lw_g (lw_at lw_m13 126 rfl) rfl
theorem q3140 : (Jvm.Cond.methodLink "VersionSearchModel" (455 : Nat) ({ cls := "VersionSearchModel", name := "findWords", desc := "(I)V" } : Jvm.MethodName)) ∈ lw_all := lw_g (lw_at lw_m13 127 rfl) rfl
theorem q3141 : (Jvm.Cond.privateMethod ({ cls := "VersionSearchModel", name := "findWords", desc := "(I)V" } : Jvm.MethodName)) ∈ lw_tbl := lw_at lw_m13 128 rfl
theorem q3142 : (Jvm.Cond.instanceMethod ({ cls := "VersionSearchModel", name := "findWords", desc := "(I)V" } : Jvm.MethodName)) ∈ lw_all := lw_g (lw_at lw_m13 129 rfl) rfl
theorem q3143 : (Jvm.Cond.code ({ cls := "VersionSearchModel", name := "findWords", desc := "(I)V" } : Jvm.MethodName) prog_25_method_117_code (3 : Nat) (Option.none : Option Jvm.ClassFile.FieldType)) ∈ lw_all := lw_g (lw_at lw_m13 130 rfl) rfl
theorem q3144 : (Jvm.Cond.methodLink "VersionSearchModel" (449 : Nat) ({ cls := "VersionSearchModel", name := "isSo", desc := "(I)Z" } : Jvm.MethodName)) ∈ lw_all := lw_g (lw_at lw_m13 131 rfl) rfl
theorem q3145 : (Jvm.Cond.privateMethod ({ cls := "VersionSearchModel", name := "isSo", desc := "(I)Z" } : Jvm.MethodName)) ∈ lw_tbl := lw_at lw_m13 132 rfl
theorem q3146 : (Jvm.Cond.instanceMethod ({ cls := "VersionSearchModel", name := "isSo", desc := "(I)Z" } : Jvm.MethodName)) ∈ lw_all := lw_g (lw_at lw_m13 133 rfl) rfl
theorem q3147 : (Jvm.Cond.code ({ cls := "VersionSearchModel", name := "isSo", desc := "(I)Z" } : Jvm.MethodName) prog_25_method_115_code (6 : Nat) (Option.some Jvm.ClassFile.FieldType.boolean)) ∈ lw_all := lw_g (lw_at lw_m13 134 rfl) rfl
theorem q3148 : (Jvm.Cond.methodLink "VersionSearchModel" (452 : Nat) ({ cls := "VersionSearchModel", name := "noteFit", desc := "(II)V" } : Jvm.MethodName)) ∈ lw_all := lw_g (lw_at lw_m13 135 rfl) rfl
theorem q3149 : (Jvm.Cond.privateMethod ({ cls := "VersionSearchModel", name := "noteFit", desc := "(II)V" } : Jvm.MethodName)) ∈ lw_tbl := lw_at lw_m13 136 rfl
theorem q3150 : (Jvm.Cond.instanceMethod ({ cls := "VersionSearchModel", name := "noteFit", desc := "(II)V" } : Jvm.MethodName)) ∈ lw_all := lw_g (lw_at lw_m13 137 rfl) rfl
theorem q3151 : (Jvm.Cond.code ({ cls := "VersionSearchModel", name := "noteFit", desc := "(II)V" } : Jvm.MethodName) prog_25_method_116_code (6 : Nat) (Option.none : Option Jvm.ClassFile.FieldType)) ∈ lw_all := lw_g (lw_at lw_m13 138 rfl) rfl
theorem q3152 : (Jvm.Cond.methodLink "VersionSearchModel" (458 : Nat) ({ cls := "VersionSearchModel", name := "sureLetter", desc := "()I" } : Jvm.MethodName)) ∈ lw_all := lw_g (lw_at lw_m13 139 rfl) rfl
theorem q3153 : (Jvm.Cond.privateMethod ({ cls := "VersionSearchModel", name := "sureLetter", desc := "()I" } : Jvm.MethodName)) ∈ lw_tbl := lw_at lw_m13 140 rfl
theorem q3154 : (Jvm.Cond.instanceMethod ({ cls := "VersionSearchModel", name := "sureLetter", desc := "()I" } : Jvm.MethodName)) ∈ lw_all := lw_g (lw_at lw_m13 141 rfl) rfl
theorem q3155 : (Jvm.Cond.code ({ cls := "VersionSearchModel", name := "sureLetter", desc := "()I" } : Jvm.MethodName) prog_25_method_118_code (2 : Nat) (Option.some Jvm.ClassFile.FieldType.int)) ∈ lw_all := lw_g (lw_at lw_m13 142 rfl) rfl
theorem q3156 : (Jvm.Cond.methodLink "VersionSearchModel" (461 : Nat) ({ cls := "VersionSearchModel", name := "askWhere", desc := "()I" } : Jvm.MethodName)) ∈ lw_all := lw_g (lw_at lw_m13 143 rfl) rfl
theorem q3157 : (Jvm.Cond.privateMethod ({ cls := "VersionSearchModel", name := "askWhere", desc := "()I" } : Jvm.MethodName)) ∈ lw_tbl := lw_at lw_m13 144 rfl
theorem q3158 : (Jvm.Cond.instanceMethod ({ cls := "VersionSearchModel", name := "askWhere", desc := "()I" } : Jvm.MethodName)) ∈ lw_all := lw_g (lw_at lw_m13 145 rfl) rfl
theorem q3159 : (Jvm.Cond.code ({ cls := "VersionSearchModel", name := "askWhere", desc := "()I" } : Jvm.MethodName) prog_25_method_119_code (5 : Nat) (Option.some Jvm.ClassFile.FieldType.int)) ∈ lw_all := lw_g (lw_at lw_m13 146 rfl) rfl
theorem q3161 : (Jvm.Cond.instanceMethod ({ cls := "VersionSearchModel", name := "drawn", desc := "(IIIII)I" } : Jvm.MethodName)) ∈ lw_all := lw_g (lw_at lw_m13 148 rfl) rfl
theorem q3162 : (Jvm.Cond.selects "VersionSearchModel" ({ cls := "VersionSearchModel", name := "drawn", desc := "(IIIII)I" } : Jvm.MethodName) ({ cls := "VersionSearchModel", name := "drawn", desc := "(IIIII)I" } : Jvm.MethodName)) ∈ lw_all := lw_g (lw_at lw_m13 149 rfl) rfl
theorem q3163 : (Jvm.Cond.code ({ cls := "VersionSearchModel", name := "drawn", desc := "(IIIII)I" } : Jvm.MethodName) prog_25_method_126_code (7 : Nat) (Option.some Jvm.ClassFile.FieldType.int)) ∈ lw_all := lw_g (lw_at lw_m13 150 rfl) rfl
theorem q3164 : (Jvm.Cond.methodLink "VersionSearchModel" (477 : Nat) ({ cls := "VersionSearchModel", name := "drawChange", desc := "()V" } : Jvm.MethodName)) ∈ lw_all := lw_g (lw_at lw_m13 151 rfl) rfl
theorem q3165 : (Jvm.Cond.privateMethod ({ cls := "VersionSearchModel", name := "drawChange", desc := "()V" } : Jvm.MethodName)) ∈ lw_tbl := lw_at lw_m13 152 rfl
theorem q3166 : (Jvm.Cond.instanceMethod ({ cls := "VersionSearchModel", name := "drawChange", desc := "()V" } : Jvm.MethodName)) ∈ lw_all := lw_g (lw_at lw_m13 153 rfl) rfl
theorem q3167 : (Jvm.Cond.code ({ cls := "VersionSearchModel", name := "drawChange", desc := "()V" } : Jvm.MethodName) prog_25_method_124_code (5 : Nat) (Option.none : Option Jvm.ClassFile.FieldType)) ∈ lw_all := lw_g (lw_at lw_m13 154 rfl) rfl
theorem q3168 : (Jvm.Cond.methodLink "VersionSearchModel" (468 : Nat) ({ cls := "VersionSearchModel", name := "draw", desc := "(I)I" } : Jvm.MethodName)) ∈ lw_all := lw_g (lw_at lw_m13 155 rfl) rfl
theorem q3169 : (Jvm.Cond.privateMethod ({ cls := "VersionSearchModel", name := "draw", desc := "(I)I" } : Jvm.MethodName)) ∈ lw_tbl := lw_at lw_m13 156 rfl
theorem q3170 : (Jvm.Cond.instanceMethod ({ cls := "VersionSearchModel", name := "draw", desc := "(I)I" } : Jvm.MethodName)) ∈ lw_all := lw_g (lw_at lw_m13 157 rfl) rfl
theorem q3171 : (Jvm.Cond.code ({ cls := "VersionSearchModel", name := "draw", desc := "(I)I" } : Jvm.MethodName) prog_25_method_121_code (2 : Nat) (Option.some Jvm.ClassFile.FieldType.int)) ∈ lw_all := lw_g (lw_at lw_m13 158 rfl) rfl
theorem q3172 : (Jvm.Cond.constant "VersionSearchModel" (467 : Nat) (1103515245 : Int32)) ∈ lw_all := lw_g (lw_at lw_m13 159 rfl) rfl
theorem q3173 : (Jvm.Cond.methodLink "VersionSearchModel" (471 : Nat) ({ cls := "VersionSearchModel", name := "firstToken", desc := "(I)I" } : Jvm.MethodName)) ∈ lw_all := lw_g (lw_at lw_m13 160 rfl) rfl
theorem q3174 : (Jvm.Cond.privateMethod ({ cls := "VersionSearchModel", name := "firstToken", desc := "(I)I" } : Jvm.MethodName)) ∈ lw_tbl := lw_at lw_m13 161 rfl
theorem q3175 : (Jvm.Cond.instanceMethod ({ cls := "VersionSearchModel", name := "firstToken", desc := "(I)I" } : Jvm.MethodName)) ∈ lw_all := lw_g (lw_at lw_m13 162 rfl) rfl
theorem q3176 : (Jvm.Cond.code ({ cls := "VersionSearchModel", name := "firstToken", desc := "(I)I" } : Jvm.MethodName) prog_25_method_122_code (3 : Nat) (Option.some Jvm.ClassFile.FieldType.int)) ∈ lw_all := lw_g (lw_at lw_m13 163 rfl) rfl
theorem q3177 : (Jvm.Cond.methodLink "VersionSearchModel" (474 : Nat) ({ cls := "VersionSearchModel", name := "makes", desc := "(I)V" } : Jvm.MethodName)) ∈ lw_all := lw_g (lw_at lw_m13 164 rfl) rfl
theorem q3178 : (Jvm.Cond.privateMethod ({ cls := "VersionSearchModel", name := "makes", desc := "(I)V" } : Jvm.MethodName)) ∈ lw_tbl := lw_at lw_m13 165 rfl
theorem q3179 : (Jvm.Cond.instanceMethod ({ cls := "VersionSearchModel", name := "makes", desc := "(I)V" } : Jvm.MethodName)) ∈ lw_all := lw_g (lw_at lw_m13 166 rfl) rfl
theorem q3180 : (Jvm.Cond.code ({ cls := "VersionSearchModel", name := "makes", desc := "(I)V" } : Jvm.MethodName) prog_25_method_123_code (2 : Nat) (Option.none : Option Jvm.ClassFile.FieldType)) ∈ lw_all := lw_g (lw_at lw_m13 167 rfl) rfl
theorem q3181 : (Jvm.Cond.methodLink "VersionSearchModel" (480 : Nat) ({ cls := "VersionSearchModel", name := "tokensOf", desc := "(I)I" } : Jvm.MethodName)) ∈ lw_all := lw_g (lw_at lw_m13 168 rfl) rfl
theorem q3182 : (Jvm.Cond.privateMethod ({ cls := "VersionSearchModel", name := "tokensOf", desc := "(I)I" } : Jvm.MethodName)) ∈ lw_tbl := lw_at lw_m13 169 rfl
theorem q3183 : (Jvm.Cond.instanceMethod ({ cls := "VersionSearchModel", name := "tokensOf", desc := "(I)I" } : Jvm.MethodName)) ∈ lw_all := lw_g (lw_at lw_m13 170 rfl) rfl
theorem q3184 : (Jvm.Cond.code ({ cls := "VersionSearchModel", name := "tokensOf", desc := "(I)I" } : Jvm.MethodName) prog_25_method_125_code (4 : Nat) (Option.some Jvm.ClassFile.FieldType.int)) ∈ lw_all := lw_g (lw_at lw_m13 171 rfl) rfl
theorem q3186 : (Jvm.Cond.instanceMethod ({ cls := "VersionSearchModel", name := "count", desc := "(I)I" } : Jvm.MethodName)) ∈ lw_all := lw_g (lw_at lw_m13 173 rfl) rfl
theorem q3187 : (Jvm.Cond.selects "VersionSearchModel" ({ cls := "VersionSearchModel", name := "count", desc := "(I)I" } : Jvm.MethodName) ({ cls := "VersionSearchModel", name := "count", desc := "(I)I" } : Jvm.MethodName)) ∈ lw_all := lw_g (lw_at lw_m13 174 rfl) rfl
theorem q3188 : (Jvm.Cond.code ({ cls := "VersionSearchModel", name := "count", desc := "(I)I" } : Jvm.MethodName) prog_25_method_127_code (2 : Nat) (Option.some Jvm.ClassFile.FieldType.int)) ∈ lw_all := lw_g (lw_at lw_m13 175 rfl) rfl
theorem q3190 : (Jvm.Cond.instanceMethod ({ cls := "VersionSearchModel", name := "image", desc := "(I)Z" } : Jvm.MethodName)) ∈ lw_all := lw_g (lw_at lw_m13 177 rfl) rfl
theorem q3191 : (Jvm.Cond.selects "VersionSearchModel" ({ cls := "VersionSearchModel", name := "image", desc := "(I)Z" } : Jvm.MethodName) ({ cls := "VersionSearchModel", name := "image", desc := "(I)Z" } : Jvm.MethodName)) ∈ lw_all := lw_g (lw_at lw_m13 178 rfl) rfl
theorem q3192 : (Jvm.Cond.code ({ cls := "VersionSearchModel", name := "image", desc := "(I)Z" } : Jvm.MethodName) prog_25_method_128_code (2 : Nat) (Option.some Jvm.ClassFile.FieldType.boolean)) ∈ lw_all := lw_g (lw_at lw_m13 179 rfl) rfl
theorem q3193 : (Jvm.Cond.methodLink "VersionSearchModel" (483 : Nat) ({ cls := "VersionSearchModel", name := "copyAll", desc := "(II)V" } : Jvm.MethodName)) ∈ lw_all := lw_g (lw_at lw_m13 180 rfl) rfl
theorem q3194 : (Jvm.Cond.privateMethod ({ cls := "VersionSearchModel", name := "copyAll", desc := "(II)V" } : Jvm.MethodName)) ∈ lw_tbl := lw_at lw_m13 181 rfl
theorem q3195 : (Jvm.Cond.instanceMethod ({ cls := "VersionSearchModel", name := "copyAll", desc := "(II)V" } : Jvm.MethodName)) ∈ lw_all := lw_g (lw_at lw_m13 182 rfl) rfl
theorem q3196 : (Jvm.Cond.code ({ cls := "VersionSearchModel", name := "copyAll", desc := "(II)V" } : Jvm.MethodName) prog_25_method_9_code (4 : Nat) (Option.none : Option Jvm.ClassFile.FieldType)) ∈ lw_all := lw_g (lw_at lw_m13 183 rfl) rfl
theorem q3197 : (Jvm.Cond.methodLink "VersionSearchModel" (68 : Nat) ({ cls := "VersionSearchModel", name := "copyRow", desc := "([IIII)V" } : Jvm.MethodName)) ∈ lw_all := lw_g (lw_at lw_m13 184 rfl) rfl
theorem q3198 : (Jvm.Cond.static ({ cls := "VersionSearchModel", name := "copyRow", desc := "([IIII)V" } : Jvm.MethodName)) ∈ lw_all := lw_g (lw_at lw_m13 185 rfl) rfl
theorem q3199 : (Jvm.Cond.code ({ cls := "VersionSearchModel", name := "copyRow", desc := "([IIII)V" } : Jvm.MethodName) prog_25_method_8_code (5 : Nat) (Option.none : Option Jvm.ClassFile.FieldType)) ∈ lw_all := lw_g (lw_at lw_m13 186 rfl) rfl
theorem q3201 : (Jvm.Cond.instanceMethod ({ cls := "VersionSearchModel", name := "again", desc := "(I)Z" } : Jvm.MethodName)) ∈ lw_all := lw_g (lw_at lw_m13 188 rfl) rfl
theorem q3202 : (Jvm.Cond.selects "VersionSearchModel" ({ cls := "VersionSearchModel", name := "again", desc := "(I)Z" } : Jvm.MethodName) ({ cls := "VersionSearchModel", name := "again", desc := "(I)Z" } : Jvm.MethodName)) ∈ lw_all := lw_g (lw_at lw_m13 189 rfl) rfl
theorem q3203 : (Jvm.Cond.code ({ cls := "VersionSearchModel", name := "again", desc := "(I)Z" } : Jvm.MethodName) prog_25_method_129_code (2 : Nat) (Option.some Jvm.ClassFile.FieldType.boolean)) ∈ lw_all := lw_g (lw_at lw_m13 190 rfl) rfl
theorem q3227 : (Jvm.Cond.castable "VersionSearchModel" "java/lang/Object") ∈ lw_tbl := lw_at lw_m13 214 rfl
theorem in_X2 : ∀ w ∈ wsX20, w ∈ lw_all := lw_in wsX20 [2614, 2616, 2618, 2620, 2622, 2624, 2626, 2628, 2630, 2632, 2634, 2636, 2638, 2640, 2642, 2644, 2646, 2648, 2650, 2652, 2654, 2656, 2658, 2660, 2662, 2664, 2666, 2668, 2670, 2672, 2674, 2676, 2678, 2680, 2682, 2684, 2686] (by decide +kernel) (by decide +kernel)
