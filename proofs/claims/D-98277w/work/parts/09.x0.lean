/-! OverFirst -/
set_option maxRecDepth 100000
def RX0 : String := "OverFirst"
def TX0 : u_T := fun k => match k with
  | 0 => ("OverFirst", "tape", "[B", true)
  | 1 => ("OverFirst", "reader", "LOverFirst$Reader;", true)
  | 2 => ("OverFirst", "town", "LOverFirst$Town;", false)
  | 3 => ("OverFirst", "walk", "LOverFirst$Walk;", false)
  | 4 => ("OverFirst", "state", "LOverFirst$State;", true)
  | 5 => ("OverFirst", "taped", "I", false)
  | 6 => ("OverFirst", "undone", "[LOverFirst$State;", true)
  | 7 => ("OverFirst", "done", "I", false)
  | 8 => ("OverFirst", "takes", "[I", true)
  | 9 => ("OverFirst", "areTold", "Z", false)
  | 10 => ("OverFirst", "isWorst", "Z", false)
  | 11 => ("OverFirst", "watched", "I", false)
  | 12 => ("OverFirst", "stands", "I", false)
  | 13 => ("OverFirst", "comes", "[I", true)
  | 14 => ("OverFirst", "odds", "[I", true)
  | 15 => ("OverFirst", "paces", "[I", true)
  | 16 => ("OverFirst", "greens", "[J", true)
  | 17 => ("OverFirst", "backs", "[J", true)
  | 18 => ("OverFirst", "begins", "[I", true)
  | 19 => ("OverFirst", "bestBegins", "[I", true)
  | 20 => ("OverFirst", "bestWave", "I", false)
  | 21 => ("OverFirst", "fits", "I", false)
  | 22 => ("OverFirst", "firstFit", "I", false)
  | 23 => ("OverFirst", "onAll", "J", false)
  | 24 => ("OverFirst", "onAllHigh", "J", false)
  | 25 => ("OverFirst", "g", "J", false)
  | 26 => ("OverFirst", "shift", "[I", true)
  | _ => ("OverFirst", "marks", "[LOverFirst$State;", true)
def tyX0 : Nat → FieldType := fun k => match k with
  | 0 => .array .byte
  | 1 => .object "OverFirst$Reader"
  | 2 => .object "OverFirst$Town"
  | 3 => .object "OverFirst$Walk"
  | 4 => .object "OverFirst$State"
  | 5 => .int
  | 6 => .array (.object "OverFirst$State")
  | 7 => .int
  | 8 => .array .int
  | 9 => .boolean
  | 10 => .boolean
  | 11 => .int
  | 12 => .int
  | 13 => .array .int
  | 14 => .array .int
  | 15 => .array .int
  | 16 => .array .long
  | 17 => .array .long
  | 18 => .array .int
  | 19 => .array .int
  | 20 => .int
  | 21 => .int
  | 22 => .int
  | 23 => .long
  | 24 => .long
  | 25 => .long
  | 26 => .array .int
  | _ => .array (.object "OverFirst$State")
abbrev wsX00 : List Cond := u_ws RX0 TX0 28
set_option maxRecDepth 100000 in
theorem nmX0 : ∀ a, a < 28 → ∀ b, b < 28 → a ≠ b → (TX0 a).2.1 ≠ (TX0 b).2.1 := by decide +kernel
set_option maxRecDepth 100000 in
theorem tyX0_ok : ∀ k, k < 28 → parseFieldDescriptor (TX0 k).2.2.1 = some (tyX0 k) := by decide +kernel
abbrev cX0_init : ByteArray := prog_1_method_5_code
def yX0_init : MethodName := ⟨RX0, "<init>", "()V"⟩
def dkwX0_init_6 : List UInt8 := [181, 0, 90, 42, 7, 189, 0, 46, 181, 0, 93, 177]
abbrev dktX0_init_6 : List UInt8 := dkwX0_init_6 ++ []
def dkwX0_init_5 : List UInt8 := [188, 11, 181, 0, 81, 42, 7, 188, 10, 181, 0, 84, 42, 7, 188, 10, 181, 0, 87, 42, 16, 54, 188, 10]
abbrev dktX0_init_5 : List UInt8 := dkwX0_init_5 ++ dktX0_init_6
def dkwX0_init_4 : List UInt8 := [181, 0, 70, 42, 18, 73, 188, 10, 181, 0, 74, 42, 17, 0, 240, 188, 11, 181, 0, 77, 42, 17, 0, 240]
abbrev dktX0_init_4 : List UInt8 := dkwX0_init_4 ++ dktX0_init_5
def dkwX0_init_3 : List UInt8 := [181, 0, 58, 42, 2, 181, 0, 62, 42, 17, 5, 124, 188, 10, 181, 0, 66, 42, 18, 69, 188, 10]
abbrev dktX0_init_3 : List UInt8 := dkwX0_init_3 ++ dktX0_init_4
def dkwX0_init_2 : List UInt8 := [187, 0, 46, 89, 183, 0, 48, 181, 0, 49, 42, 16, 16, 189, 0, 46, 181, 0, 53, 42, 18, 57, 188, 10]
abbrev dktX0_init_2 : List UInt8 := dkwX0_init_2 ++ dktX0_init_3
def dkwX0_init_1 : List UInt8 := [42, 187, 0, 32, 89, 183, 0, 34, 181, 0, 35, 42, 187, 0, 39, 89, 183, 0, 41, 181, 0, 42, 42]
abbrev dktX0_init_1 : List UInt8 := dkwX0_init_1 ++ dktX0_init_2
def dkwX0_init_0 : List UInt8 := [42, 183, 0, 18, 42, 17, 3, 232, 188, 8, 181, 0, 21, 42, 187, 0, 25, 89, 183, 0, 27, 181, 0, 28]
abbrev dktX0_init_0 : List UInt8 := dkwX0_init_0 ++ dktX0_init_1
theorem dksX0_init_0 : cX0_init.data.toList.drop 0 = dktX0_init_0 := by decide +kernel
theorem dksX0_init_1 : cX0_init.data.toList.drop 24 = dktX0_init_1 := dk_seg dksX0_init_0 24 rfl rfl
theorem dksX0_init_2 : cX0_init.data.toList.drop 47 = dktX0_init_2 := dk_seg dksX0_init_1 23 rfl rfl
theorem dksX0_init_3 : cX0_init.data.toList.drop 71 = dktX0_init_3 := dk_seg dksX0_init_2 24 rfl rfl
theorem dksX0_init_4 : cX0_init.data.toList.drop 93 = dktX0_init_4 := dk_seg dksX0_init_3 22 rfl rfl
theorem dksX0_init_5 : cX0_init.data.toList.drop 117 = dktX0_init_5 := dk_seg dksX0_init_4 24 rfl rfl
theorem dksX0_init_6 : cX0_init.data.toList.drop 141 = dktX0_init_6 := dk_seg dksX0_init_5 24 rfl rfl
theorem dX0_init_0 : decode cX0_init 0 = .ok (.aload_n 0, 1) := dk_42 (dk_at dksX0_init_0 0 rfl rfl)
theorem dX0_init_1 : decode cX0_init 1 = .ok (.invokespecial 18, 3) := dk_183 0 18 (dk_at dksX0_init_0 1 rfl rfl)
theorem dX0_init_4 : decode cX0_init 4 = .ok (.aload_n 0, 1) := dk_42 (dk_at dksX0_init_0 4 rfl rfl)
theorem dX0_init_5 : decode cX0_init 5 = .ok (.sipush 1000, 3) := dk_17 3 232 (dk_at dksX0_init_0 5 rfl rfl)
theorem dX0_init_8 : decode cX0_init 8 = .ok (.newarray .byte, 2) := dk_188_8 (dk_at dksX0_init_0 8 rfl rfl)
theorem dX0_init_10 : decode cX0_init 10 = .ok (.putfield 21, 3) := dk_181 0 21 (dk_at dksX0_init_0 10 rfl rfl)
theorem dX0_init_13 : decode cX0_init 13 = .ok (.aload_n 0, 1) := dk_42 (dk_at dksX0_init_0 13 rfl rfl)
theorem dX0_init_14 : decode cX0_init 14 = .ok (.new 25, 3) := dk_187 0 25 (dk_at dksX0_init_0 14 rfl rfl)
theorem dX0_init_17 : decode cX0_init 17 = .ok (.dup, 1) := dk_89 (dk_at dksX0_init_0 17 rfl rfl)
theorem dX0_init_18 : decode cX0_init 18 = .ok (.invokespecial 27, 3) := dk_183 0 27 (dk_at dksX0_init_0 18 rfl rfl)
theorem dX0_init_21 : decode cX0_init 21 = .ok (.putfield 28, 3) := dk_181 0 28 (dk_at dksX0_init_0 21 rfl rfl)
theorem dX0_init_24 : decode cX0_init 24 = .ok (.aload_n 0, 1) := dk_42 (dk_at dksX0_init_1 0 rfl rfl)
theorem dX0_init_25 : decode cX0_init 25 = .ok (.new 32, 3) := dk_187 0 32 (dk_at dksX0_init_1 1 rfl rfl)
theorem dX0_init_28 : decode cX0_init 28 = .ok (.dup, 1) := dk_89 (dk_at dksX0_init_1 4 rfl rfl)
theorem dX0_init_29 : decode cX0_init 29 = .ok (.invokespecial 34, 3) := dk_183 0 34 (dk_at dksX0_init_1 5 rfl rfl)
theorem dX0_init_32 : decode cX0_init 32 = .ok (.putfield 35, 3) := dk_181 0 35 (dk_at dksX0_init_1 8 rfl rfl)
theorem dX0_init_35 : decode cX0_init 35 = .ok (.aload_n 0, 1) := dk_42 (dk_at dksX0_init_1 11 rfl rfl)
theorem dX0_init_36 : decode cX0_init 36 = .ok (.new 39, 3) := dk_187 0 39 (dk_at dksX0_init_1 12 rfl rfl)
theorem dX0_init_39 : decode cX0_init 39 = .ok (.dup, 1) := dk_89 (dk_at dksX0_init_1 15 rfl rfl)
theorem dX0_init_40 : decode cX0_init 40 = .ok (.invokespecial 41, 3) := dk_183 0 41 (dk_at dksX0_init_1 16 rfl rfl)
theorem dX0_init_43 : decode cX0_init 43 = .ok (.putfield 42, 3) := dk_181 0 42 (dk_at dksX0_init_1 19 rfl rfl)
theorem dX0_init_46 : decode cX0_init 46 = .ok (.aload_n 0, 1) := dk_42 (dk_at dksX0_init_1 22 rfl rfl)
theorem dX0_init_47 : decode cX0_init 47 = .ok (.new 46, 3) := dk_187 0 46 (dk_at dksX0_init_2 0 rfl rfl)
theorem dX0_init_50 : decode cX0_init 50 = .ok (.dup, 1) := dk_89 (dk_at dksX0_init_2 3 rfl rfl)
theorem dX0_init_51 : decode cX0_init 51 = .ok (.invokespecial 48, 3) := dk_183 0 48 (dk_at dksX0_init_2 4 rfl rfl)
theorem dX0_init_54 : decode cX0_init 54 = .ok (.putfield 49, 3) := dk_181 0 49 (dk_at dksX0_init_2 7 rfl rfl)
theorem dX0_init_57 : decode cX0_init 57 = .ok (.aload_n 0, 1) := dk_42 (dk_at dksX0_init_2 10 rfl rfl)
theorem dX0_init_58 : decode cX0_init 58 = .ok (.bipush 16, 2) := dk_16 16 (dk_at dksX0_init_2 11 rfl rfl)
theorem dX0_init_60 : decode cX0_init 60 = .ok (.anewarray 46, 3) := dk_189 0 46 (dk_at dksX0_init_2 13 rfl rfl)
theorem dX0_init_63 : decode cX0_init 63 = .ok (.putfield 53, 3) := dk_181 0 53 (dk_at dksX0_init_2 16 rfl rfl)
theorem dX0_init_66 : decode cX0_init 66 = .ok (.aload_n 0, 1) := dk_42 (dk_at dksX0_init_2 19 rfl rfl)
theorem dX0_init_67 : decode cX0_init 67 = .ok (.ldc 57, 2) := dk_18 57 (dk_at dksX0_init_2 20 rfl rfl)
theorem dX0_init_69 : decode cX0_init 69 = .ok (.newarray .int, 2) := dk_188_10 (dk_at dksX0_init_2 22 rfl rfl)
theorem dX0_init_71 : decode cX0_init 71 = .ok (.putfield 58, 3) := dk_181 0 58 (dk_at dksX0_init_3 0 rfl rfl)
theorem dX0_init_74 : decode cX0_init 74 = .ok (.aload_n 0, 1) := dk_42 (dk_at dksX0_init_3 3 rfl rfl)
theorem dX0_init_75 : decode cX0_init 75 = .ok (.iconst (-1), 1) := dk_2 (dk_at dksX0_init_3 4 rfl rfl)
theorem dX0_init_76 : decode cX0_init 76 = .ok (.putfield 62, 3) := dk_181 0 62 (dk_at dksX0_init_3 5 rfl rfl)
theorem dX0_init_79 : decode cX0_init 79 = .ok (.aload_n 0, 1) := dk_42 (dk_at dksX0_init_3 8 rfl rfl)
theorem dX0_init_80 : decode cX0_init 80 = .ok (.sipush 1404, 3) := dk_17 5 124 (dk_at dksX0_init_3 9 rfl rfl)
theorem dX0_init_83 : decode cX0_init 83 = .ok (.newarray .int, 2) := dk_188_10 (dk_at dksX0_init_3 12 rfl rfl)
theorem dX0_init_85 : decode cX0_init 85 = .ok (.putfield 66, 3) := dk_181 0 66 (dk_at dksX0_init_3 14 rfl rfl)
theorem dX0_init_88 : decode cX0_init 88 = .ok (.aload_n 0, 1) := dk_42 (dk_at dksX0_init_3 17 rfl rfl)
theorem dX0_init_89 : decode cX0_init 89 = .ok (.ldc 69, 2) := dk_18 69 (dk_at dksX0_init_3 18 rfl rfl)
theorem dX0_init_91 : decode cX0_init 91 = .ok (.newarray .int, 2) := dk_188_10 (dk_at dksX0_init_3 20 rfl rfl)
theorem dX0_init_93 : decode cX0_init 93 = .ok (.putfield 70, 3) := dk_181 0 70 (dk_at dksX0_init_4 0 rfl rfl)
theorem dX0_init_96 : decode cX0_init 96 = .ok (.aload_n 0, 1) := dk_42 (dk_at dksX0_init_4 3 rfl rfl)
theorem dX0_init_97 : decode cX0_init 97 = .ok (.ldc 73, 2) := dk_18 73 (dk_at dksX0_init_4 4 rfl rfl)
theorem dX0_init_99 : decode cX0_init 99 = .ok (.newarray .int, 2) := dk_188_10 (dk_at dksX0_init_4 6 rfl rfl)
theorem dX0_init_101 : decode cX0_init 101 = .ok (.putfield 74, 3) := dk_181 0 74 (dk_at dksX0_init_4 8 rfl rfl)
theorem dX0_init_104 : decode cX0_init 104 = .ok (.aload_n 0, 1) := dk_42 (dk_at dksX0_init_4 11 rfl rfl)
theorem dX0_init_105 : decode cX0_init 105 = .ok (.sipush 240, 3) := dk_17 0 240 (dk_at dksX0_init_4 12 rfl rfl)
theorem dX0_init_108 : decode cX0_init 108 = .ok (.newarray .long, 2) := dk_188_11 (dk_at dksX0_init_4 15 rfl rfl)
theorem dX0_init_110 : decode cX0_init 110 = .ok (.putfield 77, 3) := dk_181 0 77 (dk_at dksX0_init_4 17 rfl rfl)
theorem dX0_init_113 : decode cX0_init 113 = .ok (.aload_n 0, 1) := dk_42 (dk_at dksX0_init_4 20 rfl rfl)
theorem dX0_init_114 : decode cX0_init 114 = .ok (.sipush 240, 3) := dk_17 0 240 (dk_at dksX0_init_4 21 rfl rfl)
theorem dX0_init_117 : decode cX0_init 117 = .ok (.newarray .long, 2) := dk_188_11 (dk_at dksX0_init_5 0 rfl rfl)
theorem dX0_init_119 : decode cX0_init 119 = .ok (.putfield 81, 3) := dk_181 0 81 (dk_at dksX0_init_5 2 rfl rfl)
theorem dX0_init_122 : decode cX0_init 122 = .ok (.aload_n 0, 1) := dk_42 (dk_at dksX0_init_5 5 rfl rfl)
theorem dX0_init_123 : decode cX0_init 123 = .ok (.iconst 4, 1) := dk_7 (dk_at dksX0_init_5 6 rfl rfl)
theorem dX0_init_124 : decode cX0_init 124 = .ok (.newarray .int, 2) := dk_188_10 (dk_at dksX0_init_5 7 rfl rfl)
theorem dX0_init_126 : decode cX0_init 126 = .ok (.putfield 84, 3) := dk_181 0 84 (dk_at dksX0_init_5 9 rfl rfl)
theorem dX0_init_129 : decode cX0_init 129 = .ok (.aload_n 0, 1) := dk_42 (dk_at dksX0_init_5 12 rfl rfl)
theorem dX0_init_130 : decode cX0_init 130 = .ok (.iconst 4, 1) := dk_7 (dk_at dksX0_init_5 13 rfl rfl)
theorem dX0_init_131 : decode cX0_init 131 = .ok (.newarray .int, 2) := dk_188_10 (dk_at dksX0_init_5 14 rfl rfl)
theorem dX0_init_133 : decode cX0_init 133 = .ok (.putfield 87, 3) := dk_181 0 87 (dk_at dksX0_init_5 16 rfl rfl)
theorem dX0_init_136 : decode cX0_init 136 = .ok (.aload_n 0, 1) := dk_42 (dk_at dksX0_init_5 19 rfl rfl)
theorem dX0_init_137 : decode cX0_init 137 = .ok (.bipush 54, 2) := dk_16 54 (dk_at dksX0_init_5 20 rfl rfl)
theorem dX0_init_139 : decode cX0_init 139 = .ok (.newarray .int, 2) := dk_188_10 (dk_at dksX0_init_5 22 rfl rfl)
theorem dX0_init_141 : decode cX0_init 141 = .ok (.putfield 90, 3) := dk_181 0 90 (dk_at dksX0_init_6 0 rfl rfl)
theorem dX0_init_144 : decode cX0_init 144 = .ok (.aload_n 0, 1) := dk_42 (dk_at dksX0_init_6 3 rfl rfl)
theorem dX0_init_145 : decode cX0_init 145 = .ok (.iconst 4, 1) := dk_7 (dk_at dksX0_init_6 4 rfl rfl)
theorem dX0_init_146 : decode cX0_init 146 = .ok (.anewarray 46, 3) := dk_189 0 46 (dk_at dksX0_init_6 5 rfl rfl)
theorem dX0_init_149 : decode cX0_init 149 = .ok (.putfield 93, 3) := dk_181 0 93 (dk_at dksX0_init_6 8 rfl rfl)
theorem dX0_init_152 : decode cX0_init 152 = .ok (.return_, 1) := dk_177 (dk_at dksX0_init_6 11 rfl rfl)
abbrev cX0_feed : ByteArray := prog_1_method_6_code
def yX0_feed : MethodName := ⟨RX0, "feed", "(JJJ)I"⟩
def dkwX0_feed_4 : List UInt8 := [96, 181, 0, 96, 21, 8, 145, 84, 132, 7, 1, 167, 255, 153, 42, 180, 0, 96, 172]
abbrev dktX0_feed_4 : List UInt8 := dkwX0_feed_4 ++ []
def dkwX0_feed_3 : List UInt8 := [163, 0, 32, 42, 180, 0, 96, 17, 3, 232, 162, 0, 22, 42, 180, 0, 21, 42, 89, 180, 0, 96, 90, 4]
abbrev dktX0_feed_3 : List UInt8 := dkwX0_feed_3 ++ dktX0_feed_4
def dkwX0_feed_2 : List UInt8 := [17, 0, 255, 126, 54, 8, 21, 8, 16, 10, 159, 0, 17, 21, 8, 16, 32, 161, 0, 39, 21, 8, 16, 126]
abbrev dktX0_feed_2 : List UInt8 := dkwX0_feed_2 ++ dktX0_feed_3
def dkwX0_feed_1 : List UInt8 := [16, 16, 162, 0, 7, 33, 167, 0, 5, 22, 5, 16, 56, 16, 8, 21, 7, 16, 8, 112, 104, 100, 123, 136]
abbrev dktX0_feed_1 : List UInt8 := dkwX0_feed_1 ++ dktX0_feed_2
def dkwX0_feed_0 : List UInt8 := [3, 54, 7, 21, 7, 16, 24, 162, 0, 102, 21, 7, 16, 8, 162, 0, 7, 31, 167, 0, 16, 21, 7]
abbrev dktX0_feed_0 : List UInt8 := dkwX0_feed_0 ++ dktX0_feed_1
theorem dksX0_feed_0 : cX0_feed.data.toList.drop 0 = dktX0_feed_0 := by decide +kernel
theorem dksX0_feed_1 : cX0_feed.data.toList.drop 23 = dktX0_feed_1 := dk_seg dksX0_feed_0 23 rfl rfl
theorem dksX0_feed_2 : cX0_feed.data.toList.drop 47 = dktX0_feed_2 := dk_seg dksX0_feed_1 24 rfl rfl
theorem dksX0_feed_3 : cX0_feed.data.toList.drop 71 = dktX0_feed_3 := dk_seg dksX0_feed_2 24 rfl rfl
theorem dksX0_feed_4 : cX0_feed.data.toList.drop 95 = dktX0_feed_4 := dk_seg dksX0_feed_3 24 rfl rfl
theorem dX0_feed_0 : decode cX0_feed 0 = .ok (.iconst 0, 1) := dk_3 (dk_at dksX0_feed_0 0 rfl rfl)
theorem dX0_feed_1 : decode cX0_feed 1 = .ok (.istore 7, 2) := dk_54 7 (dk_at dksX0_feed_0 1 rfl rfl)
theorem dX0_feed_3 : decode cX0_feed 3 = .ok (.iload 7, 2) := dk_21 7 (dk_at dksX0_feed_0 3 rfl rfl)
theorem dX0_feed_5 : decode cX0_feed 5 = .ok (.bipush 24, 2) := dk_16 24 (dk_at dksX0_feed_0 5 rfl rfl)
theorem dX0_feed_7 : decode cX0_feed 7 = .ok (.if_icmp .ge 102, 3) := dk_162 0 102 (dk_at dksX0_feed_0 7 rfl rfl)
theorem dX0_feed_10 : decode cX0_feed 10 = .ok (.iload 7, 2) := dk_21 7 (dk_at dksX0_feed_0 10 rfl rfl)
theorem dX0_feed_12 : decode cX0_feed 12 = .ok (.bipush 8, 2) := dk_16 8 (dk_at dksX0_feed_0 12 rfl rfl)
theorem dX0_feed_14 : decode cX0_feed 14 = .ok (.if_icmp .ge 7, 3) := dk_162 0 7 (dk_at dksX0_feed_0 14 rfl rfl)
theorem dX0_feed_17 : decode cX0_feed 17 = .ok (.lload_n 1, 1) := dk_31 (dk_at dksX0_feed_0 17 rfl rfl)
theorem dX0_feed_18 : decode cX0_feed 18 = .ok (.goto 16, 3) := dk_167 0 16 (dk_at dksX0_feed_0 18 rfl rfl)
theorem dX0_feed_21 : decode cX0_feed 21 = .ok (.iload 7, 2) := dk_21 7 (dk_at dksX0_feed_0 21 rfl rfl)
theorem dX0_feed_23 : decode cX0_feed 23 = .ok (.bipush 16, 2) := dk_16 16 (dk_at dksX0_feed_1 0 rfl rfl)
theorem dX0_feed_25 : decode cX0_feed 25 = .ok (.if_icmp .ge 7, 3) := dk_162 0 7 (dk_at dksX0_feed_1 2 rfl rfl)
theorem dX0_feed_28 : decode cX0_feed 28 = .ok (.lload_n 3, 1) := dk_33 (dk_at dksX0_feed_1 5 rfl rfl)
theorem dX0_feed_29 : decode cX0_feed 29 = .ok (.goto 5, 3) := dk_167 0 5 (dk_at dksX0_feed_1 6 rfl rfl)
theorem dX0_feed_32 : decode cX0_feed 32 = .ok (.lload 5, 2) := dk_22 5 (dk_at dksX0_feed_1 9 rfl rfl)
theorem dX0_feed_34 : decode cX0_feed 34 = .ok (.bipush 56, 2) := dk_16 56 (dk_at dksX0_feed_1 11 rfl rfl)
theorem dX0_feed_36 : decode cX0_feed 36 = .ok (.bipush 8, 2) := dk_16 8 (dk_at dksX0_feed_1 13 rfl rfl)
theorem dX0_feed_38 : decode cX0_feed 38 = .ok (.iload 7, 2) := dk_21 7 (dk_at dksX0_feed_1 15 rfl rfl)
theorem dX0_feed_40 : decode cX0_feed 40 = .ok (.bipush 8, 2) := dk_16 8 (dk_at dksX0_feed_1 17 rfl rfl)
theorem dX0_feed_42 : decode cX0_feed 42 = .ok (.irem, 1) := dk_112 (dk_at dksX0_feed_1 19 rfl rfl)
theorem dX0_feed_43 : decode cX0_feed 43 = .ok (.imul, 1) := dk_104 (dk_at dksX0_feed_1 20 rfl rfl)
theorem dX0_feed_44 : decode cX0_feed 44 = .ok (.isub, 1) := dk_100 (dk_at dksX0_feed_1 21 rfl rfl)
theorem dX0_feed_45 : decode cX0_feed 45 = .ok (.lshr, 1) := dk_123 (dk_at dksX0_feed_1 22 rfl rfl)
theorem dX0_feed_46 : decode cX0_feed 46 = .ok (.l2i, 1) := dk_136 (dk_at dksX0_feed_1 23 rfl rfl)
theorem dX0_feed_47 : decode cX0_feed 47 = .ok (.sipush 255, 3) := dk_17 0 255 (dk_at dksX0_feed_2 0 rfl rfl)
theorem dX0_feed_50 : decode cX0_feed 50 = .ok (.iand, 1) := dk_126 (dk_at dksX0_feed_2 3 rfl rfl)
theorem dX0_feed_51 : decode cX0_feed 51 = .ok (.istore 8, 2) := dk_54 8 (dk_at dksX0_feed_2 4 rfl rfl)
theorem dX0_feed_53 : decode cX0_feed 53 = .ok (.iload 8, 2) := dk_21 8 (dk_at dksX0_feed_2 6 rfl rfl)
theorem dX0_feed_55 : decode cX0_feed 55 = .ok (.bipush 10, 2) := dk_16 10 (dk_at dksX0_feed_2 8 rfl rfl)
theorem dX0_feed_57 : decode cX0_feed 57 = .ok (.if_icmp .eq 17, 3) := dk_159 0 17 (dk_at dksX0_feed_2 10 rfl rfl)
theorem dX0_feed_60 : decode cX0_feed 60 = .ok (.iload 8, 2) := dk_21 8 (dk_at dksX0_feed_2 13 rfl rfl)
theorem dX0_feed_62 : decode cX0_feed 62 = .ok (.bipush 32, 2) := dk_16 32 (dk_at dksX0_feed_2 15 rfl rfl)
theorem dX0_feed_64 : decode cX0_feed 64 = .ok (.if_icmp .lt 39, 3) := dk_161 0 39 (dk_at dksX0_feed_2 17 rfl rfl)
theorem dX0_feed_67 : decode cX0_feed 67 = .ok (.iload 8, 2) := dk_21 8 (dk_at dksX0_feed_2 20 rfl rfl)
theorem dX0_feed_69 : decode cX0_feed 69 = .ok (.bipush 126, 2) := dk_16 126 (dk_at dksX0_feed_2 22 rfl rfl)
theorem dX0_feed_71 : decode cX0_feed 71 = .ok (.if_icmp .gt 32, 3) := dk_163 0 32 (dk_at dksX0_feed_3 0 rfl rfl)
theorem dX0_feed_74 : decode cX0_feed 74 = .ok (.aload_n 0, 1) := dk_42 (dk_at dksX0_feed_3 3 rfl rfl)
theorem dX0_feed_75 : decode cX0_feed 75 = .ok (.getfield 96, 3) := dk_180 0 96 (dk_at dksX0_feed_3 4 rfl rfl)
theorem dX0_feed_78 : decode cX0_feed 78 = .ok (.sipush 1000, 3) := dk_17 3 232 (dk_at dksX0_feed_3 7 rfl rfl)
theorem dX0_feed_81 : decode cX0_feed 81 = .ok (.if_icmp .ge 22, 3) := dk_162 0 22 (dk_at dksX0_feed_3 10 rfl rfl)
theorem dX0_feed_84 : decode cX0_feed 84 = .ok (.aload_n 0, 1) := dk_42 (dk_at dksX0_feed_3 13 rfl rfl)
theorem dX0_feed_85 : decode cX0_feed 85 = .ok (.getfield 21, 3) := dk_180 0 21 (dk_at dksX0_feed_3 14 rfl rfl)
theorem dX0_feed_88 : decode cX0_feed 88 = .ok (.aload_n 0, 1) := dk_42 (dk_at dksX0_feed_3 17 rfl rfl)
theorem dX0_feed_89 : decode cX0_feed 89 = .ok (.dup, 1) := dk_89 (dk_at dksX0_feed_3 18 rfl rfl)
theorem dX0_feed_90 : decode cX0_feed 90 = .ok (.getfield 96, 3) := dk_180 0 96 (dk_at dksX0_feed_3 19 rfl rfl)
theorem dX0_feed_93 : decode cX0_feed 93 = .ok (.dup_x1, 1) := dk_90 (dk_at dksX0_feed_3 22 rfl rfl)
theorem dX0_feed_94 : decode cX0_feed 94 = .ok (.iconst 1, 1) := dk_4 (dk_at dksX0_feed_3 23 rfl rfl)
theorem dX0_feed_95 : decode cX0_feed 95 = .ok (.iadd, 1) := dk_96 (dk_at dksX0_feed_4 0 rfl rfl)
theorem dX0_feed_96 : decode cX0_feed 96 = .ok (.putfield 96, 3) := dk_181 0 96 (dk_at dksX0_feed_4 1 rfl rfl)
theorem dX0_feed_99 : decode cX0_feed 99 = .ok (.iload 8, 2) := dk_21 8 (dk_at dksX0_feed_4 4 rfl rfl)
theorem dX0_feed_101 : decode cX0_feed 101 = .ok (.i2b, 1) := dk_145 (dk_at dksX0_feed_4 6 rfl rfl)
theorem dX0_feed_102 : decode cX0_feed 102 = .ok (.bastore, 1) := dk_84 (dk_at dksX0_feed_4 7 rfl rfl)
theorem dX0_feed_103 : decode cX0_feed 103 = .ok (.iinc 7 1, 3) := dk_132 7 1 (dk_at dksX0_feed_4 8 rfl rfl)
theorem dX0_feed_106 : decode cX0_feed 106 = .ok (.goto (-103), 3) := dk_167 255 153 (dk_at dksX0_feed_4 11 rfl rfl)
theorem dX0_feed_109 : decode cX0_feed 109 = .ok (.aload_n 0, 1) := dk_42 (dk_at dksX0_feed_4 14 rfl rfl)
theorem dX0_feed_110 : decode cX0_feed 110 = .ok (.getfield 96, 3) := dk_180 0 96 (dk_at dksX0_feed_4 15 rfl rfl)
theorem dX0_feed_113 : decode cX0_feed 113 = .ok (.ireturn, 1) := dk_172 (dk_at dksX0_feed_4 18 rfl rfl)
abbrev cX0_town : ByteArray := prog_1_method_8_code
def yX0_town : MethodName := ⟨RX0, "town", "()I"⟩
def dkwX0_town_2 : List UInt8 := [60, 27, 7, 162, 0, 16, 42, 180, 0, 93, 27, 1, 83, 132, 1, 1, 167, 255, 241, 3, 172]
abbrev dktX0_town_2 : List UInt8 := dkwX0_town_2 ++ []
def dkwX0_town_1 : List UInt8 := [42, 187, 0, 39, 89, 183, 0, 41, 181, 0, 42, 42, 180, 0, 49, 182, 0, 114, 42, 3, 181, 0, 116, 3]
abbrev dktX0_town_1 : List UInt8 := dkwX0_town_1 ++ dktX0_town_2
def dkwX0_town_0 : List UInt8 := [42, 182, 0, 103, 42, 42, 180, 0, 28, 182, 0, 106, 181, 0, 35, 167, 0, 9, 76, 43, 180, 0, 111, 172]
abbrev dktX0_town_0 : List UInt8 := dkwX0_town_0 ++ dktX0_town_1
theorem dksX0_town_0 : cX0_town.data.toList.drop 0 = dktX0_town_0 := by decide +kernel
theorem dksX0_town_1 : cX0_town.data.toList.drop 24 = dktX0_town_1 := dk_seg dksX0_town_0 24 rfl rfl
theorem dksX0_town_2 : cX0_town.data.toList.drop 48 = dktX0_town_2 := dk_seg dksX0_town_1 24 rfl rfl
theorem dX0_town_0 : decode cX0_town 0 = .ok (.aload_n 0, 1) := dk_42 (dk_at dksX0_town_0 0 rfl rfl)
theorem dX0_town_1 : decode cX0_town 1 = .ok (.invokevirtual 103, 3) := dk_182 0 103 (dk_at dksX0_town_0 1 rfl rfl)
theorem dX0_town_4 : decode cX0_town 4 = .ok (.aload_n 0, 1) := dk_42 (dk_at dksX0_town_0 4 rfl rfl)
theorem dX0_town_5 : decode cX0_town 5 = .ok (.aload_n 0, 1) := dk_42 (dk_at dksX0_town_0 5 rfl rfl)
theorem dX0_town_6 : decode cX0_town 6 = .ok (.getfield 28, 3) := dk_180 0 28 (dk_at dksX0_town_0 6 rfl rfl)
theorem dX0_town_9 : decode cX0_town 9 = .ok (.invokevirtual 106, 3) := dk_182 0 106 (dk_at dksX0_town_0 9 rfl rfl)
theorem dX0_town_12 : decode cX0_town 12 = .ok (.putfield 35, 3) := dk_181 0 35 (dk_at dksX0_town_0 12 rfl rfl)
theorem dX0_town_15 : decode cX0_town 15 = .ok (.goto 9, 3) := dk_167 0 9 (dk_at dksX0_town_0 15 rfl rfl)
theorem dX0_town_18 : decode cX0_town 18 = .ok (.astore_n 1, 1) := dk_76 (dk_at dksX0_town_0 18 rfl rfl)
theorem dX0_town_19 : decode cX0_town 19 = .ok (.aload_n 1, 1) := dk_43 (dk_at dksX0_town_0 19 rfl rfl)
theorem dX0_town_20 : decode cX0_town 20 = .ok (.getfield 111, 3) := dk_180 0 111 (dk_at dksX0_town_0 20 rfl rfl)
theorem dX0_town_23 : decode cX0_town 23 = .ok (.ireturn, 1) := dk_172 (dk_at dksX0_town_0 23 rfl rfl)
theorem dX0_town_24 : decode cX0_town 24 = .ok (.aload_n 0, 1) := dk_42 (dk_at dksX0_town_1 0 rfl rfl)
theorem dX0_town_25 : decode cX0_town 25 = .ok (.new 39, 3) := dk_187 0 39 (dk_at dksX0_town_1 1 rfl rfl)
theorem dX0_town_28 : decode cX0_town 28 = .ok (.dup, 1) := dk_89 (dk_at dksX0_town_1 4 rfl rfl)
theorem dX0_town_29 : decode cX0_town 29 = .ok (.invokespecial 41, 3) := dk_183 0 41 (dk_at dksX0_town_1 5 rfl rfl)
theorem dX0_town_32 : decode cX0_town 32 = .ok (.putfield 42, 3) := dk_181 0 42 (dk_at dksX0_town_1 8 rfl rfl)
theorem dX0_town_35 : decode cX0_town 35 = .ok (.aload_n 0, 1) := dk_42 (dk_at dksX0_town_1 11 rfl rfl)
theorem dX0_town_36 : decode cX0_town 36 = .ok (.getfield 49, 3) := dk_180 0 49 (dk_at dksX0_town_1 12 rfl rfl)
theorem dX0_town_39 : decode cX0_town 39 = .ok (.invokevirtual 114, 3) := dk_182 0 114 (dk_at dksX0_town_1 15 rfl rfl)
theorem dX0_town_42 : decode cX0_town 42 = .ok (.aload_n 0, 1) := dk_42 (dk_at dksX0_town_1 18 rfl rfl)
theorem dX0_town_43 : decode cX0_town 43 = .ok (.iconst 0, 1) := dk_3 (dk_at dksX0_town_1 19 rfl rfl)
theorem dX0_town_44 : decode cX0_town 44 = .ok (.putfield 116, 3) := dk_181 0 116 (dk_at dksX0_town_1 20 rfl rfl)
theorem dX0_town_47 : decode cX0_town 47 = .ok (.iconst 0, 1) := dk_3 (dk_at dksX0_town_1 23 rfl rfl)
theorem dX0_town_48 : decode cX0_town 48 = .ok (.istore_n 1, 1) := dk_60 (dk_at dksX0_town_2 0 rfl rfl)
theorem dX0_town_49 : decode cX0_town 49 = .ok (.iload_n 1, 1) := dk_27 (dk_at dksX0_town_2 1 rfl rfl)
theorem dX0_town_50 : decode cX0_town 50 = .ok (.iconst 4, 1) := dk_7 (dk_at dksX0_town_2 2 rfl rfl)
theorem dX0_town_51 : decode cX0_town 51 = .ok (.if_icmp .ge 16, 3) := dk_162 0 16 (dk_at dksX0_town_2 3 rfl rfl)
theorem dX0_town_54 : decode cX0_town 54 = .ok (.aload_n 0, 1) := dk_42 (dk_at dksX0_town_2 6 rfl rfl)
theorem dX0_town_55 : decode cX0_town 55 = .ok (.getfield 93, 3) := dk_180 0 93 (dk_at dksX0_town_2 7 rfl rfl)
theorem dX0_town_58 : decode cX0_town 58 = .ok (.iload_n 1, 1) := dk_27 (dk_at dksX0_town_2 10 rfl rfl)
theorem dX0_town_59 : decode cX0_town 59 = .ok (.aconst_null, 1) := dk_1 (dk_at dksX0_town_2 11 rfl rfl)
theorem dX0_town_60 : decode cX0_town 60 = .ok (.aastore, 1) := dk_83 (dk_at dksX0_town_2 12 rfl rfl)
theorem dX0_town_61 : decode cX0_town 61 = .ok (.iinc 1 1, 3) := dk_132 1 1 (dk_at dksX0_town_2 13 rfl rfl)
theorem dX0_town_64 : decode cX0_town 64 = .ok (.goto (-15), 3) := dk_167 255 241 (dk_at dksX0_town_2 16 rfl rfl)
theorem dX0_town_67 : decode cX0_town 67 = .ok (.iconst 0, 1) := dk_3 (dk_at dksX0_town_2 19 rfl rfl)
theorem dX0_town_68 : decode cX0_town 68 = .ok (.ireturn, 1) := dk_172 (dk_at dksX0_town_2 20 rfl rfl)
abbrev cX0_reads : ByteArray := prog_1_method_7_code
def yX0_reads : MethodName := ⟨RX0, "reads", "()V"⟩
def dkwX0_reads_0 : List UInt8 := [42, 180, 0, 28, 42, 180, 0, 21, 42, 180, 0, 96, 182, 0, 99, 42, 3, 181, 0, 96, 177]
abbrev dktX0_reads_0 : List UInt8 := dkwX0_reads_0 ++ []
theorem dksX0_reads_0 : cX0_reads.data.toList.drop 0 = dktX0_reads_0 := by decide +kernel
theorem dX0_reads_0 : decode cX0_reads 0 = .ok (.aload_n 0, 1) := dk_42 (dk_at dksX0_reads_0 0 rfl rfl)
theorem dX0_reads_1 : decode cX0_reads 1 = .ok (.getfield 28, 3) := dk_180 0 28 (dk_at dksX0_reads_0 1 rfl rfl)
theorem dX0_reads_4 : decode cX0_reads 4 = .ok (.aload_n 0, 1) := dk_42 (dk_at dksX0_reads_0 4 rfl rfl)
theorem dX0_reads_5 : decode cX0_reads 5 = .ok (.getfield 21, 3) := dk_180 0 21 (dk_at dksX0_reads_0 5 rfl rfl)
theorem dX0_reads_8 : decode cX0_reads 8 = .ok (.aload_n 0, 1) := dk_42 (dk_at dksX0_reads_0 8 rfl rfl)
theorem dX0_reads_9 : decode cX0_reads 9 = .ok (.getfield 96, 3) := dk_180 0 96 (dk_at dksX0_reads_0 9 rfl rfl)
theorem dX0_reads_12 : decode cX0_reads 12 = .ok (.invokevirtual 99, 3) := dk_182 0 99 (dk_at dksX0_reads_0 12 rfl rfl)
theorem dX0_reads_15 : decode cX0_reads 15 = .ok (.aload_n 0, 1) := dk_42 (dk_at dksX0_reads_0 15 rfl rfl)
theorem dX0_reads_16 : decode cX0_reads 16 = .ok (.iconst 0, 1) := dk_3 (dk_at dksX0_reads_0 16 rfl rfl)
theorem dX0_reads_17 : decode cX0_reads 17 = .ok (.putfield 96, 3) := dk_181 0 96 (dk_at dksX0_reads_0 17 rfl rfl)
theorem dX0_reads_20 : decode cX0_reads 20 = .ok (.return_, 1) := dk_177 (dk_at dksX0_reads_0 20 rfl rfl)
abbrev cX0_in : ByteArray := prog_1_method_1_code
def yX0_in : MethodName := ⟨RX0, "in", "(III)Z"⟩
def dkwX0_in_0 : List UInt8 := [26, 27, 161, 0, 12, 26, 28, 163, 0, 7, 4, 167, 0, 4, 3, 172]
abbrev dktX0_in_0 : List UInt8 := dkwX0_in_0 ++ []
theorem dksX0_in_0 : cX0_in.data.toList.drop 0 = dktX0_in_0 := by decide +kernel
theorem dX0_in_0 : decode cX0_in 0 = .ok (.iload_n 0, 1) := dk_26 (dk_at dksX0_in_0 0 rfl rfl)
theorem dX0_in_1 : decode cX0_in 1 = .ok (.iload_n 1, 1) := dk_27 (dk_at dksX0_in_0 1 rfl rfl)
theorem dX0_in_2 : decode cX0_in 2 = .ok (.if_icmp .lt 12, 3) := dk_161 0 12 (dk_at dksX0_in_0 2 rfl rfl)
theorem dX0_in_5 : decode cX0_in 5 = .ok (.iload_n 0, 1) := dk_26 (dk_at dksX0_in_0 5 rfl rfl)
theorem dX0_in_6 : decode cX0_in 6 = .ok (.iload_n 2, 1) := dk_28 (dk_at dksX0_in_0 6 rfl rfl)
theorem dX0_in_7 : decode cX0_in 7 = .ok (.if_icmp .gt 7, 3) := dk_163 0 7 (dk_at dksX0_in_0 7 rfl rfl)
theorem dX0_in_10 : decode cX0_in 10 = .ok (.iconst 1, 1) := dk_4 (dk_at dksX0_in_0 10 rfl rfl)
theorem dX0_in_11 : decode cX0_in 11 = .ok (.goto 4, 3) := dk_167 0 4 (dk_at dksX0_in_0 11 rfl rfl)
theorem dX0_in_14 : decode cX0_in 14 = .ok (.iconst 0, 1) := dk_3 (dk_at dksX0_in_0 14 rfl rfl)
theorem dX0_in_15 : decode cX0_in 15 = .ok (.ireturn, 1) := dk_172 (dk_at dksX0_in_0 15 rfl rfl)
abbrev cX0_gcd : ByteArray := prog_1_method_2_code
def yX0_gcd : MethodName := ⟨RX0, "gcd", "(II)I"⟩
def dkwX0_gcd_0 : List UInt8 := [27, 154, 0, 7, 26, 167, 0, 10, 27, 26, 27, 112, 184, 0, 5, 172]
abbrev dktX0_gcd_0 : List UInt8 := dkwX0_gcd_0 ++ []
theorem dksX0_gcd_0 : cX0_gcd.data.toList.drop 0 = dktX0_gcd_0 := by decide +kernel
theorem dX0_gcd_0 : decode cX0_gcd 0 = .ok (.iload_n 1, 1) := dk_27 (dk_at dksX0_gcd_0 0 rfl rfl)
theorem dX0_gcd_1 : decode cX0_gcd 1 = .ok (.ifCond .ne 7, 3) := dk_154 0 7 (dk_at dksX0_gcd_0 1 rfl rfl)
theorem dX0_gcd_4 : decode cX0_gcd 4 = .ok (.iload_n 0, 1) := dk_26 (dk_at dksX0_gcd_0 4 rfl rfl)
theorem dX0_gcd_5 : decode cX0_gcd 5 = .ok (.goto 10, 3) := dk_167 0 10 (dk_at dksX0_gcd_0 5 rfl rfl)
theorem dX0_gcd_8 : decode cX0_gcd 8 = .ok (.iload_n 1, 1) := dk_27 (dk_at dksX0_gcd_0 8 rfl rfl)
theorem dX0_gcd_9 : decode cX0_gcd 9 = .ok (.iload_n 0, 1) := dk_26 (dk_at dksX0_gcd_0 9 rfl rfl)
theorem dX0_gcd_10 : decode cX0_gcd 10 = .ok (.iload_n 1, 1) := dk_27 (dk_at dksX0_gcd_0 10 rfl rfl)
theorem dX0_gcd_11 : decode cX0_gcd 11 = .ok (.irem, 1) := dk_112 (dk_at dksX0_gcd_0 11 rfl rfl)
theorem dX0_gcd_12 : decode cX0_gcd 12 = .ok (.invokestatic 5, 3) := dk_184 0 5 (dk_at dksX0_gcd_0 12 rfl rfl)
theorem dX0_gcd_15 : decode cX0_gcd 15 = .ok (.ireturn, 1) := dk_172 (dk_at dksX0_gcd_0 15 rfl rfl)
abbrev cX0_walk : ByteArray := prog_1_method_9_code
def yX0_walk : MethodName := ⟨RX0, "walk", "()I"⟩
def dkwX0_walk_1 : List UInt8 := [180, 0, 111, 172, 3, 172]
abbrev dktX0_walk_1 : List UInt8 := dkwX0_walk_1 ++ []
def dkwX0_walk_0 : List UInt8 := [42, 182, 0, 103, 42, 42, 180, 0, 28, 42, 180, 0, 35, 182, 0, 119, 181, 0, 42, 167, 0, 9, 76, 43]
abbrev dktX0_walk_0 : List UInt8 := dkwX0_walk_0 ++ dktX0_walk_1
theorem dksX0_walk_0 : cX0_walk.data.toList.drop 0 = dktX0_walk_0 := by decide +kernel
theorem dksX0_walk_1 : cX0_walk.data.toList.drop 24 = dktX0_walk_1 := dk_seg dksX0_walk_0 24 rfl rfl
theorem dX0_walk_0 : decode cX0_walk 0 = .ok (.aload_n 0, 1) := dk_42 (dk_at dksX0_walk_0 0 rfl rfl)
theorem dX0_walk_1 : decode cX0_walk 1 = .ok (.invokevirtual 103, 3) := dk_182 0 103 (dk_at dksX0_walk_0 1 rfl rfl)
theorem dX0_walk_4 : decode cX0_walk 4 = .ok (.aload_n 0, 1) := dk_42 (dk_at dksX0_walk_0 4 rfl rfl)
theorem dX0_walk_5 : decode cX0_walk 5 = .ok (.aload_n 0, 1) := dk_42 (dk_at dksX0_walk_0 5 rfl rfl)
theorem dX0_walk_6 : decode cX0_walk 6 = .ok (.getfield 28, 3) := dk_180 0 28 (dk_at dksX0_walk_0 6 rfl rfl)
theorem dX0_walk_9 : decode cX0_walk 9 = .ok (.aload_n 0, 1) := dk_42 (dk_at dksX0_walk_0 9 rfl rfl)
theorem dX0_walk_10 : decode cX0_walk 10 = .ok (.getfield 35, 3) := dk_180 0 35 (dk_at dksX0_walk_0 10 rfl rfl)
theorem dX0_walk_13 : decode cX0_walk 13 = .ok (.invokevirtual 119, 3) := dk_182 0 119 (dk_at dksX0_walk_0 13 rfl rfl)
theorem dX0_walk_16 : decode cX0_walk 16 = .ok (.putfield 42, 3) := dk_181 0 42 (dk_at dksX0_walk_0 16 rfl rfl)
theorem dX0_walk_19 : decode cX0_walk 19 = .ok (.goto 9, 3) := dk_167 0 9 (dk_at dksX0_walk_0 19 rfl rfl)
theorem dX0_walk_22 : decode cX0_walk 22 = .ok (.astore_n 1, 1) := dk_76 (dk_at dksX0_walk_0 22 rfl rfl)
theorem dX0_walk_23 : decode cX0_walk 23 = .ok (.aload_n 1, 1) := dk_43 (dk_at dksX0_walk_0 23 rfl rfl)
theorem dX0_walk_24 : decode cX0_walk 24 = .ok (.getfield 111, 3) := dk_180 0 111 (dk_at dksX0_walk_1 0 rfl rfl)
theorem dX0_walk_27 : decode cX0_walk 27 = .ok (.ireturn, 1) := dk_172 (dk_at dksX0_walk_1 3 rfl rfl)
theorem dX0_walk_28 : decode cX0_walk 28 = .ok (.iconst 0, 1) := dk_3 (dk_at dksX0_walk_1 4 rfl rfl)
theorem dX0_walk_29 : decode cX0_walk 29 = .ok (.ireturn, 1) := dk_172 (dk_at dksX0_walk_1 5 rfl rfl)
abbrev cX0_light : ByteArray := prog_1_method_15_code
def yX0_light : MethodName := ⟨RX0, "light", "(III)I"⟩
def dkwX0_light_5 : List UInt8 := [16, 6, 104, 27, 96, 51, 153, 0, 7, 4, 167, 0, 4, 3, 172]
abbrev dktX0_light_5 : List UInt8 := dkwX0_light_5 ++ []
def dkwX0_light_4 : List UInt8 := [167, 0, 38, 29, 6, 160, 0, 11, 25, 4, 180, 0, 166, 167, 0, 25, 42, 180, 0, 49, 180, 0, 169, 28]
abbrev dktX0_light_4 : List UInt8 := dkwX0_light_4 ++ dktX0_light_5
def dkwX0_light_3 : List UInt8 := [29, 4, 160, 0, 11, 25, 4, 180, 0, 160, 167, 0, 51, 29, 5, 160, 0, 11, 25, 4, 180, 0, 163]
abbrev dktX0_light_3 : List UInt8 := dkwX0_light_3 ++ dktX0_light_4
def dkwX0_light_2 : List UInt8 := [182, 0, 140, 58, 4, 25, 4, 199, 0, 5, 2, 172, 29, 154, 0, 11, 25, 4, 182, 0, 156, 167, 0, 64]
abbrev dktX0_light_2 : List UInt8 := dkwX0_light_2 ++ dktX0_light_3
def dkwX0_light_1 : List UInt8 := [8, 160, 0, 18, 42, 180, 0, 35, 180, 0, 153, 28, 16, 6, 104, 27, 96, 46, 172, 42, 27, 28]
abbrev dktX0_light_1 : List UInt8 := dkwX0_light_1 ++ dktX0_light_2
def dkwX0_light_0 : List UInt8 := [42, 180, 0, 35, 27, 28, 182, 0, 149, 153, 0, 12, 29, 3, 8, 184, 0, 127, 154, 0, 5, 2, 172, 29]
abbrev dktX0_light_0 : List UInt8 := dkwX0_light_0 ++ dktX0_light_1
theorem dksX0_light_0 : cX0_light.data.toList.drop 0 = dktX0_light_0 := by decide +kernel
theorem dksX0_light_1 : cX0_light.data.toList.drop 24 = dktX0_light_1 := dk_seg dksX0_light_0 24 rfl rfl
theorem dksX0_light_2 : cX0_light.data.toList.drop 46 = dktX0_light_2 := dk_seg dksX0_light_1 22 rfl rfl
theorem dksX0_light_3 : cX0_light.data.toList.drop 70 = dktX0_light_3 := dk_seg dksX0_light_2 24 rfl rfl
theorem dksX0_light_4 : cX0_light.data.toList.drop 93 = dktX0_light_4 := dk_seg dksX0_light_3 23 rfl rfl
theorem dksX0_light_5 : cX0_light.data.toList.drop 117 = dktX0_light_5 := dk_seg dksX0_light_4 24 rfl rfl
theorem dX0_light_0 : decode cX0_light 0 = .ok (.aload_n 0, 1) := dk_42 (dk_at dksX0_light_0 0 rfl rfl)
theorem dX0_light_1 : decode cX0_light 1 = .ok (.getfield 35, 3) := dk_180 0 35 (dk_at dksX0_light_0 1 rfl rfl)
theorem dX0_light_4 : decode cX0_light 4 = .ok (.iload_n 1, 1) := dk_27 (dk_at dksX0_light_0 4 rfl rfl)
theorem dX0_light_5 : decode cX0_light 5 = .ok (.iload_n 2, 1) := dk_28 (dk_at dksX0_light_0 5 rfl rfl)
theorem dX0_light_6 : decode cX0_light 6 = .ok (.invokevirtual 149, 3) := dk_182 0 149 (dk_at dksX0_light_0 6 rfl rfl)
theorem dX0_light_9 : decode cX0_light 9 = .ok (.ifCond .eq 12, 3) := dk_153 0 12 (dk_at dksX0_light_0 9 rfl rfl)
theorem dX0_light_12 : decode cX0_light 12 = .ok (.iload_n 3, 1) := dk_29 (dk_at dksX0_light_0 12 rfl rfl)
theorem dX0_light_13 : decode cX0_light 13 = .ok (.iconst 0, 1) := dk_3 (dk_at dksX0_light_0 13 rfl rfl)
theorem dX0_light_14 : decode cX0_light 14 = .ok (.iconst 5, 1) := dk_8 (dk_at dksX0_light_0 14 rfl rfl)
theorem dX0_light_15 : decode cX0_light 15 = .ok (.invokestatic 127, 3) := dk_184 0 127 (dk_at dksX0_light_0 15 rfl rfl)
theorem dX0_light_18 : decode cX0_light 18 = .ok (.ifCond .ne 5, 3) := dk_154 0 5 (dk_at dksX0_light_0 18 rfl rfl)
theorem dX0_light_21 : decode cX0_light 21 = .ok (.iconst (-1), 1) := dk_2 (dk_at dksX0_light_0 21 rfl rfl)
theorem dX0_light_22 : decode cX0_light 22 = .ok (.ireturn, 1) := dk_172 (dk_at dksX0_light_0 22 rfl rfl)
theorem dX0_light_23 : decode cX0_light 23 = .ok (.iload_n 3, 1) := dk_29 (dk_at dksX0_light_0 23 rfl rfl)
theorem dX0_light_24 : decode cX0_light 24 = .ok (.iconst 5, 1) := dk_8 (dk_at dksX0_light_1 0 rfl rfl)
theorem dX0_light_25 : decode cX0_light 25 = .ok (.if_icmp .ne 18, 3) := dk_160 0 18 (dk_at dksX0_light_1 1 rfl rfl)
theorem dX0_light_28 : decode cX0_light 28 = .ok (.aload_n 0, 1) := dk_42 (dk_at dksX0_light_1 4 rfl rfl)
theorem dX0_light_29 : decode cX0_light 29 = .ok (.getfield 35, 3) := dk_180 0 35 (dk_at dksX0_light_1 5 rfl rfl)
theorem dX0_light_32 : decode cX0_light 32 = .ok (.getfield 153, 3) := dk_180 0 153 (dk_at dksX0_light_1 8 rfl rfl)
theorem dX0_light_35 : decode cX0_light 35 = .ok (.iload_n 2, 1) := dk_28 (dk_at dksX0_light_1 11 rfl rfl)
theorem dX0_light_36 : decode cX0_light 36 = .ok (.bipush 6, 2) := dk_16 6 (dk_at dksX0_light_1 12 rfl rfl)
theorem dX0_light_38 : decode cX0_light 38 = .ok (.imul, 1) := dk_104 (dk_at dksX0_light_1 14 rfl rfl)
theorem dX0_light_39 : decode cX0_light 39 = .ok (.iload_n 1, 1) := dk_27 (dk_at dksX0_light_1 15 rfl rfl)
theorem dX0_light_40 : decode cX0_light 40 = .ok (.iadd, 1) := dk_96 (dk_at dksX0_light_1 16 rfl rfl)
theorem dX0_light_41 : decode cX0_light 41 = .ok (.iaload, 1) := dk_46 (dk_at dksX0_light_1 17 rfl rfl)
theorem dX0_light_42 : decode cX0_light 42 = .ok (.ireturn, 1) := dk_172 (dk_at dksX0_light_1 18 rfl rfl)
theorem dX0_light_43 : decode cX0_light 43 = .ok (.aload_n 0, 1) := dk_42 (dk_at dksX0_light_1 19 rfl rfl)
theorem dX0_light_44 : decode cX0_light 44 = .ok (.iload_n 1, 1) := dk_27 (dk_at dksX0_light_1 20 rfl rfl)
theorem dX0_light_45 : decode cX0_light 45 = .ok (.iload_n 2, 1) := dk_28 (dk_at dksX0_light_1 21 rfl rfl)
theorem dX0_light_46 : decode cX0_light 46 = .ok (.invokevirtual 140, 3) := dk_182 0 140 (dk_at dksX0_light_2 0 rfl rfl)
theorem dX0_light_49 : decode cX0_light 49 = .ok (.astore 4, 2) := dk_58 4 (dk_at dksX0_light_2 3 rfl rfl)
theorem dX0_light_51 : decode cX0_light 51 = .ok (.aload 4, 2) := dk_25 4 (dk_at dksX0_light_2 5 rfl rfl)
theorem dX0_light_53 : decode cX0_light 53 = .ok (.ifnonnull 5, 3) := dk_199 0 5 (dk_at dksX0_light_2 7 rfl rfl)
theorem dX0_light_56 : decode cX0_light 56 = .ok (.iconst (-1), 1) := dk_2 (dk_at dksX0_light_2 10 rfl rfl)
theorem dX0_light_57 : decode cX0_light 57 = .ok (.ireturn, 1) := dk_172 (dk_at dksX0_light_2 11 rfl rfl)
theorem dX0_light_58 : decode cX0_light 58 = .ok (.iload_n 3, 1) := dk_29 (dk_at dksX0_light_2 12 rfl rfl)
theorem dX0_light_59 : decode cX0_light 59 = .ok (.ifCond .ne 11, 3) := dk_154 0 11 (dk_at dksX0_light_2 13 rfl rfl)
theorem dX0_light_62 : decode cX0_light 62 = .ok (.aload 4, 2) := dk_25 4 (dk_at dksX0_light_2 16 rfl rfl)
theorem dX0_light_64 : decode cX0_light 64 = .ok (.invokevirtual 156, 3) := dk_182 0 156 (dk_at dksX0_light_2 18 rfl rfl)
theorem dX0_light_67 : decode cX0_light 67 = .ok (.goto 64, 3) := dk_167 0 64 (dk_at dksX0_light_2 21 rfl rfl)
theorem dX0_light_70 : decode cX0_light 70 = .ok (.iload_n 3, 1) := dk_29 (dk_at dksX0_light_3 0 rfl rfl)
theorem dX0_light_71 : decode cX0_light 71 = .ok (.iconst 1, 1) := dk_4 (dk_at dksX0_light_3 1 rfl rfl)
theorem dX0_light_72 : decode cX0_light 72 = .ok (.if_icmp .ne 11, 3) := dk_160 0 11 (dk_at dksX0_light_3 2 rfl rfl)
theorem dX0_light_75 : decode cX0_light 75 = .ok (.aload 4, 2) := dk_25 4 (dk_at dksX0_light_3 5 rfl rfl)
theorem dX0_light_77 : decode cX0_light 77 = .ok (.getfield 160, 3) := dk_180 0 160 (dk_at dksX0_light_3 7 rfl rfl)
theorem dX0_light_80 : decode cX0_light 80 = .ok (.goto 51, 3) := dk_167 0 51 (dk_at dksX0_light_3 10 rfl rfl)
theorem dX0_light_83 : decode cX0_light 83 = .ok (.iload_n 3, 1) := dk_29 (dk_at dksX0_light_3 13 rfl rfl)
theorem dX0_light_84 : decode cX0_light 84 = .ok (.iconst 2, 1) := dk_5 (dk_at dksX0_light_3 14 rfl rfl)
theorem dX0_light_85 : decode cX0_light 85 = .ok (.if_icmp .ne 11, 3) := dk_160 0 11 (dk_at dksX0_light_3 15 rfl rfl)
theorem dX0_light_88 : decode cX0_light 88 = .ok (.aload 4, 2) := dk_25 4 (dk_at dksX0_light_3 18 rfl rfl)
theorem dX0_light_90 : decode cX0_light 90 = .ok (.getfield 163, 3) := dk_180 0 163 (dk_at dksX0_light_3 20 rfl rfl)
theorem dX0_light_93 : decode cX0_light 93 = .ok (.goto 38, 3) := dk_167 0 38 (dk_at dksX0_light_4 0 rfl rfl)
theorem dX0_light_96 : decode cX0_light 96 = .ok (.iload_n 3, 1) := dk_29 (dk_at dksX0_light_4 3 rfl rfl)
theorem dX0_light_97 : decode cX0_light 97 = .ok (.iconst 3, 1) := dk_6 (dk_at dksX0_light_4 4 rfl rfl)
theorem dX0_light_98 : decode cX0_light 98 = .ok (.if_icmp .ne 11, 3) := dk_160 0 11 (dk_at dksX0_light_4 5 rfl rfl)
theorem dX0_light_101 : decode cX0_light 101 = .ok (.aload 4, 2) := dk_25 4 (dk_at dksX0_light_4 8 rfl rfl)
theorem dX0_light_103 : decode cX0_light 103 = .ok (.getfield 166, 3) := dk_180 0 166 (dk_at dksX0_light_4 10 rfl rfl)
theorem dX0_light_106 : decode cX0_light 106 = .ok (.goto 25, 3) := dk_167 0 25 (dk_at dksX0_light_4 13 rfl rfl)
theorem dX0_light_109 : decode cX0_light 109 = .ok (.aload_n 0, 1) := dk_42 (dk_at dksX0_light_4 16 rfl rfl)
theorem dX0_light_110 : decode cX0_light 110 = .ok (.getfield 49, 3) := dk_180 0 49 (dk_at dksX0_light_4 17 rfl rfl)
theorem dX0_light_113 : decode cX0_light 113 = .ok (.getfield 169, 3) := dk_180 0 169 (dk_at dksX0_light_4 20 rfl rfl)
theorem dX0_light_116 : decode cX0_light 116 = .ok (.iload_n 2, 1) := dk_28 (dk_at dksX0_light_4 23 rfl rfl)
theorem dX0_light_117 : decode cX0_light 117 = .ok (.bipush 6, 2) := dk_16 6 (dk_at dksX0_light_5 0 rfl rfl)
theorem dX0_light_119 : decode cX0_light 119 = .ok (.imul, 1) := dk_104 (dk_at dksX0_light_5 2 rfl rfl)
theorem dX0_light_120 : decode cX0_light 120 = .ok (.iload_n 1, 1) := dk_27 (dk_at dksX0_light_5 3 rfl rfl)
theorem dX0_light_121 : decode cX0_light 121 = .ok (.iadd, 1) := dk_96 (dk_at dksX0_light_5 4 rfl rfl)
theorem dX0_light_122 : decode cX0_light 122 = .ok (.baload, 1) := dk_51 (dk_at dksX0_light_5 5 rfl rfl)
theorem dX0_light_123 : decode cX0_light 123 = .ok (.ifCond .eq 7, 3) := dk_153 0 7 (dk_at dksX0_light_5 6 rfl rfl)
theorem dX0_light_126 : decode cX0_light 126 = .ok (.iconst 1, 1) := dk_4 (dk_at dksX0_light_5 9 rfl rfl)
theorem dX0_light_127 : decode cX0_light 127 = .ok (.goto 4, 3) := dk_167 0 4 (dk_at dksX0_light_5 10 rfl rfl)
theorem dX0_light_130 : decode cX0_light 130 = .ok (.iconst 0, 1) := dk_3 (dk_at dksX0_light_5 13 rfl rfl)
theorem dX0_light_131 : decode cX0_light 131 = .ok (.ireturn, 1) := dk_172 (dk_at dksX0_light_5 14 rfl rfl)
abbrev cX0_lightAt : ByteArray := prog_1_method_10_code
def yX0_lightAt : MethodName := ⟨RX0, "lightAt", "(II)LOverFirst$Light;"⟩
def dkwX0_lightAt_0 : List UInt8 := [42, 180, 0, 35, 180, 0, 122, 28, 16, 6, 104, 27, 96, 50, 176]
abbrev dktX0_lightAt_0 : List UInt8 := dkwX0_lightAt_0 ++ []
theorem dksX0_lightAt_0 : cX0_lightAt.data.toList.drop 0 = dktX0_lightAt_0 := by decide +kernel
theorem dX0_lightAt_0 : decode cX0_lightAt 0 = .ok (.aload_n 0, 1) := dk_42 (dk_at dksX0_lightAt_0 0 rfl rfl)
theorem dX0_lightAt_1 : decode cX0_lightAt 1 = .ok (.getfield 35, 3) := dk_180 0 35 (dk_at dksX0_lightAt_0 1 rfl rfl)
theorem dX0_lightAt_4 : decode cX0_lightAt 4 = .ok (.getfield 122, 3) := dk_180 0 122 (dk_at dksX0_lightAt_0 4 rfl rfl)
theorem dX0_lightAt_7 : decode cX0_lightAt 7 = .ok (.iload_n 2, 1) := dk_28 (dk_at dksX0_lightAt_0 7 rfl rfl)
theorem dX0_lightAt_8 : decode cX0_lightAt 8 = .ok (.bipush 6, 2) := dk_16 6 (dk_at dksX0_lightAt_0 8 rfl rfl)
theorem dX0_lightAt_10 : decode cX0_lightAt 10 = .ok (.imul, 1) := dk_104 (dk_at dksX0_lightAt_0 10 rfl rfl)
theorem dX0_lightAt_11 : decode cX0_lightAt 11 = .ok (.iload_n 1, 1) := dk_27 (dk_at dksX0_lightAt_0 11 rfl rfl)
theorem dX0_lightAt_12 : decode cX0_lightAt 12 = .ok (.iadd, 1) := dk_96 (dk_at dksX0_lightAt_0 12 rfl rfl)
theorem dX0_lightAt_13 : decode cX0_lightAt 13 = .ok (.aaload, 1) := dk_50 (dk_at dksX0_lightAt_0 13 rfl rfl)
theorem dX0_lightAt_14 : decode cX0_lightAt 14 = .ok (.areturn, 1) := dk_176 (dk_at dksX0_lightAt_0 14 rfl rfl)
abbrev cX0_green : ByteArray := prog_1_method_17_code
def yX0_green : MethodName := ⟨RX0, "green", "(IIII)I"⟩
def dkwX0_green_2 : List UInt8 := [4, 167, 0, 4, 3, 172]
abbrev dktX0_green_2 : List UInt8 := dkwX0_green_2 ++ []
def dkwX0_green_1 : List UInt8 := [58, 6, 25, 6, 198, 0, 15, 25, 6, 182, 0, 181, 153, 0, 7, 29, 167, 0, 13, 21, 5, 154, 0, 7]
abbrev dktX0_green_1 : List UInt8 := dkwX0_green_1 ++ dktX0_green_2
def dkwX0_green_0 : List UInt8 := [42, 27, 28, 29, 21, 4, 182, 0, 177, 54, 5, 21, 5, 156, 0, 5, 2, 172, 42, 27, 28, 182, 0, 140]
abbrev dktX0_green_0 : List UInt8 := dkwX0_green_0 ++ dktX0_green_1
theorem dksX0_green_0 : cX0_green.data.toList.drop 0 = dktX0_green_0 := by decide +kernel
theorem dksX0_green_1 : cX0_green.data.toList.drop 24 = dktX0_green_1 := dk_seg dksX0_green_0 24 rfl rfl
theorem dksX0_green_2 : cX0_green.data.toList.drop 48 = dktX0_green_2 := dk_seg dksX0_green_1 24 rfl rfl
theorem dX0_green_0 : decode cX0_green 0 = .ok (.aload_n 0, 1) := dk_42 (dk_at dksX0_green_0 0 rfl rfl)
theorem dX0_green_1 : decode cX0_green 1 = .ok (.iload_n 1, 1) := dk_27 (dk_at dksX0_green_0 1 rfl rfl)
theorem dX0_green_2 : decode cX0_green 2 = .ok (.iload_n 2, 1) := dk_28 (dk_at dksX0_green_0 2 rfl rfl)
theorem dX0_green_3 : decode cX0_green 3 = .ok (.iload_n 3, 1) := dk_29 (dk_at dksX0_green_0 3 rfl rfl)
theorem dX0_green_4 : decode cX0_green 4 = .ok (.iload 4, 2) := dk_21 4 (dk_at dksX0_green_0 4 rfl rfl)
theorem dX0_green_6 : decode cX0_green 6 = .ok (.invokevirtual 177, 3) := dk_182 0 177 (dk_at dksX0_green_0 6 rfl rfl)
theorem dX0_green_9 : decode cX0_green 9 = .ok (.istore 5, 2) := dk_54 5 (dk_at dksX0_green_0 9 rfl rfl)
theorem dX0_green_11 : decode cX0_green 11 = .ok (.iload 5, 2) := dk_21 5 (dk_at dksX0_green_0 11 rfl rfl)
theorem dX0_green_13 : decode cX0_green 13 = .ok (.ifCond .ge 5, 3) := dk_156 0 5 (dk_at dksX0_green_0 13 rfl rfl)
theorem dX0_green_16 : decode cX0_green 16 = .ok (.iconst (-1), 1) := dk_2 (dk_at dksX0_green_0 16 rfl rfl)
theorem dX0_green_17 : decode cX0_green 17 = .ok (.ireturn, 1) := dk_172 (dk_at dksX0_green_0 17 rfl rfl)
theorem dX0_green_18 : decode cX0_green 18 = .ok (.aload_n 0, 1) := dk_42 (dk_at dksX0_green_0 18 rfl rfl)
theorem dX0_green_19 : decode cX0_green 19 = .ok (.iload_n 1, 1) := dk_27 (dk_at dksX0_green_0 19 rfl rfl)
theorem dX0_green_20 : decode cX0_green 20 = .ok (.iload_n 2, 1) := dk_28 (dk_at dksX0_green_0 20 rfl rfl)
theorem dX0_green_21 : decode cX0_green 21 = .ok (.invokevirtual 140, 3) := dk_182 0 140 (dk_at dksX0_green_0 21 rfl rfl)
theorem dX0_green_24 : decode cX0_green 24 = .ok (.astore 6, 2) := dk_58 6 (dk_at dksX0_green_1 0 rfl rfl)
theorem dX0_green_26 : decode cX0_green 26 = .ok (.aload 6, 2) := dk_25 6 (dk_at dksX0_green_1 2 rfl rfl)
theorem dX0_green_28 : decode cX0_green 28 = .ok (.ifnull 15, 3) := dk_198 0 15 (dk_at dksX0_green_1 4 rfl rfl)
theorem dX0_green_31 : decode cX0_green 31 = .ok (.aload 6, 2) := dk_25 6 (dk_at dksX0_green_1 7 rfl rfl)
theorem dX0_green_33 : decode cX0_green 33 = .ok (.invokevirtual 181, 3) := dk_182 0 181 (dk_at dksX0_green_1 9 rfl rfl)
theorem dX0_green_36 : decode cX0_green 36 = .ok (.ifCond .eq 7, 3) := dk_153 0 7 (dk_at dksX0_green_1 12 rfl rfl)
theorem dX0_green_39 : decode cX0_green 39 = .ok (.iload_n 3, 1) := dk_29 (dk_at dksX0_green_1 15 rfl rfl)
theorem dX0_green_40 : decode cX0_green 40 = .ok (.goto 13, 3) := dk_167 0 13 (dk_at dksX0_green_1 16 rfl rfl)
theorem dX0_green_43 : decode cX0_green 43 = .ok (.iload 5, 2) := dk_21 5 (dk_at dksX0_green_1 19 rfl rfl)
theorem dX0_green_45 : decode cX0_green 45 = .ok (.ifCond .ne 7, 3) := dk_154 0 7 (dk_at dksX0_green_1 21 rfl rfl)
theorem dX0_green_48 : decode cX0_green 48 = .ok (.iconst 1, 1) := dk_4 (dk_at dksX0_green_2 0 rfl rfl)
theorem dX0_green_49 : decode cX0_green 49 = .ok (.goto 4, 3) := dk_167 0 4 (dk_at dksX0_green_2 1 rfl rfl)
theorem dX0_green_52 : decode cX0_green 52 = .ok (.iconst 0, 1) := dk_3 (dk_at dksX0_green_2 4 rfl rfl)
theorem dX0_green_53 : decode cX0_green 53 = .ok (.ireturn, 1) := dk_172 (dk_at dksX0_green_2 5 rfl rfl)
abbrev cX0_until : ByteArray := prog_1_method_18_code
def yX0_until : MethodName := ⟨RX0, "until", "(IIII)I"⟩
def dkwX0_until_1 : List UInt8 := [182, 0, 191, 167, 0, 4, 2, 172]
abbrev dktX0_until_1 : List UInt8 := dkwX0_until_1 ++ []
def dkwX0_until_0 : List UInt8 := [42, 27, 28, 21, 4, 182, 0, 185, 153, 0, 22, 29, 184, 0, 188, 153, 0, 15, 42, 27, 28, 29, 21, 4]
abbrev dktX0_until_0 : List UInt8 := dkwX0_until_0 ++ dktX0_until_1
theorem dksX0_until_0 : cX0_until.data.toList.drop 0 = dktX0_until_0 := by decide +kernel
theorem dksX0_until_1 : cX0_until.data.toList.drop 24 = dktX0_until_1 := dk_seg dksX0_until_0 24 rfl rfl
theorem dX0_until_0 : decode cX0_until 0 = .ok (.aload_n 0, 1) := dk_42 (dk_at dksX0_until_0 0 rfl rfl)
theorem dX0_until_1 : decode cX0_until 1 = .ok (.iload_n 1, 1) := dk_27 (dk_at dksX0_until_0 1 rfl rfl)
theorem dX0_until_2 : decode cX0_until 2 = .ok (.iload_n 2, 1) := dk_28 (dk_at dksX0_until_0 2 rfl rfl)
theorem dX0_until_3 : decode cX0_until 3 = .ok (.iload 4, 2) := dk_21 4 (dk_at dksX0_until_0 3 rfl rfl)
theorem dX0_until_5 : decode cX0_until 5 = .ok (.invokevirtual 185, 3) := dk_182 0 185 (dk_at dksX0_until_0 5 rfl rfl)
theorem dX0_until_8 : decode cX0_until 8 = .ok (.ifCond .eq 22, 3) := dk_153 0 22 (dk_at dksX0_until_0 8 rfl rfl)
theorem dX0_until_11 : decode cX0_until 11 = .ok (.iload_n 3, 1) := dk_29 (dk_at dksX0_until_0 11 rfl rfl)
theorem dX0_until_12 : decode cX0_until 12 = .ok (.invokestatic 188, 3) := dk_184 0 188 (dk_at dksX0_until_0 12 rfl rfl)
theorem dX0_until_15 : decode cX0_until 15 = .ok (.ifCond .eq 15, 3) := dk_153 0 15 (dk_at dksX0_until_0 15 rfl rfl)
theorem dX0_until_18 : decode cX0_until 18 = .ok (.aload_n 0, 1) := dk_42 (dk_at dksX0_until_0 18 rfl rfl)
theorem dX0_until_19 : decode cX0_until 19 = .ok (.iload_n 1, 1) := dk_27 (dk_at dksX0_until_0 19 rfl rfl)
theorem dX0_until_20 : decode cX0_until 20 = .ok (.iload_n 2, 1) := dk_28 (dk_at dksX0_until_0 20 rfl rfl)
theorem dX0_until_21 : decode cX0_until 21 = .ok (.iload_n 3, 1) := dk_29 (dk_at dksX0_until_0 21 rfl rfl)
theorem dX0_until_22 : decode cX0_until 22 = .ok (.iload 4, 2) := dk_21 4 (dk_at dksX0_until_0 22 rfl rfl)
theorem dX0_until_24 : decode cX0_until 24 = .ok (.invokevirtual 191, 3) := dk_182 0 191 (dk_at dksX0_until_1 0 rfl rfl)
theorem dX0_until_27 : decode cX0_until 27 = .ok (.goto 4, 3) := dk_167 0 4 (dk_at dksX0_until_1 3 rfl rfl)
theorem dX0_until_30 : decode cX0_until 30 = .ok (.iconst (-1), 1) := dk_2 (dk_at dksX0_until_1 6 rfl rfl)
theorem dX0_until_31 : decode cX0_until 31 = .ok (.ireturn, 1) := dk_172 (dk_at dksX0_until_1 7 rfl rfl)
abbrev cX0_isAsked : ByteArray := prog_1_method_16_code
def yX0_isAsked : MethodName := ⟨RX0, "isAsked", "(III)Z"⟩
def dkwX0_isAsked_1 : List UInt8 := [172]
abbrev dktX0_isAsked_1 : List UInt8 := dkwX0_isAsked_1 ++ []
def dkwX0_isAsked_0 : List UInt8 := [42, 180, 0, 35, 27, 28, 182, 0, 149, 153, 0, 14, 29, 184, 0, 173, 153, 0, 7, 4, 167, 0, 4, 3]
abbrev dktX0_isAsked_0 : List UInt8 := dkwX0_isAsked_0 ++ dktX0_isAsked_1
theorem dksX0_isAsked_0 : cX0_isAsked.data.toList.drop 0 = dktX0_isAsked_0 := by decide +kernel
theorem dksX0_isAsked_1 : cX0_isAsked.data.toList.drop 24 = dktX0_isAsked_1 := dk_seg dksX0_isAsked_0 24 rfl rfl
theorem dX0_isAsked_0 : decode cX0_isAsked 0 = .ok (.aload_n 0, 1) := dk_42 (dk_at dksX0_isAsked_0 0 rfl rfl)
theorem dX0_isAsked_1 : decode cX0_isAsked 1 = .ok (.getfield 35, 3) := dk_180 0 35 (dk_at dksX0_isAsked_0 1 rfl rfl)
theorem dX0_isAsked_4 : decode cX0_isAsked 4 = .ok (.iload_n 1, 1) := dk_27 (dk_at dksX0_isAsked_0 4 rfl rfl)
theorem dX0_isAsked_5 : decode cX0_isAsked 5 = .ok (.iload_n 2, 1) := dk_28 (dk_at dksX0_isAsked_0 5 rfl rfl)
theorem dX0_isAsked_6 : decode cX0_isAsked 6 = .ok (.invokevirtual 149, 3) := dk_182 0 149 (dk_at dksX0_isAsked_0 6 rfl rfl)
theorem dX0_isAsked_9 : decode cX0_isAsked 9 = .ok (.ifCond .eq 14, 3) := dk_153 0 14 (dk_at dksX0_isAsked_0 9 rfl rfl)
theorem dX0_isAsked_12 : decode cX0_isAsked 12 = .ok (.iload_n 3, 1) := dk_29 (dk_at dksX0_isAsked_0 12 rfl rfl)
theorem dX0_isAsked_13 : decode cX0_isAsked 13 = .ok (.invokestatic 173, 3) := dk_184 0 173 (dk_at dksX0_isAsked_0 13 rfl rfl)
theorem dX0_isAsked_16 : decode cX0_isAsked 16 = .ok (.ifCond .eq 7, 3) := dk_153 0 7 (dk_at dksX0_isAsked_0 16 rfl rfl)
theorem dX0_isAsked_19 : decode cX0_isAsked 19 = .ok (.iconst 1, 1) := dk_4 (dk_at dksX0_isAsked_0 19 rfl rfl)
theorem dX0_isAsked_20 : decode cX0_isAsked 20 = .ok (.goto 4, 3) := dk_167 0 4 (dk_at dksX0_isAsked_0 20 rfl rfl)
theorem dX0_isAsked_23 : decode cX0_isAsked 23 = .ok (.iconst 0, 1) := dk_3 (dk_at dksX0_isAsked_0 23 rfl rfl)
theorem dX0_isAsked_24 : decode cX0_isAsked 24 = .ok (.ireturn, 1) := dk_172 (dk_at dksX0_isAsked_1 0 rfl rfl)
abbrev cX0_isSecond : ByteArray := prog_1_method_11_code
def yX0_isSecond : MethodName := ⟨RX0, "isSecond", "(I)Z"⟩
def dkwX0_isSecond_0 : List UInt8 := [26, 3, 18, 126, 184, 0, 127, 172]
abbrev dktX0_isSecond_0 : List UInt8 := dkwX0_isSecond_0 ++ []
theorem dksX0_isSecond_0 : cX0_isSecond.data.toList.drop 0 = dktX0_isSecond_0 := by decide +kernel
theorem dX0_isSecond_0 : decode cX0_isSecond 0 = .ok (.iload_n 0, 1) := dk_26 (dk_at dksX0_isSecond_0 0 rfl rfl)
theorem dX0_isSecond_1 : decode cX0_isSecond 1 = .ok (.iconst 0, 1) := dk_3 (dk_at dksX0_isSecond_0 1 rfl rfl)
theorem dX0_isSecond_2 : decode cX0_isSecond 2 = .ok (.ldc 126, 2) := dk_18 126 (dk_at dksX0_isSecond_0 2 rfl rfl)
theorem dX0_isSecond_4 : decode cX0_isSecond 4 = .ok (.invokestatic 127, 3) := dk_184 0 127 (dk_at dksX0_isSecond_0 4 rfl rfl)
theorem dX0_isSecond_7 : decode cX0_isSecond 7 = .ok (.ireturn, 1) := dk_172 (dk_at dksX0_isSecond_0 7 rfl rfl)
abbrev cX0_isWay : ByteArray := prog_1_method_12_code
def yX0_isWay : MethodName := ⟨RX0, "isWay", "(I)Z"⟩
def dkwX0_isWay_0 : List UInt8 := [26, 3, 4, 184, 0, 127, 172]
abbrev dktX0_isWay_0 : List UInt8 := dkwX0_isWay_0 ++ []
theorem dksX0_isWay_0 : cX0_isWay.data.toList.drop 0 = dktX0_isWay_0 := by decide +kernel
theorem dX0_isWay_0 : decode cX0_isWay 0 = .ok (.iload_n 0, 1) := dk_26 (dk_at dksX0_isWay_0 0 rfl rfl)
theorem dX0_isWay_1 : decode cX0_isWay 1 = .ok (.iconst 0, 1) := dk_3 (dk_at dksX0_isWay_0 1 rfl rfl)
theorem dX0_isWay_2 : decode cX0_isWay 2 = .ok (.iconst 1, 1) := dk_4 (dk_at dksX0_isWay_0 2 rfl rfl)
theorem dX0_isWay_3 : decode cX0_isWay 3 = .ok (.invokestatic 127, 3) := dk_184 0 127 (dk_at dksX0_isWay_0 3 rfl rfl)
theorem dX0_isWay_6 : decode cX0_isWay 6 = .ok (.ireturn, 1) := dk_172 (dk_at dksX0_isWay_0 6 rfl rfl)
abbrev cX0_waits : ByteArray := prog_1_method_14_code
def yX0_waits : MethodName := ⟨RX0, "waits", "(IIII)I"⟩
def dkwX0_waits_1 : List UInt8 := [25, 5, 199, 0, 7, 3, 167, 0, 11, 25, 5, 29, 21, 4, 182, 0, 144, 172]
abbrev dktX0_waits_1 : List UInt8 := dkwX0_waits_1 ++ []
def dkwX0_waits_0 : List UInt8 := [42, 180, 0, 35, 27, 28, 29, 182, 0, 137, 154, 0, 5, 2, 172, 42, 27, 28, 182, 0, 140, 58, 5]
abbrev dktX0_waits_0 : List UInt8 := dkwX0_waits_0 ++ dktX0_waits_1
theorem dksX0_waits_0 : cX0_waits.data.toList.drop 0 = dktX0_waits_0 := by decide +kernel
theorem dksX0_waits_1 : cX0_waits.data.toList.drop 23 = dktX0_waits_1 := dk_seg dksX0_waits_0 23 rfl rfl
theorem dX0_waits_0 : decode cX0_waits 0 = .ok (.aload_n 0, 1) := dk_42 (dk_at dksX0_waits_0 0 rfl rfl)
theorem dX0_waits_1 : decode cX0_waits 1 = .ok (.getfield 35, 3) := dk_180 0 35 (dk_at dksX0_waits_0 1 rfl rfl)
theorem dX0_waits_4 : decode cX0_waits 4 = .ok (.iload_n 1, 1) := dk_27 (dk_at dksX0_waits_0 4 rfl rfl)
theorem dX0_waits_5 : decode cX0_waits 5 = .ok (.iload_n 2, 1) := dk_28 (dk_at dksX0_waits_0 5 rfl rfl)
theorem dX0_waits_6 : decode cX0_waits 6 = .ok (.iload_n 3, 1) := dk_29 (dk_at dksX0_waits_0 6 rfl rfl)
theorem dX0_waits_7 : decode cX0_waits 7 = .ok (.invokevirtual 137, 3) := dk_182 0 137 (dk_at dksX0_waits_0 7 rfl rfl)
theorem dX0_waits_10 : decode cX0_waits 10 = .ok (.ifCond .ne 5, 3) := dk_154 0 5 (dk_at dksX0_waits_0 10 rfl rfl)
theorem dX0_waits_13 : decode cX0_waits 13 = .ok (.iconst (-1), 1) := dk_2 (dk_at dksX0_waits_0 13 rfl rfl)
theorem dX0_waits_14 : decode cX0_waits 14 = .ok (.ireturn, 1) := dk_172 (dk_at dksX0_waits_0 14 rfl rfl)
theorem dX0_waits_15 : decode cX0_waits 15 = .ok (.aload_n 0, 1) := dk_42 (dk_at dksX0_waits_0 15 rfl rfl)
theorem dX0_waits_16 : decode cX0_waits 16 = .ok (.iload_n 1, 1) := dk_27 (dk_at dksX0_waits_0 16 rfl rfl)
theorem dX0_waits_17 : decode cX0_waits 17 = .ok (.iload_n 2, 1) := dk_28 (dk_at dksX0_waits_0 17 rfl rfl)
theorem dX0_waits_18 : decode cX0_waits 18 = .ok (.invokevirtual 140, 3) := dk_182 0 140 (dk_at dksX0_waits_0 18 rfl rfl)
theorem dX0_waits_21 : decode cX0_waits 21 = .ok (.astore 5, 2) := dk_58 5 (dk_at dksX0_waits_0 21 rfl rfl)
theorem dX0_waits_23 : decode cX0_waits 23 = .ok (.aload 5, 2) := dk_25 5 (dk_at dksX0_waits_1 0 rfl rfl)
theorem dX0_waits_25 : decode cX0_waits 25 = .ok (.ifnonnull 7, 3) := dk_199 0 7 (dk_at dksX0_waits_1 2 rfl rfl)
theorem dX0_waits_28 : decode cX0_waits 28 = .ok (.iconst 0, 1) := dk_3 (dk_at dksX0_waits_1 5 rfl rfl)
theorem dX0_waits_29 : decode cX0_waits 29 = .ok (.goto 11, 3) := dk_167 0 11 (dk_at dksX0_waits_1 6 rfl rfl)
theorem dX0_waits_32 : decode cX0_waits 32 = .ok (.aload 5, 2) := dk_25 5 (dk_at dksX0_waits_1 9 rfl rfl)
theorem dX0_waits_34 : decode cX0_waits 34 = .ok (.iload_n 3, 1) := dk_29 (dk_at dksX0_waits_1 11 rfl rfl)
theorem dX0_waits_35 : decode cX0_waits 35 = .ok (.iload 4, 2) := dk_21 4 (dk_at dksX0_waits_1 12 rfl rfl)
theorem dX0_waits_37 : decode cX0_waits 37 = .ok (.invokevirtual 144, 3) := dk_182 0 144 (dk_at dksX0_waits_1 14 rfl rfl)
theorem dX0_waits_40 : decode cX0_waits 40 = .ok (.ireturn, 1) := dk_172 (dk_at dksX0_waits_1 17 rfl rfl)
abbrev cX0_go : ByteArray := prog_1_method_20_code
def yX0_go : MethodName := ⟨RX0, "go", "(IZ)I"⟩
def dkwX0_go_6 : List UInt8 := [42, 180, 0, 49, 89, 180, 0, 200, 4, 96, 181, 0, 200, 42, 180, 0, 49, 180, 0, 203, 172]
abbrev dktX0_go_6 : List UInt8 := dkwX0_go_6 ++ []
def dkwX0_go_5 : List UInt8 := [96, 181, 0, 206, 27, 154, 0, 19, 42, 180, 0, 49, 89, 180, 0, 197, 4, 96, 181, 0, 197, 167, 0, 16]
abbrev dktX0_go_5 : List UInt8 := dkwX0_go_5 ++ dktX0_go_6
def dkwX0_go_4 : List UInt8 := [180, 0, 35, 182, 0, 217, 96, 96, 181, 0, 203, 28, 153, 0, 16, 42, 180, 0, 49, 89, 180, 0, 206, 4]
abbrev dktX0_go_4 : List UInt8 := dkwX0_go_4 ++ dktX0_go_5
def dkwX0_go_3 : List UInt8 := [180, 0, 49, 89, 180, 0, 203, 29, 28, 153, 0, 13, 42, 180, 0, 35, 182, 0, 214, 167, 0, 10, 42]
abbrev dktX0_go_3 : List UInt8 := dkwX0_go_3 ++ dktX0_go_4
def dkwX0_go_2 : List UInt8 := [180, 0, 49, 180, 0, 206, 42, 180, 0, 35, 182, 0, 209, 161, 0, 5, 2, 172, 42, 182, 0, 211, 42]
abbrev dktX0_go_2 : List UInt8 := dkwX0_go_2 ++ dktX0_go_3
def dkwX0_go_1 : List UInt8 := [180, 0, 49, 180, 0, 203, 182, 0, 191, 167, 0, 4, 2, 62, 29, 155, 0, 24, 28, 153, 0, 22, 42]
abbrev dktX0_go_1 : List UInt8 := dkwX0_go_1 ++ dktX0_go_2
def dkwX0_go_0 : List UInt8 := [27, 184, 0, 188, 153, 0, 32, 42, 42, 180, 0, 49, 180, 0, 197, 42, 180, 0, 49, 180, 0, 200, 27, 42]
abbrev dktX0_go_0 : List UInt8 := dkwX0_go_0 ++ dktX0_go_1
theorem dksX0_go_0 : cX0_go.data.toList.drop 0 = dktX0_go_0 := by decide +kernel
theorem dksX0_go_1 : cX0_go.data.toList.drop 24 = dktX0_go_1 := dk_seg dksX0_go_0 24 rfl rfl
theorem dksX0_go_2 : cX0_go.data.toList.drop 47 = dktX0_go_2 := dk_seg dksX0_go_1 23 rfl rfl
theorem dksX0_go_3 : cX0_go.data.toList.drop 70 = dktX0_go_3 := dk_seg dksX0_go_2 23 rfl rfl
theorem dksX0_go_4 : cX0_go.data.toList.drop 93 = dktX0_go_4 := dk_seg dksX0_go_3 23 rfl rfl
theorem dksX0_go_5 : cX0_go.data.toList.drop 117 = dktX0_go_5 := dk_seg dksX0_go_4 24 rfl rfl
theorem dksX0_go_6 : cX0_go.data.toList.drop 141 = dktX0_go_6 := dk_seg dksX0_go_5 24 rfl rfl
theorem dX0_go_0 : decode cX0_go 0 = .ok (.iload_n 1, 1) := dk_27 (dk_at dksX0_go_0 0 rfl rfl)
theorem dX0_go_1 : decode cX0_go 1 = .ok (.invokestatic 188, 3) := dk_184 0 188 (dk_at dksX0_go_0 1 rfl rfl)
theorem dX0_go_4 : decode cX0_go 4 = .ok (.ifCond .eq 32, 3) := dk_153 0 32 (dk_at dksX0_go_0 4 rfl rfl)
theorem dX0_go_7 : decode cX0_go 7 = .ok (.aload_n 0, 1) := dk_42 (dk_at dksX0_go_0 7 rfl rfl)
theorem dX0_go_8 : decode cX0_go 8 = .ok (.aload_n 0, 1) := dk_42 (dk_at dksX0_go_0 8 rfl rfl)
theorem dX0_go_9 : decode cX0_go 9 = .ok (.getfield 49, 3) := dk_180 0 49 (dk_at dksX0_go_0 9 rfl rfl)
theorem dX0_go_12 : decode cX0_go 12 = .ok (.getfield 197, 3) := dk_180 0 197 (dk_at dksX0_go_0 12 rfl rfl)
theorem dX0_go_15 : decode cX0_go 15 = .ok (.aload_n 0, 1) := dk_42 (dk_at dksX0_go_0 15 rfl rfl)
theorem dX0_go_16 : decode cX0_go 16 = .ok (.getfield 49, 3) := dk_180 0 49 (dk_at dksX0_go_0 16 rfl rfl)
theorem dX0_go_19 : decode cX0_go 19 = .ok (.getfield 200, 3) := dk_180 0 200 (dk_at dksX0_go_0 19 rfl rfl)
theorem dX0_go_22 : decode cX0_go 22 = .ok (.iload_n 1, 1) := dk_27 (dk_at dksX0_go_0 22 rfl rfl)
theorem dX0_go_23 : decode cX0_go 23 = .ok (.aload_n 0, 1) := dk_42 (dk_at dksX0_go_0 23 rfl rfl)
theorem dX0_go_24 : decode cX0_go 24 = .ok (.getfield 49, 3) := dk_180 0 49 (dk_at dksX0_go_1 0 rfl rfl)
theorem dX0_go_27 : decode cX0_go 27 = .ok (.getfield 203, 3) := dk_180 0 203 (dk_at dksX0_go_1 3 rfl rfl)
theorem dX0_go_30 : decode cX0_go 30 = .ok (.invokevirtual 191, 3) := dk_182 0 191 (dk_at dksX0_go_1 6 rfl rfl)
theorem dX0_go_33 : decode cX0_go 33 = .ok (.goto 4, 3) := dk_167 0 4 (dk_at dksX0_go_1 9 rfl rfl)
theorem dX0_go_36 : decode cX0_go 36 = .ok (.iconst (-1), 1) := dk_2 (dk_at dksX0_go_1 12 rfl rfl)
theorem dX0_go_37 : decode cX0_go 37 = .ok (.istore_n 3, 1) := dk_62 (dk_at dksX0_go_1 13 rfl rfl)
theorem dX0_go_38 : decode cX0_go 38 = .ok (.iload_n 3, 1) := dk_29 (dk_at dksX0_go_1 14 rfl rfl)
theorem dX0_go_39 : decode cX0_go 39 = .ok (.ifCond .lt 24, 3) := dk_155 0 24 (dk_at dksX0_go_1 15 rfl rfl)
theorem dX0_go_42 : decode cX0_go 42 = .ok (.iload_n 2, 1) := dk_28 (dk_at dksX0_go_1 18 rfl rfl)
theorem dX0_go_43 : decode cX0_go 43 = .ok (.ifCond .eq 22, 3) := dk_153 0 22 (dk_at dksX0_go_1 19 rfl rfl)
theorem dX0_go_46 : decode cX0_go 46 = .ok (.aload_n 0, 1) := dk_42 (dk_at dksX0_go_1 22 rfl rfl)
theorem dX0_go_47 : decode cX0_go 47 = .ok (.getfield 49, 3) := dk_180 0 49 (dk_at dksX0_go_2 0 rfl rfl)
theorem dX0_go_50 : decode cX0_go 50 = .ok (.getfield 206, 3) := dk_180 0 206 (dk_at dksX0_go_2 3 rfl rfl)
theorem dX0_go_53 : decode cX0_go 53 = .ok (.aload_n 0, 1) := dk_42 (dk_at dksX0_go_2 6 rfl rfl)
theorem dX0_go_54 : decode cX0_go 54 = .ok (.getfield 35, 3) := dk_180 0 35 (dk_at dksX0_go_2 7 rfl rfl)
theorem dX0_go_57 : decode cX0_go 57 = .ok (.invokevirtual 209, 3) := dk_182 0 209 (dk_at dksX0_go_2 10 rfl rfl)
theorem dX0_go_60 : decode cX0_go 60 = .ok (.if_icmp .lt 5, 3) := dk_161 0 5 (dk_at dksX0_go_2 13 rfl rfl)
theorem dX0_go_63 : decode cX0_go 63 = .ok (.iconst (-1), 1) := dk_2 (dk_at dksX0_go_2 16 rfl rfl)
theorem dX0_go_64 : decode cX0_go 64 = .ok (.ireturn, 1) := dk_172 (dk_at dksX0_go_2 17 rfl rfl)
theorem dX0_go_65 : decode cX0_go 65 = .ok (.aload_n 0, 1) := dk_42 (dk_at dksX0_go_2 18 rfl rfl)
theorem dX0_go_66 : decode cX0_go 66 = .ok (.invokevirtual 211, 3) := dk_182 0 211 (dk_at dksX0_go_2 19 rfl rfl)
theorem dX0_go_69 : decode cX0_go 69 = .ok (.aload_n 0, 1) := dk_42 (dk_at dksX0_go_2 22 rfl rfl)
theorem dX0_go_70 : decode cX0_go 70 = .ok (.getfield 49, 3) := dk_180 0 49 (dk_at dksX0_go_3 0 rfl rfl)
theorem dX0_go_73 : decode cX0_go 73 = .ok (.dup, 1) := dk_89 (dk_at dksX0_go_3 3 rfl rfl)
theorem dX0_go_74 : decode cX0_go 74 = .ok (.getfield 203, 3) := dk_180 0 203 (dk_at dksX0_go_3 4 rfl rfl)
theorem dX0_go_77 : decode cX0_go 77 = .ok (.iload_n 3, 1) := dk_29 (dk_at dksX0_go_3 7 rfl rfl)
theorem dX0_go_78 : decode cX0_go 78 = .ok (.iload_n 2, 1) := dk_28 (dk_at dksX0_go_3 8 rfl rfl)
theorem dX0_go_79 : decode cX0_go 79 = .ok (.ifCond .eq 13, 3) := dk_153 0 13 (dk_at dksX0_go_3 9 rfl rfl)
theorem dX0_go_82 : decode cX0_go 82 = .ok (.aload_n 0, 1) := dk_42 (dk_at dksX0_go_3 12 rfl rfl)
theorem dX0_go_83 : decode cX0_go 83 = .ok (.getfield 35, 3) := dk_180 0 35 (dk_at dksX0_go_3 13 rfl rfl)
theorem dX0_go_86 : decode cX0_go 86 = .ok (.invokevirtual 214, 3) := dk_182 0 214 (dk_at dksX0_go_3 16 rfl rfl)
theorem dX0_go_89 : decode cX0_go 89 = .ok (.goto 10, 3) := dk_167 0 10 (dk_at dksX0_go_3 19 rfl rfl)
theorem dX0_go_92 : decode cX0_go 92 = .ok (.aload_n 0, 1) := dk_42 (dk_at dksX0_go_3 22 rfl rfl)
theorem dX0_go_93 : decode cX0_go 93 = .ok (.getfield 35, 3) := dk_180 0 35 (dk_at dksX0_go_4 0 rfl rfl)
theorem dX0_go_96 : decode cX0_go 96 = .ok (.invokevirtual 217, 3) := dk_182 0 217 (dk_at dksX0_go_4 3 rfl rfl)
theorem dX0_go_99 : decode cX0_go 99 = .ok (.iadd, 1) := dk_96 (dk_at dksX0_go_4 6 rfl rfl)
theorem dX0_go_100 : decode cX0_go 100 = .ok (.iadd, 1) := dk_96 (dk_at dksX0_go_4 7 rfl rfl)
theorem dX0_go_101 : decode cX0_go 101 = .ok (.putfield 203, 3) := dk_181 0 203 (dk_at dksX0_go_4 8 rfl rfl)
theorem dX0_go_104 : decode cX0_go 104 = .ok (.iload_n 2, 1) := dk_28 (dk_at dksX0_go_4 11 rfl rfl)
theorem dX0_go_105 : decode cX0_go 105 = .ok (.ifCond .eq 16, 3) := dk_153 0 16 (dk_at dksX0_go_4 12 rfl rfl)
theorem dX0_go_108 : decode cX0_go 108 = .ok (.aload_n 0, 1) := dk_42 (dk_at dksX0_go_4 15 rfl rfl)
theorem dX0_go_109 : decode cX0_go 109 = .ok (.getfield 49, 3) := dk_180 0 49 (dk_at dksX0_go_4 16 rfl rfl)
theorem dX0_go_112 : decode cX0_go 112 = .ok (.dup, 1) := dk_89 (dk_at dksX0_go_4 19 rfl rfl)
theorem dX0_go_113 : decode cX0_go 113 = .ok (.getfield 206, 3) := dk_180 0 206 (dk_at dksX0_go_4 20 rfl rfl)
theorem dX0_go_116 : decode cX0_go 116 = .ok (.iconst 1, 1) := dk_4 (dk_at dksX0_go_4 23 rfl rfl)
theorem dX0_go_117 : decode cX0_go 117 = .ok (.iadd, 1) := dk_96 (dk_at dksX0_go_5 0 rfl rfl)
theorem dX0_go_118 : decode cX0_go 118 = .ok (.putfield 206, 3) := dk_181 0 206 (dk_at dksX0_go_5 1 rfl rfl)
theorem dX0_go_121 : decode cX0_go 121 = .ok (.iload_n 1, 1) := dk_27 (dk_at dksX0_go_5 4 rfl rfl)
theorem dX0_go_122 : decode cX0_go 122 = .ok (.ifCond .ne 19, 3) := dk_154 0 19 (dk_at dksX0_go_5 5 rfl rfl)
theorem dX0_go_125 : decode cX0_go 125 = .ok (.aload_n 0, 1) := dk_42 (dk_at dksX0_go_5 8 rfl rfl)
theorem dX0_go_126 : decode cX0_go 126 = .ok (.getfield 49, 3) := dk_180 0 49 (dk_at dksX0_go_5 9 rfl rfl)
theorem dX0_go_129 : decode cX0_go 129 = .ok (.dup, 1) := dk_89 (dk_at dksX0_go_5 12 rfl rfl)
theorem dX0_go_130 : decode cX0_go 130 = .ok (.getfield 197, 3) := dk_180 0 197 (dk_at dksX0_go_5 13 rfl rfl)
theorem dX0_go_133 : decode cX0_go 133 = .ok (.iconst 1, 1) := dk_4 (dk_at dksX0_go_5 16 rfl rfl)
theorem dX0_go_134 : decode cX0_go 134 = .ok (.iadd, 1) := dk_96 (dk_at dksX0_go_5 17 rfl rfl)
theorem dX0_go_135 : decode cX0_go 135 = .ok (.putfield 197, 3) := dk_181 0 197 (dk_at dksX0_go_5 18 rfl rfl)
theorem dX0_go_138 : decode cX0_go 138 = .ok (.goto 16, 3) := dk_167 0 16 (dk_at dksX0_go_5 21 rfl rfl)
theorem dX0_go_141 : decode cX0_go 141 = .ok (.aload_n 0, 1) := dk_42 (dk_at dksX0_go_6 0 rfl rfl)
theorem dX0_go_142 : decode cX0_go 142 = .ok (.getfield 49, 3) := dk_180 0 49 (dk_at dksX0_go_6 1 rfl rfl)
theorem dX0_go_145 : decode cX0_go 145 = .ok (.dup, 1) := dk_89 (dk_at dksX0_go_6 4 rfl rfl)
theorem dX0_go_146 : decode cX0_go 146 = .ok (.getfield 200, 3) := dk_180 0 200 (dk_at dksX0_go_6 5 rfl rfl)
theorem dX0_go_149 : decode cX0_go 149 = .ok (.iconst 1, 1) := dk_4 (dk_at dksX0_go_6 8 rfl rfl)
theorem dX0_go_150 : decode cX0_go 150 = .ok (.iadd, 1) := dk_96 (dk_at dksX0_go_6 9 rfl rfl)
theorem dX0_go_151 : decode cX0_go 151 = .ok (.putfield 200, 3) := dk_181 0 200 (dk_at dksX0_go_6 10 rfl rfl)
theorem dX0_go_154 : decode cX0_go 154 = .ok (.aload_n 0, 1) := dk_42 (dk_at dksX0_go_6 13 rfl rfl)
theorem dX0_go_155 : decode cX0_go 155 = .ok (.getfield 49, 3) := dk_180 0 49 (dk_at dksX0_go_6 14 rfl rfl)
theorem dX0_go_158 : decode cX0_go 158 = .ok (.getfield 203, 3) := dk_180 0 203 (dk_at dksX0_go_6 17 rfl rfl)
theorem dX0_go_161 : decode cX0_go 161 = .ok (.ireturn, 1) := dk_172 (dk_at dksX0_go_6 20 rfl rfl)
abbrev cX0_keeps : ByteArray := prog_1_method_19_code
def yX0_keeps : MethodName := ⟨RX0, "keeps", "()V"⟩
def dkwX0_keeps_4 : List UInt8 := [180, 0, 53, 42, 89, 180, 0, 116, 90, 4, 96, 181, 0, 116, 50, 42, 180, 0, 49, 182, 0, 193, 177]
abbrev dktX0_keeps_4 : List UInt8 := dkwX0_keeps_4 ++ []
def dkwX0_keeps_3 : List UInt8 := [180, 0, 116, 50, 199, 0, 19, 42, 180, 0, 53, 42, 180, 0, 116, 187, 0, 46, 89, 183, 0, 48, 83, 42]
abbrev dktX0_keeps_3 : List UInt8 := dkwX0_keeps_3 ++ dktX0_keeps_4
def dkwX0_keeps_2 : List UInt8 := [180, 0, 53, 16, 15, 43, 83, 42, 89, 180, 0, 116, 4, 100, 181, 0, 116, 42, 180, 0, 53, 42]
abbrev dktX0_keeps_2 : List UInt8 := dkwX0_keeps_2 ++ dktX0_keeps_3
def dkwX0_keeps_1 : List UInt8 := [162, 0, 23, 42, 180, 0, 53, 28, 42, 180, 0, 53, 28, 4, 96, 50, 83, 132, 2, 1, 167, 255, 231, 42]
abbrev dktX0_keeps_1 : List UInt8 := dkwX0_keeps_1 ++ dktX0_keeps_2
def dkwX0_keeps_0 : List UInt8 := [42, 180, 0, 116, 16, 16, 160, 0, 58, 42, 180, 0, 53, 3, 50, 76, 3, 61, 28, 4, 96, 16, 16]
abbrev dktX0_keeps_0 : List UInt8 := dkwX0_keeps_0 ++ dktX0_keeps_1
theorem dksX0_keeps_0 : cX0_keeps.data.toList.drop 0 = dktX0_keeps_0 := by decide +kernel
theorem dksX0_keeps_1 : cX0_keeps.data.toList.drop 23 = dktX0_keeps_1 := dk_seg dksX0_keeps_0 23 rfl rfl
theorem dksX0_keeps_2 : cX0_keeps.data.toList.drop 47 = dktX0_keeps_2 := dk_seg dksX0_keeps_1 24 rfl rfl
theorem dksX0_keeps_3 : cX0_keeps.data.toList.drop 69 = dktX0_keeps_3 := dk_seg dksX0_keeps_2 22 rfl rfl
theorem dksX0_keeps_4 : cX0_keeps.data.toList.drop 93 = dktX0_keeps_4 := dk_seg dksX0_keeps_3 24 rfl rfl
theorem dX0_keeps_0 : decode cX0_keeps 0 = .ok (.aload_n 0, 1) := dk_42 (dk_at dksX0_keeps_0 0 rfl rfl)
theorem dX0_keeps_1 : decode cX0_keeps 1 = .ok (.getfield 116, 3) := dk_180 0 116 (dk_at dksX0_keeps_0 1 rfl rfl)
theorem dX0_keeps_4 : decode cX0_keeps 4 = .ok (.bipush 16, 2) := dk_16 16 (dk_at dksX0_keeps_0 4 rfl rfl)
theorem dX0_keeps_6 : decode cX0_keeps 6 = .ok (.if_icmp .ne 58, 3) := dk_160 0 58 (dk_at dksX0_keeps_0 6 rfl rfl)
theorem dX0_keeps_9 : decode cX0_keeps 9 = .ok (.aload_n 0, 1) := dk_42 (dk_at dksX0_keeps_0 9 rfl rfl)
theorem dX0_keeps_10 : decode cX0_keeps 10 = .ok (.getfield 53, 3) := dk_180 0 53 (dk_at dksX0_keeps_0 10 rfl rfl)
theorem dX0_keeps_13 : decode cX0_keeps 13 = .ok (.iconst 0, 1) := dk_3 (dk_at dksX0_keeps_0 13 rfl rfl)
theorem dX0_keeps_14 : decode cX0_keeps 14 = .ok (.aaload, 1) := dk_50 (dk_at dksX0_keeps_0 14 rfl rfl)
theorem dX0_keeps_15 : decode cX0_keeps 15 = .ok (.astore_n 1, 1) := dk_76 (dk_at dksX0_keeps_0 15 rfl rfl)
theorem dX0_keeps_16 : decode cX0_keeps 16 = .ok (.iconst 0, 1) := dk_3 (dk_at dksX0_keeps_0 16 rfl rfl)
theorem dX0_keeps_17 : decode cX0_keeps 17 = .ok (.istore_n 2, 1) := dk_61 (dk_at dksX0_keeps_0 17 rfl rfl)
theorem dX0_keeps_18 : decode cX0_keeps 18 = .ok (.iload_n 2, 1) := dk_28 (dk_at dksX0_keeps_0 18 rfl rfl)
theorem dX0_keeps_19 : decode cX0_keeps 19 = .ok (.iconst 1, 1) := dk_4 (dk_at dksX0_keeps_0 19 rfl rfl)
theorem dX0_keeps_20 : decode cX0_keeps 20 = .ok (.iadd, 1) := dk_96 (dk_at dksX0_keeps_0 20 rfl rfl)
theorem dX0_keeps_21 : decode cX0_keeps 21 = .ok (.bipush 16, 2) := dk_16 16 (dk_at dksX0_keeps_0 21 rfl rfl)
theorem dX0_keeps_23 : decode cX0_keeps 23 = .ok (.if_icmp .ge 23, 3) := dk_162 0 23 (dk_at dksX0_keeps_1 0 rfl rfl)
theorem dX0_keeps_26 : decode cX0_keeps 26 = .ok (.aload_n 0, 1) := dk_42 (dk_at dksX0_keeps_1 3 rfl rfl)
theorem dX0_keeps_27 : decode cX0_keeps 27 = .ok (.getfield 53, 3) := dk_180 0 53 (dk_at dksX0_keeps_1 4 rfl rfl)
theorem dX0_keeps_30 : decode cX0_keeps 30 = .ok (.iload_n 2, 1) := dk_28 (dk_at dksX0_keeps_1 7 rfl rfl)
theorem dX0_keeps_31 : decode cX0_keeps 31 = .ok (.aload_n 0, 1) := dk_42 (dk_at dksX0_keeps_1 8 rfl rfl)
theorem dX0_keeps_32 : decode cX0_keeps 32 = .ok (.getfield 53, 3) := dk_180 0 53 (dk_at dksX0_keeps_1 9 rfl rfl)
theorem dX0_keeps_35 : decode cX0_keeps 35 = .ok (.iload_n 2, 1) := dk_28 (dk_at dksX0_keeps_1 12 rfl rfl)
theorem dX0_keeps_36 : decode cX0_keeps 36 = .ok (.iconst 1, 1) := dk_4 (dk_at dksX0_keeps_1 13 rfl rfl)
theorem dX0_keeps_37 : decode cX0_keeps 37 = .ok (.iadd, 1) := dk_96 (dk_at dksX0_keeps_1 14 rfl rfl)
theorem dX0_keeps_38 : decode cX0_keeps 38 = .ok (.aaload, 1) := dk_50 (dk_at dksX0_keeps_1 15 rfl rfl)
theorem dX0_keeps_39 : decode cX0_keeps 39 = .ok (.aastore, 1) := dk_83 (dk_at dksX0_keeps_1 16 rfl rfl)
theorem dX0_keeps_40 : decode cX0_keeps 40 = .ok (.iinc 2 1, 3) := dk_132 2 1 (dk_at dksX0_keeps_1 17 rfl rfl)
theorem dX0_keeps_43 : decode cX0_keeps 43 = .ok (.goto (-25), 3) := dk_167 255 231 (dk_at dksX0_keeps_1 20 rfl rfl)
theorem dX0_keeps_46 : decode cX0_keeps 46 = .ok (.aload_n 0, 1) := dk_42 (dk_at dksX0_keeps_1 23 rfl rfl)
theorem dX0_keeps_47 : decode cX0_keeps 47 = .ok (.getfield 53, 3) := dk_180 0 53 (dk_at dksX0_keeps_2 0 rfl rfl)
theorem dX0_keeps_50 : decode cX0_keeps 50 = .ok (.bipush 15, 2) := dk_16 15 (dk_at dksX0_keeps_2 3 rfl rfl)
theorem dX0_keeps_52 : decode cX0_keeps 52 = .ok (.aload_n 1, 1) := dk_43 (dk_at dksX0_keeps_2 5 rfl rfl)
theorem dX0_keeps_53 : decode cX0_keeps 53 = .ok (.aastore, 1) := dk_83 (dk_at dksX0_keeps_2 6 rfl rfl)
theorem dX0_keeps_54 : decode cX0_keeps 54 = .ok (.aload_n 0, 1) := dk_42 (dk_at dksX0_keeps_2 7 rfl rfl)
theorem dX0_keeps_55 : decode cX0_keeps 55 = .ok (.dup, 1) := dk_89 (dk_at dksX0_keeps_2 8 rfl rfl)
theorem dX0_keeps_56 : decode cX0_keeps 56 = .ok (.getfield 116, 3) := dk_180 0 116 (dk_at dksX0_keeps_2 9 rfl rfl)
theorem dX0_keeps_59 : decode cX0_keeps 59 = .ok (.iconst 1, 1) := dk_4 (dk_at dksX0_keeps_2 12 rfl rfl)
theorem dX0_keeps_60 : decode cX0_keeps 60 = .ok (.isub, 1) := dk_100 (dk_at dksX0_keeps_2 13 rfl rfl)
theorem dX0_keeps_61 : decode cX0_keeps 61 = .ok (.putfield 116, 3) := dk_181 0 116 (dk_at dksX0_keeps_2 14 rfl rfl)
theorem dX0_keeps_64 : decode cX0_keeps 64 = .ok (.aload_n 0, 1) := dk_42 (dk_at dksX0_keeps_2 17 rfl rfl)
theorem dX0_keeps_65 : decode cX0_keeps 65 = .ok (.getfield 53, 3) := dk_180 0 53 (dk_at dksX0_keeps_2 18 rfl rfl)
theorem dX0_keeps_68 : decode cX0_keeps 68 = .ok (.aload_n 0, 1) := dk_42 (dk_at dksX0_keeps_2 21 rfl rfl)
theorem dX0_keeps_69 : decode cX0_keeps 69 = .ok (.getfield 116, 3) := dk_180 0 116 (dk_at dksX0_keeps_3 0 rfl rfl)
theorem dX0_keeps_72 : decode cX0_keeps 72 = .ok (.aaload, 1) := dk_50 (dk_at dksX0_keeps_3 3 rfl rfl)
theorem dX0_keeps_73 : decode cX0_keeps 73 = .ok (.ifnonnull 19, 3) := dk_199 0 19 (dk_at dksX0_keeps_3 4 rfl rfl)
theorem dX0_keeps_76 : decode cX0_keeps 76 = .ok (.aload_n 0, 1) := dk_42 (dk_at dksX0_keeps_3 7 rfl rfl)
theorem dX0_keeps_77 : decode cX0_keeps 77 = .ok (.getfield 53, 3) := dk_180 0 53 (dk_at dksX0_keeps_3 8 rfl rfl)
theorem dX0_keeps_80 : decode cX0_keeps 80 = .ok (.aload_n 0, 1) := dk_42 (dk_at dksX0_keeps_3 11 rfl rfl)
theorem dX0_keeps_81 : decode cX0_keeps 81 = .ok (.getfield 116, 3) := dk_180 0 116 (dk_at dksX0_keeps_3 12 rfl rfl)
theorem dX0_keeps_84 : decode cX0_keeps 84 = .ok (.new 46, 3) := dk_187 0 46 (dk_at dksX0_keeps_3 15 rfl rfl)
theorem dX0_keeps_87 : decode cX0_keeps 87 = .ok (.dup, 1) := dk_89 (dk_at dksX0_keeps_3 18 rfl rfl)
theorem dX0_keeps_88 : decode cX0_keeps 88 = .ok (.invokespecial 48, 3) := dk_183 0 48 (dk_at dksX0_keeps_3 19 rfl rfl)
theorem dX0_keeps_91 : decode cX0_keeps 91 = .ok (.aastore, 1) := dk_83 (dk_at dksX0_keeps_3 22 rfl rfl)
theorem dX0_keeps_92 : decode cX0_keeps 92 = .ok (.aload_n 0, 1) := dk_42 (dk_at dksX0_keeps_3 23 rfl rfl)
theorem dX0_keeps_93 : decode cX0_keeps 93 = .ok (.getfield 53, 3) := dk_180 0 53 (dk_at dksX0_keeps_4 0 rfl rfl)
theorem dX0_keeps_96 : decode cX0_keeps 96 = .ok (.aload_n 0, 1) := dk_42 (dk_at dksX0_keeps_4 3 rfl rfl)
theorem dX0_keeps_97 : decode cX0_keeps 97 = .ok (.dup, 1) := dk_89 (dk_at dksX0_keeps_4 4 rfl rfl)
theorem dX0_keeps_98 : decode cX0_keeps 98 = .ok (.getfield 116, 3) := dk_180 0 116 (dk_at dksX0_keeps_4 5 rfl rfl)
theorem dX0_keeps_101 : decode cX0_keeps 101 = .ok (.dup_x1, 1) := dk_90 (dk_at dksX0_keeps_4 8 rfl rfl)
theorem dX0_keeps_102 : decode cX0_keeps 102 = .ok (.iconst 1, 1) := dk_4 (dk_at dksX0_keeps_4 9 rfl rfl)
theorem dX0_keeps_103 : decode cX0_keeps 103 = .ok (.iadd, 1) := dk_96 (dk_at dksX0_keeps_4 10 rfl rfl)
theorem dX0_keeps_104 : decode cX0_keeps 104 = .ok (.putfield 116, 3) := dk_181 0 116 (dk_at dksX0_keeps_4 11 rfl rfl)
theorem dX0_keeps_107 : decode cX0_keeps 107 = .ok (.aaload, 1) := dk_50 (dk_at dksX0_keeps_4 14 rfl rfl)
theorem dX0_keeps_108 : decode cX0_keeps 108 = .ok (.aload_n 0, 1) := dk_42 (dk_at dksX0_keeps_4 15 rfl rfl)
theorem dX0_keeps_109 : decode cX0_keeps 109 = .ok (.getfield 49, 3) := dk_180 0 49 (dk_at dksX0_keeps_4 16 rfl rfl)
theorem dX0_keeps_112 : decode cX0_keeps 112 = .ok (.invokevirtual 193, 3) := dk_182 0 193 (dk_at dksX0_keeps_4 19 rfl rfl)
theorem dX0_keeps_115 : decode cX0_keeps 115 = .ok (.return_, 1) := dk_177 (dk_at dksX0_keeps_4 22 rfl rfl)
abbrev cX0_stay : ByteArray := prog_1_method_21_code
def yX0_stay : MethodName := ⟨RX0, "stay", "(I)I"⟩
def dkwX0_stay_1 : List UInt8 := [180, 0, 203, 27, 96, 181, 0, 203, 42, 180, 0, 49, 180, 0, 203, 172]
abbrev dktX0_stay_1 : List UInt8 := dkwX0_stay_1 ++ []
def dkwX0_stay_0 : List UInt8 := [27, 4, 17, 3, 232, 184, 0, 127, 154, 0, 5, 2, 172, 42, 182, 0, 211, 42, 180, 0, 49, 89]
abbrev dktX0_stay_0 : List UInt8 := dkwX0_stay_0 ++ dktX0_stay_1
theorem dksX0_stay_0 : cX0_stay.data.toList.drop 0 = dktX0_stay_0 := by decide +kernel
theorem dksX0_stay_1 : cX0_stay.data.toList.drop 22 = dktX0_stay_1 := dk_seg dksX0_stay_0 22 rfl rfl
theorem dX0_stay_0 : decode cX0_stay 0 = .ok (.iload_n 1, 1) := dk_27 (dk_at dksX0_stay_0 0 rfl rfl)
theorem dX0_stay_1 : decode cX0_stay 1 = .ok (.iconst 1, 1) := dk_4 (dk_at dksX0_stay_0 1 rfl rfl)
theorem dX0_stay_2 : decode cX0_stay 2 = .ok (.sipush 1000, 3) := dk_17 3 232 (dk_at dksX0_stay_0 2 rfl rfl)
theorem dX0_stay_5 : decode cX0_stay 5 = .ok (.invokestatic 127, 3) := dk_184 0 127 (dk_at dksX0_stay_0 5 rfl rfl)
theorem dX0_stay_8 : decode cX0_stay 8 = .ok (.ifCond .ne 5, 3) := dk_154 0 5 (dk_at dksX0_stay_0 8 rfl rfl)
theorem dX0_stay_11 : decode cX0_stay 11 = .ok (.iconst (-1), 1) := dk_2 (dk_at dksX0_stay_0 11 rfl rfl)
theorem dX0_stay_12 : decode cX0_stay 12 = .ok (.ireturn, 1) := dk_172 (dk_at dksX0_stay_0 12 rfl rfl)
theorem dX0_stay_13 : decode cX0_stay 13 = .ok (.aload_n 0, 1) := dk_42 (dk_at dksX0_stay_0 13 rfl rfl)
theorem dX0_stay_14 : decode cX0_stay 14 = .ok (.invokevirtual 211, 3) := dk_182 0 211 (dk_at dksX0_stay_0 14 rfl rfl)
theorem dX0_stay_17 : decode cX0_stay 17 = .ok (.aload_n 0, 1) := dk_42 (dk_at dksX0_stay_0 17 rfl rfl)
theorem dX0_stay_18 : decode cX0_stay 18 = .ok (.getfield 49, 3) := dk_180 0 49 (dk_at dksX0_stay_0 18 rfl rfl)
theorem dX0_stay_21 : decode cX0_stay 21 = .ok (.dup, 1) := dk_89 (dk_at dksX0_stay_0 21 rfl rfl)
theorem dX0_stay_22 : decode cX0_stay 22 = .ok (.getfield 203, 3) := dk_180 0 203 (dk_at dksX0_stay_1 0 rfl rfl)
theorem dX0_stay_25 : decode cX0_stay 25 = .ok (.iload_n 1, 1) := dk_27 (dk_at dksX0_stay_1 3 rfl rfl)
theorem dX0_stay_26 : decode cX0_stay 26 = .ok (.iadd, 1) := dk_96 (dk_at dksX0_stay_1 4 rfl rfl)
theorem dX0_stay_27 : decode cX0_stay 27 = .ok (.putfield 203, 3) := dk_181 0 203 (dk_at dksX0_stay_1 5 rfl rfl)
theorem dX0_stay_30 : decode cX0_stay 30 = .ok (.aload_n 0, 1) := dk_42 (dk_at dksX0_stay_1 8 rfl rfl)
theorem dX0_stay_31 : decode cX0_stay 31 = .ok (.getfield 49, 3) := dk_180 0 49 (dk_at dksX0_stay_1 9 rfl rfl)
theorem dX0_stay_34 : decode cX0_stay 34 = .ok (.getfield 203, 3) := dk_180 0 203 (dk_at dksX0_stay_1 12 rfl rfl)
theorem dX0_stay_37 : decode cX0_stay 37 = .ok (.ireturn, 1) := dk_172 (dk_at dksX0_stay_1 15 rfl rfl)
abbrev cX0_look : ByteArray := prog_1_method_23_code
def yX0_look : MethodName := ⟨RX0, "look", "()Z"⟩
def dkwX0_look_1 : List UInt8 := [154, 0, 5, 3, 172, 42, 182, 0, 211, 42, 180, 0, 49, 180, 0, 169, 27, 4, 84, 4, 172]
abbrev dktX0_look_1 : List UInt8 := dkwX0_look_1 ++ []
def dkwX0_look_0 : List UInt8 := [42, 180, 0, 49, 180, 0, 200, 16, 6, 104, 42, 180, 0, 49, 180, 0, 197, 96, 60, 42, 27, 182, 0, 222]
abbrev dktX0_look_0 : List UInt8 := dkwX0_look_0 ++ dktX0_look_1
theorem dksX0_look_0 : cX0_look.data.toList.drop 0 = dktX0_look_0 := by decide +kernel
theorem dksX0_look_1 : cX0_look.data.toList.drop 24 = dktX0_look_1 := dk_seg dksX0_look_0 24 rfl rfl
theorem dX0_look_0 : decode cX0_look 0 = .ok (.aload_n 0, 1) := dk_42 (dk_at dksX0_look_0 0 rfl rfl)
theorem dX0_look_1 : decode cX0_look 1 = .ok (.getfield 49, 3) := dk_180 0 49 (dk_at dksX0_look_0 1 rfl rfl)
theorem dX0_look_4 : decode cX0_look 4 = .ok (.getfield 200, 3) := dk_180 0 200 (dk_at dksX0_look_0 4 rfl rfl)
theorem dX0_look_7 : decode cX0_look 7 = .ok (.bipush 6, 2) := dk_16 6 (dk_at dksX0_look_0 7 rfl rfl)
theorem dX0_look_9 : decode cX0_look 9 = .ok (.imul, 1) := dk_104 (dk_at dksX0_look_0 9 rfl rfl)
theorem dX0_look_10 : decode cX0_look 10 = .ok (.aload_n 0, 1) := dk_42 (dk_at dksX0_look_0 10 rfl rfl)
theorem dX0_look_11 : decode cX0_look 11 = .ok (.getfield 49, 3) := dk_180 0 49 (dk_at dksX0_look_0 11 rfl rfl)
theorem dX0_look_14 : decode cX0_look 14 = .ok (.getfield 197, 3) := dk_180 0 197 (dk_at dksX0_look_0 14 rfl rfl)
theorem dX0_look_17 : decode cX0_look 17 = .ok (.iadd, 1) := dk_96 (dk_at dksX0_look_0 17 rfl rfl)
theorem dX0_look_18 : decode cX0_look 18 = .ok (.istore_n 1, 1) := dk_60 (dk_at dksX0_look_0 18 rfl rfl)
theorem dX0_look_19 : decode cX0_look 19 = .ok (.aload_n 0, 1) := dk_42 (dk_at dksX0_look_0 19 rfl rfl)
theorem dX0_look_20 : decode cX0_look 20 = .ok (.iload_n 1, 1) := dk_27 (dk_at dksX0_look_0 20 rfl rfl)
theorem dX0_look_21 : decode cX0_look 21 = .ok (.invokevirtual 222, 3) := dk_182 0 222 (dk_at dksX0_look_0 21 rfl rfl)
theorem dX0_look_24 : decode cX0_look 24 = .ok (.ifCond .ne 5, 3) := dk_154 0 5 (dk_at dksX0_look_1 0 rfl rfl)
theorem dX0_look_27 : decode cX0_look 27 = .ok (.iconst 0, 1) := dk_3 (dk_at dksX0_look_1 3 rfl rfl)
theorem dX0_look_28 : decode cX0_look 28 = .ok (.ireturn, 1) := dk_172 (dk_at dksX0_look_1 4 rfl rfl)
theorem dX0_look_29 : decode cX0_look 29 = .ok (.aload_n 0, 1) := dk_42 (dk_at dksX0_look_1 5 rfl rfl)
theorem dX0_look_30 : decode cX0_look 30 = .ok (.invokevirtual 211, 3) := dk_182 0 211 (dk_at dksX0_look_1 6 rfl rfl)
theorem dX0_look_33 : decode cX0_look 33 = .ok (.aload_n 0, 1) := dk_42 (dk_at dksX0_look_1 9 rfl rfl)
theorem dX0_look_34 : decode cX0_look 34 = .ok (.getfield 49, 3) := dk_180 0 49 (dk_at dksX0_look_1 10 rfl rfl)
theorem dX0_look_37 : decode cX0_look 37 = .ok (.getfield 169, 3) := dk_180 0 169 (dk_at dksX0_look_1 13 rfl rfl)
theorem dX0_look_40 : decode cX0_look 40 = .ok (.iload_n 1, 1) := dk_27 (dk_at dksX0_look_1 16 rfl rfl)
theorem dX0_look_41 : decode cX0_look 41 = .ok (.iconst 1, 1) := dk_4 (dk_at dksX0_look_1 17 rfl rfl)
theorem dX0_look_42 : decode cX0_look 42 = .ok (.bastore, 1) := dk_84 (dk_at dksX0_look_1 18 rfl rfl)
theorem dX0_look_43 : decode cX0_look 43 = .ok (.iconst 1, 1) := dk_4 (dk_at dksX0_look_1 19 rfl rfl)
theorem dX0_look_44 : decode cX0_look 44 = .ok (.ireturn, 1) := dk_172 (dk_at dksX0_look_1 20 rfl rfl)
abbrev cX0_isUnknown : ByteArray := prog_1_method_22_code
def yX0_isUnknown : MethodName := ⟨RX0, "isUnknown", "(I)Z"⟩
def dkwX0_isUnknown_1 : List UInt8 := [153, 0, 19, 42, 180, 0, 49, 180, 0, 169, 27, 51, 154, 0, 7, 4, 167, 0, 4, 3, 172]
abbrev dktX0_isUnknown_1 : List UInt8 := dkwX0_isUnknown_1 ++ []
def dkwX0_isUnknown_0 : List UInt8 := [42, 180, 0, 35, 180, 0, 122, 27, 50, 198, 0, 34, 42, 180, 0, 35, 180, 0, 122, 27, 50, 182, 0, 219]
abbrev dktX0_isUnknown_0 : List UInt8 := dkwX0_isUnknown_0 ++ dktX0_isUnknown_1
theorem dksX0_isUnknown_0 : cX0_isUnknown.data.toList.drop 0 = dktX0_isUnknown_0 := by decide +kernel
theorem dksX0_isUnknown_1 : cX0_isUnknown.data.toList.drop 24 = dktX0_isUnknown_1 := dk_seg dksX0_isUnknown_0 24 rfl rfl
theorem dX0_isUnknown_0 : decode cX0_isUnknown 0 = .ok (.aload_n 0, 1) := dk_42 (dk_at dksX0_isUnknown_0 0 rfl rfl)
theorem dX0_isUnknown_1 : decode cX0_isUnknown 1 = .ok (.getfield 35, 3) := dk_180 0 35 (dk_at dksX0_isUnknown_0 1 rfl rfl)
theorem dX0_isUnknown_4 : decode cX0_isUnknown 4 = .ok (.getfield 122, 3) := dk_180 0 122 (dk_at dksX0_isUnknown_0 4 rfl rfl)
theorem dX0_isUnknown_7 : decode cX0_isUnknown 7 = .ok (.iload_n 1, 1) := dk_27 (dk_at dksX0_isUnknown_0 7 rfl rfl)
theorem dX0_isUnknown_8 : decode cX0_isUnknown 8 = .ok (.aaload, 1) := dk_50 (dk_at dksX0_isUnknown_0 8 rfl rfl)
theorem dX0_isUnknown_9 : decode cX0_isUnknown 9 = .ok (.ifnull 34, 3) := dk_198 0 34 (dk_at dksX0_isUnknown_0 9 rfl rfl)
theorem dX0_isUnknown_12 : decode cX0_isUnknown 12 = .ok (.aload_n 0, 1) := dk_42 (dk_at dksX0_isUnknown_0 12 rfl rfl)
theorem dX0_isUnknown_13 : decode cX0_isUnknown 13 = .ok (.getfield 35, 3) := dk_180 0 35 (dk_at dksX0_isUnknown_0 13 rfl rfl)
theorem dX0_isUnknown_16 : decode cX0_isUnknown 16 = .ok (.getfield 122, 3) := dk_180 0 122 (dk_at dksX0_isUnknown_0 16 rfl rfl)
theorem dX0_isUnknown_19 : decode cX0_isUnknown 19 = .ok (.iload_n 1, 1) := dk_27 (dk_at dksX0_isUnknown_0 19 rfl rfl)
theorem dX0_isUnknown_20 : decode cX0_isUnknown 20 = .ok (.aaload, 1) := dk_50 (dk_at dksX0_isUnknown_0 20 rfl rfl)
theorem dX0_isUnknown_21 : decode cX0_isUnknown 21 = .ok (.invokevirtual 219, 3) := dk_182 0 219 (dk_at dksX0_isUnknown_0 21 rfl rfl)
theorem dX0_isUnknown_24 : decode cX0_isUnknown 24 = .ok (.ifCond .eq 19, 3) := dk_153 0 19 (dk_at dksX0_isUnknown_1 0 rfl rfl)
theorem dX0_isUnknown_27 : decode cX0_isUnknown 27 = .ok (.aload_n 0, 1) := dk_42 (dk_at dksX0_isUnknown_1 3 rfl rfl)
theorem dX0_isUnknown_28 : decode cX0_isUnknown 28 = .ok (.getfield 49, 3) := dk_180 0 49 (dk_at dksX0_isUnknown_1 4 rfl rfl)
theorem dX0_isUnknown_31 : decode cX0_isUnknown 31 = .ok (.getfield 169, 3) := dk_180 0 169 (dk_at dksX0_isUnknown_1 7 rfl rfl)
theorem dX0_isUnknown_34 : decode cX0_isUnknown 34 = .ok (.iload_n 1, 1) := dk_27 (dk_at dksX0_isUnknown_1 10 rfl rfl)
theorem dX0_isUnknown_35 : decode cX0_isUnknown 35 = .ok (.baload, 1) := dk_51 (dk_at dksX0_isUnknown_1 11 rfl rfl)
theorem dX0_isUnknown_36 : decode cX0_isUnknown 36 = .ok (.ifCond .ne 7, 3) := dk_154 0 7 (dk_at dksX0_isUnknown_1 12 rfl rfl)
theorem dX0_isUnknown_39 : decode cX0_isUnknown 39 = .ok (.iconst 1, 1) := dk_4 (dk_at dksX0_isUnknown_1 15 rfl rfl)
theorem dX0_isUnknown_40 : decode cX0_isUnknown 40 = .ok (.goto 4, 3) := dk_167 0 4 (dk_at dksX0_isUnknown_1 16 rfl rfl)
theorem dX0_isUnknown_43 : decode cX0_isUnknown 43 = .ok (.iconst 0, 1) := dk_3 (dk_at dksX0_isUnknown_1 19 rfl rfl)
theorem dX0_isUnknown_44 : decode cX0_isUnknown 44 = .ok (.ireturn, 1) := dk_172 (dk_at dksX0_isUnknown_1 20 rfl rfl)
abbrev cX0_undo : ByteArray := prog_1_method_24_code
def yX0_undo : MethodName := ⟨RX0, "undo", "()Z"⟩
def dkwX0_undo_1 : List UInt8 := [90, 181, 0, 116, 50, 182, 0, 193, 4, 172]
abbrev dktX0_undo_1 : List UInt8 := dkwX0_undo_1 ++ []
def dkwX0_undo_0 : List UInt8 := [42, 180, 0, 116, 154, 0, 5, 3, 172, 42, 180, 0, 49, 42, 180, 0, 53, 42, 89, 180, 0, 116, 4, 100]
abbrev dktX0_undo_0 : List UInt8 := dkwX0_undo_0 ++ dktX0_undo_1
theorem dksX0_undo_0 : cX0_undo.data.toList.drop 0 = dktX0_undo_0 := by decide +kernel
theorem dksX0_undo_1 : cX0_undo.data.toList.drop 24 = dktX0_undo_1 := dk_seg dksX0_undo_0 24 rfl rfl
theorem dX0_undo_0 : decode cX0_undo 0 = .ok (.aload_n 0, 1) := dk_42 (dk_at dksX0_undo_0 0 rfl rfl)
theorem dX0_undo_1 : decode cX0_undo 1 = .ok (.getfield 116, 3) := dk_180 0 116 (dk_at dksX0_undo_0 1 rfl rfl)
theorem dX0_undo_4 : decode cX0_undo 4 = .ok (.ifCond .ne 5, 3) := dk_154 0 5 (dk_at dksX0_undo_0 4 rfl rfl)
theorem dX0_undo_7 : decode cX0_undo 7 = .ok (.iconst 0, 1) := dk_3 (dk_at dksX0_undo_0 7 rfl rfl)
theorem dX0_undo_8 : decode cX0_undo 8 = .ok (.ireturn, 1) := dk_172 (dk_at dksX0_undo_0 8 rfl rfl)
theorem dX0_undo_9 : decode cX0_undo 9 = .ok (.aload_n 0, 1) := dk_42 (dk_at dksX0_undo_0 9 rfl rfl)
theorem dX0_undo_10 : decode cX0_undo 10 = .ok (.getfield 49, 3) := dk_180 0 49 (dk_at dksX0_undo_0 10 rfl rfl)
theorem dX0_undo_13 : decode cX0_undo 13 = .ok (.aload_n 0, 1) := dk_42 (dk_at dksX0_undo_0 13 rfl rfl)
theorem dX0_undo_14 : decode cX0_undo 14 = .ok (.getfield 53, 3) := dk_180 0 53 (dk_at dksX0_undo_0 14 rfl rfl)
theorem dX0_undo_17 : decode cX0_undo 17 = .ok (.aload_n 0, 1) := dk_42 (dk_at dksX0_undo_0 17 rfl rfl)
theorem dX0_undo_18 : decode cX0_undo 18 = .ok (.dup, 1) := dk_89 (dk_at dksX0_undo_0 18 rfl rfl)
theorem dX0_undo_19 : decode cX0_undo 19 = .ok (.getfield 116, 3) := dk_180 0 116 (dk_at dksX0_undo_0 19 rfl rfl)
theorem dX0_undo_22 : decode cX0_undo 22 = .ok (.iconst 1, 1) := dk_4 (dk_at dksX0_undo_0 22 rfl rfl)
theorem dX0_undo_23 : decode cX0_undo 23 = .ok (.isub, 1) := dk_100 (dk_at dksX0_undo_0 23 rfl rfl)
theorem dX0_undo_24 : decode cX0_undo 24 = .ok (.dup_x1, 1) := dk_90 (dk_at dksX0_undo_1 0 rfl rfl)
theorem dX0_undo_25 : decode cX0_undo 25 = .ok (.putfield 116, 3) := dk_181 0 116 (dk_at dksX0_undo_1 1 rfl rfl)
theorem dX0_undo_28 : decode cX0_undo 28 = .ok (.aaload, 1) := dk_50 (dk_at dksX0_undo_1 4 rfl rfl)
theorem dX0_undo_29 : decode cX0_undo 29 = .ok (.invokevirtual 193, 3) := dk_182 0 193 (dk_at dksX0_undo_1 5 rfl rfl)
theorem dX0_undo_32 : decode cX0_undo 32 = .ok (.iconst 1, 1) := dk_4 (dk_at dksX0_undo_1 8 rfl rfl)
theorem dX0_undo_33 : decode cX0_undo 33 = .ok (.ireturn, 1) := dk_172 (dk_at dksX0_undo_1 9 rfl rfl)
abbrev cX0_judged : ByteArray := prog_1_method_26_code
def yX0_judged : MethodName := ⟨RX0, "judged", "()I"⟩
def dkwX0_judged_4 : List UInt8 := [132, 4, 1, 167, 255, 167, 2, 172]
abbrev dktX0_judged_4 : List UInt8 := dkwX0_judged_4 ++ []
def dkwX0_judged_3 : List UInt8 := [62, 42, 180, 0, 42, 180, 0, 228, 21, 4, 46, 154, 0, 9, 132, 1, 1, 167, 0, 6, 132, 2, 1]
abbrev dktX0_judged_3 : List UInt8 := dkwX0_judged_3 ++ dktX0_judged_4
def dkwX0_judged_2 : List UInt8 := [154, 0, 6, 21, 4, 172, 42, 180, 0, 42, 180, 0, 231, 21, 4, 46, 42, 180, 0, 35, 182, 0, 217, 96]
abbrev dktX0_judged_2 : List UInt8 := dkwX0_judged_2 ++ dktX0_judged_3
def dkwX0_judged_1 : List UInt8 := [42, 180, 0, 42, 180, 0, 228, 21, 4, 46, 29, 42, 180, 0, 42, 180, 0, 231, 21, 4, 46, 182, 0, 233]
abbrev dktX0_judged_1 : List UInt8 := dkwX0_judged_1 ++ dktX0_judged_2
def dkwX0_judged_0 : List UInt8 := [3, 60, 3, 61, 3, 62, 3, 54, 4, 21, 4, 42, 180, 0, 42, 180, 0, 225, 162, 0, 83, 42, 27, 28]
abbrev dktX0_judged_0 : List UInt8 := dkwX0_judged_0 ++ dktX0_judged_1
theorem dksX0_judged_0 : cX0_judged.data.toList.drop 0 = dktX0_judged_0 := by decide +kernel
theorem dksX0_judged_1 : cX0_judged.data.toList.drop 24 = dktX0_judged_1 := dk_seg dksX0_judged_0 24 rfl rfl
theorem dksX0_judged_2 : cX0_judged.data.toList.drop 48 = dktX0_judged_2 := dk_seg dksX0_judged_1 24 rfl rfl
theorem dksX0_judged_3 : cX0_judged.data.toList.drop 72 = dktX0_judged_3 := dk_seg dksX0_judged_2 24 rfl rfl
theorem dksX0_judged_4 : cX0_judged.data.toList.drop 95 = dktX0_judged_4 := dk_seg dksX0_judged_3 23 rfl rfl
theorem dX0_judged_0 : decode cX0_judged 0 = .ok (.iconst 0, 1) := dk_3 (dk_at dksX0_judged_0 0 rfl rfl)
theorem dX0_judged_1 : decode cX0_judged 1 = .ok (.istore_n 1, 1) := dk_60 (dk_at dksX0_judged_0 1 rfl rfl)
theorem dX0_judged_2 : decode cX0_judged 2 = .ok (.iconst 0, 1) := dk_3 (dk_at dksX0_judged_0 2 rfl rfl)
theorem dX0_judged_3 : decode cX0_judged 3 = .ok (.istore_n 2, 1) := dk_61 (dk_at dksX0_judged_0 3 rfl rfl)
theorem dX0_judged_4 : decode cX0_judged 4 = .ok (.iconst 0, 1) := dk_3 (dk_at dksX0_judged_0 4 rfl rfl)
theorem dX0_judged_5 : decode cX0_judged 5 = .ok (.istore_n 3, 1) := dk_62 (dk_at dksX0_judged_0 5 rfl rfl)
theorem dX0_judged_6 : decode cX0_judged 6 = .ok (.iconst 0, 1) := dk_3 (dk_at dksX0_judged_0 6 rfl rfl)
theorem dX0_judged_7 : decode cX0_judged 7 = .ok (.istore 4, 2) := dk_54 4 (dk_at dksX0_judged_0 7 rfl rfl)
theorem dX0_judged_9 : decode cX0_judged 9 = .ok (.iload 4, 2) := dk_21 4 (dk_at dksX0_judged_0 9 rfl rfl)
theorem dX0_judged_11 : decode cX0_judged 11 = .ok (.aload_n 0, 1) := dk_42 (dk_at dksX0_judged_0 11 rfl rfl)
theorem dX0_judged_12 : decode cX0_judged 12 = .ok (.getfield 42, 3) := dk_180 0 42 (dk_at dksX0_judged_0 12 rfl rfl)
theorem dX0_judged_15 : decode cX0_judged 15 = .ok (.getfield 225, 3) := dk_180 0 225 (dk_at dksX0_judged_0 15 rfl rfl)
theorem dX0_judged_18 : decode cX0_judged 18 = .ok (.if_icmp .ge 83, 3) := dk_162 0 83 (dk_at dksX0_judged_0 18 rfl rfl)
theorem dX0_judged_21 : decode cX0_judged 21 = .ok (.aload_n 0, 1) := dk_42 (dk_at dksX0_judged_0 21 rfl rfl)
theorem dX0_judged_22 : decode cX0_judged 22 = .ok (.iload_n 1, 1) := dk_27 (dk_at dksX0_judged_0 22 rfl rfl)
theorem dX0_judged_23 : decode cX0_judged 23 = .ok (.iload_n 2, 1) := dk_28 (dk_at dksX0_judged_0 23 rfl rfl)
theorem dX0_judged_24 : decode cX0_judged 24 = .ok (.aload_n 0, 1) := dk_42 (dk_at dksX0_judged_1 0 rfl rfl)
theorem dX0_judged_25 : decode cX0_judged 25 = .ok (.getfield 42, 3) := dk_180 0 42 (dk_at dksX0_judged_1 1 rfl rfl)
theorem dX0_judged_28 : decode cX0_judged 28 = .ok (.getfield 228, 3) := dk_180 0 228 (dk_at dksX0_judged_1 4 rfl rfl)
theorem dX0_judged_31 : decode cX0_judged 31 = .ok (.iload 4, 2) := dk_21 4 (dk_at dksX0_judged_1 7 rfl rfl)
theorem dX0_judged_33 : decode cX0_judged 33 = .ok (.iaload, 1) := dk_46 (dk_at dksX0_judged_1 9 rfl rfl)
theorem dX0_judged_34 : decode cX0_judged 34 = .ok (.iload_n 3, 1) := dk_29 (dk_at dksX0_judged_1 10 rfl rfl)
theorem dX0_judged_35 : decode cX0_judged 35 = .ok (.aload_n 0, 1) := dk_42 (dk_at dksX0_judged_1 11 rfl rfl)
theorem dX0_judged_36 : decode cX0_judged 36 = .ok (.getfield 42, 3) := dk_180 0 42 (dk_at dksX0_judged_1 12 rfl rfl)
theorem dX0_judged_39 : decode cX0_judged 39 = .ok (.getfield 231, 3) := dk_180 0 231 (dk_at dksX0_judged_1 15 rfl rfl)
theorem dX0_judged_42 : decode cX0_judged 42 = .ok (.iload 4, 2) := dk_21 4 (dk_at dksX0_judged_1 18 rfl rfl)
theorem dX0_judged_44 : decode cX0_judged 44 = .ok (.iaload, 1) := dk_46 (dk_at dksX0_judged_1 20 rfl rfl)
theorem dX0_judged_45 : decode cX0_judged 45 = .ok (.invokevirtual 233, 3) := dk_182 0 233 (dk_at dksX0_judged_1 21 rfl rfl)
theorem dX0_judged_48 : decode cX0_judged 48 = .ok (.ifCond .ne 6, 3) := dk_154 0 6 (dk_at dksX0_judged_2 0 rfl rfl)
theorem dX0_judged_51 : decode cX0_judged 51 = .ok (.iload 4, 2) := dk_21 4 (dk_at dksX0_judged_2 3 rfl rfl)
theorem dX0_judged_53 : decode cX0_judged 53 = .ok (.ireturn, 1) := dk_172 (dk_at dksX0_judged_2 5 rfl rfl)
theorem dX0_judged_54 : decode cX0_judged 54 = .ok (.aload_n 0, 1) := dk_42 (dk_at dksX0_judged_2 6 rfl rfl)
theorem dX0_judged_55 : decode cX0_judged 55 = .ok (.getfield 42, 3) := dk_180 0 42 (dk_at dksX0_judged_2 7 rfl rfl)
theorem dX0_judged_58 : decode cX0_judged 58 = .ok (.getfield 231, 3) := dk_180 0 231 (dk_at dksX0_judged_2 10 rfl rfl)
theorem dX0_judged_61 : decode cX0_judged 61 = .ok (.iload 4, 2) := dk_21 4 (dk_at dksX0_judged_2 13 rfl rfl)
theorem dX0_judged_63 : decode cX0_judged 63 = .ok (.iaload, 1) := dk_46 (dk_at dksX0_judged_2 15 rfl rfl)
theorem dX0_judged_64 : decode cX0_judged 64 = .ok (.aload_n 0, 1) := dk_42 (dk_at dksX0_judged_2 16 rfl rfl)
theorem dX0_judged_65 : decode cX0_judged 65 = .ok (.getfield 35, 3) := dk_180 0 35 (dk_at dksX0_judged_2 17 rfl rfl)
theorem dX0_judged_68 : decode cX0_judged 68 = .ok (.invokevirtual 217, 3) := dk_182 0 217 (dk_at dksX0_judged_2 20 rfl rfl)
theorem dX0_judged_71 : decode cX0_judged 71 = .ok (.iadd, 1) := dk_96 (dk_at dksX0_judged_2 23 rfl rfl)
theorem dX0_judged_72 : decode cX0_judged 72 = .ok (.istore_n 3, 1) := dk_62 (dk_at dksX0_judged_3 0 rfl rfl)
theorem dX0_judged_73 : decode cX0_judged 73 = .ok (.aload_n 0, 1) := dk_42 (dk_at dksX0_judged_3 1 rfl rfl)
theorem dX0_judged_74 : decode cX0_judged 74 = .ok (.getfield 42, 3) := dk_180 0 42 (dk_at dksX0_judged_3 2 rfl rfl)
theorem dX0_judged_77 : decode cX0_judged 77 = .ok (.getfield 228, 3) := dk_180 0 228 (dk_at dksX0_judged_3 5 rfl rfl)
theorem dX0_judged_80 : decode cX0_judged 80 = .ok (.iload 4, 2) := dk_21 4 (dk_at dksX0_judged_3 8 rfl rfl)
theorem dX0_judged_82 : decode cX0_judged 82 = .ok (.iaload, 1) := dk_46 (dk_at dksX0_judged_3 10 rfl rfl)
theorem dX0_judged_83 : decode cX0_judged 83 = .ok (.ifCond .ne 9, 3) := dk_154 0 9 (dk_at dksX0_judged_3 11 rfl rfl)
theorem dX0_judged_86 : decode cX0_judged 86 = .ok (.iinc 1 1, 3) := dk_132 1 1 (dk_at dksX0_judged_3 14 rfl rfl)
theorem dX0_judged_89 : decode cX0_judged 89 = .ok (.goto 6, 3) := dk_167 0 6 (dk_at dksX0_judged_3 17 rfl rfl)
theorem dX0_judged_92 : decode cX0_judged 92 = .ok (.iinc 2 1, 3) := dk_132 2 1 (dk_at dksX0_judged_3 20 rfl rfl)
theorem dX0_judged_95 : decode cX0_judged 95 = .ok (.iinc 4 1, 3) := dk_132 4 1 (dk_at dksX0_judged_4 0 rfl rfl)
theorem dX0_judged_98 : decode cX0_judged 98 = .ok (.goto (-89), 3) := dk_167 255 167 (dk_at dksX0_judged_4 3 rfl rfl)
theorem dX0_judged_101 : decode cX0_judged 101 = .ok (.iconst (-1), 1) := dk_2 (dk_at dksX0_judged_4 6 rfl rfl)
theorem dX0_judged_102 : decode cX0_judged 102 = .ok (.ireturn, 1) := dk_172 (dk_at dksX0_judged_4 7 rfl rfl)
abbrev cX0_isSo : ByteArray := prog_1_method_25_code
def yX0_isSo : MethodName := ⟨RX0, "isSo", "(IIIII)Z"⟩
def dkwX0_isSo_3 : List UInt8 := [154, 0, 7, 4, 167, 0, 4, 3, 172]
abbrev dktX0_isSo_3 : List UInt8 := dkwX0_isSo_3 ++ []
def dkwX0_isSo_2 : List UInt8 := [25, 6, 29, 21, 4, 182, 0, 144, 161, 0, 21, 167, 0, 14, 25, 6, 29, 21, 5, 182, 0, 144]
abbrev dktX0_isSo_2 : List UInt8 := dkwX0_isSo_2 ++ dktX0_isSo_3
def dkwX0_isSo_1 : List UInt8 := [182, 0, 140, 58, 6, 25, 6, 198, 0, 41, 25, 6, 182, 0, 181, 153, 0, 22, 21, 5, 21, 4, 100]
abbrev dktX0_isSo_1 : List UInt8 := dkwX0_isSo_1 ++ dktX0_isSo_2
def dkwX0_isSo_0 : List UInt8 := [21, 5, 21, 4, 161, 0, 15, 42, 27, 28, 29, 21, 5, 182, 0, 191, 156, 0, 5, 3, 172, 42, 27, 28]
abbrev dktX0_isSo_0 : List UInt8 := dkwX0_isSo_0 ++ dktX0_isSo_1
theorem dksX0_isSo_0 : cX0_isSo.data.toList.drop 0 = dktX0_isSo_0 := by decide +kernel
theorem dksX0_isSo_1 : cX0_isSo.data.toList.drop 24 = dktX0_isSo_1 := dk_seg dksX0_isSo_0 24 rfl rfl
theorem dksX0_isSo_2 : cX0_isSo.data.toList.drop 47 = dktX0_isSo_2 := dk_seg dksX0_isSo_1 23 rfl rfl
theorem dksX0_isSo_3 : cX0_isSo.data.toList.drop 69 = dktX0_isSo_3 := dk_seg dksX0_isSo_2 22 rfl rfl
theorem dX0_isSo_0 : decode cX0_isSo 0 = .ok (.iload 5, 2) := dk_21 5 (dk_at dksX0_isSo_0 0 rfl rfl)
theorem dX0_isSo_2 : decode cX0_isSo 2 = .ok (.iload 4, 2) := dk_21 4 (dk_at dksX0_isSo_0 2 rfl rfl)
theorem dX0_isSo_4 : decode cX0_isSo 4 = .ok (.if_icmp .lt 15, 3) := dk_161 0 15 (dk_at dksX0_isSo_0 4 rfl rfl)
theorem dX0_isSo_7 : decode cX0_isSo 7 = .ok (.aload_n 0, 1) := dk_42 (dk_at dksX0_isSo_0 7 rfl rfl)
theorem dX0_isSo_8 : decode cX0_isSo 8 = .ok (.iload_n 1, 1) := dk_27 (dk_at dksX0_isSo_0 8 rfl rfl)
theorem dX0_isSo_9 : decode cX0_isSo 9 = .ok (.iload_n 2, 1) := dk_28 (dk_at dksX0_isSo_0 9 rfl rfl)
theorem dX0_isSo_10 : decode cX0_isSo 10 = .ok (.iload_n 3, 1) := dk_29 (dk_at dksX0_isSo_0 10 rfl rfl)
theorem dX0_isSo_11 : decode cX0_isSo 11 = .ok (.iload 5, 2) := dk_21 5 (dk_at dksX0_isSo_0 11 rfl rfl)
theorem dX0_isSo_13 : decode cX0_isSo 13 = .ok (.invokevirtual 191, 3) := dk_182 0 191 (dk_at dksX0_isSo_0 13 rfl rfl)
theorem dX0_isSo_16 : decode cX0_isSo 16 = .ok (.ifCond .ge 5, 3) := dk_156 0 5 (dk_at dksX0_isSo_0 16 rfl rfl)
theorem dX0_isSo_19 : decode cX0_isSo 19 = .ok (.iconst 0, 1) := dk_3 (dk_at dksX0_isSo_0 19 rfl rfl)
theorem dX0_isSo_20 : decode cX0_isSo 20 = .ok (.ireturn, 1) := dk_172 (dk_at dksX0_isSo_0 20 rfl rfl)
theorem dX0_isSo_21 : decode cX0_isSo 21 = .ok (.aload_n 0, 1) := dk_42 (dk_at dksX0_isSo_0 21 rfl rfl)
theorem dX0_isSo_22 : decode cX0_isSo 22 = .ok (.iload_n 1, 1) := dk_27 (dk_at dksX0_isSo_0 22 rfl rfl)
theorem dX0_isSo_23 : decode cX0_isSo 23 = .ok (.iload_n 2, 1) := dk_28 (dk_at dksX0_isSo_0 23 rfl rfl)
theorem dX0_isSo_24 : decode cX0_isSo 24 = .ok (.invokevirtual 140, 3) := dk_182 0 140 (dk_at dksX0_isSo_1 0 rfl rfl)
theorem dX0_isSo_27 : decode cX0_isSo 27 = .ok (.astore 6, 2) := dk_58 6 (dk_at dksX0_isSo_1 3 rfl rfl)
theorem dX0_isSo_29 : decode cX0_isSo 29 = .ok (.aload 6, 2) := dk_25 6 (dk_at dksX0_isSo_1 5 rfl rfl)
theorem dX0_isSo_31 : decode cX0_isSo 31 = .ok (.ifnull 41, 3) := dk_198 0 41 (dk_at dksX0_isSo_1 7 rfl rfl)
theorem dX0_isSo_34 : decode cX0_isSo 34 = .ok (.aload 6, 2) := dk_25 6 (dk_at dksX0_isSo_1 10 rfl rfl)
theorem dX0_isSo_36 : decode cX0_isSo 36 = .ok (.invokevirtual 181, 3) := dk_182 0 181 (dk_at dksX0_isSo_1 12 rfl rfl)
theorem dX0_isSo_39 : decode cX0_isSo 39 = .ok (.ifCond .eq 22, 3) := dk_153 0 22 (dk_at dksX0_isSo_1 15 rfl rfl)
theorem dX0_isSo_42 : decode cX0_isSo 42 = .ok (.iload 5, 2) := dk_21 5 (dk_at dksX0_isSo_1 18 rfl rfl)
theorem dX0_isSo_44 : decode cX0_isSo 44 = .ok (.iload 4, 2) := dk_21 4 (dk_at dksX0_isSo_1 20 rfl rfl)
theorem dX0_isSo_46 : decode cX0_isSo 46 = .ok (.isub, 1) := dk_100 (dk_at dksX0_isSo_1 22 rfl rfl)
theorem dX0_isSo_47 : decode cX0_isSo 47 = .ok (.aload 6, 2) := dk_25 6 (dk_at dksX0_isSo_2 0 rfl rfl)
theorem dX0_isSo_49 : decode cX0_isSo 49 = .ok (.iload_n 3, 1) := dk_29 (dk_at dksX0_isSo_2 2 rfl rfl)
theorem dX0_isSo_50 : decode cX0_isSo 50 = .ok (.iload 4, 2) := dk_21 4 (dk_at dksX0_isSo_2 3 rfl rfl)
theorem dX0_isSo_52 : decode cX0_isSo 52 = .ok (.invokevirtual 144, 3) := dk_182 0 144 (dk_at dksX0_isSo_2 5 rfl rfl)
theorem dX0_isSo_55 : decode cX0_isSo 55 = .ok (.if_icmp .lt 21, 3) := dk_161 0 21 (dk_at dksX0_isSo_2 8 rfl rfl)
theorem dX0_isSo_58 : decode cX0_isSo 58 = .ok (.goto 14, 3) := dk_167 0 14 (dk_at dksX0_isSo_2 11 rfl rfl)
theorem dX0_isSo_61 : decode cX0_isSo 61 = .ok (.aload 6, 2) := dk_25 6 (dk_at dksX0_isSo_2 14 rfl rfl)
theorem dX0_isSo_63 : decode cX0_isSo 63 = .ok (.iload_n 3, 1) := dk_29 (dk_at dksX0_isSo_2 16 rfl rfl)
theorem dX0_isSo_64 : decode cX0_isSo 64 = .ok (.iload 5, 2) := dk_21 5 (dk_at dksX0_isSo_2 17 rfl rfl)
theorem dX0_isSo_66 : decode cX0_isSo 66 = .ok (.invokevirtual 144, 3) := dk_182 0 144 (dk_at dksX0_isSo_2 19 rfl rfl)
theorem dX0_isSo_69 : decode cX0_isSo 69 = .ok (.ifCond .ne 7, 3) := dk_154 0 7 (dk_at dksX0_isSo_3 0 rfl rfl)
theorem dX0_isSo_72 : decode cX0_isSo 72 = .ok (.iconst 1, 1) := dk_4 (dk_at dksX0_isSo_3 3 rfl rfl)
theorem dX0_isSo_73 : decode cX0_isSo 73 = .ok (.goto 4, 3) := dk_167 0 4 (dk_at dksX0_isSo_3 4 rfl rfl)
theorem dX0_isSo_76 : decode cX0_isSo 76 = .ok (.iconst 0, 1) := dk_3 (dk_at dksX0_isSo_3 7 rfl rfl)
theorem dX0_isSo_77 : decode cX0_isSo 77 = .ok (.ireturn, 1) := dk_172 (dk_at dksX0_isSo_3 8 rfl rfl)
abbrev cX0_soonest : ByteArray := prog_1_method_36_code
def yX0_soonest : MethodName := ⟨RX0, "soonest", "(IIII)I"⟩
def dkwX0_soonest_8 : List UInt8 := [132, 7, 1, 132, 9, 1, 167, 255, 135, 16, 254, 172]
abbrev dktX0_soonest_8 : List UInt8 := dkwX0_soonest_8 ++ []
def dkwX0_soonest_7 : List UInt8 := [21, 11, 42, 180, 0, 35, 182, 0, 217, 96, 96, 54, 8, 21, 12, 154, 0, 9, 132, 6, 1, 167, 0, 6]
abbrev dktX0_soonest_7 : List UInt8 := dkwX0_soonest_7 ++ dktX0_soonest_8
def dkwX0_soonest_6 : List UInt8 := [54, 12, 21, 9, 21, 4, 160, 0, 6, 21, 12, 172, 21, 8, 21, 12, 154, 0, 8, 21, 10, 167, 0, 5]
abbrev dktX0_soonest_6 : List UInt8 := dkwX0_soonest_6 ++ dktX0_soonest_7
def dkwX0_soonest_5 : List UInt8 := [3, 21, 8, 21, 10, 182, 1, 0, 42, 21, 6, 21, 7, 4, 21, 8, 21, 11, 182, 1, 0, 182, 1, 4]
abbrev dktX0_soonest_5 : List UInt8 := dkwX0_soonest_5 ++ dktX0_soonest_6
def dkwX0_soonest_4 : List UInt8 := [182, 0, 191, 54, 10, 42, 21, 6, 21, 7, 4, 21, 8, 182, 0, 191, 54, 11, 42, 42, 21, 6, 21, 7]
abbrev dktX0_soonest_4 : List UInt8 := dkwX0_soonest_4 ++ dktX0_soonest_5
def dkwX0_soonest_3 : List UInt8 := [3, 54, 9, 42, 21, 6, 21, 7, 182, 1, 22, 154, 0, 116, 42, 21, 6, 21, 7, 3, 21, 8]
abbrev dktX0_soonest_3 : List UInt8 := dkwX0_soonest_3 ++ dktX0_soonest_4
def dkwX0_soonest_2 : List UInt8 := [21, 5, 156, 0, 8, 16, 254, 167, 0, 7, 29, 21, 5, 96, 172, 27, 54, 6, 28, 54, 7, 29, 54, 8]
abbrev dktX0_soonest_2 : List UInt8 := dkwX0_soonest_2 ++ dktX0_soonest_3
def dkwX0_soonest_1 : List UInt8 := [182, 1, 49, 42, 27, 28, 29, 182, 0, 244, 54, 5, 21, 5, 155, 0, 9, 21, 4, 2, 160, 0, 18]
abbrev dktX0_soonest_1 : List UInt8 := dkwX0_soonest_1 ++ dktX0_soonest_2
def dkwX0_soonest_0 : List UInt8 := [42, 27, 28, 29, 182, 0, 185, 153, 0, 9, 21, 4, 2, 162, 0, 6, 16, 254, 172, 42, 6, 4, 4]
abbrev dktX0_soonest_0 : List UInt8 := dkwX0_soonest_0 ++ dktX0_soonest_1
theorem dksX0_soonest_0 : cX0_soonest.data.toList.drop 0 = dktX0_soonest_0 := by decide +kernel
theorem dksX0_soonest_1 : cX0_soonest.data.toList.drop 23 = dktX0_soonest_1 := dk_seg dksX0_soonest_0 23 rfl rfl
theorem dksX0_soonest_2 : cX0_soonest.data.toList.drop 46 = dktX0_soonest_2 := dk_seg dksX0_soonest_1 23 rfl rfl
theorem dksX0_soonest_3 : cX0_soonest.data.toList.drop 70 = dktX0_soonest_3 := dk_seg dksX0_soonest_2 24 rfl rfl
theorem dksX0_soonest_4 : cX0_soonest.data.toList.drop 92 = dktX0_soonest_4 := dk_seg dksX0_soonest_3 22 rfl rfl
theorem dksX0_soonest_5 : cX0_soonest.data.toList.drop 116 = dktX0_soonest_5 := dk_seg dksX0_soonest_4 24 rfl rfl
theorem dksX0_soonest_6 : cX0_soonest.data.toList.drop 140 = dktX0_soonest_6 := dk_seg dksX0_soonest_5 24 rfl rfl
theorem dksX0_soonest_7 : cX0_soonest.data.toList.drop 164 = dktX0_soonest_7 := dk_seg dksX0_soonest_6 24 rfl rfl
theorem dksX0_soonest_8 : cX0_soonest.data.toList.drop 188 = dktX0_soonest_8 := dk_seg dksX0_soonest_7 24 rfl rfl
theorem dX0_soonest_0 : decode cX0_soonest 0 = .ok (.aload_n 0, 1) := dk_42 (dk_at dksX0_soonest_0 0 rfl rfl)
theorem dX0_soonest_1 : decode cX0_soonest 1 = .ok (.iload_n 1, 1) := dk_27 (dk_at dksX0_soonest_0 1 rfl rfl)
theorem dX0_soonest_2 : decode cX0_soonest 2 = .ok (.iload_n 2, 1) := dk_28 (dk_at dksX0_soonest_0 2 rfl rfl)
theorem dX0_soonest_3 : decode cX0_soonest 3 = .ok (.iload_n 3, 1) := dk_29 (dk_at dksX0_soonest_0 3 rfl rfl)
theorem dX0_soonest_4 : decode cX0_soonest 4 = .ok (.invokevirtual 185, 3) := dk_182 0 185 (dk_at dksX0_soonest_0 4 rfl rfl)
theorem dX0_soonest_7 : decode cX0_soonest 7 = .ok (.ifCond .eq 9, 3) := dk_153 0 9 (dk_at dksX0_soonest_0 7 rfl rfl)
theorem dX0_soonest_10 : decode cX0_soonest 10 = .ok (.iload 4, 2) := dk_21 4 (dk_at dksX0_soonest_0 10 rfl rfl)
theorem dX0_soonest_12 : decode cX0_soonest 12 = .ok (.iconst (-1), 1) := dk_2 (dk_at dksX0_soonest_0 12 rfl rfl)
theorem dX0_soonest_13 : decode cX0_soonest 13 = .ok (.if_icmp .ge 6, 3) := dk_162 0 6 (dk_at dksX0_soonest_0 13 rfl rfl)
theorem dX0_soonest_16 : decode cX0_soonest 16 = .ok (.bipush (-2), 2) := dk_16 254 (dk_at dksX0_soonest_0 16 rfl rfl)
theorem dX0_soonest_18 : decode cX0_soonest 18 = .ok (.ireturn, 1) := dk_172 (dk_at dksX0_soonest_0 18 rfl rfl)
theorem dX0_soonest_19 : decode cX0_soonest 19 = .ok (.aload_n 0, 1) := dk_42 (dk_at dksX0_soonest_0 19 rfl rfl)
theorem dX0_soonest_20 : decode cX0_soonest 20 = .ok (.iconst 3, 1) := dk_6 (dk_at dksX0_soonest_0 20 rfl rfl)
theorem dX0_soonest_21 : decode cX0_soonest 21 = .ok (.iconst 1, 1) := dk_4 (dk_at dksX0_soonest_0 21 rfl rfl)
theorem dX0_soonest_22 : decode cX0_soonest 22 = .ok (.iconst 1, 1) := dk_4 (dk_at dksX0_soonest_0 22 rfl rfl)
theorem dX0_soonest_23 : decode cX0_soonest 23 = .ok (.invokevirtual 305, 3) := dk_182 1 49 (dk_at dksX0_soonest_1 0 rfl rfl)
theorem dX0_soonest_26 : decode cX0_soonest 26 = .ok (.aload_n 0, 1) := dk_42 (dk_at dksX0_soonest_1 3 rfl rfl)
theorem dX0_soonest_27 : decode cX0_soonest 27 = .ok (.iload_n 1, 1) := dk_27 (dk_at dksX0_soonest_1 4 rfl rfl)
theorem dX0_soonest_28 : decode cX0_soonest 28 = .ok (.iload_n 2, 1) := dk_28 (dk_at dksX0_soonest_1 5 rfl rfl)
theorem dX0_soonest_29 : decode cX0_soonest 29 = .ok (.iload_n 3, 1) := dk_29 (dk_at dksX0_soonest_1 6 rfl rfl)
theorem dX0_soonest_30 : decode cX0_soonest 30 = .ok (.invokevirtual 244, 3) := dk_182 0 244 (dk_at dksX0_soonest_1 7 rfl rfl)
theorem dX0_soonest_33 : decode cX0_soonest 33 = .ok (.istore 5, 2) := dk_54 5 (dk_at dksX0_soonest_1 10 rfl rfl)
theorem dX0_soonest_35 : decode cX0_soonest 35 = .ok (.iload 5, 2) := dk_21 5 (dk_at dksX0_soonest_1 12 rfl rfl)
theorem dX0_soonest_37 : decode cX0_soonest 37 = .ok (.ifCond .lt 9, 3) := dk_155 0 9 (dk_at dksX0_soonest_1 14 rfl rfl)
theorem dX0_soonest_40 : decode cX0_soonest 40 = .ok (.iload 4, 2) := dk_21 4 (dk_at dksX0_soonest_1 17 rfl rfl)
theorem dX0_soonest_42 : decode cX0_soonest 42 = .ok (.iconst (-1), 1) := dk_2 (dk_at dksX0_soonest_1 19 rfl rfl)
theorem dX0_soonest_43 : decode cX0_soonest 43 = .ok (.if_icmp .ne 18, 3) := dk_160 0 18 (dk_at dksX0_soonest_1 20 rfl rfl)
theorem dX0_soonest_46 : decode cX0_soonest 46 = .ok (.iload 5, 2) := dk_21 5 (dk_at dksX0_soonest_2 0 rfl rfl)
theorem dX0_soonest_48 : decode cX0_soonest 48 = .ok (.ifCond .ge 8, 3) := dk_156 0 8 (dk_at dksX0_soonest_2 2 rfl rfl)
theorem dX0_soonest_51 : decode cX0_soonest 51 = .ok (.bipush (-2), 2) := dk_16 254 (dk_at dksX0_soonest_2 5 rfl rfl)
theorem dX0_soonest_53 : decode cX0_soonest 53 = .ok (.goto 7, 3) := dk_167 0 7 (dk_at dksX0_soonest_2 7 rfl rfl)
theorem dX0_soonest_56 : decode cX0_soonest 56 = .ok (.iload_n 3, 1) := dk_29 (dk_at dksX0_soonest_2 10 rfl rfl)
theorem dX0_soonest_57 : decode cX0_soonest 57 = .ok (.iload 5, 2) := dk_21 5 (dk_at dksX0_soonest_2 11 rfl rfl)
theorem dX0_soonest_59 : decode cX0_soonest 59 = .ok (.iadd, 1) := dk_96 (dk_at dksX0_soonest_2 13 rfl rfl)
theorem dX0_soonest_60 : decode cX0_soonest 60 = .ok (.ireturn, 1) := dk_172 (dk_at dksX0_soonest_2 14 rfl rfl)
theorem dX0_soonest_61 : decode cX0_soonest 61 = .ok (.iload_n 1, 1) := dk_27 (dk_at dksX0_soonest_2 15 rfl rfl)
theorem dX0_soonest_62 : decode cX0_soonest 62 = .ok (.istore 6, 2) := dk_54 6 (dk_at dksX0_soonest_2 16 rfl rfl)
theorem dX0_soonest_64 : decode cX0_soonest 64 = .ok (.iload_n 2, 1) := dk_28 (dk_at dksX0_soonest_2 18 rfl rfl)
theorem dX0_soonest_65 : decode cX0_soonest 65 = .ok (.istore 7, 2) := dk_54 7 (dk_at dksX0_soonest_2 19 rfl rfl)
theorem dX0_soonest_67 : decode cX0_soonest 67 = .ok (.iload_n 3, 1) := dk_29 (dk_at dksX0_soonest_2 21 rfl rfl)
theorem dX0_soonest_68 : decode cX0_soonest 68 = .ok (.istore 8, 2) := dk_54 8 (dk_at dksX0_soonest_2 22 rfl rfl)
theorem dX0_soonest_70 : decode cX0_soonest 70 = .ok (.iconst 0, 1) := dk_3 (dk_at dksX0_soonest_3 0 rfl rfl)
theorem dX0_soonest_71 : decode cX0_soonest 71 = .ok (.istore 9, 2) := dk_54 9 (dk_at dksX0_soonest_3 1 rfl rfl)
theorem dX0_soonest_73 : decode cX0_soonest 73 = .ok (.aload_n 0, 1) := dk_42 (dk_at dksX0_soonest_3 3 rfl rfl)
theorem dX0_soonest_74 : decode cX0_soonest 74 = .ok (.iload 6, 2) := dk_21 6 (dk_at dksX0_soonest_3 4 rfl rfl)
theorem dX0_soonest_76 : decode cX0_soonest 76 = .ok (.iload 7, 2) := dk_21 7 (dk_at dksX0_soonest_3 6 rfl rfl)
theorem dX0_soonest_78 : decode cX0_soonest 78 = .ok (.invokevirtual 278, 3) := dk_182 1 22 (dk_at dksX0_soonest_3 8 rfl rfl)
theorem dX0_soonest_81 : decode cX0_soonest 81 = .ok (.ifCond .ne 116, 3) := dk_154 0 116 (dk_at dksX0_soonest_3 11 rfl rfl)
theorem dX0_soonest_84 : decode cX0_soonest 84 = .ok (.aload_n 0, 1) := dk_42 (dk_at dksX0_soonest_3 14 rfl rfl)
theorem dX0_soonest_85 : decode cX0_soonest 85 = .ok (.iload 6, 2) := dk_21 6 (dk_at dksX0_soonest_3 15 rfl rfl)
theorem dX0_soonest_87 : decode cX0_soonest 87 = .ok (.iload 7, 2) := dk_21 7 (dk_at dksX0_soonest_3 17 rfl rfl)
theorem dX0_soonest_89 : decode cX0_soonest 89 = .ok (.iconst 0, 1) := dk_3 (dk_at dksX0_soonest_3 19 rfl rfl)
theorem dX0_soonest_90 : decode cX0_soonest 90 = .ok (.iload 8, 2) := dk_21 8 (dk_at dksX0_soonest_3 20 rfl rfl)
theorem dX0_soonest_92 : decode cX0_soonest 92 = .ok (.invokevirtual 191, 3) := dk_182 0 191 (dk_at dksX0_soonest_4 0 rfl rfl)
theorem dX0_soonest_95 : decode cX0_soonest 95 = .ok (.istore 10, 2) := dk_54 10 (dk_at dksX0_soonest_4 3 rfl rfl)
theorem dX0_soonest_97 : decode cX0_soonest 97 = .ok (.aload_n 0, 1) := dk_42 (dk_at dksX0_soonest_4 5 rfl rfl)
theorem dX0_soonest_98 : decode cX0_soonest 98 = .ok (.iload 6, 2) := dk_21 6 (dk_at dksX0_soonest_4 6 rfl rfl)
theorem dX0_soonest_100 : decode cX0_soonest 100 = .ok (.iload 7, 2) := dk_21 7 (dk_at dksX0_soonest_4 8 rfl rfl)
theorem dX0_soonest_102 : decode cX0_soonest 102 = .ok (.iconst 1, 1) := dk_4 (dk_at dksX0_soonest_4 10 rfl rfl)
theorem dX0_soonest_103 : decode cX0_soonest 103 = .ok (.iload 8, 2) := dk_21 8 (dk_at dksX0_soonest_4 11 rfl rfl)
theorem dX0_soonest_105 : decode cX0_soonest 105 = .ok (.invokevirtual 191, 3) := dk_182 0 191 (dk_at dksX0_soonest_4 13 rfl rfl)
theorem dX0_soonest_108 : decode cX0_soonest 108 = .ok (.istore 11, 2) := dk_54 11 (dk_at dksX0_soonest_4 16 rfl rfl)
theorem dX0_soonest_110 : decode cX0_soonest 110 = .ok (.aload_n 0, 1) := dk_42 (dk_at dksX0_soonest_4 18 rfl rfl)
theorem dX0_soonest_111 : decode cX0_soonest 111 = .ok (.aload_n 0, 1) := dk_42 (dk_at dksX0_soonest_4 19 rfl rfl)
theorem dX0_soonest_112 : decode cX0_soonest 112 = .ok (.iload 6, 2) := dk_21 6 (dk_at dksX0_soonest_4 20 rfl rfl)
theorem dX0_soonest_114 : decode cX0_soonest 114 = .ok (.iload 7, 2) := dk_21 7 (dk_at dksX0_soonest_4 22 rfl rfl)
theorem dX0_soonest_116 : decode cX0_soonest 116 = .ok (.iconst 0, 1) := dk_3 (dk_at dksX0_soonest_5 0 rfl rfl)
theorem dX0_soonest_117 : decode cX0_soonest 117 = .ok (.iload 8, 2) := dk_21 8 (dk_at dksX0_soonest_5 1 rfl rfl)
theorem dX0_soonest_119 : decode cX0_soonest 119 = .ok (.iload 10, 2) := dk_21 10 (dk_at dksX0_soonest_5 3 rfl rfl)
theorem dX0_soonest_121 : decode cX0_soonest 121 = .ok (.invokevirtual 256, 3) := dk_182 1 0 (dk_at dksX0_soonest_5 5 rfl rfl)
theorem dX0_soonest_124 : decode cX0_soonest 124 = .ok (.aload_n 0, 1) := dk_42 (dk_at dksX0_soonest_5 8 rfl rfl)
theorem dX0_soonest_125 : decode cX0_soonest 125 = .ok (.iload 6, 2) := dk_21 6 (dk_at dksX0_soonest_5 9 rfl rfl)
theorem dX0_soonest_127 : decode cX0_soonest 127 = .ok (.iload 7, 2) := dk_21 7 (dk_at dksX0_soonest_5 11 rfl rfl)
theorem dX0_soonest_129 : decode cX0_soonest 129 = .ok (.iconst 1, 1) := dk_4 (dk_at dksX0_soonest_5 13 rfl rfl)
theorem dX0_soonest_130 : decode cX0_soonest 130 = .ok (.iload 8, 2) := dk_21 8 (dk_at dksX0_soonest_5 14 rfl rfl)
theorem dX0_soonest_132 : decode cX0_soonest 132 = .ok (.iload 11, 2) := dk_21 11 (dk_at dksX0_soonest_5 16 rfl rfl)
theorem dX0_soonest_134 : decode cX0_soonest 134 = .ok (.invokevirtual 256, 3) := dk_182 1 0 (dk_at dksX0_soonest_5 18 rfl rfl)
theorem dX0_soonest_137 : decode cX0_soonest 137 = .ok (.invokevirtual 260, 3) := dk_182 1 4 (dk_at dksX0_soonest_5 21 rfl rfl)
theorem dX0_soonest_140 : decode cX0_soonest 140 = .ok (.istore 12, 2) := dk_54 12 (dk_at dksX0_soonest_6 0 rfl rfl)
theorem dX0_soonest_142 : decode cX0_soonest 142 = .ok (.iload 9, 2) := dk_21 9 (dk_at dksX0_soonest_6 2 rfl rfl)
theorem dX0_soonest_144 : decode cX0_soonest 144 = .ok (.iload 4, 2) := dk_21 4 (dk_at dksX0_soonest_6 4 rfl rfl)
theorem dX0_soonest_146 : decode cX0_soonest 146 = .ok (.if_icmp .ne 6, 3) := dk_160 0 6 (dk_at dksX0_soonest_6 6 rfl rfl)
theorem dX0_soonest_149 : decode cX0_soonest 149 = .ok (.iload 12, 2) := dk_21 12 (dk_at dksX0_soonest_6 9 rfl rfl)
theorem dX0_soonest_151 : decode cX0_soonest 151 = .ok (.ireturn, 1) := dk_172 (dk_at dksX0_soonest_6 11 rfl rfl)
theorem dX0_soonest_152 : decode cX0_soonest 152 = .ok (.iload 8, 2) := dk_21 8 (dk_at dksX0_soonest_6 12 rfl rfl)
theorem dX0_soonest_154 : decode cX0_soonest 154 = .ok (.iload 12, 2) := dk_21 12 (dk_at dksX0_soonest_6 14 rfl rfl)
theorem dX0_soonest_156 : decode cX0_soonest 156 = .ok (.ifCond .ne 8, 3) := dk_154 0 8 (dk_at dksX0_soonest_6 16 rfl rfl)
theorem dX0_soonest_159 : decode cX0_soonest 159 = .ok (.iload 10, 2) := dk_21 10 (dk_at dksX0_soonest_6 19 rfl rfl)
theorem dX0_soonest_161 : decode cX0_soonest 161 = .ok (.goto 5, 3) := dk_167 0 5 (dk_at dksX0_soonest_6 21 rfl rfl)
theorem dX0_soonest_164 : decode cX0_soonest 164 = .ok (.iload 11, 2) := dk_21 11 (dk_at dksX0_soonest_7 0 rfl rfl)
theorem dX0_soonest_166 : decode cX0_soonest 166 = .ok (.aload_n 0, 1) := dk_42 (dk_at dksX0_soonest_7 2 rfl rfl)
theorem dX0_soonest_167 : decode cX0_soonest 167 = .ok (.getfield 35, 3) := dk_180 0 35 (dk_at dksX0_soonest_7 3 rfl rfl)
theorem dX0_soonest_170 : decode cX0_soonest 170 = .ok (.invokevirtual 217, 3) := dk_182 0 217 (dk_at dksX0_soonest_7 6 rfl rfl)
theorem dX0_soonest_173 : decode cX0_soonest 173 = .ok (.iadd, 1) := dk_96 (dk_at dksX0_soonest_7 9 rfl rfl)
theorem dX0_soonest_174 : decode cX0_soonest 174 = .ok (.iadd, 1) := dk_96 (dk_at dksX0_soonest_7 10 rfl rfl)
theorem dX0_soonest_175 : decode cX0_soonest 175 = .ok (.istore 8, 2) := dk_54 8 (dk_at dksX0_soonest_7 11 rfl rfl)
theorem dX0_soonest_177 : decode cX0_soonest 177 = .ok (.iload 12, 2) := dk_21 12 (dk_at dksX0_soonest_7 13 rfl rfl)
theorem dX0_soonest_179 : decode cX0_soonest 179 = .ok (.ifCond .ne 9, 3) := dk_154 0 9 (dk_at dksX0_soonest_7 15 rfl rfl)
theorem dX0_soonest_182 : decode cX0_soonest 182 = .ok (.iinc 6 1, 3) := dk_132 6 1 (dk_at dksX0_soonest_7 18 rfl rfl)
theorem dX0_soonest_185 : decode cX0_soonest 185 = .ok (.goto 6, 3) := dk_167 0 6 (dk_at dksX0_soonest_7 21 rfl rfl)
theorem dX0_soonest_188 : decode cX0_soonest 188 = .ok (.iinc 7 1, 3) := dk_132 7 1 (dk_at dksX0_soonest_8 0 rfl rfl)
theorem dX0_soonest_191 : decode cX0_soonest 191 = .ok (.iinc 9 1, 3) := dk_132 9 1 (dk_at dksX0_soonest_8 3 rfl rfl)
theorem dX0_soonest_194 : decode cX0_soonest 194 = .ok (.goto (-121), 3) := dk_167 255 135 (dk_at dksX0_soonest_8 6 rfl rfl)
theorem dX0_soonest_197 : decode cX0_soonest 197 = .ok (.bipush (-2), 2) := dk_16 254 (dk_at dksX0_soonest_8 9 rfl rfl)
theorem dX0_soonest_199 : decode cX0_soonest 199 = .ok (.ireturn, 1) := dk_172 (dk_at dksX0_soonest_8 11 rfl rfl)
abbrev cX0_tables : ByteArray := prog_1_method_35_code
def yX0_tables : MethodName := ⟨RX0, "tables", "(IZZ)V"⟩
def dkwX0_tables_2 : List UInt8 := [182, 1, 45, 177]
abbrev dktX0_tables_2 : List UInt8 := dkwX0_tables_2 ++ []
def dkwX0_tables_1 : List UInt8 := [182, 1, 39, 192, 0, 252, 42, 180, 0, 35, 180, 0, 131, 4, 100, 42, 180, 0, 35, 180, 0, 134, 4, 100]
abbrev dktX0_tables_1 : List UInt8 := dkwX0_tables_1 ++ dktX0_tables_2
def dkwX0_tables_0 : List UInt8 := [42, 28, 181, 1, 28, 42, 29, 181, 0, 237, 42, 2, 181, 0, 62, 42, 42, 180, 0, 35, 180, 1, 35, 27]
abbrev dktX0_tables_0 : List UInt8 := dkwX0_tables_0 ++ dktX0_tables_1
theorem dksX0_tables_0 : cX0_tables.data.toList.drop 0 = dktX0_tables_0 := by decide +kernel
theorem dksX0_tables_1 : cX0_tables.data.toList.drop 24 = dktX0_tables_1 := dk_seg dksX0_tables_0 24 rfl rfl
theorem dksX0_tables_2 : cX0_tables.data.toList.drop 48 = dktX0_tables_2 := dk_seg dksX0_tables_1 24 rfl rfl
theorem dX0_tables_0 : decode cX0_tables 0 = .ok (.aload_n 0, 1) := dk_42 (dk_at dksX0_tables_0 0 rfl rfl)
theorem dX0_tables_1 : decode cX0_tables 1 = .ok (.iload_n 2, 1) := dk_28 (dk_at dksX0_tables_0 1 rfl rfl)
theorem dX0_tables_2 : decode cX0_tables 2 = .ok (.putfield 284, 3) := dk_181 1 28 (dk_at dksX0_tables_0 2 rfl rfl)
theorem dX0_tables_5 : decode cX0_tables 5 = .ok (.aload_n 0, 1) := dk_42 (dk_at dksX0_tables_0 5 rfl rfl)
theorem dX0_tables_6 : decode cX0_tables 6 = .ok (.iload_n 3, 1) := dk_29 (dk_at dksX0_tables_0 6 rfl rfl)
theorem dX0_tables_7 : decode cX0_tables 7 = .ok (.putfield 237, 3) := dk_181 0 237 (dk_at dksX0_tables_0 7 rfl rfl)
theorem dX0_tables_10 : decode cX0_tables 10 = .ok (.aload_n 0, 1) := dk_42 (dk_at dksX0_tables_0 10 rfl rfl)
theorem dX0_tables_11 : decode cX0_tables 11 = .ok (.iconst (-1), 1) := dk_2 (dk_at dksX0_tables_0 11 rfl rfl)
theorem dX0_tables_12 : decode cX0_tables 12 = .ok (.putfield 62, 3) := dk_181 0 62 (dk_at dksX0_tables_0 12 rfl rfl)
theorem dX0_tables_15 : decode cX0_tables 15 = .ok (.aload_n 0, 1) := dk_42 (dk_at dksX0_tables_0 15 rfl rfl)
theorem dX0_tables_16 : decode cX0_tables 16 = .ok (.aload_n 0, 1) := dk_42 (dk_at dksX0_tables_0 16 rfl rfl)
theorem dX0_tables_17 : decode cX0_tables 17 = .ok (.getfield 35, 3) := dk_180 0 35 (dk_at dksX0_tables_0 17 rfl rfl)
theorem dX0_tables_20 : decode cX0_tables 20 = .ok (.getfield 291, 3) := dk_180 1 35 (dk_at dksX0_tables_0 20 rfl rfl)
theorem dX0_tables_23 : decode cX0_tables 23 = .ok (.iload_n 1, 1) := dk_27 (dk_at dksX0_tables_0 23 rfl rfl)
theorem dX0_tables_24 : decode cX0_tables 24 = .ok (.invokevirtual 295, 3) := dk_182 1 39 (dk_at dksX0_tables_1 0 rfl rfl)
theorem dX0_tables_27 : decode cX0_tables 27 = .ok (.checkcast 252, 3) := dk_192 0 252 (dk_at dksX0_tables_1 3 rfl rfl)
theorem dX0_tables_30 : decode cX0_tables 30 = .ok (.aload_n 0, 1) := dk_42 (dk_at dksX0_tables_1 6 rfl rfl)
theorem dX0_tables_31 : decode cX0_tables 31 = .ok (.getfield 35, 3) := dk_180 0 35 (dk_at dksX0_tables_1 7 rfl rfl)
theorem dX0_tables_34 : decode cX0_tables 34 = .ok (.getfield 131, 3) := dk_180 0 131 (dk_at dksX0_tables_1 10 rfl rfl)
theorem dX0_tables_37 : decode cX0_tables 37 = .ok (.iconst 1, 1) := dk_4 (dk_at dksX0_tables_1 13 rfl rfl)
theorem dX0_tables_38 : decode cX0_tables 38 = .ok (.isub, 1) := dk_100 (dk_at dksX0_tables_1 14 rfl rfl)
theorem dX0_tables_39 : decode cX0_tables 39 = .ok (.aload_n 0, 1) := dk_42 (dk_at dksX0_tables_1 15 rfl rfl)
theorem dX0_tables_40 : decode cX0_tables 40 = .ok (.getfield 35, 3) := dk_180 0 35 (dk_at dksX0_tables_1 16 rfl rfl)
theorem dX0_tables_43 : decode cX0_tables 43 = .ok (.getfield 134, 3) := dk_180 0 134 (dk_at dksX0_tables_1 19 rfl rfl)
theorem dX0_tables_46 : decode cX0_tables 46 = .ok (.iconst 1, 1) := dk_4 (dk_at dksX0_tables_1 22 rfl rfl)
theorem dX0_tables_47 : decode cX0_tables 47 = .ok (.isub, 1) := dk_100 (dk_at dksX0_tables_1 23 rfl rfl)
theorem dX0_tables_48 : decode cX0_tables 48 = .ok (.invokevirtual 301, 3) := dk_182 1 45 (dk_at dksX0_tables_2 0 rfl rfl)
theorem dX0_tables_51 : decode cX0_tables 51 = .ok (.return_, 1) := dk_177 (dk_at dksX0_tables_2 3 rfl rfl)
abbrev cX0_tables_2 : ByteArray := prog_1_method_34_code
def yX0_tables_2 : MethodName := ⟨RX0, "tables", "(LOverFirst$Goer;II)V"⟩
def dkwX0_tables_2_7 : List UInt8 := [177]
abbrev dktX0_tables_2_7 : List UInt8 := dkwX0_tables_2_7 ++ []
def dkwX0_tables_2_6 : List UInt8 := [21, 7, 96, 21, 8, 79, 132, 7, 1, 167, 255, 135, 132, 5, 255, 167, 255, 111, 132, 4, 255, 167, 255, 97]
abbrev dktX0_tables_2_6 : List UInt8 := dkwX0_tables_2_6 ++ dktX0_tables_2_7
def dkwX0_tables_2_5 : List UInt8 := [43, 21, 5, 21, 4, 21, 7, 21, 7, 182, 1, 13, 54, 8, 42, 180, 0, 58, 21, 6, 17, 4, 176, 104]
abbrev dktX0_tables_2_5 : List UInt8 := dkwX0_tables_2_5 ++ dktX0_tables_2_6
def dkwX0_tables_2_4 : List UInt8 := [42, 21, 6, 182, 0, 222, 153, 0, 17, 42, 43, 21, 5, 21, 4, 21, 7, 182, 1, 31, 167, 0, 16, 42]
abbrev dktX0_tables_2_4 : List UInt8 := dkwX0_tables_2_4 ++ dktX0_tables_2_5
def dkwX0_tables_2_3 : List UInt8 := [21, 4, 21, 7, 21, 7, 42, 180, 1, 25, 96, 182, 1, 13, 167, 0, 46, 42, 180, 1, 28, 154, 0, 26]
abbrev dktX0_tables_2_3 : List UInt8 := dkwX0_tables_2_3 ++ dktX0_tables_2_4
def dkwX0_tables_2_2 : List UInt8 := [182, 1, 22, 153, 0, 7, 3, 167, 0, 76, 21, 6, 42, 180, 0, 62, 160, 0, 24, 42, 43, 21, 5]
abbrev dktX0_tables_2_2 : List UInt8 := dkwX0_tables_2_2 ++ dktX0_tables_2_3
def dkwX0_tables_2_1 : List UInt8 := [54, 6, 3, 54, 7, 21, 7, 42, 180, 0, 35, 180, 0, 241, 162, 0, 115, 42, 21, 5, 21, 4]
abbrev dktX0_tables_2_1 : List UInt8 := dkwX0_tables_2_1 ++ dktX0_tables_2_2
def dkwX0_tables_2_0 : List UInt8 := [29, 54, 4, 21, 4, 155, 0, 160, 28, 54, 5, 21, 5, 155, 0, 146, 21, 4, 16, 6, 104, 21, 5, 96]
abbrev dktX0_tables_2_0 : List UInt8 := dkwX0_tables_2_0 ++ dktX0_tables_2_1
theorem dksX0_tables_2_0 : cX0_tables_2.data.toList.drop 0 = dktX0_tables_2_0 := by decide +kernel
theorem dksX0_tables_2_1 : cX0_tables_2.data.toList.drop 24 = dktX0_tables_2_1 := dk_seg dksX0_tables_2_0 24 rfl rfl
theorem dksX0_tables_2_2 : cX0_tables_2.data.toList.drop 46 = dktX0_tables_2_2 := dk_seg dksX0_tables_2_1 22 rfl rfl
theorem dksX0_tables_2_3 : cX0_tables_2.data.toList.drop 69 = dktX0_tables_2_3 := dk_seg dksX0_tables_2_2 23 rfl rfl
theorem dksX0_tables_2_4 : cX0_tables_2.data.toList.drop 93 = dktX0_tables_2_4 := dk_seg dksX0_tables_2_3 24 rfl rfl
theorem dksX0_tables_2_5 : cX0_tables_2.data.toList.drop 117 = dktX0_tables_2_5 := dk_seg dksX0_tables_2_4 24 rfl rfl
theorem dksX0_tables_2_6 : cX0_tables_2.data.toList.drop 141 = dktX0_tables_2_6 := dk_seg dksX0_tables_2_5 24 rfl rfl
theorem dksX0_tables_2_7 : cX0_tables_2.data.toList.drop 165 = dktX0_tables_2_7 := dk_seg dksX0_tables_2_6 24 rfl rfl
theorem dX0_tables_2_0 : decode cX0_tables_2 0 = .ok (.iload_n 3, 1) := dk_29 (dk_at dksX0_tables_2_0 0 rfl rfl)
theorem dX0_tables_2_1 : decode cX0_tables_2 1 = .ok (.istore 4, 2) := dk_54 4 (dk_at dksX0_tables_2_0 1 rfl rfl)
theorem dX0_tables_2_3 : decode cX0_tables_2 3 = .ok (.iload 4, 2) := dk_21 4 (dk_at dksX0_tables_2_0 3 rfl rfl)
theorem dX0_tables_2_5 : decode cX0_tables_2 5 = .ok (.ifCond .lt 160, 3) := dk_155 0 160 (dk_at dksX0_tables_2_0 5 rfl rfl)
theorem dX0_tables_2_8 : decode cX0_tables_2 8 = .ok (.iload_n 2, 1) := dk_28 (dk_at dksX0_tables_2_0 8 rfl rfl)
theorem dX0_tables_2_9 : decode cX0_tables_2 9 = .ok (.istore 5, 2) := dk_54 5 (dk_at dksX0_tables_2_0 9 rfl rfl)
theorem dX0_tables_2_11 : decode cX0_tables_2 11 = .ok (.iload 5, 2) := dk_21 5 (dk_at dksX0_tables_2_0 11 rfl rfl)
theorem dX0_tables_2_13 : decode cX0_tables_2 13 = .ok (.ifCond .lt 146, 3) := dk_155 0 146 (dk_at dksX0_tables_2_0 13 rfl rfl)
theorem dX0_tables_2_16 : decode cX0_tables_2 16 = .ok (.iload 4, 2) := dk_21 4 (dk_at dksX0_tables_2_0 16 rfl rfl)
theorem dX0_tables_2_18 : decode cX0_tables_2 18 = .ok (.bipush 6, 2) := dk_16 6 (dk_at dksX0_tables_2_0 18 rfl rfl)
theorem dX0_tables_2_20 : decode cX0_tables_2 20 = .ok (.imul, 1) := dk_104 (dk_at dksX0_tables_2_0 20 rfl rfl)
theorem dX0_tables_2_21 : decode cX0_tables_2 21 = .ok (.iload 5, 2) := dk_21 5 (dk_at dksX0_tables_2_0 21 rfl rfl)
theorem dX0_tables_2_23 : decode cX0_tables_2 23 = .ok (.iadd, 1) := dk_96 (dk_at dksX0_tables_2_0 23 rfl rfl)
theorem dX0_tables_2_24 : decode cX0_tables_2 24 = .ok (.istore 6, 2) := dk_54 6 (dk_at dksX0_tables_2_1 0 rfl rfl)
theorem dX0_tables_2_26 : decode cX0_tables_2 26 = .ok (.iconst 0, 1) := dk_3 (dk_at dksX0_tables_2_1 2 rfl rfl)
theorem dX0_tables_2_27 : decode cX0_tables_2 27 = .ok (.istore 7, 2) := dk_54 7 (dk_at dksX0_tables_2_1 3 rfl rfl)
theorem dX0_tables_2_29 : decode cX0_tables_2 29 = .ok (.iload 7, 2) := dk_21 7 (dk_at dksX0_tables_2_1 5 rfl rfl)
theorem dX0_tables_2_31 : decode cX0_tables_2 31 = .ok (.aload_n 0, 1) := dk_42 (dk_at dksX0_tables_2_1 7 rfl rfl)
theorem dX0_tables_2_32 : decode cX0_tables_2 32 = .ok (.getfield 35, 3) := dk_180 0 35 (dk_at dksX0_tables_2_1 8 rfl rfl)
theorem dX0_tables_2_35 : decode cX0_tables_2 35 = .ok (.getfield 241, 3) := dk_180 0 241 (dk_at dksX0_tables_2_1 11 rfl rfl)
theorem dX0_tables_2_38 : decode cX0_tables_2 38 = .ok (.if_icmp .ge 115, 3) := dk_162 0 115 (dk_at dksX0_tables_2_1 14 rfl rfl)
theorem dX0_tables_2_41 : decode cX0_tables_2 41 = .ok (.aload_n 0, 1) := dk_42 (dk_at dksX0_tables_2_1 17 rfl rfl)
theorem dX0_tables_2_42 : decode cX0_tables_2 42 = .ok (.iload 5, 2) := dk_21 5 (dk_at dksX0_tables_2_1 18 rfl rfl)
theorem dX0_tables_2_44 : decode cX0_tables_2 44 = .ok (.iload 4, 2) := dk_21 4 (dk_at dksX0_tables_2_1 20 rfl rfl)
theorem dX0_tables_2_46 : decode cX0_tables_2 46 = .ok (.invokevirtual 278, 3) := dk_182 1 22 (dk_at dksX0_tables_2_2 0 rfl rfl)
theorem dX0_tables_2_49 : decode cX0_tables_2 49 = .ok (.ifCond .eq 7, 3) := dk_153 0 7 (dk_at dksX0_tables_2_2 3 rfl rfl)
theorem dX0_tables_2_52 : decode cX0_tables_2 52 = .ok (.iconst 0, 1) := dk_3 (dk_at dksX0_tables_2_2 6 rfl rfl)
theorem dX0_tables_2_53 : decode cX0_tables_2 53 = .ok (.goto 76, 3) := dk_167 0 76 (dk_at dksX0_tables_2_2 7 rfl rfl)
theorem dX0_tables_2_56 : decode cX0_tables_2 56 = .ok (.iload 6, 2) := dk_21 6 (dk_at dksX0_tables_2_2 10 rfl rfl)
theorem dX0_tables_2_58 : decode cX0_tables_2 58 = .ok (.aload_n 0, 1) := dk_42 (dk_at dksX0_tables_2_2 12 rfl rfl)
theorem dX0_tables_2_59 : decode cX0_tables_2 59 = .ok (.getfield 62, 3) := dk_180 0 62 (dk_at dksX0_tables_2_2 13 rfl rfl)
theorem dX0_tables_2_62 : decode cX0_tables_2 62 = .ok (.if_icmp .ne 24, 3) := dk_160 0 24 (dk_at dksX0_tables_2_2 16 rfl rfl)
theorem dX0_tables_2_65 : decode cX0_tables_2 65 = .ok (.aload_n 0, 1) := dk_42 (dk_at dksX0_tables_2_2 19 rfl rfl)
theorem dX0_tables_2_66 : decode cX0_tables_2 66 = .ok (.aload_n 1, 1) := dk_43 (dk_at dksX0_tables_2_2 20 rfl rfl)
theorem dX0_tables_2_67 : decode cX0_tables_2 67 = .ok (.iload 5, 2) := dk_21 5 (dk_at dksX0_tables_2_2 21 rfl rfl)
theorem dX0_tables_2_69 : decode cX0_tables_2 69 = .ok (.iload 4, 2) := dk_21 4 (dk_at dksX0_tables_2_3 0 rfl rfl)
theorem dX0_tables_2_71 : decode cX0_tables_2 71 = .ok (.iload 7, 2) := dk_21 7 (dk_at dksX0_tables_2_3 2 rfl rfl)
theorem dX0_tables_2_73 : decode cX0_tables_2 73 = .ok (.iload 7, 2) := dk_21 7 (dk_at dksX0_tables_2_3 4 rfl rfl)
theorem dX0_tables_2_75 : decode cX0_tables_2 75 = .ok (.aload_n 0, 1) := dk_42 (dk_at dksX0_tables_2_3 6 rfl rfl)
theorem dX0_tables_2_76 : decode cX0_tables_2 76 = .ok (.getfield 281, 3) := dk_180 1 25 (dk_at dksX0_tables_2_3 7 rfl rfl)
theorem dX0_tables_2_79 : decode cX0_tables_2 79 = .ok (.iadd, 1) := dk_96 (dk_at dksX0_tables_2_3 10 rfl rfl)
theorem dX0_tables_2_80 : decode cX0_tables_2 80 = .ok (.invokevirtual 269, 3) := dk_182 1 13 (dk_at dksX0_tables_2_3 11 rfl rfl)
theorem dX0_tables_2_83 : decode cX0_tables_2 83 = .ok (.goto 46, 3) := dk_167 0 46 (dk_at dksX0_tables_2_3 14 rfl rfl)
theorem dX0_tables_2_86 : decode cX0_tables_2 86 = .ok (.aload_n 0, 1) := dk_42 (dk_at dksX0_tables_2_3 17 rfl rfl)
theorem dX0_tables_2_87 : decode cX0_tables_2 87 = .ok (.getfield 284, 3) := dk_180 1 28 (dk_at dksX0_tables_2_3 18 rfl rfl)
theorem dX0_tables_2_90 : decode cX0_tables_2 90 = .ok (.ifCond .ne 26, 3) := dk_154 0 26 (dk_at dksX0_tables_2_3 21 rfl rfl)
theorem dX0_tables_2_93 : decode cX0_tables_2 93 = .ok (.aload_n 0, 1) := dk_42 (dk_at dksX0_tables_2_4 0 rfl rfl)
theorem dX0_tables_2_94 : decode cX0_tables_2 94 = .ok (.iload 6, 2) := dk_21 6 (dk_at dksX0_tables_2_4 1 rfl rfl)
theorem dX0_tables_2_96 : decode cX0_tables_2 96 = .ok (.invokevirtual 222, 3) := dk_182 0 222 (dk_at dksX0_tables_2_4 3 rfl rfl)
theorem dX0_tables_2_99 : decode cX0_tables_2 99 = .ok (.ifCond .eq 17, 3) := dk_153 0 17 (dk_at dksX0_tables_2_4 6 rfl rfl)
theorem dX0_tables_2_102 : decode cX0_tables_2 102 = .ok (.aload_n 0, 1) := dk_42 (dk_at dksX0_tables_2_4 9 rfl rfl)
theorem dX0_tables_2_103 : decode cX0_tables_2 103 = .ok (.aload_n 1, 1) := dk_43 (dk_at dksX0_tables_2_4 10 rfl rfl)
theorem dX0_tables_2_104 : decode cX0_tables_2 104 = .ok (.iload 5, 2) := dk_21 5 (dk_at dksX0_tables_2_4 11 rfl rfl)
theorem dX0_tables_2_106 : decode cX0_tables_2 106 = .ok (.iload 4, 2) := dk_21 4 (dk_at dksX0_tables_2_4 13 rfl rfl)
theorem dX0_tables_2_108 : decode cX0_tables_2 108 = .ok (.iload 7, 2) := dk_21 7 (dk_at dksX0_tables_2_4 15 rfl rfl)
theorem dX0_tables_2_110 : decode cX0_tables_2 110 = .ok (.invokevirtual 287, 3) := dk_182 1 31 (dk_at dksX0_tables_2_4 17 rfl rfl)
theorem dX0_tables_2_113 : decode cX0_tables_2 113 = .ok (.goto 16, 3) := dk_167 0 16 (dk_at dksX0_tables_2_4 20 rfl rfl)
theorem dX0_tables_2_116 : decode cX0_tables_2 116 = .ok (.aload_n 0, 1) := dk_42 (dk_at dksX0_tables_2_4 23 rfl rfl)
theorem dX0_tables_2_117 : decode cX0_tables_2 117 = .ok (.aload_n 1, 1) := dk_43 (dk_at dksX0_tables_2_5 0 rfl rfl)
theorem dX0_tables_2_118 : decode cX0_tables_2 118 = .ok (.iload 5, 2) := dk_21 5 (dk_at dksX0_tables_2_5 1 rfl rfl)
theorem dX0_tables_2_120 : decode cX0_tables_2 120 = .ok (.iload 4, 2) := dk_21 4 (dk_at dksX0_tables_2_5 3 rfl rfl)
theorem dX0_tables_2_122 : decode cX0_tables_2 122 = .ok (.iload 7, 2) := dk_21 7 (dk_at dksX0_tables_2_5 5 rfl rfl)
theorem dX0_tables_2_124 : decode cX0_tables_2 124 = .ok (.iload 7, 2) := dk_21 7 (dk_at dksX0_tables_2_5 7 rfl rfl)
theorem dX0_tables_2_126 : decode cX0_tables_2 126 = .ok (.invokevirtual 269, 3) := dk_182 1 13 (dk_at dksX0_tables_2_5 9 rfl rfl)
theorem dX0_tables_2_129 : decode cX0_tables_2 129 = .ok (.istore 8, 2) := dk_54 8 (dk_at dksX0_tables_2_5 12 rfl rfl)
theorem dX0_tables_2_131 : decode cX0_tables_2 131 = .ok (.aload_n 0, 1) := dk_42 (dk_at dksX0_tables_2_5 14 rfl rfl)
theorem dX0_tables_2_132 : decode cX0_tables_2 132 = .ok (.getfield 58, 3) := dk_180 0 58 (dk_at dksX0_tables_2_5 15 rfl rfl)
theorem dX0_tables_2_135 : decode cX0_tables_2 135 = .ok (.iload 6, 2) := dk_21 6 (dk_at dksX0_tables_2_5 18 rfl rfl)
theorem dX0_tables_2_137 : decode cX0_tables_2 137 = .ok (.sipush 1200, 3) := dk_17 4 176 (dk_at dksX0_tables_2_5 20 rfl rfl)
theorem dX0_tables_2_140 : decode cX0_tables_2 140 = .ok (.imul, 1) := dk_104 (dk_at dksX0_tables_2_5 23 rfl rfl)
theorem dX0_tables_2_141 : decode cX0_tables_2 141 = .ok (.iload 7, 2) := dk_21 7 (dk_at dksX0_tables_2_6 0 rfl rfl)
theorem dX0_tables_2_143 : decode cX0_tables_2 143 = .ok (.iadd, 1) := dk_96 (dk_at dksX0_tables_2_6 2 rfl rfl)
theorem dX0_tables_2_144 : decode cX0_tables_2 144 = .ok (.iload 8, 2) := dk_21 8 (dk_at dksX0_tables_2_6 3 rfl rfl)
theorem dX0_tables_2_146 : decode cX0_tables_2 146 = .ok (.iastore, 1) := dk_79 (dk_at dksX0_tables_2_6 5 rfl rfl)
theorem dX0_tables_2_147 : decode cX0_tables_2 147 = .ok (.iinc 7 1, 3) := dk_132 7 1 (dk_at dksX0_tables_2_6 6 rfl rfl)
theorem dX0_tables_2_150 : decode cX0_tables_2 150 = .ok (.goto (-121), 3) := dk_167 255 135 (dk_at dksX0_tables_2_6 9 rfl rfl)
theorem dX0_tables_2_153 : decode cX0_tables_2 153 = .ok (.iinc 5 (-1), 3) := dk_132 5 255 (dk_at dksX0_tables_2_6 12 rfl rfl)
theorem dX0_tables_2_156 : decode cX0_tables_2 156 = .ok (.goto (-145), 3) := dk_167 255 111 (dk_at dksX0_tables_2_6 15 rfl rfl)
theorem dX0_tables_2_159 : decode cX0_tables_2 159 = .ok (.iinc 4 (-1), 3) := dk_132 4 255 (dk_at dksX0_tables_2_6 18 rfl rfl)
theorem dX0_tables_2_162 : decode cX0_tables_2 162 = .ok (.goto (-159), 3) := dk_167 255 97 (dk_at dksX0_tables_2_6 21 rfl rfl)
theorem dX0_tables_2_165 : decode cX0_tables_2 165 = .ok (.return_, 1) := dk_177 (dk_at dksX0_tables_2_7 0 rfl rfl)
abbrev cX0_isHome : ByteArray := prog_1_method_13_code
def yX0_isHome : MethodName := ⟨RX0, "isHome", "(II)Z"⟩
def dkwX0_isHome_1 : List UInt8 := [160, 0, 7, 4, 167, 0, 4, 3, 172]
abbrev dktX0_isHome_1 : List UInt8 := dkwX0_isHome_1 ++ []
def dkwX0_isHome_0 : List UInt8 := [27, 42, 180, 0, 35, 180, 0, 131, 4, 100, 160, 0, 20, 28, 42, 180, 0, 35, 180, 0, 134, 4, 100]
abbrev dktX0_isHome_0 : List UInt8 := dkwX0_isHome_0 ++ dktX0_isHome_1
theorem dksX0_isHome_0 : cX0_isHome.data.toList.drop 0 = dktX0_isHome_0 := by decide +kernel
theorem dksX0_isHome_1 : cX0_isHome.data.toList.drop 23 = dktX0_isHome_1 := dk_seg dksX0_isHome_0 23 rfl rfl
theorem dX0_isHome_0 : decode cX0_isHome 0 = .ok (.iload_n 1, 1) := dk_27 (dk_at dksX0_isHome_0 0 rfl rfl)
theorem dX0_isHome_1 : decode cX0_isHome 1 = .ok (.aload_n 0, 1) := dk_42 (dk_at dksX0_isHome_0 1 rfl rfl)
theorem dX0_isHome_2 : decode cX0_isHome 2 = .ok (.getfield 35, 3) := dk_180 0 35 (dk_at dksX0_isHome_0 2 rfl rfl)
theorem dX0_isHome_5 : decode cX0_isHome 5 = .ok (.getfield 131, 3) := dk_180 0 131 (dk_at dksX0_isHome_0 5 rfl rfl)
theorem dX0_isHome_8 : decode cX0_isHome 8 = .ok (.iconst 1, 1) := dk_4 (dk_at dksX0_isHome_0 8 rfl rfl)
theorem dX0_isHome_9 : decode cX0_isHome 9 = .ok (.isub, 1) := dk_100 (dk_at dksX0_isHome_0 9 rfl rfl)
theorem dX0_isHome_10 : decode cX0_isHome 10 = .ok (.if_icmp .ne 20, 3) := dk_160 0 20 (dk_at dksX0_isHome_0 10 rfl rfl)
theorem dX0_isHome_13 : decode cX0_isHome 13 = .ok (.iload_n 2, 1) := dk_28 (dk_at dksX0_isHome_0 13 rfl rfl)
theorem dX0_isHome_14 : decode cX0_isHome 14 = .ok (.aload_n 0, 1) := dk_42 (dk_at dksX0_isHome_0 14 rfl rfl)
theorem dX0_isHome_15 : decode cX0_isHome 15 = .ok (.getfield 35, 3) := dk_180 0 35 (dk_at dksX0_isHome_0 15 rfl rfl)
theorem dX0_isHome_18 : decode cX0_isHome 18 = .ok (.getfield 134, 3) := dk_180 0 134 (dk_at dksX0_isHome_0 18 rfl rfl)
theorem dX0_isHome_21 : decode cX0_isHome 21 = .ok (.iconst 1, 1) := dk_4 (dk_at dksX0_isHome_0 21 rfl rfl)
theorem dX0_isHome_22 : decode cX0_isHome 22 = .ok (.isub, 1) := dk_100 (dk_at dksX0_isHome_0 22 rfl rfl)
theorem dX0_isHome_23 : decode cX0_isHome 23 = .ok (.if_icmp .ne 7, 3) := dk_160 0 7 (dk_at dksX0_isHome_1 0 rfl rfl)
theorem dX0_isHome_26 : decode cX0_isHome 26 = .ok (.iconst 1, 1) := dk_4 (dk_at dksX0_isHome_1 3 rfl rfl)
theorem dX0_isHome_27 : decode cX0_isHome 27 = .ok (.goto 4, 3) := dk_167 0 4 (dk_at dksX0_isHome_1 4 rfl rfl)
theorem dX0_isHome_30 : decode cX0_isHome 30 = .ok (.iconst 0, 1) := dk_3 (dk_at dksX0_isHome_1 7 rfl rfl)
theorem dX0_isHome_31 : decode cX0_isHome 31 = .ok (.ireturn, 1) := dk_172 (dk_at dksX0_isHome_1 8 rfl rfl)
abbrev cX0_takesBy : ByteArray := prog_1_method_32_code
def yX0_takesBy : MethodName := ⟨RX0, "takesBy", "(LOverFirst$Goer;IIII)I"⟩
def dkwX0_takesBy_2 : List UInt8 := [29, 21, 8, 21, 4, 21, 8, 154, 0, 8, 21, 6, 167, 0, 5, 21, 7, 182, 1, 0, 172]
abbrev dktX0_takesBy_2 : List UInt8 := dkwX0_takesBy_2 ++ []
def dkwX0_takesBy_1 : List UInt8 := [28, 29, 21, 4, 21, 6, 21, 7, 182, 1, 9, 54, 8, 21, 8, 156, 0, 7, 2, 167, 0, 25, 42, 28]
abbrev dktX0_takesBy_1 : List UInt8 := dkwX0_takesBy_1 ++ dktX0_takesBy_2
def dkwX0_takesBy_0 : List UInt8 := [42, 28, 29, 3, 21, 5, 182, 0, 191, 54, 6, 42, 28, 29, 4, 21, 5, 182, 0, 191, 54, 7, 42, 43]
abbrev dktX0_takesBy_0 : List UInt8 := dkwX0_takesBy_0 ++ dktX0_takesBy_1
theorem dksX0_takesBy_0 : cX0_takesBy.data.toList.drop 0 = dktX0_takesBy_0 := by decide +kernel
theorem dksX0_takesBy_1 : cX0_takesBy.data.toList.drop 24 = dktX0_takesBy_1 := dk_seg dksX0_takesBy_0 24 rfl rfl
theorem dksX0_takesBy_2 : cX0_takesBy.data.toList.drop 48 = dktX0_takesBy_2 := dk_seg dksX0_takesBy_1 24 rfl rfl
theorem dX0_takesBy_0 : decode cX0_takesBy 0 = .ok (.aload_n 0, 1) := dk_42 (dk_at dksX0_takesBy_0 0 rfl rfl)
theorem dX0_takesBy_1 : decode cX0_takesBy 1 = .ok (.iload_n 2, 1) := dk_28 (dk_at dksX0_takesBy_0 1 rfl rfl)
theorem dX0_takesBy_2 : decode cX0_takesBy 2 = .ok (.iload_n 3, 1) := dk_29 (dk_at dksX0_takesBy_0 2 rfl rfl)
theorem dX0_takesBy_3 : decode cX0_takesBy 3 = .ok (.iconst 0, 1) := dk_3 (dk_at dksX0_takesBy_0 3 rfl rfl)
theorem dX0_takesBy_4 : decode cX0_takesBy 4 = .ok (.iload 5, 2) := dk_21 5 (dk_at dksX0_takesBy_0 4 rfl rfl)
theorem dX0_takesBy_6 : decode cX0_takesBy 6 = .ok (.invokevirtual 191, 3) := dk_182 0 191 (dk_at dksX0_takesBy_0 6 rfl rfl)
theorem dX0_takesBy_9 : decode cX0_takesBy 9 = .ok (.istore 6, 2) := dk_54 6 (dk_at dksX0_takesBy_0 9 rfl rfl)
theorem dX0_takesBy_11 : decode cX0_takesBy 11 = .ok (.aload_n 0, 1) := dk_42 (dk_at dksX0_takesBy_0 11 rfl rfl)
theorem dX0_takesBy_12 : decode cX0_takesBy 12 = .ok (.iload_n 2, 1) := dk_28 (dk_at dksX0_takesBy_0 12 rfl rfl)
theorem dX0_takesBy_13 : decode cX0_takesBy 13 = .ok (.iload_n 3, 1) := dk_29 (dk_at dksX0_takesBy_0 13 rfl rfl)
theorem dX0_takesBy_14 : decode cX0_takesBy 14 = .ok (.iconst 1, 1) := dk_4 (dk_at dksX0_takesBy_0 14 rfl rfl)
theorem dX0_takesBy_15 : decode cX0_takesBy 15 = .ok (.iload 5, 2) := dk_21 5 (dk_at dksX0_takesBy_0 15 rfl rfl)
theorem dX0_takesBy_17 : decode cX0_takesBy 17 = .ok (.invokevirtual 191, 3) := dk_182 0 191 (dk_at dksX0_takesBy_0 17 rfl rfl)
theorem dX0_takesBy_20 : decode cX0_takesBy 20 = .ok (.istore 7, 2) := dk_54 7 (dk_at dksX0_takesBy_0 20 rfl rfl)
theorem dX0_takesBy_22 : decode cX0_takesBy 22 = .ok (.aload_n 0, 1) := dk_42 (dk_at dksX0_takesBy_0 22 rfl rfl)
theorem dX0_takesBy_23 : decode cX0_takesBy 23 = .ok (.aload_n 1, 1) := dk_43 (dk_at dksX0_takesBy_0 23 rfl rfl)
theorem dX0_takesBy_24 : decode cX0_takesBy 24 = .ok (.iload_n 2, 1) := dk_28 (dk_at dksX0_takesBy_1 0 rfl rfl)
theorem dX0_takesBy_25 : decode cX0_takesBy 25 = .ok (.iload_n 3, 1) := dk_29 (dk_at dksX0_takesBy_1 1 rfl rfl)
theorem dX0_takesBy_26 : decode cX0_takesBy 26 = .ok (.iload 4, 2) := dk_21 4 (dk_at dksX0_takesBy_1 2 rfl rfl)
theorem dX0_takesBy_28 : decode cX0_takesBy 28 = .ok (.iload 6, 2) := dk_21 6 (dk_at dksX0_takesBy_1 4 rfl rfl)
theorem dX0_takesBy_30 : decode cX0_takesBy 30 = .ok (.iload 7, 2) := dk_21 7 (dk_at dksX0_takesBy_1 6 rfl rfl)
theorem dX0_takesBy_32 : decode cX0_takesBy 32 = .ok (.invokevirtual 265, 3) := dk_182 1 9 (dk_at dksX0_takesBy_1 8 rfl rfl)
theorem dX0_takesBy_35 : decode cX0_takesBy 35 = .ok (.istore 8, 2) := dk_54 8 (dk_at dksX0_takesBy_1 11 rfl rfl)
theorem dX0_takesBy_37 : decode cX0_takesBy 37 = .ok (.iload 8, 2) := dk_21 8 (dk_at dksX0_takesBy_1 13 rfl rfl)
theorem dX0_takesBy_39 : decode cX0_takesBy 39 = .ok (.ifCond .ge 7, 3) := dk_156 0 7 (dk_at dksX0_takesBy_1 15 rfl rfl)
theorem dX0_takesBy_42 : decode cX0_takesBy 42 = .ok (.iconst (-1), 1) := dk_2 (dk_at dksX0_takesBy_1 18 rfl rfl)
theorem dX0_takesBy_43 : decode cX0_takesBy 43 = .ok (.goto 25, 3) := dk_167 0 25 (dk_at dksX0_takesBy_1 19 rfl rfl)
theorem dX0_takesBy_46 : decode cX0_takesBy 46 = .ok (.aload_n 0, 1) := dk_42 (dk_at dksX0_takesBy_1 22 rfl rfl)
theorem dX0_takesBy_47 : decode cX0_takesBy 47 = .ok (.iload_n 2, 1) := dk_28 (dk_at dksX0_takesBy_1 23 rfl rfl)
theorem dX0_takesBy_48 : decode cX0_takesBy 48 = .ok (.iload_n 3, 1) := dk_29 (dk_at dksX0_takesBy_2 0 rfl rfl)
theorem dX0_takesBy_49 : decode cX0_takesBy 49 = .ok (.iload 8, 2) := dk_21 8 (dk_at dksX0_takesBy_2 1 rfl rfl)
theorem dX0_takesBy_51 : decode cX0_takesBy 51 = .ok (.iload 4, 2) := dk_21 4 (dk_at dksX0_takesBy_2 3 rfl rfl)
theorem dX0_takesBy_53 : decode cX0_takesBy 53 = .ok (.iload 8, 2) := dk_21 8 (dk_at dksX0_takesBy_2 5 rfl rfl)
theorem dX0_takesBy_55 : decode cX0_takesBy 55 = .ok (.ifCond .ne 8, 3) := dk_154 0 8 (dk_at dksX0_takesBy_2 7 rfl rfl)
theorem dX0_takesBy_58 : decode cX0_takesBy 58 = .ok (.iload 6, 2) := dk_21 6 (dk_at dksX0_takesBy_2 10 rfl rfl)
theorem dX0_takesBy_60 : decode cX0_takesBy 60 = .ok (.goto 5, 3) := dk_167 0 5 (dk_at dksX0_takesBy_2 12 rfl rfl)
theorem dX0_takesBy_63 : decode cX0_takesBy 63 = .ok (.iload 7, 2) := dk_21 7 (dk_at dksX0_takesBy_2 15 rfl rfl)
theorem dX0_takesBy_65 : decode cX0_takesBy 65 = .ok (.invokevirtual 256, 3) := dk_182 1 0 (dk_at dksX0_takesBy_2 17 rfl rfl)
theorem dX0_takesBy_68 : decode cX0_takesBy 68 = .ok (.ireturn, 1) := dk_172 (dk_at dksX0_takesBy_2 20 rfl rfl)
abbrev cX0_wayOf : ByteArray := prog_1_method_31_code
def yX0_wayOf : MethodName := ⟨RX0, "wayOf", "(LOverFirst$Goer;IIIII)I"⟩
def dkwX0_wayOf_3 : List UInt8 := [29, 100, 182, 1, 7, 172]
abbrev dktX0_wayOf_3 : List UInt8 := dkwX0_wayOf_3 ++ []
def dkwX0_wayOf_2 : List UInt8 := [21, 5, 21, 6, 42, 180, 0, 35, 180, 0, 131, 4, 100, 28, 100, 42, 180, 0, 35, 180, 0, 134, 4, 100]
abbrev dktX0_wayOf_2 : List UInt8 := dkwX0_wayOf_2 ++ dktX0_wayOf_3
def dkwX0_wayOf_1 : List UInt8 := [21, 4, 21, 5, 182, 1, 0, 42, 28, 29, 4, 21, 4, 21, 6, 182, 1, 0, 182, 1, 4, 172, 43]
abbrev dktX0_wayOf_1 : List UInt8 := dkwX0_wayOf_1 ++ dktX0_wayOf_2
def dkwX0_wayOf_0 : List UInt8 := [21, 5, 156, 0, 10, 21, 6, 156, 0, 5, 2, 172, 43, 182, 0, 251, 153, 0, 30, 42, 42, 28, 29, 3]
abbrev dktX0_wayOf_0 : List UInt8 := dkwX0_wayOf_0 ++ dktX0_wayOf_1
theorem dksX0_wayOf_0 : cX0_wayOf.data.toList.drop 0 = dktX0_wayOf_0 := by decide +kernel
theorem dksX0_wayOf_1 : cX0_wayOf.data.toList.drop 24 = dktX0_wayOf_1 := dk_seg dksX0_wayOf_0 24 rfl rfl
theorem dksX0_wayOf_2 : cX0_wayOf.data.toList.drop 47 = dktX0_wayOf_2 := dk_seg dksX0_wayOf_1 23 rfl rfl
theorem dksX0_wayOf_3 : cX0_wayOf.data.toList.drop 71 = dktX0_wayOf_3 := dk_seg dksX0_wayOf_2 24 rfl rfl
theorem dX0_wayOf_0 : decode cX0_wayOf 0 = .ok (.iload 5, 2) := dk_21 5 (dk_at dksX0_wayOf_0 0 rfl rfl)
theorem dX0_wayOf_2 : decode cX0_wayOf 2 = .ok (.ifCond .ge 10, 3) := dk_156 0 10 (dk_at dksX0_wayOf_0 2 rfl rfl)
theorem dX0_wayOf_5 : decode cX0_wayOf 5 = .ok (.iload 6, 2) := dk_21 6 (dk_at dksX0_wayOf_0 5 rfl rfl)
theorem dX0_wayOf_7 : decode cX0_wayOf 7 = .ok (.ifCond .ge 5, 3) := dk_156 0 5 (dk_at dksX0_wayOf_0 7 rfl rfl)
theorem dX0_wayOf_10 : decode cX0_wayOf 10 = .ok (.iconst (-1), 1) := dk_2 (dk_at dksX0_wayOf_0 10 rfl rfl)
theorem dX0_wayOf_11 : decode cX0_wayOf 11 = .ok (.ireturn, 1) := dk_172 (dk_at dksX0_wayOf_0 11 rfl rfl)
theorem dX0_wayOf_12 : decode cX0_wayOf 12 = .ok (.aload_n 1, 1) := dk_43 (dk_at dksX0_wayOf_0 12 rfl rfl)
theorem dX0_wayOf_13 : decode cX0_wayOf 13 = .ok (.invokevirtual 251, 3) := dk_182 0 251 (dk_at dksX0_wayOf_0 13 rfl rfl)
theorem dX0_wayOf_16 : decode cX0_wayOf 16 = .ok (.ifCond .eq 30, 3) := dk_153 0 30 (dk_at dksX0_wayOf_0 16 rfl rfl)
theorem dX0_wayOf_19 : decode cX0_wayOf 19 = .ok (.aload_n 0, 1) := dk_42 (dk_at dksX0_wayOf_0 19 rfl rfl)
theorem dX0_wayOf_20 : decode cX0_wayOf 20 = .ok (.aload_n 0, 1) := dk_42 (dk_at dksX0_wayOf_0 20 rfl rfl)
theorem dX0_wayOf_21 : decode cX0_wayOf 21 = .ok (.iload_n 2, 1) := dk_28 (dk_at dksX0_wayOf_0 21 rfl rfl)
theorem dX0_wayOf_22 : decode cX0_wayOf 22 = .ok (.iload_n 3, 1) := dk_29 (dk_at dksX0_wayOf_0 22 rfl rfl)
theorem dX0_wayOf_23 : decode cX0_wayOf 23 = .ok (.iconst 0, 1) := dk_3 (dk_at dksX0_wayOf_0 23 rfl rfl)
theorem dX0_wayOf_24 : decode cX0_wayOf 24 = .ok (.iload 4, 2) := dk_21 4 (dk_at dksX0_wayOf_1 0 rfl rfl)
theorem dX0_wayOf_26 : decode cX0_wayOf 26 = .ok (.iload 5, 2) := dk_21 5 (dk_at dksX0_wayOf_1 2 rfl rfl)
theorem dX0_wayOf_28 : decode cX0_wayOf 28 = .ok (.invokevirtual 256, 3) := dk_182 1 0 (dk_at dksX0_wayOf_1 4 rfl rfl)
theorem dX0_wayOf_31 : decode cX0_wayOf 31 = .ok (.aload_n 0, 1) := dk_42 (dk_at dksX0_wayOf_1 7 rfl rfl)
theorem dX0_wayOf_32 : decode cX0_wayOf 32 = .ok (.iload_n 2, 1) := dk_28 (dk_at dksX0_wayOf_1 8 rfl rfl)
theorem dX0_wayOf_33 : decode cX0_wayOf 33 = .ok (.iload_n 3, 1) := dk_29 (dk_at dksX0_wayOf_1 9 rfl rfl)
theorem dX0_wayOf_34 : decode cX0_wayOf 34 = .ok (.iconst 1, 1) := dk_4 (dk_at dksX0_wayOf_1 10 rfl rfl)
theorem dX0_wayOf_35 : decode cX0_wayOf 35 = .ok (.iload 4, 2) := dk_21 4 (dk_at dksX0_wayOf_1 11 rfl rfl)
theorem dX0_wayOf_37 : decode cX0_wayOf 37 = .ok (.iload 6, 2) := dk_21 6 (dk_at dksX0_wayOf_1 13 rfl rfl)
theorem dX0_wayOf_39 : decode cX0_wayOf 39 = .ok (.invokevirtual 256, 3) := dk_182 1 0 (dk_at dksX0_wayOf_1 15 rfl rfl)
theorem dX0_wayOf_42 : decode cX0_wayOf 42 = .ok (.invokevirtual 260, 3) := dk_182 1 4 (dk_at dksX0_wayOf_1 18 rfl rfl)
theorem dX0_wayOf_45 : decode cX0_wayOf 45 = .ok (.ireturn, 1) := dk_172 (dk_at dksX0_wayOf_1 21 rfl rfl)
theorem dX0_wayOf_46 : decode cX0_wayOf 46 = .ok (.aload_n 1, 1) := dk_43 (dk_at dksX0_wayOf_1 22 rfl rfl)
theorem dX0_wayOf_47 : decode cX0_wayOf 47 = .ok (.iload 5, 2) := dk_21 5 (dk_at dksX0_wayOf_2 0 rfl rfl)
theorem dX0_wayOf_49 : decode cX0_wayOf 49 = .ok (.iload 6, 2) := dk_21 6 (dk_at dksX0_wayOf_2 2 rfl rfl)
theorem dX0_wayOf_51 : decode cX0_wayOf 51 = .ok (.aload_n 0, 1) := dk_42 (dk_at dksX0_wayOf_2 4 rfl rfl)
theorem dX0_wayOf_52 : decode cX0_wayOf 52 = .ok (.getfield 35, 3) := dk_180 0 35 (dk_at dksX0_wayOf_2 5 rfl rfl)
theorem dX0_wayOf_55 : decode cX0_wayOf 55 = .ok (.getfield 131, 3) := dk_180 0 131 (dk_at dksX0_wayOf_2 8 rfl rfl)
theorem dX0_wayOf_58 : decode cX0_wayOf 58 = .ok (.iconst 1, 1) := dk_4 (dk_at dksX0_wayOf_2 11 rfl rfl)
theorem dX0_wayOf_59 : decode cX0_wayOf 59 = .ok (.isub, 1) := dk_100 (dk_at dksX0_wayOf_2 12 rfl rfl)
theorem dX0_wayOf_60 : decode cX0_wayOf 60 = .ok (.iload_n 2, 1) := dk_28 (dk_at dksX0_wayOf_2 13 rfl rfl)
theorem dX0_wayOf_61 : decode cX0_wayOf 61 = .ok (.isub, 1) := dk_100 (dk_at dksX0_wayOf_2 14 rfl rfl)
theorem dX0_wayOf_62 : decode cX0_wayOf 62 = .ok (.aload_n 0, 1) := dk_42 (dk_at dksX0_wayOf_2 15 rfl rfl)
theorem dX0_wayOf_63 : decode cX0_wayOf 63 = .ok (.getfield 35, 3) := dk_180 0 35 (dk_at dksX0_wayOf_2 16 rfl rfl)
theorem dX0_wayOf_66 : decode cX0_wayOf 66 = .ok (.getfield 134, 3) := dk_180 0 134 (dk_at dksX0_wayOf_2 19 rfl rfl)
theorem dX0_wayOf_69 : decode cX0_wayOf 69 = .ok (.iconst 1, 1) := dk_4 (dk_at dksX0_wayOf_2 22 rfl rfl)
theorem dX0_wayOf_70 : decode cX0_wayOf 70 = .ok (.isub, 1) := dk_100 (dk_at dksX0_wayOf_2 23 rfl rfl)
theorem dX0_wayOf_71 : decode cX0_wayOf 71 = .ok (.iload_n 3, 1) := dk_29 (dk_at dksX0_wayOf_3 0 rfl rfl)
theorem dX0_wayOf_72 : decode cX0_wayOf 72 = .ok (.isub, 1) := dk_100 (dk_at dksX0_wayOf_3 1 rfl rfl)
theorem dX0_wayOf_73 : decode cX0_wayOf 73 = .ok (.invokevirtual 263, 3) := dk_182 1 7 (dk_at dksX0_wayOf_3 2 rfl rfl)
theorem dX0_wayOf_76 : decode cX0_wayOf 76 = .ok (.ireturn, 1) := dk_172 (dk_at dksX0_wayOf_3 5 rfl rfl)
abbrev cX0_by : ByteArray := prog_1_method_29_code
def yX0_by : MethodName := ⟨RX0, "by", "(IIIII)I"⟩
def dkwX0_by_3 : List UInt8 := [172]
abbrev dktX0_by_3 : List UInt8 := dkwX0_by_3 ++ []
def dkwX0_by_2 : List UInt8 := [182, 0, 244, 54, 7, 21, 7, 156, 0, 7, 2, 167, 0, 13, 21, 6, 42, 182, 0, 248, 104, 21, 7, 96]
abbrev dktX0_by_2 : List UInt8 := dkwX0_by_2 ++ dktX0_by_3
def dkwX0_by_1 : List UInt8 := [27, 4, 96, 167, 0, 4, 27, 29, 154, 0, 7, 28, 167, 0, 6, 28, 4, 96, 21, 4, 21, 6, 96]
abbrev dktX0_by_1 : List UInt8 := dkwX0_by_1 ++ dktX0_by_2
def dkwX0_by_0 : List UInt8 := [21, 5, 156, 0, 5, 2, 172, 21, 5, 42, 180, 0, 35, 182, 0, 217, 96, 54, 6, 42, 29, 154, 0, 9]
abbrev dktX0_by_0 : List UInt8 := dkwX0_by_0 ++ dktX0_by_1
theorem dksX0_by_0 : cX0_by.data.toList.drop 0 = dktX0_by_0 := by decide +kernel
theorem dksX0_by_1 : cX0_by.data.toList.drop 24 = dktX0_by_1 := dk_seg dksX0_by_0 24 rfl rfl
theorem dksX0_by_2 : cX0_by.data.toList.drop 47 = dktX0_by_2 := dk_seg dksX0_by_1 23 rfl rfl
theorem dksX0_by_3 : cX0_by.data.toList.drop 71 = dktX0_by_3 := dk_seg dksX0_by_2 24 rfl rfl
theorem dX0_by_0 : decode cX0_by 0 = .ok (.iload 5, 2) := dk_21 5 (dk_at dksX0_by_0 0 rfl rfl)
theorem dX0_by_2 : decode cX0_by 2 = .ok (.ifCond .ge 5, 3) := dk_156 0 5 (dk_at dksX0_by_0 2 rfl rfl)
theorem dX0_by_5 : decode cX0_by 5 = .ok (.iconst (-1), 1) := dk_2 (dk_at dksX0_by_0 5 rfl rfl)
theorem dX0_by_6 : decode cX0_by 6 = .ok (.ireturn, 1) := dk_172 (dk_at dksX0_by_0 6 rfl rfl)
theorem dX0_by_7 : decode cX0_by 7 = .ok (.iload 5, 2) := dk_21 5 (dk_at dksX0_by_0 7 rfl rfl)
theorem dX0_by_9 : decode cX0_by 9 = .ok (.aload_n 0, 1) := dk_42 (dk_at dksX0_by_0 9 rfl rfl)
theorem dX0_by_10 : decode cX0_by 10 = .ok (.getfield 35, 3) := dk_180 0 35 (dk_at dksX0_by_0 10 rfl rfl)
theorem dX0_by_13 : decode cX0_by 13 = .ok (.invokevirtual 217, 3) := dk_182 0 217 (dk_at dksX0_by_0 13 rfl rfl)
theorem dX0_by_16 : decode cX0_by 16 = .ok (.iadd, 1) := dk_96 (dk_at dksX0_by_0 16 rfl rfl)
theorem dX0_by_17 : decode cX0_by 17 = .ok (.istore 6, 2) := dk_54 6 (dk_at dksX0_by_0 17 rfl rfl)
theorem dX0_by_19 : decode cX0_by 19 = .ok (.aload_n 0, 1) := dk_42 (dk_at dksX0_by_0 19 rfl rfl)
theorem dX0_by_20 : decode cX0_by 20 = .ok (.iload_n 3, 1) := dk_29 (dk_at dksX0_by_0 20 rfl rfl)
theorem dX0_by_21 : decode cX0_by 21 = .ok (.ifCond .ne 9, 3) := dk_154 0 9 (dk_at dksX0_by_0 21 rfl rfl)
theorem dX0_by_24 : decode cX0_by 24 = .ok (.iload_n 1, 1) := dk_27 (dk_at dksX0_by_1 0 rfl rfl)
theorem dX0_by_25 : decode cX0_by 25 = .ok (.iconst 1, 1) := dk_4 (dk_at dksX0_by_1 1 rfl rfl)
theorem dX0_by_26 : decode cX0_by 26 = .ok (.iadd, 1) := dk_96 (dk_at dksX0_by_1 2 rfl rfl)
theorem dX0_by_27 : decode cX0_by 27 = .ok (.goto 4, 3) := dk_167 0 4 (dk_at dksX0_by_1 3 rfl rfl)
theorem dX0_by_30 : decode cX0_by 30 = .ok (.iload_n 1, 1) := dk_27 (dk_at dksX0_by_1 6 rfl rfl)
theorem dX0_by_31 : decode cX0_by 31 = .ok (.iload_n 3, 1) := dk_29 (dk_at dksX0_by_1 7 rfl rfl)
theorem dX0_by_32 : decode cX0_by 32 = .ok (.ifCond .ne 7, 3) := dk_154 0 7 (dk_at dksX0_by_1 8 rfl rfl)
theorem dX0_by_35 : decode cX0_by 35 = .ok (.iload_n 2, 1) := dk_28 (dk_at dksX0_by_1 11 rfl rfl)
theorem dX0_by_36 : decode cX0_by 36 = .ok (.goto 6, 3) := dk_167 0 6 (dk_at dksX0_by_1 12 rfl rfl)
theorem dX0_by_39 : decode cX0_by 39 = .ok (.iload_n 2, 1) := dk_28 (dk_at dksX0_by_1 15 rfl rfl)
theorem dX0_by_40 : decode cX0_by 40 = .ok (.iconst 1, 1) := dk_4 (dk_at dksX0_by_1 16 rfl rfl)
theorem dX0_by_41 : decode cX0_by 41 = .ok (.iadd, 1) := dk_96 (dk_at dksX0_by_1 17 rfl rfl)
theorem dX0_by_42 : decode cX0_by 42 = .ok (.iload 4, 2) := dk_21 4 (dk_at dksX0_by_1 18 rfl rfl)
theorem dX0_by_44 : decode cX0_by 44 = .ok (.iload 6, 2) := dk_21 6 (dk_at dksX0_by_1 20 rfl rfl)
theorem dX0_by_46 : decode cX0_by 46 = .ok (.iadd, 1) := dk_96 (dk_at dksX0_by_1 22 rfl rfl)
theorem dX0_by_47 : decode cX0_by 47 = .ok (.invokevirtual 244, 3) := dk_182 0 244 (dk_at dksX0_by_2 0 rfl rfl)
theorem dX0_by_50 : decode cX0_by 50 = .ok (.istore 7, 2) := dk_54 7 (dk_at dksX0_by_2 3 rfl rfl)
theorem dX0_by_52 : decode cX0_by 52 = .ok (.iload 7, 2) := dk_21 7 (dk_at dksX0_by_2 5 rfl rfl)
theorem dX0_by_54 : decode cX0_by 54 = .ok (.ifCond .ge 7, 3) := dk_156 0 7 (dk_at dksX0_by_2 7 rfl rfl)
theorem dX0_by_57 : decode cX0_by 57 = .ok (.iconst (-1), 1) := dk_2 (dk_at dksX0_by_2 10 rfl rfl)
theorem dX0_by_58 : decode cX0_by 58 = .ok (.goto 13, 3) := dk_167 0 13 (dk_at dksX0_by_2 11 rfl rfl)
theorem dX0_by_61 : decode cX0_by 61 = .ok (.iload 6, 2) := dk_21 6 (dk_at dksX0_by_2 14 rfl rfl)
theorem dX0_by_63 : decode cX0_by 63 = .ok (.aload_n 0, 1) := dk_42 (dk_at dksX0_by_2 16 rfl rfl)
theorem dX0_by_64 : decode cX0_by 64 = .ok (.invokevirtual 248, 3) := dk_182 0 248 (dk_at dksX0_by_2 17 rfl rfl)
theorem dX0_by_67 : decode cX0_by 67 = .ok (.imul, 1) := dk_104 (dk_at dksX0_by_2 20 rfl rfl)
theorem dX0_by_68 : decode cX0_by 68 = .ok (.iload 7, 2) := dk_21 7 (dk_at dksX0_by_2 21 rfl rfl)
theorem dX0_by_70 : decode cX0_by 70 = .ok (.iadd, 1) := dk_96 (dk_at dksX0_by_2 23 rfl rfl)
theorem dX0_by_71 : decode cX0_by 71 = .ok (.ireturn, 1) := dk_172 (dk_at dksX0_by_3 0 rfl rfl)
abbrev cX0_takesAt : ByteArray := prog_1_method_28_code
def yX0_takesAt : MethodName := ⟨RX0, "takesAt", "(III)I"⟩
def dkwX0_takesAt_1 : List UInt8 := [46, 172]
abbrev dktX0_takesAt_1 : List UInt8 := dkwX0_takesAt_1 ++ []
def dkwX0_takesAt_0 : List UInt8 := [42, 180, 0, 58, 28, 16, 6, 104, 27, 96, 17, 4, 176, 104, 29, 42, 180, 0, 35, 180, 0, 241, 112, 96]
abbrev dktX0_takesAt_0 : List UInt8 := dkwX0_takesAt_0 ++ dktX0_takesAt_1
theorem dksX0_takesAt_0 : cX0_takesAt.data.toList.drop 0 = dktX0_takesAt_0 := by decide +kernel
theorem dksX0_takesAt_1 : cX0_takesAt.data.toList.drop 24 = dktX0_takesAt_1 := dk_seg dksX0_takesAt_0 24 rfl rfl
theorem dX0_takesAt_0 : decode cX0_takesAt 0 = .ok (.aload_n 0, 1) := dk_42 (dk_at dksX0_takesAt_0 0 rfl rfl)
theorem dX0_takesAt_1 : decode cX0_takesAt 1 = .ok (.getfield 58, 3) := dk_180 0 58 (dk_at dksX0_takesAt_0 1 rfl rfl)
theorem dX0_takesAt_4 : decode cX0_takesAt 4 = .ok (.iload_n 2, 1) := dk_28 (dk_at dksX0_takesAt_0 4 rfl rfl)
theorem dX0_takesAt_5 : decode cX0_takesAt 5 = .ok (.bipush 6, 2) := dk_16 6 (dk_at dksX0_takesAt_0 5 rfl rfl)
theorem dX0_takesAt_7 : decode cX0_takesAt 7 = .ok (.imul, 1) := dk_104 (dk_at dksX0_takesAt_0 7 rfl rfl)
theorem dX0_takesAt_8 : decode cX0_takesAt 8 = .ok (.iload_n 1, 1) := dk_27 (dk_at dksX0_takesAt_0 8 rfl rfl)
theorem dX0_takesAt_9 : decode cX0_takesAt 9 = .ok (.iadd, 1) := dk_96 (dk_at dksX0_takesAt_0 9 rfl rfl)
theorem dX0_takesAt_10 : decode cX0_takesAt 10 = .ok (.sipush 1200, 3) := dk_17 4 176 (dk_at dksX0_takesAt_0 10 rfl rfl)
theorem dX0_takesAt_13 : decode cX0_takesAt 13 = .ok (.imul, 1) := dk_104 (dk_at dksX0_takesAt_0 13 rfl rfl)
theorem dX0_takesAt_14 : decode cX0_takesAt 14 = .ok (.iload_n 3, 1) := dk_29 (dk_at dksX0_takesAt_0 14 rfl rfl)
theorem dX0_takesAt_15 : decode cX0_takesAt 15 = .ok (.aload_n 0, 1) := dk_42 (dk_at dksX0_takesAt_0 15 rfl rfl)
theorem dX0_takesAt_16 : decode cX0_takesAt 16 = .ok (.getfield 35, 3) := dk_180 0 35 (dk_at dksX0_takesAt_0 16 rfl rfl)
theorem dX0_takesAt_19 : decode cX0_takesAt 19 = .ok (.getfield 241, 3) := dk_180 0 241 (dk_at dksX0_takesAt_0 19 rfl rfl)
theorem dX0_takesAt_22 : decode cX0_takesAt 22 = .ok (.irem, 1) := dk_112 (dk_at dksX0_takesAt_0 22 rfl rfl)
theorem dX0_takesAt_23 : decode cX0_takesAt 23 = .ok (.iadd, 1) := dk_96 (dk_at dksX0_takesAt_0 23 rfl rfl)
theorem dX0_takesAt_24 : decode cX0_takesAt 24 = .ok (.iaload, 1) := dk_46 (dk_at dksX0_takesAt_1 0 rfl rfl)
theorem dX0_takesAt_25 : decode cX0_takesAt 25 = .ok (.ireturn, 1) := dk_172 (dk_at dksX0_takesAt_1 1 rfl rfl)
abbrev cX0_scale : ByteArray := prog_1_method_27_code
def yX0_scale : MethodName := ⟨RX0, "scale", "()I"⟩
def dkwX0_scale_0 : List UInt8 := [42, 180, 0, 237, 153, 0, 7, 4, 167, 0, 6, 17, 3, 232, 172]
abbrev dktX0_scale_0 : List UInt8 := dkwX0_scale_0 ++ []
theorem dksX0_scale_0 : cX0_scale.data.toList.drop 0 = dktX0_scale_0 := by decide +kernel
theorem dX0_scale_0 : decode cX0_scale 0 = .ok (.aload_n 0, 1) := dk_42 (dk_at dksX0_scale_0 0 rfl rfl)
theorem dX0_scale_1 : decode cX0_scale 1 = .ok (.getfield 237, 3) := dk_180 0 237 (dk_at dksX0_scale_0 1 rfl rfl)
theorem dX0_scale_4 : decode cX0_scale 4 = .ok (.ifCond .eq 7, 3) := dk_153 0 7 (dk_at dksX0_scale_0 4 rfl rfl)
theorem dX0_scale_7 : decode cX0_scale 7 = .ok (.iconst 1, 1) := dk_4 (dk_at dksX0_scale_0 7 rfl rfl)
theorem dX0_scale_8 : decode cX0_scale 8 = .ok (.goto 6, 3) := dk_167 0 6 (dk_at dksX0_scale_0 8 rfl rfl)
theorem dX0_scale_11 : decode cX0_scale 11 = .ok (.sipush 1000, 3) := dk_17 3 232 (dk_at dksX0_scale_0 11 rfl rfl)
theorem dX0_scale_14 : decode cX0_scale 14 = .ok (.ireturn, 1) := dk_172 (dk_at dksX0_scale_0 14 rfl rfl)
abbrev cX0_better : ByteArray := prog_1_method_30_code
def yX0_better : MethodName := ⟨RX0, "better", "(II)I"⟩
def dkwX0_better_0 : List UInt8 := [27, 155, 0, 12, 28, 155, 0, 12, 28, 27, 162, 0, 7, 4, 167, 0, 4, 3, 172]
abbrev dktX0_better_0 : List UInt8 := dkwX0_better_0 ++ []
theorem dksX0_better_0 : cX0_better.data.toList.drop 0 = dktX0_better_0 := by decide +kernel
theorem dX0_better_0 : decode cX0_better 0 = .ok (.iload_n 1, 1) := dk_27 (dk_at dksX0_better_0 0 rfl rfl)
theorem dX0_better_1 : decode cX0_better 1 = .ok (.ifCond .lt 12, 3) := dk_155 0 12 (dk_at dksX0_better_0 1 rfl rfl)
theorem dX0_better_4 : decode cX0_better 4 = .ok (.iload_n 2, 1) := dk_28 (dk_at dksX0_better_0 4 rfl rfl)
theorem dX0_better_5 : decode cX0_better 5 = .ok (.ifCond .lt 12, 3) := dk_155 0 12 (dk_at dksX0_better_0 5 rfl rfl)
theorem dX0_better_8 : decode cX0_better 8 = .ok (.iload_n 2, 1) := dk_28 (dk_at dksX0_better_0 8 rfl rfl)
theorem dX0_better_9 : decode cX0_better 9 = .ok (.iload_n 1, 1) := dk_27 (dk_at dksX0_better_0 9 rfl rfl)
theorem dX0_better_10 : decode cX0_better 10 = .ok (.if_icmp .ge 7, 3) := dk_162 0 7 (dk_at dksX0_better_0 10 rfl rfl)
theorem dX0_better_13 : decode cX0_better 13 = .ok (.iconst 1, 1) := dk_4 (dk_at dksX0_better_0 13 rfl rfl)
theorem dX0_better_14 : decode cX0_better 14 = .ok (.goto 4, 3) := dk_167 0 4 (dk_at dksX0_better_0 14 rfl rfl)
theorem dX0_better_17 : decode cX0_better 17 = .ok (.iconst 0, 1) := dk_3 (dk_at dksX0_better_0 17 rfl rfl)
theorem dX0_better_18 : decode cX0_better 18 = .ok (.ireturn, 1) := dk_172 (dk_at dksX0_better_0 18 rfl rfl)
abbrev cX0_takesHidden : ByteArray := prog_1_method_33_code
def yX0_takesHidden : MethodName := ⟨RX0, "takesHidden", "(LOverFirst$Goer;III)I"⟩
def dkwX0_takesHidden_3 : List UInt8 := [180, 0, 237, 153, 0, 8, 21, 8, 167, 0, 10, 22, 6, 21, 5, 133, 109, 136, 172]
abbrev dktX0_takesHidden_3 : List UInt8 := dkwX0_takesHidden_3 ++ []
def dkwX0_takesHidden_2 : List UInt8 := [22, 6, 21, 10, 133, 97, 55, 6, 21, 8, 21, 10, 184, 1, 17, 54, 8, 132, 9, 1, 167, 255, 209, 42]
abbrev dktX0_takesHidden_2 : List UInt8 := dkwX0_takesHidden_2 ++ dktX0_takesHidden_3
def dkwX0_takesHidden_1 : List UInt8 := [162, 0, 46, 42, 43, 28, 29, 21, 4, 21, 9, 182, 1, 13, 54, 10, 21, 10, 156, 0, 5, 2, 172]
abbrev dktX0_takesHidden_1 : List UInt8 := dkwX0_takesHidden_1 ++ dktX0_takesHidden_2
def dkwX0_takesHidden_0 : List UInt8 := [42, 28, 29, 182, 0, 140, 180, 0, 160, 54, 5, 9, 55, 6, 3, 54, 8, 3, 54, 9, 21, 9, 21, 5]
abbrev dktX0_takesHidden_0 : List UInt8 := dkwX0_takesHidden_0 ++ dktX0_takesHidden_1
theorem dksX0_takesHidden_0 : cX0_takesHidden.data.toList.drop 0 = dktX0_takesHidden_0 := by decide +kernel
theorem dksX0_takesHidden_1 : cX0_takesHidden.data.toList.drop 24 = dktX0_takesHidden_1 := dk_seg dksX0_takesHidden_0 24 rfl rfl
theorem dksX0_takesHidden_2 : cX0_takesHidden.data.toList.drop 47 = dktX0_takesHidden_2 := dk_seg dksX0_takesHidden_1 23 rfl rfl
theorem dksX0_takesHidden_3 : cX0_takesHidden.data.toList.drop 71 = dktX0_takesHidden_3 := dk_seg dksX0_takesHidden_2 24 rfl rfl
theorem dX0_takesHidden_0 : decode cX0_takesHidden 0 = .ok (.aload_n 0, 1) := dk_42 (dk_at dksX0_takesHidden_0 0 rfl rfl)
theorem dX0_takesHidden_1 : decode cX0_takesHidden 1 = .ok (.iload_n 2, 1) := dk_28 (dk_at dksX0_takesHidden_0 1 rfl rfl)
theorem dX0_takesHidden_2 : decode cX0_takesHidden 2 = .ok (.iload_n 3, 1) := dk_29 (dk_at dksX0_takesHidden_0 2 rfl rfl)
theorem dX0_takesHidden_3 : decode cX0_takesHidden 3 = .ok (.invokevirtual 140, 3) := dk_182 0 140 (dk_at dksX0_takesHidden_0 3 rfl rfl)
theorem dX0_takesHidden_6 : decode cX0_takesHidden 6 = .ok (.getfield 160, 3) := dk_180 0 160 (dk_at dksX0_takesHidden_0 6 rfl rfl)
theorem dX0_takesHidden_9 : decode cX0_takesHidden 9 = .ok (.istore 5, 2) := dk_54 5 (dk_at dksX0_takesHidden_0 9 rfl rfl)
theorem dX0_takesHidden_11 : decode cX0_takesHidden 11 = .ok (.lconst 0, 1) := dk_9 (dk_at dksX0_takesHidden_0 11 rfl rfl)
theorem dX0_takesHidden_12 : decode cX0_takesHidden 12 = .ok (.lstore 6, 2) := dk_55 6 (dk_at dksX0_takesHidden_0 12 rfl rfl)
theorem dX0_takesHidden_14 : decode cX0_takesHidden 14 = .ok (.iconst 0, 1) := dk_3 (dk_at dksX0_takesHidden_0 14 rfl rfl)
theorem dX0_takesHidden_15 : decode cX0_takesHidden 15 = .ok (.istore 8, 2) := dk_54 8 (dk_at dksX0_takesHidden_0 15 rfl rfl)
theorem dX0_takesHidden_17 : decode cX0_takesHidden 17 = .ok (.iconst 0, 1) := dk_3 (dk_at dksX0_takesHidden_0 17 rfl rfl)
theorem dX0_takesHidden_18 : decode cX0_takesHidden 18 = .ok (.istore 9, 2) := dk_54 9 (dk_at dksX0_takesHidden_0 18 rfl rfl)
theorem dX0_takesHidden_20 : decode cX0_takesHidden 20 = .ok (.iload 9, 2) := dk_21 9 (dk_at dksX0_takesHidden_0 20 rfl rfl)
theorem dX0_takesHidden_22 : decode cX0_takesHidden 22 = .ok (.iload 5, 2) := dk_21 5 (dk_at dksX0_takesHidden_0 22 rfl rfl)
theorem dX0_takesHidden_24 : decode cX0_takesHidden 24 = .ok (.if_icmp .ge 46, 3) := dk_162 0 46 (dk_at dksX0_takesHidden_1 0 rfl rfl)
theorem dX0_takesHidden_27 : decode cX0_takesHidden 27 = .ok (.aload_n 0, 1) := dk_42 (dk_at dksX0_takesHidden_1 3 rfl rfl)
theorem dX0_takesHidden_28 : decode cX0_takesHidden 28 = .ok (.aload_n 1, 1) := dk_43 (dk_at dksX0_takesHidden_1 4 rfl rfl)
theorem dX0_takesHidden_29 : decode cX0_takesHidden 29 = .ok (.iload_n 2, 1) := dk_28 (dk_at dksX0_takesHidden_1 5 rfl rfl)
theorem dX0_takesHidden_30 : decode cX0_takesHidden 30 = .ok (.iload_n 3, 1) := dk_29 (dk_at dksX0_takesHidden_1 6 rfl rfl)
theorem dX0_takesHidden_31 : decode cX0_takesHidden 31 = .ok (.iload 4, 2) := dk_21 4 (dk_at dksX0_takesHidden_1 7 rfl rfl)
theorem dX0_takesHidden_33 : decode cX0_takesHidden 33 = .ok (.iload 9, 2) := dk_21 9 (dk_at dksX0_takesHidden_1 9 rfl rfl)
theorem dX0_takesHidden_35 : decode cX0_takesHidden 35 = .ok (.invokevirtual 269, 3) := dk_182 1 13 (dk_at dksX0_takesHidden_1 11 rfl rfl)
theorem dX0_takesHidden_38 : decode cX0_takesHidden 38 = .ok (.istore 10, 2) := dk_54 10 (dk_at dksX0_takesHidden_1 14 rfl rfl)
theorem dX0_takesHidden_40 : decode cX0_takesHidden 40 = .ok (.iload 10, 2) := dk_21 10 (dk_at dksX0_takesHidden_1 16 rfl rfl)
theorem dX0_takesHidden_42 : decode cX0_takesHidden 42 = .ok (.ifCond .ge 5, 3) := dk_156 0 5 (dk_at dksX0_takesHidden_1 18 rfl rfl)
theorem dX0_takesHidden_45 : decode cX0_takesHidden 45 = .ok (.iconst (-1), 1) := dk_2 (dk_at dksX0_takesHidden_1 21 rfl rfl)
theorem dX0_takesHidden_46 : decode cX0_takesHidden 46 = .ok (.ireturn, 1) := dk_172 (dk_at dksX0_takesHidden_1 22 rfl rfl)
theorem dX0_takesHidden_47 : decode cX0_takesHidden 47 = .ok (.lload 6, 2) := dk_22 6 (dk_at dksX0_takesHidden_2 0 rfl rfl)
theorem dX0_takesHidden_49 : decode cX0_takesHidden 49 = .ok (.iload 10, 2) := dk_21 10 (dk_at dksX0_takesHidden_2 2 rfl rfl)
theorem dX0_takesHidden_51 : decode cX0_takesHidden 51 = .ok (.i2l, 1) := dk_133 (dk_at dksX0_takesHidden_2 4 rfl rfl)
theorem dX0_takesHidden_52 : decode cX0_takesHidden 52 = .ok (.ladd, 1) := dk_97 (dk_at dksX0_takesHidden_2 5 rfl rfl)
theorem dX0_takesHidden_53 : decode cX0_takesHidden 53 = .ok (.lstore 6, 2) := dk_55 6 (dk_at dksX0_takesHidden_2 6 rfl rfl)
theorem dX0_takesHidden_55 : decode cX0_takesHidden 55 = .ok (.iload 8, 2) := dk_21 8 (dk_at dksX0_takesHidden_2 8 rfl rfl)
theorem dX0_takesHidden_57 : decode cX0_takesHidden 57 = .ok (.iload 10, 2) := dk_21 10 (dk_at dksX0_takesHidden_2 10 rfl rfl)
theorem dX0_takesHidden_59 : decode cX0_takesHidden 59 = .ok (.invokestatic 273, 3) := dk_184 1 17 (dk_at dksX0_takesHidden_2 12 rfl rfl)
theorem dX0_takesHidden_62 : decode cX0_takesHidden 62 = .ok (.istore 8, 2) := dk_54 8 (dk_at dksX0_takesHidden_2 15 rfl rfl)
theorem dX0_takesHidden_64 : decode cX0_takesHidden 64 = .ok (.iinc 9 1, 3) := dk_132 9 1 (dk_at dksX0_takesHidden_2 17 rfl rfl)
theorem dX0_takesHidden_67 : decode cX0_takesHidden 67 = .ok (.goto (-47), 3) := dk_167 255 209 (dk_at dksX0_takesHidden_2 20 rfl rfl)
theorem dX0_takesHidden_70 : decode cX0_takesHidden 70 = .ok (.aload_n 0, 1) := dk_42 (dk_at dksX0_takesHidden_2 23 rfl rfl)
theorem dX0_takesHidden_71 : decode cX0_takesHidden 71 = .ok (.getfield 237, 3) := dk_180 0 237 (dk_at dksX0_takesHidden_3 0 rfl rfl)
theorem dX0_takesHidden_74 : decode cX0_takesHidden 74 = .ok (.ifCond .eq 8, 3) := dk_153 0 8 (dk_at dksX0_takesHidden_3 3 rfl rfl)
theorem dX0_takesHidden_77 : decode cX0_takesHidden 77 = .ok (.iload 8, 2) := dk_21 8 (dk_at dksX0_takesHidden_3 6 rfl rfl)
theorem dX0_takesHidden_79 : decode cX0_takesHidden 79 = .ok (.goto 10, 3) := dk_167 0 10 (dk_at dksX0_takesHidden_3 8 rfl rfl)
theorem dX0_takesHidden_82 : decode cX0_takesHidden 82 = .ok (.lload 6, 2) := dk_22 6 (dk_at dksX0_takesHidden_3 11 rfl rfl)
theorem dX0_takesHidden_84 : decode cX0_takesHidden 84 = .ok (.iload 5, 2) := dk_21 5 (dk_at dksX0_takesHidden_3 13 rfl rfl)
theorem dX0_takesHidden_86 : decode cX0_takesHidden 86 = .ok (.i2l, 1) := dk_133 (dk_at dksX0_takesHidden_3 15 rfl rfl)
theorem dX0_takesHidden_87 : decode cX0_takesHidden 87 = .ok (.ldiv, 1) := dk_109 (dk_at dksX0_takesHidden_3 16 rfl rfl)
theorem dX0_takesHidden_88 : decode cX0_takesHidden 88 = .ok (.l2i, 1) := dk_136 (dk_at dksX0_takesHidden_3 17 rfl rfl)
theorem dX0_takesHidden_89 : decode cX0_takesHidden 89 = .ok (.ireturn, 1) := dk_172 (dk_at dksX0_takesHidden_3 18 rfl rfl)
abbrev cX0_latest : ByteArray := prog_1_method_37_code
def yX0_latest : MethodName := ⟨RX0, "latest", "(III)I"⟩
def dkwX0_latest_2 : List UInt8 := [182, 0, 244, 96, 21, 4, 160, 0, 9, 132, 5, 1, 167, 255, 217, 21, 5, 172]
abbrev dktX0_latest_2 : List UInt8 := dkwX0_latest_2 ++ []
def dkwX0_latest_1 : List UInt8 := [29, 42, 180, 0, 35, 180, 0, 241, 96, 162, 0, 29, 21, 5, 4, 96, 42, 27, 28, 21, 5, 4, 96]
abbrev dktX0_latest_1 : List UInt8 := dkwX0_latest_1 ++ dktX0_latest_2
def dkwX0_latest_0 : List UInt8 := [42, 27, 28, 29, 2, 182, 1, 52, 54, 4, 29, 54, 5, 21, 4, 156, 0, 5, 2, 172, 21, 5, 4, 96]
abbrev dktX0_latest_0 : List UInt8 := dkwX0_latest_0 ++ dktX0_latest_1
theorem dksX0_latest_0 : cX0_latest.data.toList.drop 0 = dktX0_latest_0 := by decide +kernel
theorem dksX0_latest_1 : cX0_latest.data.toList.drop 24 = dktX0_latest_1 := dk_seg dksX0_latest_0 24 rfl rfl
theorem dksX0_latest_2 : cX0_latest.data.toList.drop 47 = dktX0_latest_2 := dk_seg dksX0_latest_1 23 rfl rfl
theorem dX0_latest_0 : decode cX0_latest 0 = .ok (.aload_n 0, 1) := dk_42 (dk_at dksX0_latest_0 0 rfl rfl)
theorem dX0_latest_1 : decode cX0_latest 1 = .ok (.iload_n 1, 1) := dk_27 (dk_at dksX0_latest_0 1 rfl rfl)
theorem dX0_latest_2 : decode cX0_latest 2 = .ok (.iload_n 2, 1) := dk_28 (dk_at dksX0_latest_0 2 rfl rfl)
theorem dX0_latest_3 : decode cX0_latest 3 = .ok (.iload_n 3, 1) := dk_29 (dk_at dksX0_latest_0 3 rfl rfl)
theorem dX0_latest_4 : decode cX0_latest 4 = .ok (.iconst (-1), 1) := dk_2 (dk_at dksX0_latest_0 4 rfl rfl)
theorem dX0_latest_5 : decode cX0_latest 5 = .ok (.invokevirtual 308, 3) := dk_182 1 52 (dk_at dksX0_latest_0 5 rfl rfl)
theorem dX0_latest_8 : decode cX0_latest 8 = .ok (.istore 4, 2) := dk_54 4 (dk_at dksX0_latest_0 8 rfl rfl)
theorem dX0_latest_10 : decode cX0_latest 10 = .ok (.iload_n 3, 1) := dk_29 (dk_at dksX0_latest_0 10 rfl rfl)
theorem dX0_latest_11 : decode cX0_latest 11 = .ok (.istore 5, 2) := dk_54 5 (dk_at dksX0_latest_0 11 rfl rfl)
theorem dX0_latest_13 : decode cX0_latest 13 = .ok (.iload 4, 2) := dk_21 4 (dk_at dksX0_latest_0 13 rfl rfl)
theorem dX0_latest_15 : decode cX0_latest 15 = .ok (.ifCond .ge 5, 3) := dk_156 0 5 (dk_at dksX0_latest_0 15 rfl rfl)
theorem dX0_latest_18 : decode cX0_latest 18 = .ok (.iconst (-1), 1) := dk_2 (dk_at dksX0_latest_0 18 rfl rfl)
theorem dX0_latest_19 : decode cX0_latest 19 = .ok (.ireturn, 1) := dk_172 (dk_at dksX0_latest_0 19 rfl rfl)
theorem dX0_latest_20 : decode cX0_latest 20 = .ok (.iload 5, 2) := dk_21 5 (dk_at dksX0_latest_0 20 rfl rfl)
theorem dX0_latest_22 : decode cX0_latest 22 = .ok (.iconst 1, 1) := dk_4 (dk_at dksX0_latest_0 22 rfl rfl)
theorem dX0_latest_23 : decode cX0_latest 23 = .ok (.iadd, 1) := dk_96 (dk_at dksX0_latest_0 23 rfl rfl)
theorem dX0_latest_24 : decode cX0_latest 24 = .ok (.iload_n 3, 1) := dk_29 (dk_at dksX0_latest_1 0 rfl rfl)
theorem dX0_latest_25 : decode cX0_latest 25 = .ok (.aload_n 0, 1) := dk_42 (dk_at dksX0_latest_1 1 rfl rfl)
theorem dX0_latest_26 : decode cX0_latest 26 = .ok (.getfield 35, 3) := dk_180 0 35 (dk_at dksX0_latest_1 2 rfl rfl)
theorem dX0_latest_29 : decode cX0_latest 29 = .ok (.getfield 241, 3) := dk_180 0 241 (dk_at dksX0_latest_1 5 rfl rfl)
theorem dX0_latest_32 : decode cX0_latest 32 = .ok (.iadd, 1) := dk_96 (dk_at dksX0_latest_1 8 rfl rfl)
theorem dX0_latest_33 : decode cX0_latest 33 = .ok (.if_icmp .ge 29, 3) := dk_162 0 29 (dk_at dksX0_latest_1 9 rfl rfl)
theorem dX0_latest_36 : decode cX0_latest 36 = .ok (.iload 5, 2) := dk_21 5 (dk_at dksX0_latest_1 12 rfl rfl)
theorem dX0_latest_38 : decode cX0_latest 38 = .ok (.iconst 1, 1) := dk_4 (dk_at dksX0_latest_1 14 rfl rfl)
theorem dX0_latest_39 : decode cX0_latest 39 = .ok (.iadd, 1) := dk_96 (dk_at dksX0_latest_1 15 rfl rfl)
theorem dX0_latest_40 : decode cX0_latest 40 = .ok (.aload_n 0, 1) := dk_42 (dk_at dksX0_latest_1 16 rfl rfl)
theorem dX0_latest_41 : decode cX0_latest 41 = .ok (.iload_n 1, 1) := dk_27 (dk_at dksX0_latest_1 17 rfl rfl)
theorem dX0_latest_42 : decode cX0_latest 42 = .ok (.iload_n 2, 1) := dk_28 (dk_at dksX0_latest_1 18 rfl rfl)
theorem dX0_latest_43 : decode cX0_latest 43 = .ok (.iload 5, 2) := dk_21 5 (dk_at dksX0_latest_1 19 rfl rfl)
theorem dX0_latest_45 : decode cX0_latest 45 = .ok (.iconst 1, 1) := dk_4 (dk_at dksX0_latest_1 21 rfl rfl)
theorem dX0_latest_46 : decode cX0_latest 46 = .ok (.iadd, 1) := dk_96 (dk_at dksX0_latest_1 22 rfl rfl)
theorem dX0_latest_47 : decode cX0_latest 47 = .ok (.invokevirtual 244, 3) := dk_182 0 244 (dk_at dksX0_latest_2 0 rfl rfl)
theorem dX0_latest_50 : decode cX0_latest 50 = .ok (.iadd, 1) := dk_96 (dk_at dksX0_latest_2 3 rfl rfl)
theorem dX0_latest_51 : decode cX0_latest 51 = .ok (.iload 4, 2) := dk_21 4 (dk_at dksX0_latest_2 4 rfl rfl)
theorem dX0_latest_53 : decode cX0_latest 53 = .ok (.if_icmp .ne 9, 3) := dk_160 0 9 (dk_at dksX0_latest_2 6 rfl rfl)
theorem dX0_latest_56 : decode cX0_latest 56 = .ok (.iinc 5 1, 3) := dk_132 5 1 (dk_at dksX0_latest_2 9 rfl rfl)
theorem dX0_latest_59 : decode cX0_latest 59 = .ok (.goto (-39), 3) := dk_167 255 217 (dk_at dksX0_latest_2 12 rfl rfl)
theorem dX0_latest_62 : decode cX0_latest 62 = .ok (.iload 5, 2) := dk_21 5 (dk_at dksX0_latest_2 15 rfl rfl)
theorem dX0_latest_64 : decode cX0_latest 64 = .ok (.ireturn, 1) := dk_172 (dk_at dksX0_latest_2 17 rfl rfl)
abbrev cX0_turning : ByteArray := prog_1_method_41_code
def yX0_turning : MethodName := ⟨RX0, "turning", "(II)I"⟩
def dkwX0_turning_8 : List UInt8 := [132, 4, 1, 167, 255, 196, 29, 19, 1, 61, 160, 0, 7, 2, 167, 0, 4, 29, 172]
abbrev dktX0_turning_8 : List UInt8 := dkwX0_turning_8 ++ []
def dkwX0_turning_7 : List UInt8 := [180, 0, 134, 4, 100, 21, 4, 21, 5, 182, 1, 55, 46, 184, 1, 58, 62, 132, 5, 1, 167, 255, 211]
abbrev dktX0_turning_7 : List UInt8 := dkwX0_turning_7 ++ dktX0_turning_8
def dkwX0_turning_6 : List UInt8 := [28, 163, 0, 45, 29, 42, 180, 0, 66, 42, 42, 180, 0, 35, 180, 0, 131, 4, 100, 42, 180, 0, 35]
abbrev dktX0_turning_6 : List UInt8 := dkwX0_turning_6 ++ dktX0_turning_7
def dkwX0_turning_5 : List UInt8 := [132, 3, 1, 167, 255, 213, 19, 1, 61, 62, 3, 54, 4, 21, 4, 4, 163, 0, 60, 3, 54, 5, 21, 5]
abbrev dktX0_turning_5 : List UInt8 := dkwX0_turning_5 ++ dktX0_turning_6
def dkwX0_turning_4 : List UInt8 := [180, 0, 35, 180, 0, 131, 162, 0, 17, 42, 21, 4, 29, 28, 182, 1, 66, 132, 4, 1, 167, 255, 233]
abbrev dktX0_turning_4 : List UInt8 := dkwX0_turning_4 ++ dktX0_turning_5
def dkwX0_turning_3 : List UInt8 := [3, 182, 1, 62, 3, 62, 29, 42, 180, 0, 35, 180, 0, 134, 162, 0, 38, 3, 54, 4, 21, 4, 42]
abbrev dktX0_turning_3 : List UInt8 := dkwX0_turning_3 ++ dktX0_turning_4
def dkwX0_turning_2 : List UInt8 := [19, 1, 61, 79, 132, 3, 1, 167, 255, 235, 42, 3, 3, 3, 27, 3, 182, 1, 62, 42, 3, 3, 4, 27]
abbrev dktX0_turning_2 : List UInt8 := dkwX0_turning_2 ++ dktX0_turning_3
def dkwX0_turning_1 : List UInt8 := [182, 1, 22, 153, 0, 5, 27, 172, 3, 62, 29, 42, 180, 0, 66, 190, 162, 0, 18, 42, 180, 0, 66, 29]
abbrev dktX0_turning_1 : List UInt8 := dkwX0_turning_1 ++ dktX0_turning_2
def dkwX0_turning_0 : List UInt8 := [27, 184, 0, 173, 153, 0, 13, 28, 3, 16, 12, 184, 0, 127, 154, 0, 5, 2, 172, 42, 3, 3]
abbrev dktX0_turning_0 : List UInt8 := dkwX0_turning_0 ++ dktX0_turning_1
theorem dksX0_turning_0 : cX0_turning.data.toList.drop 0 = dktX0_turning_0 := by decide +kernel
theorem dksX0_turning_1 : cX0_turning.data.toList.drop 22 = dktX0_turning_1 := dk_seg dksX0_turning_0 22 rfl rfl
theorem dksX0_turning_2 : cX0_turning.data.toList.drop 46 = dktX0_turning_2 := dk_seg dksX0_turning_1 24 rfl rfl
theorem dksX0_turning_3 : cX0_turning.data.toList.drop 70 = dktX0_turning_3 := dk_seg dksX0_turning_2 24 rfl rfl
theorem dksX0_turning_4 : cX0_turning.data.toList.drop 93 = dktX0_turning_4 := dk_seg dksX0_turning_3 23 rfl rfl
theorem dksX0_turning_5 : cX0_turning.data.toList.drop 116 = dktX0_turning_5 := dk_seg dksX0_turning_4 23 rfl rfl
theorem dksX0_turning_6 : cX0_turning.data.toList.drop 140 = dktX0_turning_6 := dk_seg dksX0_turning_5 24 rfl rfl
theorem dksX0_turning_7 : cX0_turning.data.toList.drop 163 = dktX0_turning_7 := dk_seg dksX0_turning_6 23 rfl rfl
theorem dksX0_turning_8 : cX0_turning.data.toList.drop 186 = dktX0_turning_8 := dk_seg dksX0_turning_7 23 rfl rfl
theorem dX0_turning_0 : decode cX0_turning 0 = .ok (.iload_n 1, 1) := dk_27 (dk_at dksX0_turning_0 0 rfl rfl)
theorem dX0_turning_1 : decode cX0_turning 1 = .ok (.invokestatic 173, 3) := dk_184 0 173 (dk_at dksX0_turning_0 1 rfl rfl)
theorem dX0_turning_4 : decode cX0_turning 4 = .ok (.ifCond .eq 13, 3) := dk_153 0 13 (dk_at dksX0_turning_0 4 rfl rfl)
theorem dX0_turning_7 : decode cX0_turning 7 = .ok (.iload_n 2, 1) := dk_28 (dk_at dksX0_turning_0 7 rfl rfl)
theorem dX0_turning_8 : decode cX0_turning 8 = .ok (.iconst 0, 1) := dk_3 (dk_at dksX0_turning_0 8 rfl rfl)
theorem dX0_turning_9 : decode cX0_turning 9 = .ok (.bipush 12, 2) := dk_16 12 (dk_at dksX0_turning_0 9 rfl rfl)
theorem dX0_turning_11 : decode cX0_turning 11 = .ok (.invokestatic 127, 3) := dk_184 0 127 (dk_at dksX0_turning_0 11 rfl rfl)
theorem dX0_turning_14 : decode cX0_turning 14 = .ok (.ifCond .ne 5, 3) := dk_154 0 5 (dk_at dksX0_turning_0 14 rfl rfl)
theorem dX0_turning_17 : decode cX0_turning 17 = .ok (.iconst (-1), 1) := dk_2 (dk_at dksX0_turning_0 17 rfl rfl)
theorem dX0_turning_18 : decode cX0_turning 18 = .ok (.ireturn, 1) := dk_172 (dk_at dksX0_turning_0 18 rfl rfl)
theorem dX0_turning_19 : decode cX0_turning 19 = .ok (.aload_n 0, 1) := dk_42 (dk_at dksX0_turning_0 19 rfl rfl)
theorem dX0_turning_20 : decode cX0_turning 20 = .ok (.iconst 0, 1) := dk_3 (dk_at dksX0_turning_0 20 rfl rfl)
theorem dX0_turning_21 : decode cX0_turning 21 = .ok (.iconst 0, 1) := dk_3 (dk_at dksX0_turning_0 21 rfl rfl)
theorem dX0_turning_22 : decode cX0_turning 22 = .ok (.invokevirtual 278, 3) := dk_182 1 22 (dk_at dksX0_turning_1 0 rfl rfl)
theorem dX0_turning_25 : decode cX0_turning 25 = .ok (.ifCond .eq 5, 3) := dk_153 0 5 (dk_at dksX0_turning_1 3 rfl rfl)
theorem dX0_turning_28 : decode cX0_turning 28 = .ok (.iload_n 1, 1) := dk_27 (dk_at dksX0_turning_1 6 rfl rfl)
theorem dX0_turning_29 : decode cX0_turning 29 = .ok (.ireturn, 1) := dk_172 (dk_at dksX0_turning_1 7 rfl rfl)
theorem dX0_turning_30 : decode cX0_turning 30 = .ok (.iconst 0, 1) := dk_3 (dk_at dksX0_turning_1 8 rfl rfl)
theorem dX0_turning_31 : decode cX0_turning 31 = .ok (.istore_n 3, 1) := dk_62 (dk_at dksX0_turning_1 9 rfl rfl)
theorem dX0_turning_32 : decode cX0_turning 32 = .ok (.iload_n 3, 1) := dk_29 (dk_at dksX0_turning_1 10 rfl rfl)
theorem dX0_turning_33 : decode cX0_turning 33 = .ok (.aload_n 0, 1) := dk_42 (dk_at dksX0_turning_1 11 rfl rfl)
theorem dX0_turning_34 : decode cX0_turning 34 = .ok (.getfield 66, 3) := dk_180 0 66 (dk_at dksX0_turning_1 12 rfl rfl)
theorem dX0_turning_37 : decode cX0_turning 37 = .ok (.arraylength, 1) := dk_190 (dk_at dksX0_turning_1 15 rfl rfl)
theorem dX0_turning_38 : decode cX0_turning 38 = .ok (.if_icmp .ge 18, 3) := dk_162 0 18 (dk_at dksX0_turning_1 16 rfl rfl)
theorem dX0_turning_41 : decode cX0_turning 41 = .ok (.aload_n 0, 1) := dk_42 (dk_at dksX0_turning_1 19 rfl rfl)
theorem dX0_turning_42 : decode cX0_turning 42 = .ok (.getfield 66, 3) := dk_180 0 66 (dk_at dksX0_turning_1 20 rfl rfl)
theorem dX0_turning_45 : decode cX0_turning 45 = .ok (.iload_n 3, 1) := dk_29 (dk_at dksX0_turning_1 23 rfl rfl)
theorem dX0_turning_46 : decode cX0_turning 46 = .ok (.ldc_w 317, 3) := dk_19 1 61 (dk_at dksX0_turning_2 0 rfl rfl)
theorem dX0_turning_49 : decode cX0_turning 49 = .ok (.iastore, 1) := dk_79 (dk_at dksX0_turning_2 3 rfl rfl)
theorem dX0_turning_50 : decode cX0_turning 50 = .ok (.iinc 3 1, 3) := dk_132 3 1 (dk_at dksX0_turning_2 4 rfl rfl)
theorem dX0_turning_53 : decode cX0_turning 53 = .ok (.goto (-21), 3) := dk_167 255 235 (dk_at dksX0_turning_2 7 rfl rfl)
theorem dX0_turning_56 : decode cX0_turning 56 = .ok (.aload_n 0, 1) := dk_42 (dk_at dksX0_turning_2 10 rfl rfl)
theorem dX0_turning_57 : decode cX0_turning 57 = .ok (.iconst 0, 1) := dk_3 (dk_at dksX0_turning_2 11 rfl rfl)
theorem dX0_turning_58 : decode cX0_turning 58 = .ok (.iconst 0, 1) := dk_3 (dk_at dksX0_turning_2 12 rfl rfl)
theorem dX0_turning_59 : decode cX0_turning 59 = .ok (.iconst 0, 1) := dk_3 (dk_at dksX0_turning_2 13 rfl rfl)
theorem dX0_turning_60 : decode cX0_turning 60 = .ok (.iload_n 1, 1) := dk_27 (dk_at dksX0_turning_2 14 rfl rfl)
theorem dX0_turning_61 : decode cX0_turning 61 = .ok (.iconst 0, 1) := dk_3 (dk_at dksX0_turning_2 15 rfl rfl)
theorem dX0_turning_62 : decode cX0_turning 62 = .ok (.invokevirtual 318, 3) := dk_182 1 62 (dk_at dksX0_turning_2 16 rfl rfl)
theorem dX0_turning_65 : decode cX0_turning 65 = .ok (.aload_n 0, 1) := dk_42 (dk_at dksX0_turning_2 19 rfl rfl)
theorem dX0_turning_66 : decode cX0_turning 66 = .ok (.iconst 0, 1) := dk_3 (dk_at dksX0_turning_2 20 rfl rfl)
theorem dX0_turning_67 : decode cX0_turning 67 = .ok (.iconst 0, 1) := dk_3 (dk_at dksX0_turning_2 21 rfl rfl)
theorem dX0_turning_68 : decode cX0_turning 68 = .ok (.iconst 1, 1) := dk_4 (dk_at dksX0_turning_2 22 rfl rfl)
theorem dX0_turning_69 : decode cX0_turning 69 = .ok (.iload_n 1, 1) := dk_27 (dk_at dksX0_turning_2 23 rfl rfl)
theorem dX0_turning_70 : decode cX0_turning 70 = .ok (.iconst 0, 1) := dk_3 (dk_at dksX0_turning_3 0 rfl rfl)
theorem dX0_turning_71 : decode cX0_turning 71 = .ok (.invokevirtual 318, 3) := dk_182 1 62 (dk_at dksX0_turning_3 1 rfl rfl)
theorem dX0_turning_74 : decode cX0_turning 74 = .ok (.iconst 0, 1) := dk_3 (dk_at dksX0_turning_3 4 rfl rfl)
theorem dX0_turning_75 : decode cX0_turning 75 = .ok (.istore_n 3, 1) := dk_62 (dk_at dksX0_turning_3 5 rfl rfl)
theorem dX0_turning_76 : decode cX0_turning 76 = .ok (.iload_n 3, 1) := dk_29 (dk_at dksX0_turning_3 6 rfl rfl)
theorem dX0_turning_77 : decode cX0_turning 77 = .ok (.aload_n 0, 1) := dk_42 (dk_at dksX0_turning_3 7 rfl rfl)
theorem dX0_turning_78 : decode cX0_turning 78 = .ok (.getfield 35, 3) := dk_180 0 35 (dk_at dksX0_turning_3 8 rfl rfl)
theorem dX0_turning_81 : decode cX0_turning 81 = .ok (.getfield 134, 3) := dk_180 0 134 (dk_at dksX0_turning_3 11 rfl rfl)
theorem dX0_turning_84 : decode cX0_turning 84 = .ok (.if_icmp .ge 38, 3) := dk_162 0 38 (dk_at dksX0_turning_3 14 rfl rfl)
theorem dX0_turning_87 : decode cX0_turning 87 = .ok (.iconst 0, 1) := dk_3 (dk_at dksX0_turning_3 17 rfl rfl)
theorem dX0_turning_88 : decode cX0_turning 88 = .ok (.istore 4, 2) := dk_54 4 (dk_at dksX0_turning_3 18 rfl rfl)
theorem dX0_turning_90 : decode cX0_turning 90 = .ok (.iload 4, 2) := dk_21 4 (dk_at dksX0_turning_3 20 rfl rfl)
theorem dX0_turning_92 : decode cX0_turning 92 = .ok (.aload_n 0, 1) := dk_42 (dk_at dksX0_turning_3 22 rfl rfl)
theorem dX0_turning_93 : decode cX0_turning 93 = .ok (.getfield 35, 3) := dk_180 0 35 (dk_at dksX0_turning_4 0 rfl rfl)
theorem dX0_turning_96 : decode cX0_turning 96 = .ok (.getfield 131, 3) := dk_180 0 131 (dk_at dksX0_turning_4 3 rfl rfl)
theorem dX0_turning_99 : decode cX0_turning 99 = .ok (.if_icmp .ge 17, 3) := dk_162 0 17 (dk_at dksX0_turning_4 6 rfl rfl)
theorem dX0_turning_102 : decode cX0_turning 102 = .ok (.aload_n 0, 1) := dk_42 (dk_at dksX0_turning_4 9 rfl rfl)
theorem dX0_turning_103 : decode cX0_turning 103 = .ok (.iload 4, 2) := dk_21 4 (dk_at dksX0_turning_4 10 rfl rfl)
theorem dX0_turning_105 : decode cX0_turning 105 = .ok (.iload_n 3, 1) := dk_29 (dk_at dksX0_turning_4 12 rfl rfl)
theorem dX0_turning_106 : decode cX0_turning 106 = .ok (.iload_n 2, 1) := dk_28 (dk_at dksX0_turning_4 13 rfl rfl)
theorem dX0_turning_107 : decode cX0_turning 107 = .ok (.invokevirtual 322, 3) := dk_182 1 66 (dk_at dksX0_turning_4 14 rfl rfl)
theorem dX0_turning_110 : decode cX0_turning 110 = .ok (.iinc 4 1, 3) := dk_132 4 1 (dk_at dksX0_turning_4 17 rfl rfl)
theorem dX0_turning_113 : decode cX0_turning 113 = .ok (.goto (-23), 3) := dk_167 255 233 (dk_at dksX0_turning_4 20 rfl rfl)
theorem dX0_turning_116 : decode cX0_turning 116 = .ok (.iinc 3 1, 3) := dk_132 3 1 (dk_at dksX0_turning_5 0 rfl rfl)
theorem dX0_turning_119 : decode cX0_turning 119 = .ok (.goto (-43), 3) := dk_167 255 213 (dk_at dksX0_turning_5 3 rfl rfl)
theorem dX0_turning_122 : decode cX0_turning 122 = .ok (.ldc_w 317, 3) := dk_19 1 61 (dk_at dksX0_turning_5 6 rfl rfl)
theorem dX0_turning_125 : decode cX0_turning 125 = .ok (.istore_n 3, 1) := dk_62 (dk_at dksX0_turning_5 9 rfl rfl)
theorem dX0_turning_126 : decode cX0_turning 126 = .ok (.iconst 0, 1) := dk_3 (dk_at dksX0_turning_5 10 rfl rfl)
theorem dX0_turning_127 : decode cX0_turning 127 = .ok (.istore 4, 2) := dk_54 4 (dk_at dksX0_turning_5 11 rfl rfl)
theorem dX0_turning_129 : decode cX0_turning 129 = .ok (.iload 4, 2) := dk_21 4 (dk_at dksX0_turning_5 13 rfl rfl)
theorem dX0_turning_131 : decode cX0_turning 131 = .ok (.iconst 1, 1) := dk_4 (dk_at dksX0_turning_5 15 rfl rfl)
theorem dX0_turning_132 : decode cX0_turning 132 = .ok (.if_icmp .gt 60, 3) := dk_163 0 60 (dk_at dksX0_turning_5 16 rfl rfl)
theorem dX0_turning_135 : decode cX0_turning 135 = .ok (.iconst 0, 1) := dk_3 (dk_at dksX0_turning_5 19 rfl rfl)
theorem dX0_turning_136 : decode cX0_turning 136 = .ok (.istore 5, 2) := dk_54 5 (dk_at dksX0_turning_5 20 rfl rfl)
theorem dX0_turning_138 : decode cX0_turning 138 = .ok (.iload 5, 2) := dk_21 5 (dk_at dksX0_turning_5 22 rfl rfl)
theorem dX0_turning_140 : decode cX0_turning 140 = .ok (.iload_n 2, 1) := dk_28 (dk_at dksX0_turning_6 0 rfl rfl)
theorem dX0_turning_141 : decode cX0_turning 141 = .ok (.if_icmp .gt 45, 3) := dk_163 0 45 (dk_at dksX0_turning_6 1 rfl rfl)
theorem dX0_turning_144 : decode cX0_turning 144 = .ok (.iload_n 3, 1) := dk_29 (dk_at dksX0_turning_6 4 rfl rfl)
theorem dX0_turning_145 : decode cX0_turning 145 = .ok (.aload_n 0, 1) := dk_42 (dk_at dksX0_turning_6 5 rfl rfl)
theorem dX0_turning_146 : decode cX0_turning 146 = .ok (.getfield 66, 3) := dk_180 0 66 (dk_at dksX0_turning_6 6 rfl rfl)
theorem dX0_turning_149 : decode cX0_turning 149 = .ok (.aload_n 0, 1) := dk_42 (dk_at dksX0_turning_6 9 rfl rfl)
theorem dX0_turning_150 : decode cX0_turning 150 = .ok (.aload_n 0, 1) := dk_42 (dk_at dksX0_turning_6 10 rfl rfl)
theorem dX0_turning_151 : decode cX0_turning 151 = .ok (.getfield 35, 3) := dk_180 0 35 (dk_at dksX0_turning_6 11 rfl rfl)
theorem dX0_turning_154 : decode cX0_turning 154 = .ok (.getfield 131, 3) := dk_180 0 131 (dk_at dksX0_turning_6 14 rfl rfl)
theorem dX0_turning_157 : decode cX0_turning 157 = .ok (.iconst 1, 1) := dk_4 (dk_at dksX0_turning_6 17 rfl rfl)
theorem dX0_turning_158 : decode cX0_turning 158 = .ok (.isub, 1) := dk_100 (dk_at dksX0_turning_6 18 rfl rfl)
theorem dX0_turning_159 : decode cX0_turning 159 = .ok (.aload_n 0, 1) := dk_42 (dk_at dksX0_turning_6 19 rfl rfl)
theorem dX0_turning_160 : decode cX0_turning 160 = .ok (.getfield 35, 3) := dk_180 0 35 (dk_at dksX0_turning_6 20 rfl rfl)
theorem dX0_turning_163 : decode cX0_turning 163 = .ok (.getfield 134, 3) := dk_180 0 134 (dk_at dksX0_turning_7 0 rfl rfl)
theorem dX0_turning_166 : decode cX0_turning 166 = .ok (.iconst 1, 1) := dk_4 (dk_at dksX0_turning_7 3 rfl rfl)
theorem dX0_turning_167 : decode cX0_turning 167 = .ok (.isub, 1) := dk_100 (dk_at dksX0_turning_7 4 rfl rfl)
theorem dX0_turning_168 : decode cX0_turning 168 = .ok (.iload 4, 2) := dk_21 4 (dk_at dksX0_turning_7 5 rfl rfl)
theorem dX0_turning_170 : decode cX0_turning 170 = .ok (.iload 5, 2) := dk_21 5 (dk_at dksX0_turning_7 7 rfl rfl)
theorem dX0_turning_172 : decode cX0_turning 172 = .ok (.invokevirtual 311, 3) := dk_182 1 55 (dk_at dksX0_turning_7 9 rfl rfl)
theorem dX0_turning_175 : decode cX0_turning 175 = .ok (.iaload, 1) := dk_46 (dk_at dksX0_turning_7 12 rfl rfl)
theorem dX0_turning_176 : decode cX0_turning 176 = .ok (.invokestatic 314, 3) := dk_184 1 58 (dk_at dksX0_turning_7 13 rfl rfl)
theorem dX0_turning_179 : decode cX0_turning 179 = .ok (.istore_n 3, 1) := dk_62 (dk_at dksX0_turning_7 16 rfl rfl)
theorem dX0_turning_180 : decode cX0_turning 180 = .ok (.iinc 5 1, 3) := dk_132 5 1 (dk_at dksX0_turning_7 17 rfl rfl)
theorem dX0_turning_183 : decode cX0_turning 183 = .ok (.goto (-45), 3) := dk_167 255 211 (dk_at dksX0_turning_7 20 rfl rfl)
theorem dX0_turning_186 : decode cX0_turning 186 = .ok (.iinc 4 1, 3) := dk_132 4 1 (dk_at dksX0_turning_8 0 rfl rfl)
theorem dX0_turning_189 : decode cX0_turning 189 = .ok (.goto (-60), 3) := dk_167 255 196 (dk_at dksX0_turning_8 3 rfl rfl)
theorem dX0_turning_192 : decode cX0_turning 192 = .ok (.iload_n 3, 1) := dk_29 (dk_at dksX0_turning_8 6 rfl rfl)
theorem dX0_turning_193 : decode cX0_turning 193 = .ok (.ldc_w 317, 3) := dk_19 1 61 (dk_at dksX0_turning_8 7 rfl rfl)
theorem dX0_turning_196 : decode cX0_turning 196 = .ok (.if_icmp .ne 7, 3) := dk_160 0 7 (dk_at dksX0_turning_8 10 rfl rfl)
theorem dX0_turning_199 : decode cX0_turning 199 = .ok (.iconst (-1), 1) := dk_2 (dk_at dksX0_turning_8 13 rfl rfl)
theorem dX0_turning_200 : decode cX0_turning 200 = .ok (.goto 4, 3) := dk_167 0 4 (dk_at dksX0_turning_8 14 rfl rfl)
theorem dX0_turning_203 : decode cX0_turning 203 = .ok (.iload_n 3, 1) := dk_29 (dk_at dksX0_turning_8 17 rfl rfl)
theorem dX0_turning_204 : decode cX0_turning 204 = .ok (.ireturn, 1) := dk_172 (dk_at dksX0_turning_8 18 rfl rfl)
abbrev cX0_turnsOn : ByteArray := prog_1_method_39_code
def yX0_turnsOn : MethodName := ⟨RX0, "turnsOn", "(IIIII)V"⟩
def dkwX0_turnsOn_3 : List UInt8 := [182, 0, 217, 96, 184, 1, 58, 79, 177]
abbrev dktX0_turnsOn_3 : List UInt8 := dkwX0_turnsOn_3 ++ []
def dkwX0_turnsOn_2 : List UInt8 := [42, 180, 0, 66, 21, 7, 42, 180, 0, 66, 21, 7, 46, 21, 4, 21, 6, 96, 42, 180, 0, 35]
abbrev dktX0_turnsOn_2 : List UInt8 := dkwX0_turnsOn_2 ++ dktX0_turnsOn_3
def dkwX0_turnsOn_1 : List UInt8 := [96, 167, 0, 4, 27, 29, 154, 0, 7, 28, 167, 0, 6, 28, 4, 96, 29, 21, 5, 182, 1, 55, 54, 7]
abbrev dktX0_turnsOn_1 : List UInt8 := dkwX0_turnsOn_1 ++ dktX0_turnsOn_2
def dkwX0_turnsOn_0 : List UInt8 := [42, 27, 28, 29, 21, 4, 182, 0, 191, 54, 6, 21, 6, 156, 0, 4, 177, 42, 29, 154, 0, 9, 27, 4]
abbrev dktX0_turnsOn_0 : List UInt8 := dkwX0_turnsOn_0 ++ dktX0_turnsOn_1
theorem dksX0_turnsOn_0 : cX0_turnsOn.data.toList.drop 0 = dktX0_turnsOn_0 := by decide +kernel
theorem dksX0_turnsOn_1 : cX0_turnsOn.data.toList.drop 24 = dktX0_turnsOn_1 := dk_seg dksX0_turnsOn_0 24 rfl rfl
theorem dksX0_turnsOn_2 : cX0_turnsOn.data.toList.drop 48 = dktX0_turnsOn_2 := dk_seg dksX0_turnsOn_1 24 rfl rfl
theorem dksX0_turnsOn_3 : cX0_turnsOn.data.toList.drop 70 = dktX0_turnsOn_3 := dk_seg dksX0_turnsOn_2 22 rfl rfl
theorem dX0_turnsOn_0 : decode cX0_turnsOn 0 = .ok (.aload_n 0, 1) := dk_42 (dk_at dksX0_turnsOn_0 0 rfl rfl)
theorem dX0_turnsOn_1 : decode cX0_turnsOn 1 = .ok (.iload_n 1, 1) := dk_27 (dk_at dksX0_turnsOn_0 1 rfl rfl)
theorem dX0_turnsOn_2 : decode cX0_turnsOn 2 = .ok (.iload_n 2, 1) := dk_28 (dk_at dksX0_turnsOn_0 2 rfl rfl)
theorem dX0_turnsOn_3 : decode cX0_turnsOn 3 = .ok (.iload_n 3, 1) := dk_29 (dk_at dksX0_turnsOn_0 3 rfl rfl)
theorem dX0_turnsOn_4 : decode cX0_turnsOn 4 = .ok (.iload 4, 2) := dk_21 4 (dk_at dksX0_turnsOn_0 4 rfl rfl)
theorem dX0_turnsOn_6 : decode cX0_turnsOn 6 = .ok (.invokevirtual 191, 3) := dk_182 0 191 (dk_at dksX0_turnsOn_0 6 rfl rfl)
theorem dX0_turnsOn_9 : decode cX0_turnsOn 9 = .ok (.istore 6, 2) := dk_54 6 (dk_at dksX0_turnsOn_0 9 rfl rfl)
theorem dX0_turnsOn_11 : decode cX0_turnsOn 11 = .ok (.iload 6, 2) := dk_21 6 (dk_at dksX0_turnsOn_0 11 rfl rfl)
theorem dX0_turnsOn_13 : decode cX0_turnsOn 13 = .ok (.ifCond .ge 4, 3) := dk_156 0 4 (dk_at dksX0_turnsOn_0 13 rfl rfl)
theorem dX0_turnsOn_16 : decode cX0_turnsOn 16 = .ok (.return_, 1) := dk_177 (dk_at dksX0_turnsOn_0 16 rfl rfl)
theorem dX0_turnsOn_17 : decode cX0_turnsOn 17 = .ok (.aload_n 0, 1) := dk_42 (dk_at dksX0_turnsOn_0 17 rfl rfl)
theorem dX0_turnsOn_18 : decode cX0_turnsOn 18 = .ok (.iload_n 3, 1) := dk_29 (dk_at dksX0_turnsOn_0 18 rfl rfl)
theorem dX0_turnsOn_19 : decode cX0_turnsOn 19 = .ok (.ifCond .ne 9, 3) := dk_154 0 9 (dk_at dksX0_turnsOn_0 19 rfl rfl)
theorem dX0_turnsOn_22 : decode cX0_turnsOn 22 = .ok (.iload_n 1, 1) := dk_27 (dk_at dksX0_turnsOn_0 22 rfl rfl)
theorem dX0_turnsOn_23 : decode cX0_turnsOn 23 = .ok (.iconst 1, 1) := dk_4 (dk_at dksX0_turnsOn_0 23 rfl rfl)
theorem dX0_turnsOn_24 : decode cX0_turnsOn 24 = .ok (.iadd, 1) := dk_96 (dk_at dksX0_turnsOn_1 0 rfl rfl)
theorem dX0_turnsOn_25 : decode cX0_turnsOn 25 = .ok (.goto 4, 3) := dk_167 0 4 (dk_at dksX0_turnsOn_1 1 rfl rfl)
theorem dX0_turnsOn_28 : decode cX0_turnsOn 28 = .ok (.iload_n 1, 1) := dk_27 (dk_at dksX0_turnsOn_1 4 rfl rfl)
theorem dX0_turnsOn_29 : decode cX0_turnsOn 29 = .ok (.iload_n 3, 1) := dk_29 (dk_at dksX0_turnsOn_1 5 rfl rfl)
theorem dX0_turnsOn_30 : decode cX0_turnsOn 30 = .ok (.ifCond .ne 7, 3) := dk_154 0 7 (dk_at dksX0_turnsOn_1 6 rfl rfl)
theorem dX0_turnsOn_33 : decode cX0_turnsOn 33 = .ok (.iload_n 2, 1) := dk_28 (dk_at dksX0_turnsOn_1 9 rfl rfl)
theorem dX0_turnsOn_34 : decode cX0_turnsOn 34 = .ok (.goto 6, 3) := dk_167 0 6 (dk_at dksX0_turnsOn_1 10 rfl rfl)
theorem dX0_turnsOn_37 : decode cX0_turnsOn 37 = .ok (.iload_n 2, 1) := dk_28 (dk_at dksX0_turnsOn_1 13 rfl rfl)
theorem dX0_turnsOn_38 : decode cX0_turnsOn 38 = .ok (.iconst 1, 1) := dk_4 (dk_at dksX0_turnsOn_1 14 rfl rfl)
theorem dX0_turnsOn_39 : decode cX0_turnsOn 39 = .ok (.iadd, 1) := dk_96 (dk_at dksX0_turnsOn_1 15 rfl rfl)
theorem dX0_turnsOn_40 : decode cX0_turnsOn 40 = .ok (.iload_n 3, 1) := dk_29 (dk_at dksX0_turnsOn_1 16 rfl rfl)
theorem dX0_turnsOn_41 : decode cX0_turnsOn 41 = .ok (.iload 5, 2) := dk_21 5 (dk_at dksX0_turnsOn_1 17 rfl rfl)
theorem dX0_turnsOn_43 : decode cX0_turnsOn 43 = .ok (.invokevirtual 311, 3) := dk_182 1 55 (dk_at dksX0_turnsOn_1 19 rfl rfl)
theorem dX0_turnsOn_46 : decode cX0_turnsOn 46 = .ok (.istore 7, 2) := dk_54 7 (dk_at dksX0_turnsOn_1 22 rfl rfl)
theorem dX0_turnsOn_48 : decode cX0_turnsOn 48 = .ok (.aload_n 0, 1) := dk_42 (dk_at dksX0_turnsOn_2 0 rfl rfl)
theorem dX0_turnsOn_49 : decode cX0_turnsOn 49 = .ok (.getfield 66, 3) := dk_180 0 66 (dk_at dksX0_turnsOn_2 1 rfl rfl)
theorem dX0_turnsOn_52 : decode cX0_turnsOn 52 = .ok (.iload 7, 2) := dk_21 7 (dk_at dksX0_turnsOn_2 4 rfl rfl)
theorem dX0_turnsOn_54 : decode cX0_turnsOn 54 = .ok (.aload_n 0, 1) := dk_42 (dk_at dksX0_turnsOn_2 6 rfl rfl)
theorem dX0_turnsOn_55 : decode cX0_turnsOn 55 = .ok (.getfield 66, 3) := dk_180 0 66 (dk_at dksX0_turnsOn_2 7 rfl rfl)
theorem dX0_turnsOn_58 : decode cX0_turnsOn 58 = .ok (.iload 7, 2) := dk_21 7 (dk_at dksX0_turnsOn_2 10 rfl rfl)
theorem dX0_turnsOn_60 : decode cX0_turnsOn 60 = .ok (.iaload, 1) := dk_46 (dk_at dksX0_turnsOn_2 12 rfl rfl)
theorem dX0_turnsOn_61 : decode cX0_turnsOn 61 = .ok (.iload 4, 2) := dk_21 4 (dk_at dksX0_turnsOn_2 13 rfl rfl)
theorem dX0_turnsOn_63 : decode cX0_turnsOn 63 = .ok (.iload 6, 2) := dk_21 6 (dk_at dksX0_turnsOn_2 15 rfl rfl)
theorem dX0_turnsOn_65 : decode cX0_turnsOn 65 = .ok (.iadd, 1) := dk_96 (dk_at dksX0_turnsOn_2 17 rfl rfl)
theorem dX0_turnsOn_66 : decode cX0_turnsOn 66 = .ok (.aload_n 0, 1) := dk_42 (dk_at dksX0_turnsOn_2 18 rfl rfl)
theorem dX0_turnsOn_67 : decode cX0_turnsOn 67 = .ok (.getfield 35, 3) := dk_180 0 35 (dk_at dksX0_turnsOn_2 19 rfl rfl)
theorem dX0_turnsOn_70 : decode cX0_turnsOn 70 = .ok (.invokevirtual 217, 3) := dk_182 0 217 (dk_at dksX0_turnsOn_3 0 rfl rfl)
theorem dX0_turnsOn_73 : decode cX0_turnsOn 73 = .ok (.iadd, 1) := dk_96 (dk_at dksX0_turnsOn_3 3 rfl rfl)
theorem dX0_turnsOn_74 : decode cX0_turnsOn 74 = .ok (.invokestatic 314, 3) := dk_184 1 58 (dk_at dksX0_turnsOn_3 4 rfl rfl)
theorem dX0_turnsOn_77 : decode cX0_turnsOn 77 = .ok (.iastore, 1) := dk_79 (dk_at dksX0_turnsOn_3 7 rfl rfl)
theorem dX0_turnsOn_78 : decode cX0_turnsOn 78 = .ok (.return_, 1) := dk_177 (dk_at dksX0_turnsOn_3 8 rfl rfl)
abbrev cX0_comesAt : ByteArray := prog_1_method_38_code
def yX0_comesAt : MethodName := ⟨RX0, "comesAt", "(IIII)I"⟩
def dkwX0_comesAt_0 : List UInt8 := [28, 16, 6, 104, 27, 96, 5, 104, 29, 96, 16, 13, 104, 21, 4, 96, 172]
abbrev dktX0_comesAt_0 : List UInt8 := dkwX0_comesAt_0 ++ []
theorem dksX0_comesAt_0 : cX0_comesAt.data.toList.drop 0 = dktX0_comesAt_0 := by decide +kernel
theorem dX0_comesAt_0 : decode cX0_comesAt 0 = .ok (.iload_n 2, 1) := dk_28 (dk_at dksX0_comesAt_0 0 rfl rfl)
theorem dX0_comesAt_1 : decode cX0_comesAt 1 = .ok (.bipush 6, 2) := dk_16 6 (dk_at dksX0_comesAt_0 1 rfl rfl)
theorem dX0_comesAt_3 : decode cX0_comesAt 3 = .ok (.imul, 1) := dk_104 (dk_at dksX0_comesAt_0 3 rfl rfl)
theorem dX0_comesAt_4 : decode cX0_comesAt 4 = .ok (.iload_n 1, 1) := dk_27 (dk_at dksX0_comesAt_0 4 rfl rfl)
theorem dX0_comesAt_5 : decode cX0_comesAt 5 = .ok (.iadd, 1) := dk_96 (dk_at dksX0_comesAt_0 5 rfl rfl)
theorem dX0_comesAt_6 : decode cX0_comesAt 6 = .ok (.iconst 2, 1) := dk_5 (dk_at dksX0_comesAt_0 6 rfl rfl)
theorem dX0_comesAt_7 : decode cX0_comesAt 7 = .ok (.imul, 1) := dk_104 (dk_at dksX0_comesAt_0 7 rfl rfl)
theorem dX0_comesAt_8 : decode cX0_comesAt 8 = .ok (.iload_n 3, 1) := dk_29 (dk_at dksX0_comesAt_0 8 rfl rfl)
theorem dX0_comesAt_9 : decode cX0_comesAt 9 = .ok (.iadd, 1) := dk_96 (dk_at dksX0_comesAt_0 9 rfl rfl)
theorem dX0_comesAt_10 : decode cX0_comesAt 10 = .ok (.bipush 13, 2) := dk_16 13 (dk_at dksX0_comesAt_0 10 rfl rfl)
theorem dX0_comesAt_12 : decode cX0_comesAt 12 = .ok (.imul, 1) := dk_104 (dk_at dksX0_comesAt_0 12 rfl rfl)
theorem dX0_comesAt_13 : decode cX0_comesAt 13 = .ok (.iload 4, 2) := dk_21 4 (dk_at dksX0_comesAt_0 13 rfl rfl)
theorem dX0_comesAt_15 : decode cX0_comesAt 15 = .ok (.iadd, 1) := dk_96 (dk_at dksX0_comesAt_0 15 rfl rfl)
theorem dX0_comesAt_16 : decode cX0_comesAt 16 = .ok (.ireturn, 1) := dk_172 (dk_at dksX0_comesAt_0 16 rfl rfl)
abbrev cX0_turnsFrom : ByteArray := prog_1_method_40_code
def yX0_turnsFrom : MethodName := ⟨RX0, "turnsFrom", "(III)V"⟩
def dkwX0_turnsFrom_3 : List UInt8 := [21, 6, 21, 5, 4, 96, 182, 1, 62, 132, 5, 1, 167, 255, 185, 132, 4, 1, 167, 255, 170, 177]
abbrev dktX0_turnsFrom_3 : List UInt8 := dkwX0_turnsFrom_3 ++ []
def dkwX0_turnsFrom_2 : List UInt8 := [28, 21, 4, 21, 6, 21, 5, 182, 1, 62, 21, 5, 29, 162, 0, 19, 42, 27, 28, 4, 21, 4, 100]
abbrev dktX0_turnsFrom_2 : List UInt8 := dkwX0_turnsFrom_2 ++ dktX0_turnsFrom_3
def dkwX0_turnsFrom_1 : List UInt8 := [28, 21, 4, 21, 5, 182, 1, 55, 46, 54, 6, 21, 6, 19, 1, 61, 160, 0, 6, 167, 0, 37, 42, 27]
abbrev dktX0_turnsFrom_1 : List UInt8 := dkwX0_turnsFrom_1 ++ dktX0_turnsFrom_2
def dkwX0_turnsFrom_0 : List UInt8 := [3, 54, 4, 21, 4, 4, 163, 0, 86, 3, 54, 5, 21, 5, 29, 163, 0, 71, 42, 180, 0, 66, 42, 27]
abbrev dktX0_turnsFrom_0 : List UInt8 := dkwX0_turnsFrom_0 ++ dktX0_turnsFrom_1
theorem dksX0_turnsFrom_0 : cX0_turnsFrom.data.toList.drop 0 = dktX0_turnsFrom_0 := by decide +kernel
theorem dksX0_turnsFrom_1 : cX0_turnsFrom.data.toList.drop 24 = dktX0_turnsFrom_1 := dk_seg dksX0_turnsFrom_0 24 rfl rfl
theorem dksX0_turnsFrom_2 : cX0_turnsFrom.data.toList.drop 48 = dktX0_turnsFrom_2 := dk_seg dksX0_turnsFrom_1 24 rfl rfl
theorem dksX0_turnsFrom_3 : cX0_turnsFrom.data.toList.drop 71 = dktX0_turnsFrom_3 := dk_seg dksX0_turnsFrom_2 23 rfl rfl
theorem dX0_turnsFrom_0 : decode cX0_turnsFrom 0 = .ok (.iconst 0, 1) := dk_3 (dk_at dksX0_turnsFrom_0 0 rfl rfl)
theorem dX0_turnsFrom_1 : decode cX0_turnsFrom 1 = .ok (.istore 4, 2) := dk_54 4 (dk_at dksX0_turnsFrom_0 1 rfl rfl)
theorem dX0_turnsFrom_3 : decode cX0_turnsFrom 3 = .ok (.iload 4, 2) := dk_21 4 (dk_at dksX0_turnsFrom_0 3 rfl rfl)
theorem dX0_turnsFrom_5 : decode cX0_turnsFrom 5 = .ok (.iconst 1, 1) := dk_4 (dk_at dksX0_turnsFrom_0 5 rfl rfl)
theorem dX0_turnsFrom_6 : decode cX0_turnsFrom 6 = .ok (.if_icmp .gt 86, 3) := dk_163 0 86 (dk_at dksX0_turnsFrom_0 6 rfl rfl)
theorem dX0_turnsFrom_9 : decode cX0_turnsFrom 9 = .ok (.iconst 0, 1) := dk_3 (dk_at dksX0_turnsFrom_0 9 rfl rfl)
theorem dX0_turnsFrom_10 : decode cX0_turnsFrom 10 = .ok (.istore 5, 2) := dk_54 5 (dk_at dksX0_turnsFrom_0 10 rfl rfl)
theorem dX0_turnsFrom_12 : decode cX0_turnsFrom 12 = .ok (.iload 5, 2) := dk_21 5 (dk_at dksX0_turnsFrom_0 12 rfl rfl)
theorem dX0_turnsFrom_14 : decode cX0_turnsFrom 14 = .ok (.iload_n 3, 1) := dk_29 (dk_at dksX0_turnsFrom_0 14 rfl rfl)
theorem dX0_turnsFrom_15 : decode cX0_turnsFrom 15 = .ok (.if_icmp .gt 71, 3) := dk_163 0 71 (dk_at dksX0_turnsFrom_0 15 rfl rfl)
theorem dX0_turnsFrom_18 : decode cX0_turnsFrom 18 = .ok (.aload_n 0, 1) := dk_42 (dk_at dksX0_turnsFrom_0 18 rfl rfl)
theorem dX0_turnsFrom_19 : decode cX0_turnsFrom 19 = .ok (.getfield 66, 3) := dk_180 0 66 (dk_at dksX0_turnsFrom_0 19 rfl rfl)
theorem dX0_turnsFrom_22 : decode cX0_turnsFrom 22 = .ok (.aload_n 0, 1) := dk_42 (dk_at dksX0_turnsFrom_0 22 rfl rfl)
theorem dX0_turnsFrom_23 : decode cX0_turnsFrom 23 = .ok (.iload_n 1, 1) := dk_27 (dk_at dksX0_turnsFrom_0 23 rfl rfl)
theorem dX0_turnsFrom_24 : decode cX0_turnsFrom 24 = .ok (.iload_n 2, 1) := dk_28 (dk_at dksX0_turnsFrom_1 0 rfl rfl)
theorem dX0_turnsFrom_25 : decode cX0_turnsFrom 25 = .ok (.iload 4, 2) := dk_21 4 (dk_at dksX0_turnsFrom_1 1 rfl rfl)
theorem dX0_turnsFrom_27 : decode cX0_turnsFrom 27 = .ok (.iload 5, 2) := dk_21 5 (dk_at dksX0_turnsFrom_1 3 rfl rfl)
theorem dX0_turnsFrom_29 : decode cX0_turnsFrom 29 = .ok (.invokevirtual 311, 3) := dk_182 1 55 (dk_at dksX0_turnsFrom_1 5 rfl rfl)
theorem dX0_turnsFrom_32 : decode cX0_turnsFrom 32 = .ok (.iaload, 1) := dk_46 (dk_at dksX0_turnsFrom_1 8 rfl rfl)
theorem dX0_turnsFrom_33 : decode cX0_turnsFrom 33 = .ok (.istore 6, 2) := dk_54 6 (dk_at dksX0_turnsFrom_1 9 rfl rfl)
theorem dX0_turnsFrom_35 : decode cX0_turnsFrom 35 = .ok (.iload 6, 2) := dk_21 6 (dk_at dksX0_turnsFrom_1 11 rfl rfl)
theorem dX0_turnsFrom_37 : decode cX0_turnsFrom 37 = .ok (.ldc_w 317, 3) := dk_19 1 61 (dk_at dksX0_turnsFrom_1 13 rfl rfl)
theorem dX0_turnsFrom_40 : decode cX0_turnsFrom 40 = .ok (.if_icmp .ne 6, 3) := dk_160 0 6 (dk_at dksX0_turnsFrom_1 16 rfl rfl)
theorem dX0_turnsFrom_43 : decode cX0_turnsFrom 43 = .ok (.goto 37, 3) := dk_167 0 37 (dk_at dksX0_turnsFrom_1 19 rfl rfl)
theorem dX0_turnsFrom_46 : decode cX0_turnsFrom 46 = .ok (.aload_n 0, 1) := dk_42 (dk_at dksX0_turnsFrom_1 22 rfl rfl)
theorem dX0_turnsFrom_47 : decode cX0_turnsFrom 47 = .ok (.iload_n 1, 1) := dk_27 (dk_at dksX0_turnsFrom_1 23 rfl rfl)
theorem dX0_turnsFrom_48 : decode cX0_turnsFrom 48 = .ok (.iload_n 2, 1) := dk_28 (dk_at dksX0_turnsFrom_2 0 rfl rfl)
theorem dX0_turnsFrom_49 : decode cX0_turnsFrom 49 = .ok (.iload 4, 2) := dk_21 4 (dk_at dksX0_turnsFrom_2 1 rfl rfl)
theorem dX0_turnsFrom_51 : decode cX0_turnsFrom 51 = .ok (.iload 6, 2) := dk_21 6 (dk_at dksX0_turnsFrom_2 3 rfl rfl)
theorem dX0_turnsFrom_53 : decode cX0_turnsFrom 53 = .ok (.iload 5, 2) := dk_21 5 (dk_at dksX0_turnsFrom_2 5 rfl rfl)
theorem dX0_turnsFrom_55 : decode cX0_turnsFrom 55 = .ok (.invokevirtual 318, 3) := dk_182 1 62 (dk_at dksX0_turnsFrom_2 7 rfl rfl)
theorem dX0_turnsFrom_58 : decode cX0_turnsFrom 58 = .ok (.iload 5, 2) := dk_21 5 (dk_at dksX0_turnsFrom_2 10 rfl rfl)
theorem dX0_turnsFrom_60 : decode cX0_turnsFrom 60 = .ok (.iload_n 3, 1) := dk_29 (dk_at dksX0_turnsFrom_2 12 rfl rfl)
theorem dX0_turnsFrom_61 : decode cX0_turnsFrom 61 = .ok (.if_icmp .ge 19, 3) := dk_162 0 19 (dk_at dksX0_turnsFrom_2 13 rfl rfl)
theorem dX0_turnsFrom_64 : decode cX0_turnsFrom 64 = .ok (.aload_n 0, 1) := dk_42 (dk_at dksX0_turnsFrom_2 16 rfl rfl)
theorem dX0_turnsFrom_65 : decode cX0_turnsFrom 65 = .ok (.iload_n 1, 1) := dk_27 (dk_at dksX0_turnsFrom_2 17 rfl rfl)
theorem dX0_turnsFrom_66 : decode cX0_turnsFrom 66 = .ok (.iload_n 2, 1) := dk_28 (dk_at dksX0_turnsFrom_2 18 rfl rfl)
theorem dX0_turnsFrom_67 : decode cX0_turnsFrom 67 = .ok (.iconst 1, 1) := dk_4 (dk_at dksX0_turnsFrom_2 19 rfl rfl)
theorem dX0_turnsFrom_68 : decode cX0_turnsFrom 68 = .ok (.iload 4, 2) := dk_21 4 (dk_at dksX0_turnsFrom_2 20 rfl rfl)
theorem dX0_turnsFrom_70 : decode cX0_turnsFrom 70 = .ok (.isub, 1) := dk_100 (dk_at dksX0_turnsFrom_2 22 rfl rfl)
theorem dX0_turnsFrom_71 : decode cX0_turnsFrom 71 = .ok (.iload 6, 2) := dk_21 6 (dk_at dksX0_turnsFrom_3 0 rfl rfl)
theorem dX0_turnsFrom_73 : decode cX0_turnsFrom 73 = .ok (.iload 5, 2) := dk_21 5 (dk_at dksX0_turnsFrom_3 2 rfl rfl)
theorem dX0_turnsFrom_75 : decode cX0_turnsFrom 75 = .ok (.iconst 1, 1) := dk_4 (dk_at dksX0_turnsFrom_3 4 rfl rfl)
theorem dX0_turnsFrom_76 : decode cX0_turnsFrom 76 = .ok (.iadd, 1) := dk_96 (dk_at dksX0_turnsFrom_3 5 rfl rfl)
theorem dX0_turnsFrom_77 : decode cX0_turnsFrom 77 = .ok (.invokevirtual 318, 3) := dk_182 1 62 (dk_at dksX0_turnsFrom_3 6 rfl rfl)
theorem dX0_turnsFrom_80 : decode cX0_turnsFrom 80 = .ok (.iinc 5 1, 3) := dk_132 5 1 (dk_at dksX0_turnsFrom_3 9 rfl rfl)
theorem dX0_turnsFrom_83 : decode cX0_turnsFrom 83 = .ok (.goto (-71), 3) := dk_167 255 185 (dk_at dksX0_turnsFrom_3 12 rfl rfl)
theorem dX0_turnsFrom_86 : decode cX0_turnsFrom 86 = .ok (.iinc 4 1, 3) := dk_132 4 1 (dk_at dksX0_turnsFrom_3 15 rfl rfl)
theorem dX0_turnsFrom_89 : decode cX0_turnsFrom 89 = .ok (.goto (-86), 3) := dk_167 255 170 (dk_at dksX0_turnsFrom_3 18 rfl rfl)
theorem dX0_turnsFrom_92 : decode cX0_turnsFrom 92 = .ok (.return_, 1) := dk_177 (dk_at dksX0_turnsFrom_3 21 rfl rfl)
abbrev cX0_mean : ByteArray := prog_1_method_43_code
def yX0_mean : MethodName := ⟨RX0, "mean", "(IIII)I"⟩
def dkwX0_mean_1 : List UInt8 := [3, 182, 1, 49, 42, 28, 29, 21, 4, 182, 0, 244, 172]
abbrev dktX0_mean_1 : List UInt8 := dkwX0_mean_1 ++ []
def dkwX0_mean_0 : List UInt8 := [42, 27, 182, 1, 73, 153, 0, 14, 42, 28, 29, 21, 4, 182, 0, 185, 154, 0, 5, 2, 172, 42, 27, 3]
abbrev dktX0_mean_0 : List UInt8 := dkwX0_mean_0 ++ dktX0_mean_1
theorem dksX0_mean_0 : cX0_mean.data.toList.drop 0 = dktX0_mean_0 := by decide +kernel
theorem dksX0_mean_1 : cX0_mean.data.toList.drop 24 = dktX0_mean_1 := dk_seg dksX0_mean_0 24 rfl rfl
theorem dX0_mean_0 : decode cX0_mean 0 = .ok (.aload_n 0, 1) := dk_42 (dk_at dksX0_mean_0 0 rfl rfl)
theorem dX0_mean_1 : decode cX0_mean 1 = .ok (.iload_n 1, 1) := dk_27 (dk_at dksX0_mean_0 1 rfl rfl)
theorem dX0_mean_2 : decode cX0_mean 2 = .ok (.invokevirtual 329, 3) := dk_182 1 73 (dk_at dksX0_mean_0 2 rfl rfl)
theorem dX0_mean_5 : decode cX0_mean 5 = .ok (.ifCond .eq 14, 3) := dk_153 0 14 (dk_at dksX0_mean_0 5 rfl rfl)
theorem dX0_mean_8 : decode cX0_mean 8 = .ok (.aload_n 0, 1) := dk_42 (dk_at dksX0_mean_0 8 rfl rfl)
theorem dX0_mean_9 : decode cX0_mean 9 = .ok (.iload_n 2, 1) := dk_28 (dk_at dksX0_mean_0 9 rfl rfl)
theorem dX0_mean_10 : decode cX0_mean 10 = .ok (.iload_n 3, 1) := dk_29 (dk_at dksX0_mean_0 10 rfl rfl)
theorem dX0_mean_11 : decode cX0_mean 11 = .ok (.iload 4, 2) := dk_21 4 (dk_at dksX0_mean_0 11 rfl rfl)
theorem dX0_mean_13 : decode cX0_mean 13 = .ok (.invokevirtual 185, 3) := dk_182 0 185 (dk_at dksX0_mean_0 13 rfl rfl)
theorem dX0_mean_16 : decode cX0_mean 16 = .ok (.ifCond .ne 5, 3) := dk_154 0 5 (dk_at dksX0_mean_0 16 rfl rfl)
theorem dX0_mean_19 : decode cX0_mean 19 = .ok (.iconst (-1), 1) := dk_2 (dk_at dksX0_mean_0 19 rfl rfl)
theorem dX0_mean_20 : decode cX0_mean 20 = .ok (.ireturn, 1) := dk_172 (dk_at dksX0_mean_0 20 rfl rfl)
theorem dX0_mean_21 : decode cX0_mean 21 = .ok (.aload_n 0, 1) := dk_42 (dk_at dksX0_mean_0 21 rfl rfl)
theorem dX0_mean_22 : decode cX0_mean 22 = .ok (.iload_n 1, 1) := dk_27 (dk_at dksX0_mean_0 22 rfl rfl)
theorem dX0_mean_23 : decode cX0_mean 23 = .ok (.iconst 0, 1) := dk_3 (dk_at dksX0_mean_0 23 rfl rfl)
theorem dX0_mean_24 : decode cX0_mean 24 = .ok (.iconst 0, 1) := dk_3 (dk_at dksX0_mean_1 0 rfl rfl)
theorem dX0_mean_25 : decode cX0_mean 25 = .ok (.invokevirtual 305, 3) := dk_182 1 49 (dk_at dksX0_mean_1 1 rfl rfl)
theorem dX0_mean_28 : decode cX0_mean 28 = .ok (.aload_n 0, 1) := dk_42 (dk_at dksX0_mean_1 4 rfl rfl)
theorem dX0_mean_29 : decode cX0_mean 29 = .ok (.iload_n 2, 1) := dk_28 (dk_at dksX0_mean_1 5 rfl rfl)
theorem dX0_mean_30 : decode cX0_mean 30 = .ok (.iload_n 3, 1) := dk_29 (dk_at dksX0_mean_1 6 rfl rfl)
theorem dX0_mean_31 : decode cX0_mean 31 = .ok (.iload 4, 2) := dk_21 4 (dk_at dksX0_mean_1 7 rfl rfl)
theorem dX0_mean_33 : decode cX0_mean 33 = .ok (.invokevirtual 244, 3) := dk_182 0 244 (dk_at dksX0_mean_1 9 rfl rfl)
theorem dX0_mean_36 : decode cX0_mean 36 = .ok (.ireturn, 1) := dk_172 (dk_at dksX0_mean_1 12 rfl rfl)
abbrev cX0_isGoer : ByteArray := prog_1_method_42_code
def yX0_isGoer : MethodName := ⟨RX0, "isGoer", "(I)Z"⟩
def dkwX0_isGoer_0 : List UInt8 := [27, 3, 42, 180, 0, 35, 180, 1, 35, 182, 1, 70, 4, 100, 184, 0, 127, 172]
abbrev dktX0_isGoer_0 : List UInt8 := dkwX0_isGoer_0 ++ []
theorem dksX0_isGoer_0 : cX0_isGoer.data.toList.drop 0 = dktX0_isGoer_0 := by decide +kernel
theorem dX0_isGoer_0 : decode cX0_isGoer 0 = .ok (.iload_n 1, 1) := dk_27 (dk_at dksX0_isGoer_0 0 rfl rfl)
theorem dX0_isGoer_1 : decode cX0_isGoer 1 = .ok (.iconst 0, 1) := dk_3 (dk_at dksX0_isGoer_0 1 rfl rfl)
theorem dX0_isGoer_2 : decode cX0_isGoer 2 = .ok (.aload_n 0, 1) := dk_42 (dk_at dksX0_isGoer_0 2 rfl rfl)
theorem dX0_isGoer_3 : decode cX0_isGoer 3 = .ok (.getfield 35, 3) := dk_180 0 35 (dk_at dksX0_isGoer_0 3 rfl rfl)
theorem dX0_isGoer_6 : decode cX0_isGoer 6 = .ok (.getfield 291, 3) := dk_180 1 35 (dk_at dksX0_isGoer_0 6 rfl rfl)
theorem dX0_isGoer_9 : decode cX0_isGoer 9 = .ok (.invokevirtual 326, 3) := dk_182 1 70 (dk_at dksX0_isGoer_0 9 rfl rfl)
theorem dX0_isGoer_12 : decode cX0_isGoer 12 = .ok (.iconst 1, 1) := dk_4 (dk_at dksX0_isGoer_0 12 rfl rfl)
theorem dX0_isGoer_13 : decode cX0_isGoer 13 = .ok (.isub, 1) := dk_100 (dk_at dksX0_isGoer_0 13 rfl rfl)
theorem dX0_isGoer_14 : decode cX0_isGoer 14 = .ok (.invokestatic 127, 3) := dk_184 0 127 (dk_at dksX0_isGoer_0 14 rfl rfl)
theorem dX0_isGoer_17 : decode cX0_isGoer 17 = .ok (.ireturn, 1) := dk_172 (dk_at dksX0_isGoer_0 17 rfl rfl)
abbrev cX0_worst : ByteArray := prog_1_method_44_code
def yX0_worst : MethodName := ⟨RX0, "worst", "(IIII)I"⟩
def dkwX0_worst_1 : List UInt8 := [4, 182, 1, 49, 42, 28, 29, 21, 4, 182, 0, 244, 172]
abbrev dktX0_worst_1 : List UInt8 := dkwX0_worst_1 ++ []
def dkwX0_worst_0 : List UInt8 := [42, 27, 182, 1, 73, 153, 0, 14, 42, 28, 29, 21, 4, 182, 0, 185, 154, 0, 5, 2, 172, 42, 27, 3]
abbrev dktX0_worst_0 : List UInt8 := dkwX0_worst_0 ++ dktX0_worst_1
theorem dksX0_worst_0 : cX0_worst.data.toList.drop 0 = dktX0_worst_0 := by decide +kernel
theorem dksX0_worst_1 : cX0_worst.data.toList.drop 24 = dktX0_worst_1 := dk_seg dksX0_worst_0 24 rfl rfl
theorem dX0_worst_0 : decode cX0_worst 0 = .ok (.aload_n 0, 1) := dk_42 (dk_at dksX0_worst_0 0 rfl rfl)
theorem dX0_worst_1 : decode cX0_worst 1 = .ok (.iload_n 1, 1) := dk_27 (dk_at dksX0_worst_0 1 rfl rfl)
theorem dX0_worst_2 : decode cX0_worst 2 = .ok (.invokevirtual 329, 3) := dk_182 1 73 (dk_at dksX0_worst_0 2 rfl rfl)
theorem dX0_worst_5 : decode cX0_worst 5 = .ok (.ifCond .eq 14, 3) := dk_153 0 14 (dk_at dksX0_worst_0 5 rfl rfl)
theorem dX0_worst_8 : decode cX0_worst 8 = .ok (.aload_n 0, 1) := dk_42 (dk_at dksX0_worst_0 8 rfl rfl)
theorem dX0_worst_9 : decode cX0_worst 9 = .ok (.iload_n 2, 1) := dk_28 (dk_at dksX0_worst_0 9 rfl rfl)
theorem dX0_worst_10 : decode cX0_worst 10 = .ok (.iload_n 3, 1) := dk_29 (dk_at dksX0_worst_0 10 rfl rfl)
theorem dX0_worst_11 : decode cX0_worst 11 = .ok (.iload 4, 2) := dk_21 4 (dk_at dksX0_worst_0 11 rfl rfl)
theorem dX0_worst_13 : decode cX0_worst 13 = .ok (.invokevirtual 185, 3) := dk_182 0 185 (dk_at dksX0_worst_0 13 rfl rfl)
theorem dX0_worst_16 : decode cX0_worst 16 = .ok (.ifCond .ne 5, 3) := dk_154 0 5 (dk_at dksX0_worst_0 16 rfl rfl)
theorem dX0_worst_19 : decode cX0_worst 19 = .ok (.iconst (-1), 1) := dk_2 (dk_at dksX0_worst_0 19 rfl rfl)
theorem dX0_worst_20 : decode cX0_worst 20 = .ok (.ireturn, 1) := dk_172 (dk_at dksX0_worst_0 20 rfl rfl)
theorem dX0_worst_21 : decode cX0_worst 21 = .ok (.aload_n 0, 1) := dk_42 (dk_at dksX0_worst_0 21 rfl rfl)
theorem dX0_worst_22 : decode cX0_worst 22 = .ok (.iload_n 1, 1) := dk_27 (dk_at dksX0_worst_0 22 rfl rfl)
theorem dX0_worst_23 : decode cX0_worst 23 = .ok (.iconst 0, 1) := dk_3 (dk_at dksX0_worst_0 23 rfl rfl)
theorem dX0_worst_24 : decode cX0_worst 24 = .ok (.iconst 1, 1) := dk_4 (dk_at dksX0_worst_1 0 rfl rfl)
theorem dX0_worst_25 : decode cX0_worst 25 = .ok (.invokevirtual 305, 3) := dk_182 1 49 (dk_at dksX0_worst_1 1 rfl rfl)
theorem dX0_worst_28 : decode cX0_worst 28 = .ok (.aload_n 0, 1) := dk_42 (dk_at dksX0_worst_1 4 rfl rfl)
theorem dX0_worst_29 : decode cX0_worst 29 = .ok (.iload_n 2, 1) := dk_28 (dk_at dksX0_worst_1 5 rfl rfl)
theorem dX0_worst_30 : decode cX0_worst 30 = .ok (.iload_n 3, 1) := dk_29 (dk_at dksX0_worst_1 6 rfl rfl)
theorem dX0_worst_31 : decode cX0_worst 31 = .ok (.iload 4, 2) := dk_21 4 (dk_at dksX0_worst_1 7 rfl rfl)
theorem dX0_worst_33 : decode cX0_worst 33 = .ok (.invokevirtual 244, 3) := dk_182 0 244 (dk_at dksX0_worst_1 9 rfl rfl)
theorem dX0_worst_36 : decode cX0_worst 36 = .ok (.ireturn, 1) := dk_172 (dk_at dksX0_worst_1 12 rfl rfl)
abbrev cX0_choice : ByteArray := prog_1_method_45_code
def yX0_choice : MethodName := ⟨RX0, "choice", "(IIII)I"⟩
def dkwX0_choice_6 : List UInt8 := [182, 1, 4, 172]
abbrev dktX0_choice_6 : List UInt8 := dkwX0_choice_6 ++ []
def dkwX0_choice_5 : List UInt8 := [182, 1, 0, 54, 8, 21, 7, 156, 0, 12, 21, 8, 156, 0, 7, 2, 167, 0, 11, 42, 21, 7, 21, 8]
abbrev dktX0_choice_5 : List UInt8 := dkwX0_choice_5 ++ dktX0_choice_6
def dkwX0_choice_4 : List UInt8 := [21, 6, 182, 0, 191, 182, 1, 0, 54, 7, 42, 27, 28, 4, 29, 42, 27, 28, 4, 21, 6, 182, 0, 191]
abbrev dktX0_choice_4 : List UInt8 := dkwX0_choice_4 ++ dktX0_choice_5
def dkwX0_choice_3 : List UInt8 := [182, 0, 222, 153, 0, 8, 21, 4, 167, 0, 4, 29, 54, 6, 42, 27, 28, 3, 29, 42, 27, 28, 3]
abbrev dktX0_choice_3 : List UInt8 := dkwX0_choice_3 ++ dktX0_choice_4
def dkwX0_choice_2 : List UInt8 := [180, 0, 160, 4, 100, 184, 0, 127, 154, 0, 5, 2, 172, 42, 6, 3, 3, 182, 1, 49, 42, 21, 5]
abbrev dktX0_choice_2 : List UInt8 := dkwX0_choice_2 ++ dktX0_choice_3
def dkwX0_choice_1 : List UInt8 := [104, 27, 96, 54, 5, 42, 21, 5, 182, 0, 222, 153, 0, 25, 21, 4, 3, 42, 27, 28, 182, 0, 140]
abbrev dktX0_choice_1 : List UInt8 := dkwX0_choice_1 ++ dktX0_choice_2
def dkwX0_choice_0 : List UInt8 := [42, 27, 28, 29, 182, 0, 185, 153, 0, 12, 42, 27, 28, 182, 1, 22, 153, 0, 5, 2, 172, 28, 16, 6]
abbrev dktX0_choice_0 : List UInt8 := dkwX0_choice_0 ++ dktX0_choice_1
theorem dksX0_choice_0 : cX0_choice.data.toList.drop 0 = dktX0_choice_0 := by decide +kernel
theorem dksX0_choice_1 : cX0_choice.data.toList.drop 24 = dktX0_choice_1 := dk_seg dksX0_choice_0 24 rfl rfl
theorem dksX0_choice_2 : cX0_choice.data.toList.drop 47 = dktX0_choice_2 := dk_seg dksX0_choice_1 23 rfl rfl
theorem dksX0_choice_3 : cX0_choice.data.toList.drop 70 = dktX0_choice_3 := dk_seg dksX0_choice_2 23 rfl rfl
theorem dksX0_choice_4 : cX0_choice.data.toList.drop 93 = dktX0_choice_4 := dk_seg dksX0_choice_3 23 rfl rfl
theorem dksX0_choice_5 : cX0_choice.data.toList.drop 117 = dktX0_choice_5 := dk_seg dksX0_choice_4 24 rfl rfl
theorem dksX0_choice_6 : cX0_choice.data.toList.drop 141 = dktX0_choice_6 := dk_seg dksX0_choice_5 24 rfl rfl
theorem dX0_choice_0 : decode cX0_choice 0 = .ok (.aload_n 0, 1) := dk_42 (dk_at dksX0_choice_0 0 rfl rfl)
theorem dX0_choice_1 : decode cX0_choice 1 = .ok (.iload_n 1, 1) := dk_27 (dk_at dksX0_choice_0 1 rfl rfl)
theorem dX0_choice_2 : decode cX0_choice 2 = .ok (.iload_n 2, 1) := dk_28 (dk_at dksX0_choice_0 2 rfl rfl)
theorem dX0_choice_3 : decode cX0_choice 3 = .ok (.iload_n 3, 1) := dk_29 (dk_at dksX0_choice_0 3 rfl rfl)
theorem dX0_choice_4 : decode cX0_choice 4 = .ok (.invokevirtual 185, 3) := dk_182 0 185 (dk_at dksX0_choice_0 4 rfl rfl)
theorem dX0_choice_7 : decode cX0_choice 7 = .ok (.ifCond .eq 12, 3) := dk_153 0 12 (dk_at dksX0_choice_0 7 rfl rfl)
theorem dX0_choice_10 : decode cX0_choice 10 = .ok (.aload_n 0, 1) := dk_42 (dk_at dksX0_choice_0 10 rfl rfl)
theorem dX0_choice_11 : decode cX0_choice 11 = .ok (.iload_n 1, 1) := dk_27 (dk_at dksX0_choice_0 11 rfl rfl)
theorem dX0_choice_12 : decode cX0_choice 12 = .ok (.iload_n 2, 1) := dk_28 (dk_at dksX0_choice_0 12 rfl rfl)
theorem dX0_choice_13 : decode cX0_choice 13 = .ok (.invokevirtual 278, 3) := dk_182 1 22 (dk_at dksX0_choice_0 13 rfl rfl)
theorem dX0_choice_16 : decode cX0_choice 16 = .ok (.ifCond .eq 5, 3) := dk_153 0 5 (dk_at dksX0_choice_0 16 rfl rfl)
theorem dX0_choice_19 : decode cX0_choice 19 = .ok (.iconst (-1), 1) := dk_2 (dk_at dksX0_choice_0 19 rfl rfl)
theorem dX0_choice_20 : decode cX0_choice 20 = .ok (.ireturn, 1) := dk_172 (dk_at dksX0_choice_0 20 rfl rfl)
theorem dX0_choice_21 : decode cX0_choice 21 = .ok (.iload_n 2, 1) := dk_28 (dk_at dksX0_choice_0 21 rfl rfl)
theorem dX0_choice_22 : decode cX0_choice 22 = .ok (.bipush 6, 2) := dk_16 6 (dk_at dksX0_choice_0 22 rfl rfl)
theorem dX0_choice_24 : decode cX0_choice 24 = .ok (.imul, 1) := dk_104 (dk_at dksX0_choice_1 0 rfl rfl)
theorem dX0_choice_25 : decode cX0_choice 25 = .ok (.iload_n 1, 1) := dk_27 (dk_at dksX0_choice_1 1 rfl rfl)
theorem dX0_choice_26 : decode cX0_choice 26 = .ok (.iadd, 1) := dk_96 (dk_at dksX0_choice_1 2 rfl rfl)
theorem dX0_choice_27 : decode cX0_choice 27 = .ok (.istore 5, 2) := dk_54 5 (dk_at dksX0_choice_1 3 rfl rfl)
theorem dX0_choice_29 : decode cX0_choice 29 = .ok (.aload_n 0, 1) := dk_42 (dk_at dksX0_choice_1 5 rfl rfl)
theorem dX0_choice_30 : decode cX0_choice 30 = .ok (.iload 5, 2) := dk_21 5 (dk_at dksX0_choice_1 6 rfl rfl)
theorem dX0_choice_32 : decode cX0_choice 32 = .ok (.invokevirtual 222, 3) := dk_182 0 222 (dk_at dksX0_choice_1 8 rfl rfl)
theorem dX0_choice_35 : decode cX0_choice 35 = .ok (.ifCond .eq 25, 3) := dk_153 0 25 (dk_at dksX0_choice_1 11 rfl rfl)
theorem dX0_choice_38 : decode cX0_choice 38 = .ok (.iload 4, 2) := dk_21 4 (dk_at dksX0_choice_1 14 rfl rfl)
theorem dX0_choice_40 : decode cX0_choice 40 = .ok (.iconst 0, 1) := dk_3 (dk_at dksX0_choice_1 16 rfl rfl)
theorem dX0_choice_41 : decode cX0_choice 41 = .ok (.aload_n 0, 1) := dk_42 (dk_at dksX0_choice_1 17 rfl rfl)
theorem dX0_choice_42 : decode cX0_choice 42 = .ok (.iload_n 1, 1) := dk_27 (dk_at dksX0_choice_1 18 rfl rfl)
theorem dX0_choice_43 : decode cX0_choice 43 = .ok (.iload_n 2, 1) := dk_28 (dk_at dksX0_choice_1 19 rfl rfl)
theorem dX0_choice_44 : decode cX0_choice 44 = .ok (.invokevirtual 140, 3) := dk_182 0 140 (dk_at dksX0_choice_1 20 rfl rfl)
theorem dX0_choice_47 : decode cX0_choice 47 = .ok (.getfield 160, 3) := dk_180 0 160 (dk_at dksX0_choice_2 0 rfl rfl)
theorem dX0_choice_50 : decode cX0_choice 50 = .ok (.iconst 1, 1) := dk_4 (dk_at dksX0_choice_2 3 rfl rfl)
theorem dX0_choice_51 : decode cX0_choice 51 = .ok (.isub, 1) := dk_100 (dk_at dksX0_choice_2 4 rfl rfl)
theorem dX0_choice_52 : decode cX0_choice 52 = .ok (.invokestatic 127, 3) := dk_184 0 127 (dk_at dksX0_choice_2 5 rfl rfl)
theorem dX0_choice_55 : decode cX0_choice 55 = .ok (.ifCond .ne 5, 3) := dk_154 0 5 (dk_at dksX0_choice_2 8 rfl rfl)
theorem dX0_choice_58 : decode cX0_choice 58 = .ok (.iconst (-1), 1) := dk_2 (dk_at dksX0_choice_2 11 rfl rfl)
theorem dX0_choice_59 : decode cX0_choice 59 = .ok (.ireturn, 1) := dk_172 (dk_at dksX0_choice_2 12 rfl rfl)
theorem dX0_choice_60 : decode cX0_choice 60 = .ok (.aload_n 0, 1) := dk_42 (dk_at dksX0_choice_2 13 rfl rfl)
theorem dX0_choice_61 : decode cX0_choice 61 = .ok (.iconst 3, 1) := dk_6 (dk_at dksX0_choice_2 14 rfl rfl)
theorem dX0_choice_62 : decode cX0_choice 62 = .ok (.iconst 0, 1) := dk_3 (dk_at dksX0_choice_2 15 rfl rfl)
theorem dX0_choice_63 : decode cX0_choice 63 = .ok (.iconst 0, 1) := dk_3 (dk_at dksX0_choice_2 16 rfl rfl)
theorem dX0_choice_64 : decode cX0_choice 64 = .ok (.invokevirtual 305, 3) := dk_182 1 49 (dk_at dksX0_choice_2 17 rfl rfl)
theorem dX0_choice_67 : decode cX0_choice 67 = .ok (.aload_n 0, 1) := dk_42 (dk_at dksX0_choice_2 20 rfl rfl)
theorem dX0_choice_68 : decode cX0_choice 68 = .ok (.iload 5, 2) := dk_21 5 (dk_at dksX0_choice_2 21 rfl rfl)
theorem dX0_choice_70 : decode cX0_choice 70 = .ok (.invokevirtual 222, 3) := dk_182 0 222 (dk_at dksX0_choice_3 0 rfl rfl)
theorem dX0_choice_73 : decode cX0_choice 73 = .ok (.ifCond .eq 8, 3) := dk_153 0 8 (dk_at dksX0_choice_3 3 rfl rfl)
theorem dX0_choice_76 : decode cX0_choice 76 = .ok (.iload 4, 2) := dk_21 4 (dk_at dksX0_choice_3 6 rfl rfl)
theorem dX0_choice_78 : decode cX0_choice 78 = .ok (.goto 4, 3) := dk_167 0 4 (dk_at dksX0_choice_3 8 rfl rfl)
theorem dX0_choice_81 : decode cX0_choice 81 = .ok (.iload_n 3, 1) := dk_29 (dk_at dksX0_choice_3 11 rfl rfl)
theorem dX0_choice_82 : decode cX0_choice 82 = .ok (.istore 6, 2) := dk_54 6 (dk_at dksX0_choice_3 12 rfl rfl)
theorem dX0_choice_84 : decode cX0_choice 84 = .ok (.aload_n 0, 1) := dk_42 (dk_at dksX0_choice_3 14 rfl rfl)
theorem dX0_choice_85 : decode cX0_choice 85 = .ok (.iload_n 1, 1) := dk_27 (dk_at dksX0_choice_3 15 rfl rfl)
theorem dX0_choice_86 : decode cX0_choice 86 = .ok (.iload_n 2, 1) := dk_28 (dk_at dksX0_choice_3 16 rfl rfl)
theorem dX0_choice_87 : decode cX0_choice 87 = .ok (.iconst 0, 1) := dk_3 (dk_at dksX0_choice_3 17 rfl rfl)
theorem dX0_choice_88 : decode cX0_choice 88 = .ok (.iload_n 3, 1) := dk_29 (dk_at dksX0_choice_3 18 rfl rfl)
theorem dX0_choice_89 : decode cX0_choice 89 = .ok (.aload_n 0, 1) := dk_42 (dk_at dksX0_choice_3 19 rfl rfl)
theorem dX0_choice_90 : decode cX0_choice 90 = .ok (.iload_n 1, 1) := dk_27 (dk_at dksX0_choice_3 20 rfl rfl)
theorem dX0_choice_91 : decode cX0_choice 91 = .ok (.iload_n 2, 1) := dk_28 (dk_at dksX0_choice_3 21 rfl rfl)
theorem dX0_choice_92 : decode cX0_choice 92 = .ok (.iconst 0, 1) := dk_3 (dk_at dksX0_choice_3 22 rfl rfl)
theorem dX0_choice_93 : decode cX0_choice 93 = .ok (.iload 6, 2) := dk_21 6 (dk_at dksX0_choice_4 0 rfl rfl)
theorem dX0_choice_95 : decode cX0_choice 95 = .ok (.invokevirtual 191, 3) := dk_182 0 191 (dk_at dksX0_choice_4 2 rfl rfl)
theorem dX0_choice_98 : decode cX0_choice 98 = .ok (.invokevirtual 256, 3) := dk_182 1 0 (dk_at dksX0_choice_4 5 rfl rfl)
theorem dX0_choice_101 : decode cX0_choice 101 = .ok (.istore 7, 2) := dk_54 7 (dk_at dksX0_choice_4 8 rfl rfl)
theorem dX0_choice_103 : decode cX0_choice 103 = .ok (.aload_n 0, 1) := dk_42 (dk_at dksX0_choice_4 10 rfl rfl)
theorem dX0_choice_104 : decode cX0_choice 104 = .ok (.iload_n 1, 1) := dk_27 (dk_at dksX0_choice_4 11 rfl rfl)
theorem dX0_choice_105 : decode cX0_choice 105 = .ok (.iload_n 2, 1) := dk_28 (dk_at dksX0_choice_4 12 rfl rfl)
theorem dX0_choice_106 : decode cX0_choice 106 = .ok (.iconst 1, 1) := dk_4 (dk_at dksX0_choice_4 13 rfl rfl)
theorem dX0_choice_107 : decode cX0_choice 107 = .ok (.iload_n 3, 1) := dk_29 (dk_at dksX0_choice_4 14 rfl rfl)
theorem dX0_choice_108 : decode cX0_choice 108 = .ok (.aload_n 0, 1) := dk_42 (dk_at dksX0_choice_4 15 rfl rfl)
theorem dX0_choice_109 : decode cX0_choice 109 = .ok (.iload_n 1, 1) := dk_27 (dk_at dksX0_choice_4 16 rfl rfl)
theorem dX0_choice_110 : decode cX0_choice 110 = .ok (.iload_n 2, 1) := dk_28 (dk_at dksX0_choice_4 17 rfl rfl)
theorem dX0_choice_111 : decode cX0_choice 111 = .ok (.iconst 1, 1) := dk_4 (dk_at dksX0_choice_4 18 rfl rfl)
theorem dX0_choice_112 : decode cX0_choice 112 = .ok (.iload 6, 2) := dk_21 6 (dk_at dksX0_choice_4 19 rfl rfl)
theorem dX0_choice_114 : decode cX0_choice 114 = .ok (.invokevirtual 191, 3) := dk_182 0 191 (dk_at dksX0_choice_4 21 rfl rfl)
theorem dX0_choice_117 : decode cX0_choice 117 = .ok (.invokevirtual 256, 3) := dk_182 1 0 (dk_at dksX0_choice_5 0 rfl rfl)
theorem dX0_choice_120 : decode cX0_choice 120 = .ok (.istore 8, 2) := dk_54 8 (dk_at dksX0_choice_5 3 rfl rfl)
theorem dX0_choice_122 : decode cX0_choice 122 = .ok (.iload 7, 2) := dk_21 7 (dk_at dksX0_choice_5 5 rfl rfl)
theorem dX0_choice_124 : decode cX0_choice 124 = .ok (.ifCond .ge 12, 3) := dk_156 0 12 (dk_at dksX0_choice_5 7 rfl rfl)
theorem dX0_choice_127 : decode cX0_choice 127 = .ok (.iload 8, 2) := dk_21 8 (dk_at dksX0_choice_5 10 rfl rfl)
theorem dX0_choice_129 : decode cX0_choice 129 = .ok (.ifCond .ge 7, 3) := dk_156 0 7 (dk_at dksX0_choice_5 12 rfl rfl)
theorem dX0_choice_132 : decode cX0_choice 132 = .ok (.iconst (-1), 1) := dk_2 (dk_at dksX0_choice_5 15 rfl rfl)
theorem dX0_choice_133 : decode cX0_choice 133 = .ok (.goto 11, 3) := dk_167 0 11 (dk_at dksX0_choice_5 16 rfl rfl)
theorem dX0_choice_136 : decode cX0_choice 136 = .ok (.aload_n 0, 1) := dk_42 (dk_at dksX0_choice_5 19 rfl rfl)
theorem dX0_choice_137 : decode cX0_choice 137 = .ok (.iload 7, 2) := dk_21 7 (dk_at dksX0_choice_5 20 rfl rfl)
theorem dX0_choice_139 : decode cX0_choice 139 = .ok (.iload 8, 2) := dk_21 8 (dk_at dksX0_choice_5 22 rfl rfl)
theorem dX0_choice_141 : decode cX0_choice 141 = .ok (.invokevirtual 260, 3) := dk_182 1 4 (dk_at dksX0_choice_6 0 rfl rfl)
theorem dX0_choice_144 : decode cX0_choice 144 = .ok (.ireturn, 1) := dk_172 (dk_at dksX0_choice_6 3 rfl rfl)
abbrev cX0_gap : ByteArray := prog_1_method_46_code
def yX0_gap : MethodName := ⟨RX0, "gap", "(III)I"⟩
def dkwX0_gap_1 : List UInt8 := [155, 0, 8, 21, 5, 156, 0, 7, 2, 167, 0, 8, 21, 4, 21, 5, 100, 172]
abbrev dktX0_gap_1 : List UInt8 := dkwX0_gap_1 ++ []
def dkwX0_gap_0 : List UInt8 := [42, 5, 27, 28, 29, 182, 1, 76, 54, 4, 42, 6, 27, 28, 29, 182, 1, 76, 54, 5, 21, 4]
abbrev dktX0_gap_0 : List UInt8 := dkwX0_gap_0 ++ dktX0_gap_1
theorem dksX0_gap_0 : cX0_gap.data.toList.drop 0 = dktX0_gap_0 := by decide +kernel
theorem dksX0_gap_1 : cX0_gap.data.toList.drop 22 = dktX0_gap_1 := dk_seg dksX0_gap_0 22 rfl rfl
theorem dX0_gap_0 : decode cX0_gap 0 = .ok (.aload_n 0, 1) := dk_42 (dk_at dksX0_gap_0 0 rfl rfl)
theorem dX0_gap_1 : decode cX0_gap 1 = .ok (.iconst 2, 1) := dk_5 (dk_at dksX0_gap_0 1 rfl rfl)
theorem dX0_gap_2 : decode cX0_gap 2 = .ok (.iload_n 1, 1) := dk_27 (dk_at dksX0_gap_0 2 rfl rfl)
theorem dX0_gap_3 : decode cX0_gap 3 = .ok (.iload_n 2, 1) := dk_28 (dk_at dksX0_gap_0 3 rfl rfl)
theorem dX0_gap_4 : decode cX0_gap 4 = .ok (.iload_n 3, 1) := dk_29 (dk_at dksX0_gap_0 4 rfl rfl)
theorem dX0_gap_5 : decode cX0_gap 5 = .ok (.invokevirtual 332, 3) := dk_182 1 76 (dk_at dksX0_gap_0 5 rfl rfl)
theorem dX0_gap_8 : decode cX0_gap 8 = .ok (.istore 4, 2) := dk_54 4 (dk_at dksX0_gap_0 8 rfl rfl)
theorem dX0_gap_10 : decode cX0_gap 10 = .ok (.aload_n 0, 1) := dk_42 (dk_at dksX0_gap_0 10 rfl rfl)
theorem dX0_gap_11 : decode cX0_gap 11 = .ok (.iconst 3, 1) := dk_6 (dk_at dksX0_gap_0 11 rfl rfl)
theorem dX0_gap_12 : decode cX0_gap 12 = .ok (.iload_n 1, 1) := dk_27 (dk_at dksX0_gap_0 12 rfl rfl)
theorem dX0_gap_13 : decode cX0_gap 13 = .ok (.iload_n 2, 1) := dk_28 (dk_at dksX0_gap_0 13 rfl rfl)
theorem dX0_gap_14 : decode cX0_gap 14 = .ok (.iload_n 3, 1) := dk_29 (dk_at dksX0_gap_0 14 rfl rfl)
theorem dX0_gap_15 : decode cX0_gap 15 = .ok (.invokevirtual 332, 3) := dk_182 1 76 (dk_at dksX0_gap_0 15 rfl rfl)
theorem dX0_gap_18 : decode cX0_gap 18 = .ok (.istore 5, 2) := dk_54 5 (dk_at dksX0_gap_0 18 rfl rfl)
theorem dX0_gap_20 : decode cX0_gap 20 = .ok (.iload 4, 2) := dk_21 4 (dk_at dksX0_gap_0 20 rfl rfl)
theorem dX0_gap_22 : decode cX0_gap 22 = .ok (.ifCond .lt 8, 3) := dk_155 0 8 (dk_at dksX0_gap_1 0 rfl rfl)
theorem dX0_gap_25 : decode cX0_gap 25 = .ok (.iload 5, 2) := dk_21 5 (dk_at dksX0_gap_1 3 rfl rfl)
theorem dX0_gap_27 : decode cX0_gap 27 = .ok (.ifCond .ge 7, 3) := dk_156 0 7 (dk_at dksX0_gap_1 5 rfl rfl)
theorem dX0_gap_30 : decode cX0_gap 30 = .ok (.iconst (-1), 1) := dk_2 (dk_at dksX0_gap_1 8 rfl rfl)
theorem dX0_gap_31 : decode cX0_gap 31 = .ok (.goto 8, 3) := dk_167 0 8 (dk_at dksX0_gap_1 9 rfl rfl)
theorem dX0_gap_34 : decode cX0_gap 34 = .ok (.iload 4, 2) := dk_21 4 (dk_at dksX0_gap_1 12 rfl rfl)
theorem dX0_gap_36 : decode cX0_gap 36 = .ok (.iload 5, 2) := dk_21 5 (dk_at dksX0_gap_1 14 rfl rfl)
theorem dX0_gap_38 : decode cX0_gap 38 = .ok (.isub, 1) := dk_100 (dk_at dksX0_gap_1 16 rfl rfl)
theorem dX0_gap_39 : decode cX0_gap 39 = .ok (.ireturn, 1) := dk_172 (dk_at dksX0_gap_1 17 rfl rfl)
abbrev cX0_watch : ByteArray := prog_1_method_47_code
def yX0_watch : MethodName := ⟨RX0, "watch", "(III)I"⟩
def dkwX0_watch_6 : List UInt8 := [22, 6, 21, 5, 133, 109, 136, 100, 172]
abbrev dktX0_watch_6 : List UInt8 := dkwX0_watch_6 ++ []
def dkwX0_watch_5 : List UInt8 := [22, 6, 21, 8, 133, 97, 55, 6, 42, 89, 180, 1, 25, 4, 96, 181, 1, 25, 167, 255, 193, 21, 4]
abbrev dktX0_watch_5 : List UInt8 := dkwX0_watch_5 ++ dktX0_watch_6
def dkwX0_watch_4 : List UInt8 := [192, 0, 252, 27, 28, 182, 1, 45, 42, 3, 3, 29, 182, 0, 244, 54, 8, 21, 8, 156, 0, 5, 2, 172]
abbrev dktX0_watch_4 : List UInt8 := dkwX0_watch_4 ++ dktX0_watch_5
def dkwX0_watch_3 : List UInt8 := [181, 1, 25, 42, 180, 1, 25, 21, 5, 162, 0, 60, 42, 42, 180, 0, 35, 180, 1, 35, 6, 182, 1, 39]
abbrev dktX0_watch_3 : List UInt8 := dkwX0_watch_3 ++ dktX0_watch_4
def dkwX0_watch_2 : List UInt8 := [182, 0, 140, 180, 0, 160, 54, 5, 9, 55, 6, 42, 28, 16, 6, 104, 27, 96, 181, 0, 62, 42, 3]
abbrev dktX0_watch_2 : List UInt8 := dkwX0_watch_2 ++ dktX0_watch_3
def dkwX0_watch_1 : List UInt8 := [6, 3, 3, 29, 182, 1, 76, 167, 0, 4, 2, 54, 4, 21, 4, 156, 0, 5, 2, 172, 42, 27, 28]
abbrev dktX0_watch_1 : List UInt8 := dkwX0_watch_1 ++ dktX0_watch_2
def dkwX0_watch_0 : List UInt8 := [42, 27, 28, 29, 182, 0, 185, 153, 0, 27, 42, 28, 16, 6, 104, 27, 96, 182, 0, 222, 153, 0, 14, 42]
abbrev dktX0_watch_0 : List UInt8 := dkwX0_watch_0 ++ dktX0_watch_1
theorem dksX0_watch_0 : cX0_watch.data.toList.drop 0 = dktX0_watch_0 := by decide +kernel
theorem dksX0_watch_1 : cX0_watch.data.toList.drop 24 = dktX0_watch_1 := dk_seg dksX0_watch_0 24 rfl rfl
theorem dksX0_watch_2 : cX0_watch.data.toList.drop 47 = dktX0_watch_2 := dk_seg dksX0_watch_1 23 rfl rfl
theorem dksX0_watch_3 : cX0_watch.data.toList.drop 70 = dktX0_watch_3 := dk_seg dksX0_watch_2 23 rfl rfl
theorem dksX0_watch_4 : cX0_watch.data.toList.drop 94 = dktX0_watch_4 := dk_seg dksX0_watch_3 24 rfl rfl
theorem dksX0_watch_5 : cX0_watch.data.toList.drop 118 = dktX0_watch_5 := dk_seg dksX0_watch_4 24 rfl rfl
theorem dksX0_watch_6 : cX0_watch.data.toList.drop 141 = dktX0_watch_6 := dk_seg dksX0_watch_5 23 rfl rfl
theorem dX0_watch_0 : decode cX0_watch 0 = .ok (.aload_n 0, 1) := dk_42 (dk_at dksX0_watch_0 0 rfl rfl)
theorem dX0_watch_1 : decode cX0_watch 1 = .ok (.iload_n 1, 1) := dk_27 (dk_at dksX0_watch_0 1 rfl rfl)
theorem dX0_watch_2 : decode cX0_watch 2 = .ok (.iload_n 2, 1) := dk_28 (dk_at dksX0_watch_0 2 rfl rfl)
theorem dX0_watch_3 : decode cX0_watch 3 = .ok (.iload_n 3, 1) := dk_29 (dk_at dksX0_watch_0 3 rfl rfl)
theorem dX0_watch_4 : decode cX0_watch 4 = .ok (.invokevirtual 185, 3) := dk_182 0 185 (dk_at dksX0_watch_0 4 rfl rfl)
theorem dX0_watch_7 : decode cX0_watch 7 = .ok (.ifCond .eq 27, 3) := dk_153 0 27 (dk_at dksX0_watch_0 7 rfl rfl)
theorem dX0_watch_10 : decode cX0_watch 10 = .ok (.aload_n 0, 1) := dk_42 (dk_at dksX0_watch_0 10 rfl rfl)
theorem dX0_watch_11 : decode cX0_watch 11 = .ok (.iload_n 2, 1) := dk_28 (dk_at dksX0_watch_0 11 rfl rfl)
theorem dX0_watch_12 : decode cX0_watch 12 = .ok (.bipush 6, 2) := dk_16 6 (dk_at dksX0_watch_0 12 rfl rfl)
theorem dX0_watch_14 : decode cX0_watch 14 = .ok (.imul, 1) := dk_104 (dk_at dksX0_watch_0 14 rfl rfl)
theorem dX0_watch_15 : decode cX0_watch 15 = .ok (.iload_n 1, 1) := dk_27 (dk_at dksX0_watch_0 15 rfl rfl)
theorem dX0_watch_16 : decode cX0_watch 16 = .ok (.iadd, 1) := dk_96 (dk_at dksX0_watch_0 16 rfl rfl)
theorem dX0_watch_17 : decode cX0_watch 17 = .ok (.invokevirtual 222, 3) := dk_182 0 222 (dk_at dksX0_watch_0 17 rfl rfl)
theorem dX0_watch_20 : decode cX0_watch 20 = .ok (.ifCond .eq 14, 3) := dk_153 0 14 (dk_at dksX0_watch_0 20 rfl rfl)
theorem dX0_watch_23 : decode cX0_watch 23 = .ok (.aload_n 0, 1) := dk_42 (dk_at dksX0_watch_0 23 rfl rfl)
theorem dX0_watch_24 : decode cX0_watch 24 = .ok (.iconst 3, 1) := dk_6 (dk_at dksX0_watch_1 0 rfl rfl)
theorem dX0_watch_25 : decode cX0_watch 25 = .ok (.iconst 0, 1) := dk_3 (dk_at dksX0_watch_1 1 rfl rfl)
theorem dX0_watch_26 : decode cX0_watch 26 = .ok (.iconst 0, 1) := dk_3 (dk_at dksX0_watch_1 2 rfl rfl)
theorem dX0_watch_27 : decode cX0_watch 27 = .ok (.iload_n 3, 1) := dk_29 (dk_at dksX0_watch_1 3 rfl rfl)
theorem dX0_watch_28 : decode cX0_watch 28 = .ok (.invokevirtual 332, 3) := dk_182 1 76 (dk_at dksX0_watch_1 4 rfl rfl)
theorem dX0_watch_31 : decode cX0_watch 31 = .ok (.goto 4, 3) := dk_167 0 4 (dk_at dksX0_watch_1 7 rfl rfl)
theorem dX0_watch_34 : decode cX0_watch 34 = .ok (.iconst (-1), 1) := dk_2 (dk_at dksX0_watch_1 10 rfl rfl)
theorem dX0_watch_35 : decode cX0_watch 35 = .ok (.istore 4, 2) := dk_54 4 (dk_at dksX0_watch_1 11 rfl rfl)
theorem dX0_watch_37 : decode cX0_watch 37 = .ok (.iload 4, 2) := dk_21 4 (dk_at dksX0_watch_1 13 rfl rfl)
theorem dX0_watch_39 : decode cX0_watch 39 = .ok (.ifCond .ge 5, 3) := dk_156 0 5 (dk_at dksX0_watch_1 15 rfl rfl)
theorem dX0_watch_42 : decode cX0_watch 42 = .ok (.iconst (-1), 1) := dk_2 (dk_at dksX0_watch_1 18 rfl rfl)
theorem dX0_watch_43 : decode cX0_watch 43 = .ok (.ireturn, 1) := dk_172 (dk_at dksX0_watch_1 19 rfl rfl)
theorem dX0_watch_44 : decode cX0_watch 44 = .ok (.aload_n 0, 1) := dk_42 (dk_at dksX0_watch_1 20 rfl rfl)
theorem dX0_watch_45 : decode cX0_watch 45 = .ok (.iload_n 1, 1) := dk_27 (dk_at dksX0_watch_1 21 rfl rfl)
theorem dX0_watch_46 : decode cX0_watch 46 = .ok (.iload_n 2, 1) := dk_28 (dk_at dksX0_watch_1 22 rfl rfl)
theorem dX0_watch_47 : decode cX0_watch 47 = .ok (.invokevirtual 140, 3) := dk_182 0 140 (dk_at dksX0_watch_2 0 rfl rfl)
theorem dX0_watch_50 : decode cX0_watch 50 = .ok (.getfield 160, 3) := dk_180 0 160 (dk_at dksX0_watch_2 3 rfl rfl)
theorem dX0_watch_53 : decode cX0_watch 53 = .ok (.istore 5, 2) := dk_54 5 (dk_at dksX0_watch_2 6 rfl rfl)
theorem dX0_watch_55 : decode cX0_watch 55 = .ok (.lconst 0, 1) := dk_9 (dk_at dksX0_watch_2 8 rfl rfl)
theorem dX0_watch_56 : decode cX0_watch 56 = .ok (.lstore 6, 2) := dk_55 6 (dk_at dksX0_watch_2 9 rfl rfl)
theorem dX0_watch_58 : decode cX0_watch 58 = .ok (.aload_n 0, 1) := dk_42 (dk_at dksX0_watch_2 11 rfl rfl)
theorem dX0_watch_59 : decode cX0_watch 59 = .ok (.iload_n 2, 1) := dk_28 (dk_at dksX0_watch_2 12 rfl rfl)
theorem dX0_watch_60 : decode cX0_watch 60 = .ok (.bipush 6, 2) := dk_16 6 (dk_at dksX0_watch_2 13 rfl rfl)
theorem dX0_watch_62 : decode cX0_watch 62 = .ok (.imul, 1) := dk_104 (dk_at dksX0_watch_2 15 rfl rfl)
theorem dX0_watch_63 : decode cX0_watch 63 = .ok (.iload_n 1, 1) := dk_27 (dk_at dksX0_watch_2 16 rfl rfl)
theorem dX0_watch_64 : decode cX0_watch 64 = .ok (.iadd, 1) := dk_96 (dk_at dksX0_watch_2 17 rfl rfl)
theorem dX0_watch_65 : decode cX0_watch 65 = .ok (.putfield 62, 3) := dk_181 0 62 (dk_at dksX0_watch_2 18 rfl rfl)
theorem dX0_watch_68 : decode cX0_watch 68 = .ok (.aload_n 0, 1) := dk_42 (dk_at dksX0_watch_2 21 rfl rfl)
theorem dX0_watch_69 : decode cX0_watch 69 = .ok (.iconst 0, 1) := dk_3 (dk_at dksX0_watch_2 22 rfl rfl)
theorem dX0_watch_70 : decode cX0_watch 70 = .ok (.putfield 281, 3) := dk_181 1 25 (dk_at dksX0_watch_3 0 rfl rfl)
theorem dX0_watch_73 : decode cX0_watch 73 = .ok (.aload_n 0, 1) := dk_42 (dk_at dksX0_watch_3 3 rfl rfl)
theorem dX0_watch_74 : decode cX0_watch 74 = .ok (.getfield 281, 3) := dk_180 1 25 (dk_at dksX0_watch_3 4 rfl rfl)
theorem dX0_watch_77 : decode cX0_watch 77 = .ok (.iload 5, 2) := dk_21 5 (dk_at dksX0_watch_3 7 rfl rfl)
theorem dX0_watch_79 : decode cX0_watch 79 = .ok (.if_icmp .ge 60, 3) := dk_162 0 60 (dk_at dksX0_watch_3 9 rfl rfl)
theorem dX0_watch_82 : decode cX0_watch 82 = .ok (.aload_n 0, 1) := dk_42 (dk_at dksX0_watch_3 12 rfl rfl)
theorem dX0_watch_83 : decode cX0_watch 83 = .ok (.aload_n 0, 1) := dk_42 (dk_at dksX0_watch_3 13 rfl rfl)
theorem dX0_watch_84 : decode cX0_watch 84 = .ok (.getfield 35, 3) := dk_180 0 35 (dk_at dksX0_watch_3 14 rfl rfl)
theorem dX0_watch_87 : decode cX0_watch 87 = .ok (.getfield 291, 3) := dk_180 1 35 (dk_at dksX0_watch_3 17 rfl rfl)
theorem dX0_watch_90 : decode cX0_watch 90 = .ok (.iconst 3, 1) := dk_6 (dk_at dksX0_watch_3 20 rfl rfl)
theorem dX0_watch_91 : decode cX0_watch 91 = .ok (.invokevirtual 295, 3) := dk_182 1 39 (dk_at dksX0_watch_3 21 rfl rfl)
theorem dX0_watch_94 : decode cX0_watch 94 = .ok (.checkcast 252, 3) := dk_192 0 252 (dk_at dksX0_watch_4 0 rfl rfl)
theorem dX0_watch_97 : decode cX0_watch 97 = .ok (.iload_n 1, 1) := dk_27 (dk_at dksX0_watch_4 3 rfl rfl)
theorem dX0_watch_98 : decode cX0_watch 98 = .ok (.iload_n 2, 1) := dk_28 (dk_at dksX0_watch_4 4 rfl rfl)
theorem dX0_watch_99 : decode cX0_watch 99 = .ok (.invokevirtual 301, 3) := dk_182 1 45 (dk_at dksX0_watch_4 5 rfl rfl)
theorem dX0_watch_102 : decode cX0_watch 102 = .ok (.aload_n 0, 1) := dk_42 (dk_at dksX0_watch_4 8 rfl rfl)
theorem dX0_watch_103 : decode cX0_watch 103 = .ok (.iconst 0, 1) := dk_3 (dk_at dksX0_watch_4 9 rfl rfl)
theorem dX0_watch_104 : decode cX0_watch 104 = .ok (.iconst 0, 1) := dk_3 (dk_at dksX0_watch_4 10 rfl rfl)
theorem dX0_watch_105 : decode cX0_watch 105 = .ok (.iload_n 3, 1) := dk_29 (dk_at dksX0_watch_4 11 rfl rfl)
theorem dX0_watch_106 : decode cX0_watch 106 = .ok (.invokevirtual 244, 3) := dk_182 0 244 (dk_at dksX0_watch_4 12 rfl rfl)
theorem dX0_watch_109 : decode cX0_watch 109 = .ok (.istore 8, 2) := dk_54 8 (dk_at dksX0_watch_4 15 rfl rfl)
theorem dX0_watch_111 : decode cX0_watch 111 = .ok (.iload 8, 2) := dk_21 8 (dk_at dksX0_watch_4 17 rfl rfl)
theorem dX0_watch_113 : decode cX0_watch 113 = .ok (.ifCond .ge 5, 3) := dk_156 0 5 (dk_at dksX0_watch_4 19 rfl rfl)
theorem dX0_watch_116 : decode cX0_watch 116 = .ok (.iconst (-1), 1) := dk_2 (dk_at dksX0_watch_4 22 rfl rfl)
theorem dX0_watch_117 : decode cX0_watch 117 = .ok (.ireturn, 1) := dk_172 (dk_at dksX0_watch_4 23 rfl rfl)
theorem dX0_watch_118 : decode cX0_watch 118 = .ok (.lload 6, 2) := dk_22 6 (dk_at dksX0_watch_5 0 rfl rfl)
theorem dX0_watch_120 : decode cX0_watch 120 = .ok (.iload 8, 2) := dk_21 8 (dk_at dksX0_watch_5 2 rfl rfl)
theorem dX0_watch_122 : decode cX0_watch 122 = .ok (.i2l, 1) := dk_133 (dk_at dksX0_watch_5 4 rfl rfl)
theorem dX0_watch_123 : decode cX0_watch 123 = .ok (.ladd, 1) := dk_97 (dk_at dksX0_watch_5 5 rfl rfl)
theorem dX0_watch_124 : decode cX0_watch 124 = .ok (.lstore 6, 2) := dk_55 6 (dk_at dksX0_watch_5 6 rfl rfl)
theorem dX0_watch_126 : decode cX0_watch 126 = .ok (.aload_n 0, 1) := dk_42 (dk_at dksX0_watch_5 8 rfl rfl)
theorem dX0_watch_127 : decode cX0_watch 127 = .ok (.dup, 1) := dk_89 (dk_at dksX0_watch_5 9 rfl rfl)
theorem dX0_watch_128 : decode cX0_watch 128 = .ok (.getfield 281, 3) := dk_180 1 25 (dk_at dksX0_watch_5 10 rfl rfl)
theorem dX0_watch_131 : decode cX0_watch 131 = .ok (.iconst 1, 1) := dk_4 (dk_at dksX0_watch_5 13 rfl rfl)
theorem dX0_watch_132 : decode cX0_watch 132 = .ok (.iadd, 1) := dk_96 (dk_at dksX0_watch_5 14 rfl rfl)
theorem dX0_watch_133 : decode cX0_watch 133 = .ok (.putfield 281, 3) := dk_181 1 25 (dk_at dksX0_watch_5 15 rfl rfl)
theorem dX0_watch_136 : decode cX0_watch 136 = .ok (.goto (-63), 3) := dk_167 255 193 (dk_at dksX0_watch_5 18 rfl rfl)
theorem dX0_watch_139 : decode cX0_watch 139 = .ok (.iload 4, 2) := dk_21 4 (dk_at dksX0_watch_5 21 rfl rfl)
theorem dX0_watch_141 : decode cX0_watch 141 = .ok (.lload 6, 2) := dk_22 6 (dk_at dksX0_watch_6 0 rfl rfl)
theorem dX0_watch_143 : decode cX0_watch 143 = .ok (.iload 5, 2) := dk_21 5 (dk_at dksX0_watch_6 2 rfl rfl)
theorem dX0_watch_145 : decode cX0_watch 145 = .ok (.i2l, 1) := dk_133 (dk_at dksX0_watch_6 4 rfl rfl)
theorem dX0_watch_146 : decode cX0_watch 146 = .ok (.ldiv, 1) := dk_109 (dk_at dksX0_watch_6 5 rfl rfl)
theorem dX0_watch_147 : decode cX0_watch 147 = .ok (.l2i, 1) := dk_136 (dk_at dksX0_watch_6 6 rfl rfl)
theorem dX0_watch_148 : decode cX0_watch 148 = .ok (.isub, 1) := dk_100 (dk_at dksX0_watch_6 7 rfl rfl)
theorem dX0_watch_149 : decode cX0_watch 149 = .ok (.ireturn, 1) := dk_172 (dk_at dksX0_watch_6 8 rfl rfl)
abbrev cX0_worthiest : ByteArray := prog_1_method_48_code
def yX0_worthiest : MethodName := ⟨RX0, "worthiest", "(I)I"⟩
def dkwX0_worthiest_4 : List UInt8 := [167, 0, 15, 28, 16, 6, 108, 16, 8, 104, 28, 16, 6, 112, 96, 172]
abbrev dktX0_worthiest_4 : List UInt8 := dkwX0_worthiest_4 ++ []
def dkwX0_worthiest_3 : List UInt8 := [163, 0, 6, 167, 0, 9, 21, 4, 61, 21, 5, 62, 132, 4, 1, 167, 255, 178, 28, 156, 0, 7, 2]
abbrev dktX0_worthiest_3 : List UInt8 := dkwX0_worthiest_3 ++ dktX0_worthiest_4
def dkwX0_worthiest_2 : List UInt8 := [54, 5, 42, 6, 3, 3, 27, 182, 1, 76, 156, 0, 5, 2, 172, 28, 155, 0, 12, 21, 5, 29]
abbrev dktX0_worthiest_2 : List UInt8 := dkwX0_worthiest_2 ++ dktX0_worthiest_3
def dkwX0_worthiest_1 : List UInt8 := [182, 0, 222, 154, 0, 6, 167, 0, 52, 42, 21, 4, 16, 6, 112, 21, 4, 16, 6, 108, 27, 182, 1, 79]
abbrev dktX0_worthiest_1 : List UInt8 := dkwX0_worthiest_1 ++ dktX0_worthiest_2
def dkwX0_worthiest_0 : List UInt8 := [2, 61, 3, 62, 3, 54, 4, 21, 4, 16, 54, 162, 0, 77, 27, 184, 0, 173, 153, 0, 70, 42, 21, 4]
abbrev dktX0_worthiest_0 : List UInt8 := dkwX0_worthiest_0 ++ dktX0_worthiest_1
theorem dksX0_worthiest_0 : cX0_worthiest.data.toList.drop 0 = dktX0_worthiest_0 := by decide +kernel
theorem dksX0_worthiest_1 : cX0_worthiest.data.toList.drop 24 = dktX0_worthiest_1 := dk_seg dksX0_worthiest_0 24 rfl rfl
theorem dksX0_worthiest_2 : cX0_worthiest.data.toList.drop 48 = dktX0_worthiest_2 := dk_seg dksX0_worthiest_1 24 rfl rfl
theorem dksX0_worthiest_3 : cX0_worthiest.data.toList.drop 70 = dktX0_worthiest_3 := dk_seg dksX0_worthiest_2 22 rfl rfl
theorem dksX0_worthiest_4 : cX0_worthiest.data.toList.drop 93 = dktX0_worthiest_4 := dk_seg dksX0_worthiest_3 23 rfl rfl
theorem dX0_worthiest_0 : decode cX0_worthiest 0 = .ok (.iconst (-1), 1) := dk_2 (dk_at dksX0_worthiest_0 0 rfl rfl)
theorem dX0_worthiest_1 : decode cX0_worthiest 1 = .ok (.istore_n 2, 1) := dk_61 (dk_at dksX0_worthiest_0 1 rfl rfl)
theorem dX0_worthiest_2 : decode cX0_worthiest 2 = .ok (.iconst 0, 1) := dk_3 (dk_at dksX0_worthiest_0 2 rfl rfl)
theorem dX0_worthiest_3 : decode cX0_worthiest 3 = .ok (.istore_n 3, 1) := dk_62 (dk_at dksX0_worthiest_0 3 rfl rfl)
theorem dX0_worthiest_4 : decode cX0_worthiest 4 = .ok (.iconst 0, 1) := dk_3 (dk_at dksX0_worthiest_0 4 rfl rfl)
theorem dX0_worthiest_5 : decode cX0_worthiest 5 = .ok (.istore 4, 2) := dk_54 4 (dk_at dksX0_worthiest_0 5 rfl rfl)
theorem dX0_worthiest_7 : decode cX0_worthiest 7 = .ok (.iload 4, 2) := dk_21 4 (dk_at dksX0_worthiest_0 7 rfl rfl)
theorem dX0_worthiest_9 : decode cX0_worthiest 9 = .ok (.bipush 54, 2) := dk_16 54 (dk_at dksX0_worthiest_0 9 rfl rfl)
theorem dX0_worthiest_11 : decode cX0_worthiest 11 = .ok (.if_icmp .ge 77, 3) := dk_162 0 77 (dk_at dksX0_worthiest_0 11 rfl rfl)
theorem dX0_worthiest_14 : decode cX0_worthiest 14 = .ok (.iload_n 1, 1) := dk_27 (dk_at dksX0_worthiest_0 14 rfl rfl)
theorem dX0_worthiest_15 : decode cX0_worthiest 15 = .ok (.invokestatic 173, 3) := dk_184 0 173 (dk_at dksX0_worthiest_0 15 rfl rfl)
theorem dX0_worthiest_18 : decode cX0_worthiest 18 = .ok (.ifCond .eq 70, 3) := dk_153 0 70 (dk_at dksX0_worthiest_0 18 rfl rfl)
theorem dX0_worthiest_21 : decode cX0_worthiest 21 = .ok (.aload_n 0, 1) := dk_42 (dk_at dksX0_worthiest_0 21 rfl rfl)
theorem dX0_worthiest_22 : decode cX0_worthiest 22 = .ok (.iload 4, 2) := dk_21 4 (dk_at dksX0_worthiest_0 22 rfl rfl)
theorem dX0_worthiest_24 : decode cX0_worthiest 24 = .ok (.invokevirtual 222, 3) := dk_182 0 222 (dk_at dksX0_worthiest_1 0 rfl rfl)
theorem dX0_worthiest_27 : decode cX0_worthiest 27 = .ok (.ifCond .ne 6, 3) := dk_154 0 6 (dk_at dksX0_worthiest_1 3 rfl rfl)
theorem dX0_worthiest_30 : decode cX0_worthiest 30 = .ok (.goto 52, 3) := dk_167 0 52 (dk_at dksX0_worthiest_1 6 rfl rfl)
theorem dX0_worthiest_33 : decode cX0_worthiest 33 = .ok (.aload_n 0, 1) := dk_42 (dk_at dksX0_worthiest_1 9 rfl rfl)
theorem dX0_worthiest_34 : decode cX0_worthiest 34 = .ok (.iload 4, 2) := dk_21 4 (dk_at dksX0_worthiest_1 10 rfl rfl)
theorem dX0_worthiest_36 : decode cX0_worthiest 36 = .ok (.bipush 6, 2) := dk_16 6 (dk_at dksX0_worthiest_1 12 rfl rfl)
theorem dX0_worthiest_38 : decode cX0_worthiest 38 = .ok (.irem, 1) := dk_112 (dk_at dksX0_worthiest_1 14 rfl rfl)
theorem dX0_worthiest_39 : decode cX0_worthiest 39 = .ok (.iload 4, 2) := dk_21 4 (dk_at dksX0_worthiest_1 15 rfl rfl)
theorem dX0_worthiest_41 : decode cX0_worthiest 41 = .ok (.bipush 6, 2) := dk_16 6 (dk_at dksX0_worthiest_1 17 rfl rfl)
theorem dX0_worthiest_43 : decode cX0_worthiest 43 = .ok (.idiv, 1) := dk_108 (dk_at dksX0_worthiest_1 19 rfl rfl)
theorem dX0_worthiest_44 : decode cX0_worthiest 44 = .ok (.iload_n 1, 1) := dk_27 (dk_at dksX0_worthiest_1 20 rfl rfl)
theorem dX0_worthiest_45 : decode cX0_worthiest 45 = .ok (.invokevirtual 335, 3) := dk_182 1 79 (dk_at dksX0_worthiest_1 21 rfl rfl)
theorem dX0_worthiest_48 : decode cX0_worthiest 48 = .ok (.istore 5, 2) := dk_54 5 (dk_at dksX0_worthiest_2 0 rfl rfl)
theorem dX0_worthiest_50 : decode cX0_worthiest 50 = .ok (.aload_n 0, 1) := dk_42 (dk_at dksX0_worthiest_2 2 rfl rfl)
theorem dX0_worthiest_51 : decode cX0_worthiest 51 = .ok (.iconst 3, 1) := dk_6 (dk_at dksX0_worthiest_2 3 rfl rfl)
theorem dX0_worthiest_52 : decode cX0_worthiest 52 = .ok (.iconst 0, 1) := dk_3 (dk_at dksX0_worthiest_2 4 rfl rfl)
theorem dX0_worthiest_53 : decode cX0_worthiest 53 = .ok (.iconst 0, 1) := dk_3 (dk_at dksX0_worthiest_2 5 rfl rfl)
theorem dX0_worthiest_54 : decode cX0_worthiest 54 = .ok (.iload_n 1, 1) := dk_27 (dk_at dksX0_worthiest_2 6 rfl rfl)
theorem dX0_worthiest_55 : decode cX0_worthiest 55 = .ok (.invokevirtual 332, 3) := dk_182 1 76 (dk_at dksX0_worthiest_2 7 rfl rfl)
theorem dX0_worthiest_58 : decode cX0_worthiest 58 = .ok (.ifCond .ge 5, 3) := dk_156 0 5 (dk_at dksX0_worthiest_2 10 rfl rfl)
theorem dX0_worthiest_61 : decode cX0_worthiest 61 = .ok (.iconst (-1), 1) := dk_2 (dk_at dksX0_worthiest_2 13 rfl rfl)
theorem dX0_worthiest_62 : decode cX0_worthiest 62 = .ok (.ireturn, 1) := dk_172 (dk_at dksX0_worthiest_2 14 rfl rfl)
theorem dX0_worthiest_63 : decode cX0_worthiest 63 = .ok (.iload_n 2, 1) := dk_28 (dk_at dksX0_worthiest_2 15 rfl rfl)
theorem dX0_worthiest_64 : decode cX0_worthiest 64 = .ok (.ifCond .lt 12, 3) := dk_155 0 12 (dk_at dksX0_worthiest_2 16 rfl rfl)
theorem dX0_worthiest_67 : decode cX0_worthiest 67 = .ok (.iload 5, 2) := dk_21 5 (dk_at dksX0_worthiest_2 19 rfl rfl)
theorem dX0_worthiest_69 : decode cX0_worthiest 69 = .ok (.iload_n 3, 1) := dk_29 (dk_at dksX0_worthiest_2 21 rfl rfl)
theorem dX0_worthiest_70 : decode cX0_worthiest 70 = .ok (.if_icmp .gt 6, 3) := dk_163 0 6 (dk_at dksX0_worthiest_3 0 rfl rfl)
theorem dX0_worthiest_73 : decode cX0_worthiest 73 = .ok (.goto 9, 3) := dk_167 0 9 (dk_at dksX0_worthiest_3 3 rfl rfl)
theorem dX0_worthiest_76 : decode cX0_worthiest 76 = .ok (.iload 4, 2) := dk_21 4 (dk_at dksX0_worthiest_3 6 rfl rfl)
theorem dX0_worthiest_78 : decode cX0_worthiest 78 = .ok (.istore_n 2, 1) := dk_61 (dk_at dksX0_worthiest_3 8 rfl rfl)
theorem dX0_worthiest_79 : decode cX0_worthiest 79 = .ok (.iload 5, 2) := dk_21 5 (dk_at dksX0_worthiest_3 9 rfl rfl)
theorem dX0_worthiest_81 : decode cX0_worthiest 81 = .ok (.istore_n 3, 1) := dk_62 (dk_at dksX0_worthiest_3 11 rfl rfl)
theorem dX0_worthiest_82 : decode cX0_worthiest 82 = .ok (.iinc 4 1, 3) := dk_132 4 1 (dk_at dksX0_worthiest_3 12 rfl rfl)
theorem dX0_worthiest_85 : decode cX0_worthiest 85 = .ok (.goto (-78), 3) := dk_167 255 178 (dk_at dksX0_worthiest_3 15 rfl rfl)
theorem dX0_worthiest_88 : decode cX0_worthiest 88 = .ok (.iload_n 2, 1) := dk_28 (dk_at dksX0_worthiest_3 18 rfl rfl)
theorem dX0_worthiest_89 : decode cX0_worthiest 89 = .ok (.ifCond .ge 7, 3) := dk_156 0 7 (dk_at dksX0_worthiest_3 19 rfl rfl)
theorem dX0_worthiest_92 : decode cX0_worthiest 92 = .ok (.iconst (-1), 1) := dk_2 (dk_at dksX0_worthiest_3 22 rfl rfl)
theorem dX0_worthiest_93 : decode cX0_worthiest 93 = .ok (.goto 15, 3) := dk_167 0 15 (dk_at dksX0_worthiest_4 0 rfl rfl)
theorem dX0_worthiest_96 : decode cX0_worthiest 96 = .ok (.iload_n 2, 1) := dk_28 (dk_at dksX0_worthiest_4 3 rfl rfl)
theorem dX0_worthiest_97 : decode cX0_worthiest 97 = .ok (.bipush 6, 2) := dk_16 6 (dk_at dksX0_worthiest_4 4 rfl rfl)
theorem dX0_worthiest_99 : decode cX0_worthiest 99 = .ok (.idiv, 1) := dk_108 (dk_at dksX0_worthiest_4 6 rfl rfl)
theorem dX0_worthiest_100 : decode cX0_worthiest 100 = .ok (.bipush 8, 2) := dk_16 8 (dk_at dksX0_worthiest_4 7 rfl rfl)
theorem dX0_worthiest_102 : decode cX0_worthiest 102 = .ok (.imul, 1) := dk_104 (dk_at dksX0_worthiest_4 9 rfl rfl)
theorem dX0_worthiest_103 : decode cX0_worthiest 103 = .ok (.iload_n 2, 1) := dk_28 (dk_at dksX0_worthiest_4 10 rfl rfl)
theorem dX0_worthiest_104 : decode cX0_worthiest 104 = .ok (.bipush 6, 2) := dk_16 6 (dk_at dksX0_worthiest_4 11 rfl rfl)
theorem dX0_worthiest_106 : decode cX0_worthiest 106 = .ok (.irem, 1) := dk_112 (dk_at dksX0_worthiest_4 13 rfl rfl)
theorem dX0_worthiest_107 : decode cX0_worthiest 107 = .ok (.iadd, 1) := dk_96 (dk_at dksX0_worthiest_4 14 rfl rfl)
theorem dX0_worthiest_108 : decode cX0_worthiest 108 = .ok (.ireturn, 1) := dk_172 (dk_at dksX0_worthiest_4 15 rfl rfl)
abbrev cX0_odds : ByteArray := prog_1_method_51_code
def yX0_odds : MethodName := ⟨RX0, "odds", "(III)I"⟩
def dkwX0_odds_2 : List UInt8 := [42, 42, 180, 0, 35, 180, 1, 35, 27, 182, 1, 39, 192, 0, 252, 3, 3, 3, 28, 29, 182, 1, 82, 172]
abbrev dktX0_odds_2 : List UInt8 := dkwX0_odds_2 ++ []
def dkwX0_odds_1 : List UInt8 := [21, 4, 42, 180, 0, 70, 190, 162, 0, 17, 42, 180, 0, 70, 21, 4, 2, 79, 132, 4, 1, 167, 255, 235]
abbrev dktX0_odds_1 : List UInt8 := dkwX0_odds_1 ++ dktX0_odds_2
def dkwX0_odds_0 : List UInt8 := [29, 184, 0, 173, 153, 0, 14, 42, 27, 3, 3, 28, 182, 1, 76, 156, 0, 5, 2, 172, 3, 54, 4]
abbrev dktX0_odds_0 : List UInt8 := dkwX0_odds_0 ++ dktX0_odds_1
theorem dksX0_odds_0 : cX0_odds.data.toList.drop 0 = dktX0_odds_0 := by decide +kernel
theorem dksX0_odds_1 : cX0_odds.data.toList.drop 23 = dktX0_odds_1 := dk_seg dksX0_odds_0 23 rfl rfl
theorem dksX0_odds_2 : cX0_odds.data.toList.drop 47 = dktX0_odds_2 := dk_seg dksX0_odds_1 24 rfl rfl
theorem dX0_odds_0 : decode cX0_odds 0 = .ok (.iload_n 3, 1) := dk_29 (dk_at dksX0_odds_0 0 rfl rfl)
theorem dX0_odds_1 : decode cX0_odds 1 = .ok (.invokestatic 173, 3) := dk_184 0 173 (dk_at dksX0_odds_0 1 rfl rfl)
theorem dX0_odds_4 : decode cX0_odds 4 = .ok (.ifCond .eq 14, 3) := dk_153 0 14 (dk_at dksX0_odds_0 4 rfl rfl)
theorem dX0_odds_7 : decode cX0_odds 7 = .ok (.aload_n 0, 1) := dk_42 (dk_at dksX0_odds_0 7 rfl rfl)
theorem dX0_odds_8 : decode cX0_odds 8 = .ok (.iload_n 1, 1) := dk_27 (dk_at dksX0_odds_0 8 rfl rfl)
theorem dX0_odds_9 : decode cX0_odds 9 = .ok (.iconst 0, 1) := dk_3 (dk_at dksX0_odds_0 9 rfl rfl)
theorem dX0_odds_10 : decode cX0_odds 10 = .ok (.iconst 0, 1) := dk_3 (dk_at dksX0_odds_0 10 rfl rfl)
theorem dX0_odds_11 : decode cX0_odds 11 = .ok (.iload_n 2, 1) := dk_28 (dk_at dksX0_odds_0 11 rfl rfl)
theorem dX0_odds_12 : decode cX0_odds 12 = .ok (.invokevirtual 332, 3) := dk_182 1 76 (dk_at dksX0_odds_0 12 rfl rfl)
theorem dX0_odds_15 : decode cX0_odds 15 = .ok (.ifCond .ge 5, 3) := dk_156 0 5 (dk_at dksX0_odds_0 15 rfl rfl)
theorem dX0_odds_18 : decode cX0_odds 18 = .ok (.iconst (-1), 1) := dk_2 (dk_at dksX0_odds_0 18 rfl rfl)
theorem dX0_odds_19 : decode cX0_odds 19 = .ok (.ireturn, 1) := dk_172 (dk_at dksX0_odds_0 19 rfl rfl)
theorem dX0_odds_20 : decode cX0_odds 20 = .ok (.iconst 0, 1) := dk_3 (dk_at dksX0_odds_0 20 rfl rfl)
theorem dX0_odds_21 : decode cX0_odds 21 = .ok (.istore 4, 2) := dk_54 4 (dk_at dksX0_odds_0 21 rfl rfl)
theorem dX0_odds_23 : decode cX0_odds 23 = .ok (.iload 4, 2) := dk_21 4 (dk_at dksX0_odds_1 0 rfl rfl)
theorem dX0_odds_25 : decode cX0_odds 25 = .ok (.aload_n 0, 1) := dk_42 (dk_at dksX0_odds_1 2 rfl rfl)
theorem dX0_odds_26 : decode cX0_odds 26 = .ok (.getfield 70, 3) := dk_180 0 70 (dk_at dksX0_odds_1 3 rfl rfl)
theorem dX0_odds_29 : decode cX0_odds 29 = .ok (.arraylength, 1) := dk_190 (dk_at dksX0_odds_1 6 rfl rfl)
theorem dX0_odds_30 : decode cX0_odds 30 = .ok (.if_icmp .ge 17, 3) := dk_162 0 17 (dk_at dksX0_odds_1 7 rfl rfl)
theorem dX0_odds_33 : decode cX0_odds 33 = .ok (.aload_n 0, 1) := dk_42 (dk_at dksX0_odds_1 10 rfl rfl)
theorem dX0_odds_34 : decode cX0_odds 34 = .ok (.getfield 70, 3) := dk_180 0 70 (dk_at dksX0_odds_1 11 rfl rfl)
theorem dX0_odds_37 : decode cX0_odds 37 = .ok (.iload 4, 2) := dk_21 4 (dk_at dksX0_odds_1 14 rfl rfl)
theorem dX0_odds_39 : decode cX0_odds 39 = .ok (.iconst (-1), 1) := dk_2 (dk_at dksX0_odds_1 16 rfl rfl)
theorem dX0_odds_40 : decode cX0_odds 40 = .ok (.iastore, 1) := dk_79 (dk_at dksX0_odds_1 17 rfl rfl)
theorem dX0_odds_41 : decode cX0_odds 41 = .ok (.iinc 4 1, 3) := dk_132 4 1 (dk_at dksX0_odds_1 18 rfl rfl)
theorem dX0_odds_44 : decode cX0_odds 44 = .ok (.goto (-21), 3) := dk_167 255 235 (dk_at dksX0_odds_1 21 rfl rfl)
theorem dX0_odds_47 : decode cX0_odds 47 = .ok (.aload_n 0, 1) := dk_42 (dk_at dksX0_odds_2 0 rfl rfl)
theorem dX0_odds_48 : decode cX0_odds 48 = .ok (.aload_n 0, 1) := dk_42 (dk_at dksX0_odds_2 1 rfl rfl)
theorem dX0_odds_49 : decode cX0_odds 49 = .ok (.getfield 35, 3) := dk_180 0 35 (dk_at dksX0_odds_2 2 rfl rfl)
theorem dX0_odds_52 : decode cX0_odds 52 = .ok (.getfield 291, 3) := dk_180 1 35 (dk_at dksX0_odds_2 5 rfl rfl)
theorem dX0_odds_55 : decode cX0_odds 55 = .ok (.iload_n 1, 1) := dk_27 (dk_at dksX0_odds_2 8 rfl rfl)
theorem dX0_odds_56 : decode cX0_odds 56 = .ok (.invokevirtual 295, 3) := dk_182 1 39 (dk_at dksX0_odds_2 9 rfl rfl)
theorem dX0_odds_59 : decode cX0_odds 59 = .ok (.checkcast 252, 3) := dk_192 0 252 (dk_at dksX0_odds_2 12 rfl rfl)
theorem dX0_odds_62 : decode cX0_odds 62 = .ok (.iconst 0, 1) := dk_3 (dk_at dksX0_odds_2 15 rfl rfl)
theorem dX0_odds_63 : decode cX0_odds 63 = .ok (.iconst 0, 1) := dk_3 (dk_at dksX0_odds_2 16 rfl rfl)
theorem dX0_odds_64 : decode cX0_odds 64 = .ok (.iconst 0, 1) := dk_3 (dk_at dksX0_odds_2 17 rfl rfl)
theorem dX0_odds_65 : decode cX0_odds 65 = .ok (.iload_n 2, 1) := dk_28 (dk_at dksX0_odds_2 18 rfl rfl)
theorem dX0_odds_66 : decode cX0_odds 66 = .ok (.iload_n 3, 1) := dk_29 (dk_at dksX0_odds_2 19 rfl rfl)
theorem dX0_odds_67 : decode cX0_odds 67 = .ok (.invokevirtual 338, 3) := dk_182 1 82 (dk_at dksX0_odds_2 20 rfl rfl)
theorem dX0_odds_70 : decode cX0_odds 70 = .ok (.ireturn, 1) := dk_172 (dk_at dksX0_odds_2 23 rfl rfl)
abbrev cX0_oddsAt : ByteArray := prog_1_method_50_code
def yX0_oddsAt : MethodName := ⟨RX0, "oddsAt", "(LOverFirst$Goer;IIIII)I"⟩
def dkwX0_oddsAt_7 : List UInt8 := [42, 180, 0, 70, 21, 8, 46, 172]
abbrev dktX0_oddsAt_7 : List UInt8 := dkwX0_oddsAt_7 ++ []
def dkwX0_oddsAt_6 : List UInt8 := [180, 0, 70, 21, 8, 42, 43, 28, 29, 21, 4, 21, 5, 21, 6, 21, 5, 21, 4, 96, 182, 1, 85, 79]
abbrev dktX0_oddsAt_6 : List UInt8 := dkwX0_oddsAt_6 ++ dktX0_oddsAt_7
def dkwX0_oddsAt_5 : List UInt8 := [180, 0, 70, 21, 8, 22, 9, 42, 28, 29, 182, 0, 140, 180, 0, 160, 133, 109, 136, 79, 167, 0, 28, 42]
abbrev dktX0_oddsAt_5 : List UInt8 := dkwX0_oddsAt_5 ++ dktX0_oddsAt_6
def dkwX0_oddsAt_4 : List UInt8 := [29, 21, 4, 21, 5, 21, 6, 21, 11, 182, 1, 85, 133, 97, 55, 9, 132, 11, 1, 167, 255, 218, 42]
abbrev dktX0_oddsAt_4 : List UInt8 := dkwX0_oddsAt_4 ++ dktX0_oddsAt_5
def dkwX0_oddsAt_3 : List UInt8 := [55, 9, 3, 54, 11, 21, 11, 42, 28, 29, 182, 0, 140, 180, 0, 160, 162, 0, 30, 22, 9, 42, 43, 28]
abbrev dktX0_oddsAt_3 : List UInt8 := dkwX0_oddsAt_3 ++ dktX0_oddsAt_4
def dkwX0_oddsAt_2 : List UInt8 := [21, 8, 46, 155, 0, 11, 42, 180, 0, 70, 21, 8, 46, 172, 42, 21, 7, 182, 0, 222, 153, 0, 74, 9]
abbrev dktX0_oddsAt_2 : List UInt8 := dkwX0_oddsAt_2 ++ dktX0_oddsAt_3
def dkwX0_oddsAt_1 : List UInt8 := [29, 16, 6, 104, 28, 96, 54, 7, 21, 7, 17, 4, 147, 104, 21, 4, 96, 54, 8, 42, 180, 0, 70]
abbrev dktX0_oddsAt_1 : List UInt8 := dkwX0_oddsAt_1 ++ dktX0_oddsAt_2
def dkwX0_oddsAt_0 : List UInt8 := [21, 5, 21, 4, 96, 21, 6, 164, 0, 5, 3, 172, 42, 28, 29, 182, 1, 22, 153, 0, 6, 18, 126, 172]
abbrev dktX0_oddsAt_0 : List UInt8 := dkwX0_oddsAt_0 ++ dktX0_oddsAt_1
theorem dksX0_oddsAt_0 : cX0_oddsAt.data.toList.drop 0 = dktX0_oddsAt_0 := by decide +kernel
theorem dksX0_oddsAt_1 : cX0_oddsAt.data.toList.drop 24 = dktX0_oddsAt_1 := dk_seg dksX0_oddsAt_0 24 rfl rfl
theorem dksX0_oddsAt_2 : cX0_oddsAt.data.toList.drop 47 = dktX0_oddsAt_2 := dk_seg dksX0_oddsAt_1 23 rfl rfl
theorem dksX0_oddsAt_3 : cX0_oddsAt.data.toList.drop 71 = dktX0_oddsAt_3 := dk_seg dksX0_oddsAt_2 24 rfl rfl
theorem dksX0_oddsAt_4 : cX0_oddsAt.data.toList.drop 95 = dktX0_oddsAt_4 := dk_seg dksX0_oddsAt_3 24 rfl rfl
theorem dksX0_oddsAt_5 : cX0_oddsAt.data.toList.drop 118 = dktX0_oddsAt_5 := dk_seg dksX0_oddsAt_4 23 rfl rfl
theorem dksX0_oddsAt_6 : cX0_oddsAt.data.toList.drop 142 = dktX0_oddsAt_6 := dk_seg dksX0_oddsAt_5 24 rfl rfl
theorem dksX0_oddsAt_7 : cX0_oddsAt.data.toList.drop 166 = dktX0_oddsAt_7 := dk_seg dksX0_oddsAt_6 24 rfl rfl
theorem dX0_oddsAt_0 : decode cX0_oddsAt 0 = .ok (.iload 5, 2) := dk_21 5 (dk_at dksX0_oddsAt_0 0 rfl rfl)
theorem dX0_oddsAt_2 : decode cX0_oddsAt 2 = .ok (.iload 4, 2) := dk_21 4 (dk_at dksX0_oddsAt_0 2 rfl rfl)
theorem dX0_oddsAt_4 : decode cX0_oddsAt 4 = .ok (.iadd, 1) := dk_96 (dk_at dksX0_oddsAt_0 4 rfl rfl)
theorem dX0_oddsAt_5 : decode cX0_oddsAt 5 = .ok (.iload 6, 2) := dk_21 6 (dk_at dksX0_oddsAt_0 5 rfl rfl)
theorem dX0_oddsAt_7 : decode cX0_oddsAt 7 = .ok (.if_icmp .le 5, 3) := dk_164 0 5 (dk_at dksX0_oddsAt_0 7 rfl rfl)
theorem dX0_oddsAt_10 : decode cX0_oddsAt 10 = .ok (.iconst 0, 1) := dk_3 (dk_at dksX0_oddsAt_0 10 rfl rfl)
theorem dX0_oddsAt_11 : decode cX0_oddsAt 11 = .ok (.ireturn, 1) := dk_172 (dk_at dksX0_oddsAt_0 11 rfl rfl)
theorem dX0_oddsAt_12 : decode cX0_oddsAt 12 = .ok (.aload_n 0, 1) := dk_42 (dk_at dksX0_oddsAt_0 12 rfl rfl)
theorem dX0_oddsAt_13 : decode cX0_oddsAt 13 = .ok (.iload_n 2, 1) := dk_28 (dk_at dksX0_oddsAt_0 13 rfl rfl)
theorem dX0_oddsAt_14 : decode cX0_oddsAt 14 = .ok (.iload_n 3, 1) := dk_29 (dk_at dksX0_oddsAt_0 14 rfl rfl)
theorem dX0_oddsAt_15 : decode cX0_oddsAt 15 = .ok (.invokevirtual 278, 3) := dk_182 1 22 (dk_at dksX0_oddsAt_0 15 rfl rfl)
theorem dX0_oddsAt_18 : decode cX0_oddsAt 18 = .ok (.ifCond .eq 6, 3) := dk_153 0 6 (dk_at dksX0_oddsAt_0 18 rfl rfl)
theorem dX0_oddsAt_21 : decode cX0_oddsAt 21 = .ok (.ldc 126, 2) := dk_18 126 (dk_at dksX0_oddsAt_0 21 rfl rfl)
theorem dX0_oddsAt_23 : decode cX0_oddsAt 23 = .ok (.ireturn, 1) := dk_172 (dk_at dksX0_oddsAt_0 23 rfl rfl)
theorem dX0_oddsAt_24 : decode cX0_oddsAt 24 = .ok (.iload_n 3, 1) := dk_29 (dk_at dksX0_oddsAt_1 0 rfl rfl)
theorem dX0_oddsAt_25 : decode cX0_oddsAt 25 = .ok (.bipush 6, 2) := dk_16 6 (dk_at dksX0_oddsAt_1 1 rfl rfl)
theorem dX0_oddsAt_27 : decode cX0_oddsAt 27 = .ok (.imul, 1) := dk_104 (dk_at dksX0_oddsAt_1 3 rfl rfl)
theorem dX0_oddsAt_28 : decode cX0_oddsAt 28 = .ok (.iload_n 2, 1) := dk_28 (dk_at dksX0_oddsAt_1 4 rfl rfl)
theorem dX0_oddsAt_29 : decode cX0_oddsAt 29 = .ok (.iadd, 1) := dk_96 (dk_at dksX0_oddsAt_1 5 rfl rfl)
theorem dX0_oddsAt_30 : decode cX0_oddsAt 30 = .ok (.istore 7, 2) := dk_54 7 (dk_at dksX0_oddsAt_1 6 rfl rfl)
theorem dX0_oddsAt_32 : decode cX0_oddsAt 32 = .ok (.iload 7, 2) := dk_21 7 (dk_at dksX0_oddsAt_1 8 rfl rfl)
theorem dX0_oddsAt_34 : decode cX0_oddsAt 34 = .ok (.sipush 1171, 3) := dk_17 4 147 (dk_at dksX0_oddsAt_1 10 rfl rfl)
theorem dX0_oddsAt_37 : decode cX0_oddsAt 37 = .ok (.imul, 1) := dk_104 (dk_at dksX0_oddsAt_1 13 rfl rfl)
theorem dX0_oddsAt_38 : decode cX0_oddsAt 38 = .ok (.iload 4, 2) := dk_21 4 (dk_at dksX0_oddsAt_1 14 rfl rfl)
theorem dX0_oddsAt_40 : decode cX0_oddsAt 40 = .ok (.iadd, 1) := dk_96 (dk_at dksX0_oddsAt_1 16 rfl rfl)
theorem dX0_oddsAt_41 : decode cX0_oddsAt 41 = .ok (.istore 8, 2) := dk_54 8 (dk_at dksX0_oddsAt_1 17 rfl rfl)
theorem dX0_oddsAt_43 : decode cX0_oddsAt 43 = .ok (.aload_n 0, 1) := dk_42 (dk_at dksX0_oddsAt_1 19 rfl rfl)
theorem dX0_oddsAt_44 : decode cX0_oddsAt 44 = .ok (.getfield 70, 3) := dk_180 0 70 (dk_at dksX0_oddsAt_1 20 rfl rfl)
theorem dX0_oddsAt_47 : decode cX0_oddsAt 47 = .ok (.iload 8, 2) := dk_21 8 (dk_at dksX0_oddsAt_2 0 rfl rfl)
theorem dX0_oddsAt_49 : decode cX0_oddsAt 49 = .ok (.iaload, 1) := dk_46 (dk_at dksX0_oddsAt_2 2 rfl rfl)
theorem dX0_oddsAt_50 : decode cX0_oddsAt 50 = .ok (.ifCond .lt 11, 3) := dk_155 0 11 (dk_at dksX0_oddsAt_2 3 rfl rfl)
theorem dX0_oddsAt_53 : decode cX0_oddsAt 53 = .ok (.aload_n 0, 1) := dk_42 (dk_at dksX0_oddsAt_2 6 rfl rfl)
theorem dX0_oddsAt_54 : decode cX0_oddsAt 54 = .ok (.getfield 70, 3) := dk_180 0 70 (dk_at dksX0_oddsAt_2 7 rfl rfl)
theorem dX0_oddsAt_57 : decode cX0_oddsAt 57 = .ok (.iload 8, 2) := dk_21 8 (dk_at dksX0_oddsAt_2 10 rfl rfl)
theorem dX0_oddsAt_59 : decode cX0_oddsAt 59 = .ok (.iaload, 1) := dk_46 (dk_at dksX0_oddsAt_2 12 rfl rfl)
theorem dX0_oddsAt_60 : decode cX0_oddsAt 60 = .ok (.ireturn, 1) := dk_172 (dk_at dksX0_oddsAt_2 13 rfl rfl)
theorem dX0_oddsAt_61 : decode cX0_oddsAt 61 = .ok (.aload_n 0, 1) := dk_42 (dk_at dksX0_oddsAt_2 14 rfl rfl)
theorem dX0_oddsAt_62 : decode cX0_oddsAt 62 = .ok (.iload 7, 2) := dk_21 7 (dk_at dksX0_oddsAt_2 15 rfl rfl)
theorem dX0_oddsAt_64 : decode cX0_oddsAt 64 = .ok (.invokevirtual 222, 3) := dk_182 0 222 (dk_at dksX0_oddsAt_2 17 rfl rfl)
theorem dX0_oddsAt_67 : decode cX0_oddsAt 67 = .ok (.ifCond .eq 74, 3) := dk_153 0 74 (dk_at dksX0_oddsAt_2 20 rfl rfl)
theorem dX0_oddsAt_70 : decode cX0_oddsAt 70 = .ok (.lconst 0, 1) := dk_9 (dk_at dksX0_oddsAt_2 23 rfl rfl)
theorem dX0_oddsAt_71 : decode cX0_oddsAt 71 = .ok (.lstore 9, 2) := dk_55 9 (dk_at dksX0_oddsAt_3 0 rfl rfl)
theorem dX0_oddsAt_73 : decode cX0_oddsAt 73 = .ok (.iconst 0, 1) := dk_3 (dk_at dksX0_oddsAt_3 2 rfl rfl)
theorem dX0_oddsAt_74 : decode cX0_oddsAt 74 = .ok (.istore 11, 2) := dk_54 11 (dk_at dksX0_oddsAt_3 3 rfl rfl)
theorem dX0_oddsAt_76 : decode cX0_oddsAt 76 = .ok (.iload 11, 2) := dk_21 11 (dk_at dksX0_oddsAt_3 5 rfl rfl)
theorem dX0_oddsAt_78 : decode cX0_oddsAt 78 = .ok (.aload_n 0, 1) := dk_42 (dk_at dksX0_oddsAt_3 7 rfl rfl)
theorem dX0_oddsAt_79 : decode cX0_oddsAt 79 = .ok (.iload_n 2, 1) := dk_28 (dk_at dksX0_oddsAt_3 8 rfl rfl)
theorem dX0_oddsAt_80 : decode cX0_oddsAt 80 = .ok (.iload_n 3, 1) := dk_29 (dk_at dksX0_oddsAt_3 9 rfl rfl)
theorem dX0_oddsAt_81 : decode cX0_oddsAt 81 = .ok (.invokevirtual 140, 3) := dk_182 0 140 (dk_at dksX0_oddsAt_3 10 rfl rfl)
theorem dX0_oddsAt_84 : decode cX0_oddsAt 84 = .ok (.getfield 160, 3) := dk_180 0 160 (dk_at dksX0_oddsAt_3 13 rfl rfl)
theorem dX0_oddsAt_87 : decode cX0_oddsAt 87 = .ok (.if_icmp .ge 30, 3) := dk_162 0 30 (dk_at dksX0_oddsAt_3 16 rfl rfl)
theorem dX0_oddsAt_90 : decode cX0_oddsAt 90 = .ok (.lload 9, 2) := dk_22 9 (dk_at dksX0_oddsAt_3 19 rfl rfl)
theorem dX0_oddsAt_92 : decode cX0_oddsAt 92 = .ok (.aload_n 0, 1) := dk_42 (dk_at dksX0_oddsAt_3 21 rfl rfl)
theorem dX0_oddsAt_93 : decode cX0_oddsAt 93 = .ok (.aload_n 1, 1) := dk_43 (dk_at dksX0_oddsAt_3 22 rfl rfl)
theorem dX0_oddsAt_94 : decode cX0_oddsAt 94 = .ok (.iload_n 2, 1) := dk_28 (dk_at dksX0_oddsAt_3 23 rfl rfl)
theorem dX0_oddsAt_95 : decode cX0_oddsAt 95 = .ok (.iload_n 3, 1) := dk_29 (dk_at dksX0_oddsAt_4 0 rfl rfl)
theorem dX0_oddsAt_96 : decode cX0_oddsAt 96 = .ok (.iload 4, 2) := dk_21 4 (dk_at dksX0_oddsAt_4 1 rfl rfl)
theorem dX0_oddsAt_98 : decode cX0_oddsAt 98 = .ok (.iload 5, 2) := dk_21 5 (dk_at dksX0_oddsAt_4 3 rfl rfl)
theorem dX0_oddsAt_100 : decode cX0_oddsAt 100 = .ok (.iload 6, 2) := dk_21 6 (dk_at dksX0_oddsAt_4 5 rfl rfl)
theorem dX0_oddsAt_102 : decode cX0_oddsAt 102 = .ok (.iload 11, 2) := dk_21 11 (dk_at dksX0_oddsAt_4 7 rfl rfl)
theorem dX0_oddsAt_104 : decode cX0_oddsAt 104 = .ok (.invokevirtual 341, 3) := dk_182 1 85 (dk_at dksX0_oddsAt_4 9 rfl rfl)
theorem dX0_oddsAt_107 : decode cX0_oddsAt 107 = .ok (.i2l, 1) := dk_133 (dk_at dksX0_oddsAt_4 12 rfl rfl)
theorem dX0_oddsAt_108 : decode cX0_oddsAt 108 = .ok (.ladd, 1) := dk_97 (dk_at dksX0_oddsAt_4 13 rfl rfl)
theorem dX0_oddsAt_109 : decode cX0_oddsAt 109 = .ok (.lstore 9, 2) := dk_55 9 (dk_at dksX0_oddsAt_4 14 rfl rfl)
theorem dX0_oddsAt_111 : decode cX0_oddsAt 111 = .ok (.iinc 11 1, 3) := dk_132 11 1 (dk_at dksX0_oddsAt_4 16 rfl rfl)
theorem dX0_oddsAt_114 : decode cX0_oddsAt 114 = .ok (.goto (-38), 3) := dk_167 255 218 (dk_at dksX0_oddsAt_4 19 rfl rfl)
theorem dX0_oddsAt_117 : decode cX0_oddsAt 117 = .ok (.aload_n 0, 1) := dk_42 (dk_at dksX0_oddsAt_4 22 rfl rfl)
theorem dX0_oddsAt_118 : decode cX0_oddsAt 118 = .ok (.getfield 70, 3) := dk_180 0 70 (dk_at dksX0_oddsAt_5 0 rfl rfl)
theorem dX0_oddsAt_121 : decode cX0_oddsAt 121 = .ok (.iload 8, 2) := dk_21 8 (dk_at dksX0_oddsAt_5 3 rfl rfl)
theorem dX0_oddsAt_123 : decode cX0_oddsAt 123 = .ok (.lload 9, 2) := dk_22 9 (dk_at dksX0_oddsAt_5 5 rfl rfl)
theorem dX0_oddsAt_125 : decode cX0_oddsAt 125 = .ok (.aload_n 0, 1) := dk_42 (dk_at dksX0_oddsAt_5 7 rfl rfl)
theorem dX0_oddsAt_126 : decode cX0_oddsAt 126 = .ok (.iload_n 2, 1) := dk_28 (dk_at dksX0_oddsAt_5 8 rfl rfl)
theorem dX0_oddsAt_127 : decode cX0_oddsAt 127 = .ok (.iload_n 3, 1) := dk_29 (dk_at dksX0_oddsAt_5 9 rfl rfl)
theorem dX0_oddsAt_128 : decode cX0_oddsAt 128 = .ok (.invokevirtual 140, 3) := dk_182 0 140 (dk_at dksX0_oddsAt_5 10 rfl rfl)
theorem dX0_oddsAt_131 : decode cX0_oddsAt 131 = .ok (.getfield 160, 3) := dk_180 0 160 (dk_at dksX0_oddsAt_5 13 rfl rfl)
theorem dX0_oddsAt_134 : decode cX0_oddsAt 134 = .ok (.i2l, 1) := dk_133 (dk_at dksX0_oddsAt_5 16 rfl rfl)
theorem dX0_oddsAt_135 : decode cX0_oddsAt 135 = .ok (.ldiv, 1) := dk_109 (dk_at dksX0_oddsAt_5 17 rfl rfl)
theorem dX0_oddsAt_136 : decode cX0_oddsAt 136 = .ok (.l2i, 1) := dk_136 (dk_at dksX0_oddsAt_5 18 rfl rfl)
theorem dX0_oddsAt_137 : decode cX0_oddsAt 137 = .ok (.iastore, 1) := dk_79 (dk_at dksX0_oddsAt_5 19 rfl rfl)
theorem dX0_oddsAt_138 : decode cX0_oddsAt 138 = .ok (.goto 28, 3) := dk_167 0 28 (dk_at dksX0_oddsAt_5 20 rfl rfl)
theorem dX0_oddsAt_141 : decode cX0_oddsAt 141 = .ok (.aload_n 0, 1) := dk_42 (dk_at dksX0_oddsAt_5 23 rfl rfl)
theorem dX0_oddsAt_142 : decode cX0_oddsAt 142 = .ok (.getfield 70, 3) := dk_180 0 70 (dk_at dksX0_oddsAt_6 0 rfl rfl)
theorem dX0_oddsAt_145 : decode cX0_oddsAt 145 = .ok (.iload 8, 2) := dk_21 8 (dk_at dksX0_oddsAt_6 3 rfl rfl)
theorem dX0_oddsAt_147 : decode cX0_oddsAt 147 = .ok (.aload_n 0, 1) := dk_42 (dk_at dksX0_oddsAt_6 5 rfl rfl)
theorem dX0_oddsAt_148 : decode cX0_oddsAt 148 = .ok (.aload_n 1, 1) := dk_43 (dk_at dksX0_oddsAt_6 6 rfl rfl)
theorem dX0_oddsAt_149 : decode cX0_oddsAt 149 = .ok (.iload_n 2, 1) := dk_28 (dk_at dksX0_oddsAt_6 7 rfl rfl)
theorem dX0_oddsAt_150 : decode cX0_oddsAt 150 = .ok (.iload_n 3, 1) := dk_29 (dk_at dksX0_oddsAt_6 8 rfl rfl)
theorem dX0_oddsAt_151 : decode cX0_oddsAt 151 = .ok (.iload 4, 2) := dk_21 4 (dk_at dksX0_oddsAt_6 9 rfl rfl)
theorem dX0_oddsAt_153 : decode cX0_oddsAt 153 = .ok (.iload 5, 2) := dk_21 5 (dk_at dksX0_oddsAt_6 11 rfl rfl)
theorem dX0_oddsAt_155 : decode cX0_oddsAt 155 = .ok (.iload 6, 2) := dk_21 6 (dk_at dksX0_oddsAt_6 13 rfl rfl)
theorem dX0_oddsAt_157 : decode cX0_oddsAt 157 = .ok (.iload 5, 2) := dk_21 5 (dk_at dksX0_oddsAt_6 15 rfl rfl)
theorem dX0_oddsAt_159 : decode cX0_oddsAt 159 = .ok (.iload 4, 2) := dk_21 4 (dk_at dksX0_oddsAt_6 17 rfl rfl)
theorem dX0_oddsAt_161 : decode cX0_oddsAt 161 = .ok (.iadd, 1) := dk_96 (dk_at dksX0_oddsAt_6 19 rfl rfl)
theorem dX0_oddsAt_162 : decode cX0_oddsAt 162 = .ok (.invokevirtual 341, 3) := dk_182 1 85 (dk_at dksX0_oddsAt_6 20 rfl rfl)
theorem dX0_oddsAt_165 : decode cX0_oddsAt 165 = .ok (.iastore, 1) := dk_79 (dk_at dksX0_oddsAt_6 23 rfl rfl)
theorem dX0_oddsAt_166 : decode cX0_oddsAt 166 = .ok (.aload_n 0, 1) := dk_42 (dk_at dksX0_oddsAt_7 0 rfl rfl)
theorem dX0_oddsAt_167 : decode cX0_oddsAt 167 = .ok (.getfield 70, 3) := dk_180 0 70 (dk_at dksX0_oddsAt_7 1 rfl rfl)
theorem dX0_oddsAt_170 : decode cX0_oddsAt 170 = .ok (.iload 8, 2) := dk_21 8 (dk_at dksX0_oddsAt_7 4 rfl rfl)
theorem dX0_oddsAt_172 : decode cX0_oddsAt 172 = .ok (.iaload, 1) := dk_46 (dk_at dksX0_oddsAt_7 6 rfl rfl)
theorem dX0_oddsAt_173 : decode cX0_oddsAt 173 = .ok (.ireturn, 1) := dk_172 (dk_at dksX0_oddsAt_7 7 rfl rfl)
abbrev cX0_oddsBy : ByteArray := prog_1_method_49_code
def yX0_oddsBy : MethodName := ⟨RX0, "oddsBy", "(LOverFirst$Goer;IIIIII)I"⟩
def dkwX0_oddsBy_4 : List UInt8 := [21, 5, 21, 6, 182, 1, 82, 172]
abbrev dktX0_oddsBy_4 : List UInt8 := dkwX0_oddsBy_4 ++ []
def dkwX0_oddsBy_3 : List UInt8 := [154, 0, 9, 28, 4, 96, 167, 0, 4, 28, 21, 10, 154, 0, 7, 29, 167, 0, 6, 29, 4, 96, 21, 11]
abbrev dktX0_oddsBy_3 : List UInt8 := dkwX0_oddsBy_3 ++ dktX0_oddsBy_4
def dkwX0_oddsBy_2 : List UInt8 := [21, 8, 167, 0, 5, 21, 9, 96, 42, 180, 0, 35, 182, 0, 217, 96, 54, 11, 42, 43, 21, 10]
abbrev dktX0_oddsBy_2 : List UInt8 := dkwX0_oddsBy_2 ++ dktX0_oddsBy_3
def dkwX0_oddsBy_1 : List UInt8 := [28, 29, 21, 5, 21, 4, 96, 21, 8, 21, 9, 182, 1, 9, 54, 10, 21, 4, 21, 10, 154, 0, 8]
abbrev dktX0_oddsBy_1 : List UInt8 := dkwX0_oddsBy_1 ++ dktX0_oddsBy_2
def dkwX0_oddsBy_0 : List UInt8 := [42, 28, 29, 3, 21, 7, 182, 0, 191, 54, 8, 42, 28, 29, 4, 21, 7, 182, 0, 191, 54, 9, 42, 43]
abbrev dktX0_oddsBy_0 : List UInt8 := dkwX0_oddsBy_0 ++ dktX0_oddsBy_1
theorem dksX0_oddsBy_0 : cX0_oddsBy.data.toList.drop 0 = dktX0_oddsBy_0 := by decide +kernel
theorem dksX0_oddsBy_1 : cX0_oddsBy.data.toList.drop 24 = dktX0_oddsBy_1 := dk_seg dksX0_oddsBy_0 24 rfl rfl
theorem dksX0_oddsBy_2 : cX0_oddsBy.data.toList.drop 47 = dktX0_oddsBy_2 := dk_seg dksX0_oddsBy_1 23 rfl rfl
theorem dksX0_oddsBy_3 : cX0_oddsBy.data.toList.drop 69 = dktX0_oddsBy_3 := dk_seg dksX0_oddsBy_2 22 rfl rfl
theorem dksX0_oddsBy_4 : cX0_oddsBy.data.toList.drop 93 = dktX0_oddsBy_4 := dk_seg dksX0_oddsBy_3 24 rfl rfl
theorem dX0_oddsBy_0 : decode cX0_oddsBy 0 = .ok (.aload_n 0, 1) := dk_42 (dk_at dksX0_oddsBy_0 0 rfl rfl)
theorem dX0_oddsBy_1 : decode cX0_oddsBy 1 = .ok (.iload_n 2, 1) := dk_28 (dk_at dksX0_oddsBy_0 1 rfl rfl)
theorem dX0_oddsBy_2 : decode cX0_oddsBy 2 = .ok (.iload_n 3, 1) := dk_29 (dk_at dksX0_oddsBy_0 2 rfl rfl)
theorem dX0_oddsBy_3 : decode cX0_oddsBy 3 = .ok (.iconst 0, 1) := dk_3 (dk_at dksX0_oddsBy_0 3 rfl rfl)
theorem dX0_oddsBy_4 : decode cX0_oddsBy 4 = .ok (.iload 7, 2) := dk_21 7 (dk_at dksX0_oddsBy_0 4 rfl rfl)
theorem dX0_oddsBy_6 : decode cX0_oddsBy 6 = .ok (.invokevirtual 191, 3) := dk_182 0 191 (dk_at dksX0_oddsBy_0 6 rfl rfl)
theorem dX0_oddsBy_9 : decode cX0_oddsBy 9 = .ok (.istore 8, 2) := dk_54 8 (dk_at dksX0_oddsBy_0 9 rfl rfl)
theorem dX0_oddsBy_11 : decode cX0_oddsBy 11 = .ok (.aload_n 0, 1) := dk_42 (dk_at dksX0_oddsBy_0 11 rfl rfl)
theorem dX0_oddsBy_12 : decode cX0_oddsBy 12 = .ok (.iload_n 2, 1) := dk_28 (dk_at dksX0_oddsBy_0 12 rfl rfl)
theorem dX0_oddsBy_13 : decode cX0_oddsBy 13 = .ok (.iload_n 3, 1) := dk_29 (dk_at dksX0_oddsBy_0 13 rfl rfl)
theorem dX0_oddsBy_14 : decode cX0_oddsBy 14 = .ok (.iconst 1, 1) := dk_4 (dk_at dksX0_oddsBy_0 14 rfl rfl)
theorem dX0_oddsBy_15 : decode cX0_oddsBy 15 = .ok (.iload 7, 2) := dk_21 7 (dk_at dksX0_oddsBy_0 15 rfl rfl)
theorem dX0_oddsBy_17 : decode cX0_oddsBy 17 = .ok (.invokevirtual 191, 3) := dk_182 0 191 (dk_at dksX0_oddsBy_0 17 rfl rfl)
theorem dX0_oddsBy_20 : decode cX0_oddsBy 20 = .ok (.istore 9, 2) := dk_54 9 (dk_at dksX0_oddsBy_0 20 rfl rfl)
theorem dX0_oddsBy_22 : decode cX0_oddsBy 22 = .ok (.aload_n 0, 1) := dk_42 (dk_at dksX0_oddsBy_0 22 rfl rfl)
theorem dX0_oddsBy_23 : decode cX0_oddsBy 23 = .ok (.aload_n 1, 1) := dk_43 (dk_at dksX0_oddsBy_0 23 rfl rfl)
theorem dX0_oddsBy_24 : decode cX0_oddsBy 24 = .ok (.iload_n 2, 1) := dk_28 (dk_at dksX0_oddsBy_1 0 rfl rfl)
theorem dX0_oddsBy_25 : decode cX0_oddsBy 25 = .ok (.iload_n 3, 1) := dk_29 (dk_at dksX0_oddsBy_1 1 rfl rfl)
theorem dX0_oddsBy_26 : decode cX0_oddsBy 26 = .ok (.iload 5, 2) := dk_21 5 (dk_at dksX0_oddsBy_1 2 rfl rfl)
theorem dX0_oddsBy_28 : decode cX0_oddsBy 28 = .ok (.iload 4, 2) := dk_21 4 (dk_at dksX0_oddsBy_1 4 rfl rfl)
theorem dX0_oddsBy_30 : decode cX0_oddsBy 30 = .ok (.iadd, 1) := dk_96 (dk_at dksX0_oddsBy_1 6 rfl rfl)
theorem dX0_oddsBy_31 : decode cX0_oddsBy 31 = .ok (.iload 8, 2) := dk_21 8 (dk_at dksX0_oddsBy_1 7 rfl rfl)
theorem dX0_oddsBy_33 : decode cX0_oddsBy 33 = .ok (.iload 9, 2) := dk_21 9 (dk_at dksX0_oddsBy_1 9 rfl rfl)
theorem dX0_oddsBy_35 : decode cX0_oddsBy 35 = .ok (.invokevirtual 265, 3) := dk_182 1 9 (dk_at dksX0_oddsBy_1 11 rfl rfl)
theorem dX0_oddsBy_38 : decode cX0_oddsBy 38 = .ok (.istore 10, 2) := dk_54 10 (dk_at dksX0_oddsBy_1 14 rfl rfl)
theorem dX0_oddsBy_40 : decode cX0_oddsBy 40 = .ok (.iload 4, 2) := dk_21 4 (dk_at dksX0_oddsBy_1 16 rfl rfl)
theorem dX0_oddsBy_42 : decode cX0_oddsBy 42 = .ok (.iload 10, 2) := dk_21 10 (dk_at dksX0_oddsBy_1 18 rfl rfl)
theorem dX0_oddsBy_44 : decode cX0_oddsBy 44 = .ok (.ifCond .ne 8, 3) := dk_154 0 8 (dk_at dksX0_oddsBy_1 20 rfl rfl)
theorem dX0_oddsBy_47 : decode cX0_oddsBy 47 = .ok (.iload 8, 2) := dk_21 8 (dk_at dksX0_oddsBy_2 0 rfl rfl)
theorem dX0_oddsBy_49 : decode cX0_oddsBy 49 = .ok (.goto 5, 3) := dk_167 0 5 (dk_at dksX0_oddsBy_2 2 rfl rfl)
theorem dX0_oddsBy_52 : decode cX0_oddsBy 52 = .ok (.iload 9, 2) := dk_21 9 (dk_at dksX0_oddsBy_2 5 rfl rfl)
theorem dX0_oddsBy_54 : decode cX0_oddsBy 54 = .ok (.iadd, 1) := dk_96 (dk_at dksX0_oddsBy_2 7 rfl rfl)
theorem dX0_oddsBy_55 : decode cX0_oddsBy 55 = .ok (.aload_n 0, 1) := dk_42 (dk_at dksX0_oddsBy_2 8 rfl rfl)
theorem dX0_oddsBy_56 : decode cX0_oddsBy 56 = .ok (.getfield 35, 3) := dk_180 0 35 (dk_at dksX0_oddsBy_2 9 rfl rfl)
theorem dX0_oddsBy_59 : decode cX0_oddsBy 59 = .ok (.invokevirtual 217, 3) := dk_182 0 217 (dk_at dksX0_oddsBy_2 12 rfl rfl)
theorem dX0_oddsBy_62 : decode cX0_oddsBy 62 = .ok (.iadd, 1) := dk_96 (dk_at dksX0_oddsBy_2 15 rfl rfl)
theorem dX0_oddsBy_63 : decode cX0_oddsBy 63 = .ok (.istore 11, 2) := dk_54 11 (dk_at dksX0_oddsBy_2 16 rfl rfl)
theorem dX0_oddsBy_65 : decode cX0_oddsBy 65 = .ok (.aload_n 0, 1) := dk_42 (dk_at dksX0_oddsBy_2 18 rfl rfl)
theorem dX0_oddsBy_66 : decode cX0_oddsBy 66 = .ok (.aload_n 1, 1) := dk_43 (dk_at dksX0_oddsBy_2 19 rfl rfl)
theorem dX0_oddsBy_67 : decode cX0_oddsBy 67 = .ok (.iload 10, 2) := dk_21 10 (dk_at dksX0_oddsBy_2 20 rfl rfl)
theorem dX0_oddsBy_69 : decode cX0_oddsBy 69 = .ok (.ifCond .ne 9, 3) := dk_154 0 9 (dk_at dksX0_oddsBy_3 0 rfl rfl)
theorem dX0_oddsBy_72 : decode cX0_oddsBy 72 = .ok (.iload_n 2, 1) := dk_28 (dk_at dksX0_oddsBy_3 3 rfl rfl)
theorem dX0_oddsBy_73 : decode cX0_oddsBy 73 = .ok (.iconst 1, 1) := dk_4 (dk_at dksX0_oddsBy_3 4 rfl rfl)
theorem dX0_oddsBy_74 : decode cX0_oddsBy 74 = .ok (.iadd, 1) := dk_96 (dk_at dksX0_oddsBy_3 5 rfl rfl)
theorem dX0_oddsBy_75 : decode cX0_oddsBy 75 = .ok (.goto 4, 3) := dk_167 0 4 (dk_at dksX0_oddsBy_3 6 rfl rfl)
theorem dX0_oddsBy_78 : decode cX0_oddsBy 78 = .ok (.iload_n 2, 1) := dk_28 (dk_at dksX0_oddsBy_3 9 rfl rfl)
theorem dX0_oddsBy_79 : decode cX0_oddsBy 79 = .ok (.iload 10, 2) := dk_21 10 (dk_at dksX0_oddsBy_3 10 rfl rfl)
theorem dX0_oddsBy_81 : decode cX0_oddsBy 81 = .ok (.ifCond .ne 7, 3) := dk_154 0 7 (dk_at dksX0_oddsBy_3 12 rfl rfl)
theorem dX0_oddsBy_84 : decode cX0_oddsBy 84 = .ok (.iload_n 3, 1) := dk_29 (dk_at dksX0_oddsBy_3 15 rfl rfl)
theorem dX0_oddsBy_85 : decode cX0_oddsBy 85 = .ok (.goto 6, 3) := dk_167 0 6 (dk_at dksX0_oddsBy_3 16 rfl rfl)
theorem dX0_oddsBy_88 : decode cX0_oddsBy 88 = .ok (.iload_n 3, 1) := dk_29 (dk_at dksX0_oddsBy_3 19 rfl rfl)
theorem dX0_oddsBy_89 : decode cX0_oddsBy 89 = .ok (.iconst 1, 1) := dk_4 (dk_at dksX0_oddsBy_3 20 rfl rfl)
theorem dX0_oddsBy_90 : decode cX0_oddsBy 90 = .ok (.iadd, 1) := dk_96 (dk_at dksX0_oddsBy_3 21 rfl rfl)
theorem dX0_oddsBy_91 : decode cX0_oddsBy 91 = .ok (.iload 11, 2) := dk_21 11 (dk_at dksX0_oddsBy_3 22 rfl rfl)
theorem dX0_oddsBy_93 : decode cX0_oddsBy 93 = .ok (.iload 5, 2) := dk_21 5 (dk_at dksX0_oddsBy_4 0 rfl rfl)
theorem dX0_oddsBy_95 : decode cX0_oddsBy 95 = .ok (.iload 6, 2) := dk_21 6 (dk_at dksX0_oddsBy_4 2 rfl rfl)
theorem dX0_oddsBy_97 : decode cX0_oddsBy 97 = .ok (.invokevirtual 338, 3) := dk_182 1 82 (dk_at dksX0_oddsBy_4 4 rfl rfl)
theorem dX0_oddsBy_100 : decode cX0_oddsBy 100 = .ok (.ireturn, 1) := dk_172 (dk_at dksX0_oddsBy_4 7 rfl rfl)
abbrev cX0_rules : ByteArray := prog_1_method_52_code
def yX0_rules : MethodName := ⟨RX0, "rules", "()I"⟩
def dkwX0_rules_2 : List UInt8 := [167, 0, 8, 29, 60, 21, 4, 61, 132, 3, 1, 167, 255, 204, 27, 172]
abbrev dktX0_rules_2 : List UInt8 := dkwX0_rules_2 ++ []
def dkwX0_rules_1 : List UInt8 := [3, 3, 3, 182, 1, 76, 54, 4, 21, 4, 155, 0, 21, 27, 155, 0, 12, 21, 4, 28, 161, 0, 6]
abbrev dktX0_rules_1 : List UInt8 := dkwX0_rules_1 ++ dktX0_rules_2
def dkwX0_rules_0 : List UInt8 := [2, 60, 3, 61, 3, 62, 29, 42, 180, 0, 35, 180, 1, 89, 182, 1, 70, 162, 0, 44, 42, 7, 29, 96]
abbrev dktX0_rules_0 : List UInt8 := dkwX0_rules_0 ++ dktX0_rules_1
theorem dksX0_rules_0 : cX0_rules.data.toList.drop 0 = dktX0_rules_0 := by decide +kernel
theorem dksX0_rules_1 : cX0_rules.data.toList.drop 24 = dktX0_rules_1 := dk_seg dksX0_rules_0 24 rfl rfl
theorem dksX0_rules_2 : cX0_rules.data.toList.drop 47 = dktX0_rules_2 := dk_seg dksX0_rules_1 23 rfl rfl
theorem dX0_rules_0 : decode cX0_rules 0 = .ok (.iconst (-1), 1) := dk_2 (dk_at dksX0_rules_0 0 rfl rfl)
theorem dX0_rules_1 : decode cX0_rules 1 = .ok (.istore_n 1, 1) := dk_60 (dk_at dksX0_rules_0 1 rfl rfl)
theorem dX0_rules_2 : decode cX0_rules 2 = .ok (.iconst 0, 1) := dk_3 (dk_at dksX0_rules_0 2 rfl rfl)
theorem dX0_rules_3 : decode cX0_rules 3 = .ok (.istore_n 2, 1) := dk_61 (dk_at dksX0_rules_0 3 rfl rfl)
theorem dX0_rules_4 : decode cX0_rules 4 = .ok (.iconst 0, 1) := dk_3 (dk_at dksX0_rules_0 4 rfl rfl)
theorem dX0_rules_5 : decode cX0_rules 5 = .ok (.istore_n 3, 1) := dk_62 (dk_at dksX0_rules_0 5 rfl rfl)
theorem dX0_rules_6 : decode cX0_rules 6 = .ok (.iload_n 3, 1) := dk_29 (dk_at dksX0_rules_0 6 rfl rfl)
theorem dX0_rules_7 : decode cX0_rules 7 = .ok (.aload_n 0, 1) := dk_42 (dk_at dksX0_rules_0 7 rfl rfl)
theorem dX0_rules_8 : decode cX0_rules 8 = .ok (.getfield 35, 3) := dk_180 0 35 (dk_at dksX0_rules_0 8 rfl rfl)
theorem dX0_rules_11 : decode cX0_rules 11 = .ok (.getfield 345, 3) := dk_180 1 89 (dk_at dksX0_rules_0 11 rfl rfl)
theorem dX0_rules_14 : decode cX0_rules 14 = .ok (.invokevirtual 326, 3) := dk_182 1 70 (dk_at dksX0_rules_0 14 rfl rfl)
theorem dX0_rules_17 : decode cX0_rules 17 = .ok (.if_icmp .ge 44, 3) := dk_162 0 44 (dk_at dksX0_rules_0 17 rfl rfl)
theorem dX0_rules_20 : decode cX0_rules 20 = .ok (.aload_n 0, 1) := dk_42 (dk_at dksX0_rules_0 20 rfl rfl)
theorem dX0_rules_21 : decode cX0_rules 21 = .ok (.iconst 4, 1) := dk_7 (dk_at dksX0_rules_0 21 rfl rfl)
theorem dX0_rules_22 : decode cX0_rules 22 = .ok (.iload_n 3, 1) := dk_29 (dk_at dksX0_rules_0 22 rfl rfl)
theorem dX0_rules_23 : decode cX0_rules 23 = .ok (.iadd, 1) := dk_96 (dk_at dksX0_rules_0 23 rfl rfl)
theorem dX0_rules_24 : decode cX0_rules 24 = .ok (.iconst 0, 1) := dk_3 (dk_at dksX0_rules_1 0 rfl rfl)
theorem dX0_rules_25 : decode cX0_rules 25 = .ok (.iconst 0, 1) := dk_3 (dk_at dksX0_rules_1 1 rfl rfl)
theorem dX0_rules_26 : decode cX0_rules 26 = .ok (.iconst 0, 1) := dk_3 (dk_at dksX0_rules_1 2 rfl rfl)
theorem dX0_rules_27 : decode cX0_rules 27 = .ok (.invokevirtual 332, 3) := dk_182 1 76 (dk_at dksX0_rules_1 3 rfl rfl)
theorem dX0_rules_30 : decode cX0_rules 30 = .ok (.istore 4, 2) := dk_54 4 (dk_at dksX0_rules_1 6 rfl rfl)
theorem dX0_rules_32 : decode cX0_rules 32 = .ok (.iload 4, 2) := dk_21 4 (dk_at dksX0_rules_1 8 rfl rfl)
theorem dX0_rules_34 : decode cX0_rules 34 = .ok (.ifCond .lt 21, 3) := dk_155 0 21 (dk_at dksX0_rules_1 10 rfl rfl)
theorem dX0_rules_37 : decode cX0_rules 37 = .ok (.iload_n 1, 1) := dk_27 (dk_at dksX0_rules_1 13 rfl rfl)
theorem dX0_rules_38 : decode cX0_rules 38 = .ok (.ifCond .lt 12, 3) := dk_155 0 12 (dk_at dksX0_rules_1 14 rfl rfl)
theorem dX0_rules_41 : decode cX0_rules 41 = .ok (.iload 4, 2) := dk_21 4 (dk_at dksX0_rules_1 17 rfl rfl)
theorem dX0_rules_43 : decode cX0_rules 43 = .ok (.iload_n 2, 1) := dk_28 (dk_at dksX0_rules_1 19 rfl rfl)
theorem dX0_rules_44 : decode cX0_rules 44 = .ok (.if_icmp .lt 6, 3) := dk_161 0 6 (dk_at dksX0_rules_1 20 rfl rfl)
theorem dX0_rules_47 : decode cX0_rules 47 = .ok (.goto 8, 3) := dk_167 0 8 (dk_at dksX0_rules_2 0 rfl rfl)
theorem dX0_rules_50 : decode cX0_rules 50 = .ok (.iload_n 3, 1) := dk_29 (dk_at dksX0_rules_2 3 rfl rfl)
theorem dX0_rules_51 : decode cX0_rules 51 = .ok (.istore_n 1, 1) := dk_60 (dk_at dksX0_rules_2 4 rfl rfl)
theorem dX0_rules_52 : decode cX0_rules 52 = .ok (.iload 4, 2) := dk_21 4 (dk_at dksX0_rules_2 5 rfl rfl)
theorem dX0_rules_54 : decode cX0_rules 54 = .ok (.istore_n 2, 1) := dk_61 (dk_at dksX0_rules_2 7 rfl rfl)
theorem dX0_rules_55 : decode cX0_rules 55 = .ok (.iinc 3 1, 3) := dk_132 3 1 (dk_at dksX0_rules_2 8 rfl rfl)
theorem dX0_rules_58 : decode cX0_rules 58 = .ok (.goto (-52), 3) := dk_167 255 204 (dk_at dksX0_rules_2 11 rfl rfl)
theorem dX0_rules_61 : decode cX0_rules 61 = .ok (.iload_n 1, 1) := dk_27 (dk_at dksX0_rules_2 14 rfl rfl)
theorem dX0_rules_62 : decode cX0_rules 62 = .ok (.ireturn, 1) := dk_172 (dk_at dksX0_rules_2 15 rfl rfl)
abbrev cX0_pace : ByteArray := prog_1_method_60_code
def yX0_pace : MethodName := ⟨RX0, "pace", "(II)I"⟩
def dkwX0_pace_10 : List UInt8 := [167, 255, 123, 21, 6, 172]
abbrev dktX0_pace_10 : List UInt8 := dkwX0_pace_10 ++ []
def dkwX0_pace_9 : List UInt8 := [182, 0, 217, 162, 0, 6, 132, 4, 1, 21, 5, 21, 9, 21, 6, 96, 96, 54, 5, 132, 7, 1]
abbrev dktX0_pace_9 : List UInt8 := dkwX0_pace_9 ++ dktX0_pace_10
def dkwX0_pace_8 : List UInt8 := [21, 6, 182, 1, 107, 21, 10, 159, 0, 9, 132, 6, 1, 167, 255, 233, 21, 6, 42, 180, 0, 35]
abbrev dktX0_pace_8 : List UInt8 := dkwX0_pace_8 ++ dktX0_pace_9
def dkwX0_pace_7 : List UInt8 := [167, 0, 4, 3, 100, 54, 10, 42, 182, 1, 103, 54, 6, 42, 21, 7, 21, 4, 21, 5, 21, 9, 96]
abbrev dktX0_pace_7 : List UInt8 := dkwX0_pace_7 ++ dktX0_pace_8
def dkwX0_pace_6 : List UInt8 := [42, 180, 0, 74, 42, 21, 7, 21, 4, 21, 5, 182, 1, 96, 46, 21, 9, 158, 0, 9, 19, 1, 110]
abbrev dktX0_pace_6 : List UInt8 := dkwX0_pace_6 ++ dktX0_pace_7
def dkwX0_pace_5 : List UInt8 := [21, 7, 21, 8, 100, 42, 180, 0, 42, 180, 0, 228, 21, 7, 46, 27, 21, 5, 96, 182, 0, 191, 54, 9]
abbrev dktX0_pace_5 : List UInt8 := dkwX0_pace_5 ++ dktX0_pace_6
def dkwX0_pace_4 : List UInt8 := [54, 6, 3, 54, 7, 21, 7, 28, 5, 100, 163, 0, 131, 42, 21, 7, 182, 1, 99, 54, 8, 42, 21, 8]
abbrev dktX0_pace_4 : List UInt8 := dkwX0_pace_4 ++ dktX0_pace_5
def dkwX0_pace_3 : List UInt8 := [29, 19, 1, 110, 108, 167, 0, 10, 27, 29, 19, 1, 110, 112, 96, 172, 3, 54, 4, 3, 54, 5, 3]
abbrev dktX0_pace_3 : List UInt8 := dkwX0_pace_3 ++ dktX0_pace_4
def dkwX0_pace_2 : List UInt8 := [3, 182, 1, 96, 46, 62, 29, 19, 1, 95, 160, 0, 5, 2, 172, 28, 5, 162, 0, 23, 28, 154, 0, 11]
abbrev dktX0_pace_2 : List UInt8 := dkwX0_pace_2 ++ dktX0_pace_3
def dkwX0_pace_1 : List UInt8 := [180, 0, 225, 96, 184, 0, 127, 154, 0, 5, 2, 172, 42, 27, 182, 1, 114, 42, 180, 0, 74, 42, 3, 3]
abbrev dktX0_pace_1 : List UInt8 := dkwX0_pace_1 ++ dktX0_pace_2
def dkwX0_pace_0 : List UInt8 := [27, 184, 0, 173, 153, 0, 30, 42, 180, 0, 42, 180, 0, 225, 153, 0, 20, 28, 3, 4, 42, 180, 0, 42]
abbrev dktX0_pace_0 : List UInt8 := dkwX0_pace_0 ++ dktX0_pace_1
theorem dksX0_pace_0 : cX0_pace.data.toList.drop 0 = dktX0_pace_0 := by decide +kernel
theorem dksX0_pace_1 : cX0_pace.data.toList.drop 24 = dktX0_pace_1 := dk_seg dksX0_pace_0 24 rfl rfl
theorem dksX0_pace_2 : cX0_pace.data.toList.drop 48 = dktX0_pace_2 := dk_seg dksX0_pace_1 24 rfl rfl
theorem dksX0_pace_3 : cX0_pace.data.toList.drop 72 = dktX0_pace_3 := dk_seg dksX0_pace_2 24 rfl rfl
theorem dksX0_pace_4 : cX0_pace.data.toList.drop 95 = dktX0_pace_4 := dk_seg dksX0_pace_3 23 rfl rfl
theorem dksX0_pace_5 : cX0_pace.data.toList.drop 119 = dktX0_pace_5 := dk_seg dksX0_pace_4 24 rfl rfl
theorem dksX0_pace_6 : cX0_pace.data.toList.drop 143 = dktX0_pace_6 := dk_seg dksX0_pace_5 24 rfl rfl
theorem dksX0_pace_7 : cX0_pace.data.toList.drop 166 = dktX0_pace_7 := dk_seg dksX0_pace_6 23 rfl rfl
theorem dksX0_pace_8 : cX0_pace.data.toList.drop 189 = dktX0_pace_8 := dk_seg dksX0_pace_7 23 rfl rfl
theorem dksX0_pace_9 : cX0_pace.data.toList.drop 211 = dktX0_pace_9 := dk_seg dksX0_pace_8 22 rfl rfl
theorem dksX0_pace_10 : cX0_pace.data.toList.drop 233 = dktX0_pace_10 := dk_seg dksX0_pace_9 22 rfl rfl
theorem dX0_pace_0 : decode cX0_pace 0 = .ok (.iload_n 1, 1) := dk_27 (dk_at dksX0_pace_0 0 rfl rfl)
theorem dX0_pace_1 : decode cX0_pace 1 = .ok (.invokestatic 173, 3) := dk_184 0 173 (dk_at dksX0_pace_0 1 rfl rfl)
theorem dX0_pace_4 : decode cX0_pace 4 = .ok (.ifCond .eq 30, 3) := dk_153 0 30 (dk_at dksX0_pace_0 4 rfl rfl)
theorem dX0_pace_7 : decode cX0_pace 7 = .ok (.aload_n 0, 1) := dk_42 (dk_at dksX0_pace_0 7 rfl rfl)
theorem dX0_pace_8 : decode cX0_pace 8 = .ok (.getfield 42, 3) := dk_180 0 42 (dk_at dksX0_pace_0 8 rfl rfl)
theorem dX0_pace_11 : decode cX0_pace 11 = .ok (.getfield 225, 3) := dk_180 0 225 (dk_at dksX0_pace_0 11 rfl rfl)
theorem dX0_pace_14 : decode cX0_pace 14 = .ok (.ifCond .eq 20, 3) := dk_153 0 20 (dk_at dksX0_pace_0 14 rfl rfl)
theorem dX0_pace_17 : decode cX0_pace 17 = .ok (.iload_n 2, 1) := dk_28 (dk_at dksX0_pace_0 17 rfl rfl)
theorem dX0_pace_18 : decode cX0_pace 18 = .ok (.iconst 0, 1) := dk_3 (dk_at dksX0_pace_0 18 rfl rfl)
theorem dX0_pace_19 : decode cX0_pace 19 = .ok (.iconst 1, 1) := dk_4 (dk_at dksX0_pace_0 19 rfl rfl)
theorem dX0_pace_20 : decode cX0_pace 20 = .ok (.aload_n 0, 1) := dk_42 (dk_at dksX0_pace_0 20 rfl rfl)
theorem dX0_pace_21 : decode cX0_pace 21 = .ok (.getfield 42, 3) := dk_180 0 42 (dk_at dksX0_pace_0 21 rfl rfl)
theorem dX0_pace_24 : decode cX0_pace 24 = .ok (.getfield 225, 3) := dk_180 0 225 (dk_at dksX0_pace_1 0 rfl rfl)
theorem dX0_pace_27 : decode cX0_pace 27 = .ok (.iadd, 1) := dk_96 (dk_at dksX0_pace_1 3 rfl rfl)
theorem dX0_pace_28 : decode cX0_pace 28 = .ok (.invokestatic 127, 3) := dk_184 0 127 (dk_at dksX0_pace_1 4 rfl rfl)
theorem dX0_pace_31 : decode cX0_pace 31 = .ok (.ifCond .ne 5, 3) := dk_154 0 5 (dk_at dksX0_pace_1 7 rfl rfl)
theorem dX0_pace_34 : decode cX0_pace 34 = .ok (.iconst (-1), 1) := dk_2 (dk_at dksX0_pace_1 10 rfl rfl)
theorem dX0_pace_35 : decode cX0_pace 35 = .ok (.ireturn, 1) := dk_172 (dk_at dksX0_pace_1 11 rfl rfl)
theorem dX0_pace_36 : decode cX0_pace 36 = .ok (.aload_n 0, 1) := dk_42 (dk_at dksX0_pace_1 12 rfl rfl)
theorem dX0_pace_37 : decode cX0_pace 37 = .ok (.iload_n 1, 1) := dk_27 (dk_at dksX0_pace_1 13 rfl rfl)
theorem dX0_pace_38 : decode cX0_pace 38 = .ok (.invokevirtual 370, 3) := dk_182 1 114 (dk_at dksX0_pace_1 14 rfl rfl)
theorem dX0_pace_41 : decode cX0_pace 41 = .ok (.aload_n 0, 1) := dk_42 (dk_at dksX0_pace_1 17 rfl rfl)
theorem dX0_pace_42 : decode cX0_pace 42 = .ok (.getfield 74, 3) := dk_180 0 74 (dk_at dksX0_pace_1 18 rfl rfl)
theorem dX0_pace_45 : decode cX0_pace 45 = .ok (.aload_n 0, 1) := dk_42 (dk_at dksX0_pace_1 21 rfl rfl)
theorem dX0_pace_46 : decode cX0_pace 46 = .ok (.iconst 0, 1) := dk_3 (dk_at dksX0_pace_1 22 rfl rfl)
theorem dX0_pace_47 : decode cX0_pace 47 = .ok (.iconst 0, 1) := dk_3 (dk_at dksX0_pace_1 23 rfl rfl)
theorem dX0_pace_48 : decode cX0_pace 48 = .ok (.iconst 0, 1) := dk_3 (dk_at dksX0_pace_2 0 rfl rfl)
theorem dX0_pace_49 : decode cX0_pace 49 = .ok (.invokevirtual 352, 3) := dk_182 1 96 (dk_at dksX0_pace_2 1 rfl rfl)
theorem dX0_pace_52 : decode cX0_pace 52 = .ok (.iaload, 1) := dk_46 (dk_at dksX0_pace_2 4 rfl rfl)
theorem dX0_pace_53 : decode cX0_pace 53 = .ok (.istore_n 3, 1) := dk_62 (dk_at dksX0_pace_2 5 rfl rfl)
theorem dX0_pace_54 : decode cX0_pace 54 = .ok (.iload_n 3, 1) := dk_29 (dk_at dksX0_pace_2 6 rfl rfl)
theorem dX0_pace_55 : decode cX0_pace 55 = .ok (.ldc_w 351, 3) := dk_19 1 95 (dk_at dksX0_pace_2 7 rfl rfl)
theorem dX0_pace_58 : decode cX0_pace 58 = .ok (.if_icmp .ne 5, 3) := dk_160 0 5 (dk_at dksX0_pace_2 10 rfl rfl)
theorem dX0_pace_61 : decode cX0_pace 61 = .ok (.iconst (-1), 1) := dk_2 (dk_at dksX0_pace_2 13 rfl rfl)
theorem dX0_pace_62 : decode cX0_pace 62 = .ok (.ireturn, 1) := dk_172 (dk_at dksX0_pace_2 14 rfl rfl)
theorem dX0_pace_63 : decode cX0_pace 63 = .ok (.iload_n 2, 1) := dk_28 (dk_at dksX0_pace_2 15 rfl rfl)
theorem dX0_pace_64 : decode cX0_pace 64 = .ok (.iconst 2, 1) := dk_5 (dk_at dksX0_pace_2 16 rfl rfl)
theorem dX0_pace_65 : decode cX0_pace 65 = .ok (.if_icmp .ge 23, 3) := dk_162 0 23 (dk_at dksX0_pace_2 17 rfl rfl)
theorem dX0_pace_68 : decode cX0_pace 68 = .ok (.iload_n 2, 1) := dk_28 (dk_at dksX0_pace_2 20 rfl rfl)
theorem dX0_pace_69 : decode cX0_pace 69 = .ok (.ifCond .ne 11, 3) := dk_154 0 11 (dk_at dksX0_pace_2 21 rfl rfl)
theorem dX0_pace_72 : decode cX0_pace 72 = .ok (.iload_n 3, 1) := dk_29 (dk_at dksX0_pace_3 0 rfl rfl)
theorem dX0_pace_73 : decode cX0_pace 73 = .ok (.ldc_w 366, 3) := dk_19 1 110 (dk_at dksX0_pace_3 1 rfl rfl)
theorem dX0_pace_76 : decode cX0_pace 76 = .ok (.idiv, 1) := dk_108 (dk_at dksX0_pace_3 4 rfl rfl)
theorem dX0_pace_77 : decode cX0_pace 77 = .ok (.goto 10, 3) := dk_167 0 10 (dk_at dksX0_pace_3 5 rfl rfl)
theorem dX0_pace_80 : decode cX0_pace 80 = .ok (.iload_n 1, 1) := dk_27 (dk_at dksX0_pace_3 8 rfl rfl)
theorem dX0_pace_81 : decode cX0_pace 81 = .ok (.iload_n 3, 1) := dk_29 (dk_at dksX0_pace_3 9 rfl rfl)
theorem dX0_pace_82 : decode cX0_pace 82 = .ok (.ldc_w 366, 3) := dk_19 1 110 (dk_at dksX0_pace_3 10 rfl rfl)
theorem dX0_pace_85 : decode cX0_pace 85 = .ok (.irem, 1) := dk_112 (dk_at dksX0_pace_3 13 rfl rfl)
theorem dX0_pace_86 : decode cX0_pace 86 = .ok (.iadd, 1) := dk_96 (dk_at dksX0_pace_3 14 rfl rfl)
theorem dX0_pace_87 : decode cX0_pace 87 = .ok (.ireturn, 1) := dk_172 (dk_at dksX0_pace_3 15 rfl rfl)
theorem dX0_pace_88 : decode cX0_pace 88 = .ok (.iconst 0, 1) := dk_3 (dk_at dksX0_pace_3 16 rfl rfl)
theorem dX0_pace_89 : decode cX0_pace 89 = .ok (.istore 4, 2) := dk_54 4 (dk_at dksX0_pace_3 17 rfl rfl)
theorem dX0_pace_91 : decode cX0_pace 91 = .ok (.iconst 0, 1) := dk_3 (dk_at dksX0_pace_3 19 rfl rfl)
theorem dX0_pace_92 : decode cX0_pace 92 = .ok (.istore 5, 2) := dk_54 5 (dk_at dksX0_pace_3 20 rfl rfl)
theorem dX0_pace_94 : decode cX0_pace 94 = .ok (.iconst 0, 1) := dk_3 (dk_at dksX0_pace_3 22 rfl rfl)
theorem dX0_pace_95 : decode cX0_pace 95 = .ok (.istore 6, 2) := dk_54 6 (dk_at dksX0_pace_4 0 rfl rfl)
theorem dX0_pace_97 : decode cX0_pace 97 = .ok (.iconst 0, 1) := dk_3 (dk_at dksX0_pace_4 2 rfl rfl)
theorem dX0_pace_98 : decode cX0_pace 98 = .ok (.istore 7, 2) := dk_54 7 (dk_at dksX0_pace_4 3 rfl rfl)
theorem dX0_pace_100 : decode cX0_pace 100 = .ok (.iload 7, 2) := dk_21 7 (dk_at dksX0_pace_4 5 rfl rfl)
theorem dX0_pace_102 : decode cX0_pace 102 = .ok (.iload_n 2, 1) := dk_28 (dk_at dksX0_pace_4 7 rfl rfl)
theorem dX0_pace_103 : decode cX0_pace 103 = .ok (.iconst 2, 1) := dk_5 (dk_at dksX0_pace_4 8 rfl rfl)
theorem dX0_pace_104 : decode cX0_pace 104 = .ok (.isub, 1) := dk_100 (dk_at dksX0_pace_4 9 rfl rfl)
theorem dX0_pace_105 : decode cX0_pace 105 = .ok (.if_icmp .gt 131, 3) := dk_163 0 131 (dk_at dksX0_pace_4 10 rfl rfl)
theorem dX0_pace_108 : decode cX0_pace 108 = .ok (.aload_n 0, 1) := dk_42 (dk_at dksX0_pace_4 13 rfl rfl)
theorem dX0_pace_109 : decode cX0_pace 109 = .ok (.iload 7, 2) := dk_21 7 (dk_at dksX0_pace_4 14 rfl rfl)
theorem dX0_pace_111 : decode cX0_pace 111 = .ok (.invokevirtual 355, 3) := dk_182 1 99 (dk_at dksX0_pace_4 16 rfl rfl)
theorem dX0_pace_114 : decode cX0_pace 114 = .ok (.istore 8, 2) := dk_54 8 (dk_at dksX0_pace_4 19 rfl rfl)
theorem dX0_pace_116 : decode cX0_pace 116 = .ok (.aload_n 0, 1) := dk_42 (dk_at dksX0_pace_4 21 rfl rfl)
theorem dX0_pace_117 : decode cX0_pace 117 = .ok (.iload 8, 2) := dk_21 8 (dk_at dksX0_pace_4 22 rfl rfl)
theorem dX0_pace_119 : decode cX0_pace 119 = .ok (.iload 7, 2) := dk_21 7 (dk_at dksX0_pace_5 0 rfl rfl)
theorem dX0_pace_121 : decode cX0_pace 121 = .ok (.iload 8, 2) := dk_21 8 (dk_at dksX0_pace_5 2 rfl rfl)
theorem dX0_pace_123 : decode cX0_pace 123 = .ok (.isub, 1) := dk_100 (dk_at dksX0_pace_5 4 rfl rfl)
theorem dX0_pace_124 : decode cX0_pace 124 = .ok (.aload_n 0, 1) := dk_42 (dk_at dksX0_pace_5 5 rfl rfl)
theorem dX0_pace_125 : decode cX0_pace 125 = .ok (.getfield 42, 3) := dk_180 0 42 (dk_at dksX0_pace_5 6 rfl rfl)
theorem dX0_pace_128 : decode cX0_pace 128 = .ok (.getfield 228, 3) := dk_180 0 228 (dk_at dksX0_pace_5 9 rfl rfl)
theorem dX0_pace_131 : decode cX0_pace 131 = .ok (.iload 7, 2) := dk_21 7 (dk_at dksX0_pace_5 12 rfl rfl)
theorem dX0_pace_133 : decode cX0_pace 133 = .ok (.iaload, 1) := dk_46 (dk_at dksX0_pace_5 14 rfl rfl)
theorem dX0_pace_134 : decode cX0_pace 134 = .ok (.iload_n 1, 1) := dk_27 (dk_at dksX0_pace_5 15 rfl rfl)
theorem dX0_pace_135 : decode cX0_pace 135 = .ok (.iload 5, 2) := dk_21 5 (dk_at dksX0_pace_5 16 rfl rfl)
theorem dX0_pace_137 : decode cX0_pace 137 = .ok (.iadd, 1) := dk_96 (dk_at dksX0_pace_5 18 rfl rfl)
theorem dX0_pace_138 : decode cX0_pace 138 = .ok (.invokevirtual 191, 3) := dk_182 0 191 (dk_at dksX0_pace_5 19 rfl rfl)
theorem dX0_pace_141 : decode cX0_pace 141 = .ok (.istore 9, 2) := dk_54 9 (dk_at dksX0_pace_5 22 rfl rfl)
theorem dX0_pace_143 : decode cX0_pace 143 = .ok (.aload_n 0, 1) := dk_42 (dk_at dksX0_pace_6 0 rfl rfl)
theorem dX0_pace_144 : decode cX0_pace 144 = .ok (.getfield 74, 3) := dk_180 0 74 (dk_at dksX0_pace_6 1 rfl rfl)
theorem dX0_pace_147 : decode cX0_pace 147 = .ok (.aload_n 0, 1) := dk_42 (dk_at dksX0_pace_6 4 rfl rfl)
theorem dX0_pace_148 : decode cX0_pace 148 = .ok (.iload 7, 2) := dk_21 7 (dk_at dksX0_pace_6 5 rfl rfl)
theorem dX0_pace_150 : decode cX0_pace 150 = .ok (.iload 4, 2) := dk_21 4 (dk_at dksX0_pace_6 7 rfl rfl)
theorem dX0_pace_152 : decode cX0_pace 152 = .ok (.iload 5, 2) := dk_21 5 (dk_at dksX0_pace_6 9 rfl rfl)
theorem dX0_pace_154 : decode cX0_pace 154 = .ok (.invokevirtual 352, 3) := dk_182 1 96 (dk_at dksX0_pace_6 11 rfl rfl)
theorem dX0_pace_157 : decode cX0_pace 157 = .ok (.iaload, 1) := dk_46 (dk_at dksX0_pace_6 14 rfl rfl)
theorem dX0_pace_158 : decode cX0_pace 158 = .ok (.iload 9, 2) := dk_21 9 (dk_at dksX0_pace_6 15 rfl rfl)
theorem dX0_pace_160 : decode cX0_pace 160 = .ok (.ifCond .le 9, 3) := dk_158 0 9 (dk_at dksX0_pace_6 17 rfl rfl)
theorem dX0_pace_163 : decode cX0_pace 163 = .ok (.ldc_w 366, 3) := dk_19 1 110 (dk_at dksX0_pace_6 20 rfl rfl)
theorem dX0_pace_166 : decode cX0_pace 166 = .ok (.goto 4, 3) := dk_167 0 4 (dk_at dksX0_pace_7 0 rfl rfl)
theorem dX0_pace_169 : decode cX0_pace 169 = .ok (.iconst 0, 1) := dk_3 (dk_at dksX0_pace_7 3 rfl rfl)
theorem dX0_pace_170 : decode cX0_pace 170 = .ok (.isub, 1) := dk_100 (dk_at dksX0_pace_7 4 rfl rfl)
theorem dX0_pace_171 : decode cX0_pace 171 = .ok (.istore 10, 2) := dk_54 10 (dk_at dksX0_pace_7 5 rfl rfl)
theorem dX0_pace_173 : decode cX0_pace 173 = .ok (.aload_n 0, 1) := dk_42 (dk_at dksX0_pace_7 7 rfl rfl)
theorem dX0_pace_174 : decode cX0_pace 174 = .ok (.invokevirtual 359, 3) := dk_182 1 103 (dk_at dksX0_pace_7 8 rfl rfl)
theorem dX0_pace_177 : decode cX0_pace 177 = .ok (.istore 6, 2) := dk_54 6 (dk_at dksX0_pace_7 11 rfl rfl)
theorem dX0_pace_179 : decode cX0_pace 179 = .ok (.aload_n 0, 1) := dk_42 (dk_at dksX0_pace_7 13 rfl rfl)
theorem dX0_pace_180 : decode cX0_pace 180 = .ok (.iload 7, 2) := dk_21 7 (dk_at dksX0_pace_7 14 rfl rfl)
theorem dX0_pace_182 : decode cX0_pace 182 = .ok (.iload 4, 2) := dk_21 4 (dk_at dksX0_pace_7 16 rfl rfl)
theorem dX0_pace_184 : decode cX0_pace 184 = .ok (.iload 5, 2) := dk_21 5 (dk_at dksX0_pace_7 18 rfl rfl)
theorem dX0_pace_186 : decode cX0_pace 186 = .ok (.iload 9, 2) := dk_21 9 (dk_at dksX0_pace_7 20 rfl rfl)
theorem dX0_pace_188 : decode cX0_pace 188 = .ok (.iadd, 1) := dk_96 (dk_at dksX0_pace_7 22 rfl rfl)
theorem dX0_pace_189 : decode cX0_pace 189 = .ok (.iload 6, 2) := dk_21 6 (dk_at dksX0_pace_8 0 rfl rfl)
theorem dX0_pace_191 : decode cX0_pace 191 = .ok (.invokevirtual 363, 3) := dk_182 1 107 (dk_at dksX0_pace_8 2 rfl rfl)
theorem dX0_pace_194 : decode cX0_pace 194 = .ok (.iload 10, 2) := dk_21 10 (dk_at dksX0_pace_8 5 rfl rfl)
theorem dX0_pace_196 : decode cX0_pace 196 = .ok (.if_icmp .eq 9, 3) := dk_159 0 9 (dk_at dksX0_pace_8 7 rfl rfl)
theorem dX0_pace_199 : decode cX0_pace 199 = .ok (.iinc 6 1, 3) := dk_132 6 1 (dk_at dksX0_pace_8 10 rfl rfl)
theorem dX0_pace_202 : decode cX0_pace 202 = .ok (.goto (-23), 3) := dk_167 255 233 (dk_at dksX0_pace_8 13 rfl rfl)
theorem dX0_pace_205 : decode cX0_pace 205 = .ok (.iload 6, 2) := dk_21 6 (dk_at dksX0_pace_8 16 rfl rfl)
theorem dX0_pace_207 : decode cX0_pace 207 = .ok (.aload_n 0, 1) := dk_42 (dk_at dksX0_pace_8 18 rfl rfl)
theorem dX0_pace_208 : decode cX0_pace 208 = .ok (.getfield 35, 3) := dk_180 0 35 (dk_at dksX0_pace_8 19 rfl rfl)
theorem dX0_pace_211 : decode cX0_pace 211 = .ok (.invokevirtual 217, 3) := dk_182 0 217 (dk_at dksX0_pace_9 0 rfl rfl)
theorem dX0_pace_214 : decode cX0_pace 214 = .ok (.if_icmp .ge 6, 3) := dk_162 0 6 (dk_at dksX0_pace_9 3 rfl rfl)
theorem dX0_pace_217 : decode cX0_pace 217 = .ok (.iinc 4 1, 3) := dk_132 4 1 (dk_at dksX0_pace_9 6 rfl rfl)
theorem dX0_pace_220 : decode cX0_pace 220 = .ok (.iload 5, 2) := dk_21 5 (dk_at dksX0_pace_9 9 rfl rfl)
theorem dX0_pace_222 : decode cX0_pace 222 = .ok (.iload 9, 2) := dk_21 9 (dk_at dksX0_pace_9 11 rfl rfl)
theorem dX0_pace_224 : decode cX0_pace 224 = .ok (.iload 6, 2) := dk_21 6 (dk_at dksX0_pace_9 13 rfl rfl)
theorem dX0_pace_226 : decode cX0_pace 226 = .ok (.iadd, 1) := dk_96 (dk_at dksX0_pace_9 15 rfl rfl)
theorem dX0_pace_227 : decode cX0_pace 227 = .ok (.iadd, 1) := dk_96 (dk_at dksX0_pace_9 16 rfl rfl)
theorem dX0_pace_228 : decode cX0_pace 228 = .ok (.istore 5, 2) := dk_54 5 (dk_at dksX0_pace_9 17 rfl rfl)
theorem dX0_pace_230 : decode cX0_pace 230 = .ok (.iinc 7 1, 3) := dk_132 7 1 (dk_at dksX0_pace_9 19 rfl rfl)
theorem dX0_pace_233 : decode cX0_pace 233 = .ok (.goto (-133), 3) := dk_167 255 123 (dk_at dksX0_pace_10 0 rfl rfl)
theorem dX0_pace_236 : decode cX0_pace 236 = .ok (.iload 6, 2) := dk_21 6 (dk_at dksX0_pace_10 3 rfl rfl)
theorem dX0_pace_238 : decode cX0_pace 238 = .ok (.ireturn, 1) := dk_172 (dk_at dksX0_pace_10 5 rfl rfl)
abbrev cX0_works : ByteArray := prog_1_method_59_code
def yX0_works : MethodName := ⟨RX0, "works", "(I)V"⟩
def dkwX0_works_3 : List UInt8 := [27, 182, 1, 111, 79, 132, 4, 1, 167, 255, 206, 132, 3, 1, 167, 255, 186, 132, 2, 255, 167, 255, 174, 177]
abbrev dktX0_works_3 : List UInt8 := dkwX0_works_3 ++ []
def dkwX0_works_2 : List UInt8 := [182, 1, 96, 28, 42, 180, 0, 42, 180, 0, 225, 160, 0, 8, 21, 4, 167, 0, 12, 42, 28, 29, 21, 4]
abbrev dktX0_works_2 : List UInt8 := dkwX0_works_2 ++ dktX0_works_3
def dkwX0_works_1 : List UInt8 := [163, 0, 65, 3, 54, 4, 21, 4, 28, 16, 90, 104, 163, 0, 47, 42, 180, 0, 74, 42, 28, 29, 21, 4]
abbrev dktX0_works_1 : List UInt8 := dkwX0_works_1 ++ dktX0_works_2
def dkwX0_works_0 : List UInt8 := [42, 180, 0, 42, 180, 0, 225, 61, 28, 155, 0, 84, 3, 62, 29, 42, 180, 0, 35, 182, 0, 209]
abbrev dktX0_works_0 : List UInt8 := dkwX0_works_0 ++ dktX0_works_1
theorem dksX0_works_0 : cX0_works.data.toList.drop 0 = dktX0_works_0 := by decide +kernel
theorem dksX0_works_1 : cX0_works.data.toList.drop 22 = dktX0_works_1 := dk_seg dksX0_works_0 22 rfl rfl
theorem dksX0_works_2 : cX0_works.data.toList.drop 46 = dktX0_works_2 := dk_seg dksX0_works_1 24 rfl rfl
theorem dksX0_works_3 : cX0_works.data.toList.drop 70 = dktX0_works_3 := dk_seg dksX0_works_2 24 rfl rfl
theorem dX0_works_0 : decode cX0_works 0 = .ok (.aload_n 0, 1) := dk_42 (dk_at dksX0_works_0 0 rfl rfl)
theorem dX0_works_1 : decode cX0_works 1 = .ok (.getfield 42, 3) := dk_180 0 42 (dk_at dksX0_works_0 1 rfl rfl)
theorem dX0_works_4 : decode cX0_works 4 = .ok (.getfield 225, 3) := dk_180 0 225 (dk_at dksX0_works_0 4 rfl rfl)
theorem dX0_works_7 : decode cX0_works 7 = .ok (.istore_n 2, 1) := dk_61 (dk_at dksX0_works_0 7 rfl rfl)
theorem dX0_works_8 : decode cX0_works 8 = .ok (.iload_n 2, 1) := dk_28 (dk_at dksX0_works_0 8 rfl rfl)
theorem dX0_works_9 : decode cX0_works 9 = .ok (.ifCond .lt 84, 3) := dk_155 0 84 (dk_at dksX0_works_0 9 rfl rfl)
theorem dX0_works_12 : decode cX0_works 12 = .ok (.iconst 0, 1) := dk_3 (dk_at dksX0_works_0 12 rfl rfl)
theorem dX0_works_13 : decode cX0_works 13 = .ok (.istore_n 3, 1) := dk_62 (dk_at dksX0_works_0 13 rfl rfl)
theorem dX0_works_14 : decode cX0_works 14 = .ok (.iload_n 3, 1) := dk_29 (dk_at dksX0_works_0 14 rfl rfl)
theorem dX0_works_15 : decode cX0_works 15 = .ok (.aload_n 0, 1) := dk_42 (dk_at dksX0_works_0 15 rfl rfl)
theorem dX0_works_16 : decode cX0_works 16 = .ok (.getfield 35, 3) := dk_180 0 35 (dk_at dksX0_works_0 16 rfl rfl)
theorem dX0_works_19 : decode cX0_works 19 = .ok (.invokevirtual 209, 3) := dk_182 0 209 (dk_at dksX0_works_0 19 rfl rfl)
theorem dX0_works_22 : decode cX0_works 22 = .ok (.if_icmp .gt 65, 3) := dk_163 0 65 (dk_at dksX0_works_1 0 rfl rfl)
theorem dX0_works_25 : decode cX0_works 25 = .ok (.iconst 0, 1) := dk_3 (dk_at dksX0_works_1 3 rfl rfl)
theorem dX0_works_26 : decode cX0_works 26 = .ok (.istore 4, 2) := dk_54 4 (dk_at dksX0_works_1 4 rfl rfl)
theorem dX0_works_28 : decode cX0_works 28 = .ok (.iload 4, 2) := dk_21 4 (dk_at dksX0_works_1 6 rfl rfl)
theorem dX0_works_30 : decode cX0_works 30 = .ok (.iload_n 2, 1) := dk_28 (dk_at dksX0_works_1 8 rfl rfl)
theorem dX0_works_31 : decode cX0_works 31 = .ok (.bipush 90, 2) := dk_16 90 (dk_at dksX0_works_1 9 rfl rfl)
theorem dX0_works_33 : decode cX0_works 33 = .ok (.imul, 1) := dk_104 (dk_at dksX0_works_1 11 rfl rfl)
theorem dX0_works_34 : decode cX0_works 34 = .ok (.if_icmp .gt 47, 3) := dk_163 0 47 (dk_at dksX0_works_1 12 rfl rfl)
theorem dX0_works_37 : decode cX0_works 37 = .ok (.aload_n 0, 1) := dk_42 (dk_at dksX0_works_1 15 rfl rfl)
theorem dX0_works_38 : decode cX0_works 38 = .ok (.getfield 74, 3) := dk_180 0 74 (dk_at dksX0_works_1 16 rfl rfl)
theorem dX0_works_41 : decode cX0_works 41 = .ok (.aload_n 0, 1) := dk_42 (dk_at dksX0_works_1 19 rfl rfl)
theorem dX0_works_42 : decode cX0_works 42 = .ok (.iload_n 2, 1) := dk_28 (dk_at dksX0_works_1 20 rfl rfl)
theorem dX0_works_43 : decode cX0_works 43 = .ok (.iload_n 3, 1) := dk_29 (dk_at dksX0_works_1 21 rfl rfl)
theorem dX0_works_44 : decode cX0_works 44 = .ok (.iload 4, 2) := dk_21 4 (dk_at dksX0_works_1 22 rfl rfl)
theorem dX0_works_46 : decode cX0_works 46 = .ok (.invokevirtual 352, 3) := dk_182 1 96 (dk_at dksX0_works_2 0 rfl rfl)
theorem dX0_works_49 : decode cX0_works 49 = .ok (.iload_n 2, 1) := dk_28 (dk_at dksX0_works_2 3 rfl rfl)
theorem dX0_works_50 : decode cX0_works 50 = .ok (.aload_n 0, 1) := dk_42 (dk_at dksX0_works_2 4 rfl rfl)
theorem dX0_works_51 : decode cX0_works 51 = .ok (.getfield 42, 3) := dk_180 0 42 (dk_at dksX0_works_2 5 rfl rfl)
theorem dX0_works_54 : decode cX0_works 54 = .ok (.getfield 225, 3) := dk_180 0 225 (dk_at dksX0_works_2 8 rfl rfl)
theorem dX0_works_57 : decode cX0_works 57 = .ok (.if_icmp .ne 8, 3) := dk_160 0 8 (dk_at dksX0_works_2 11 rfl rfl)
theorem dX0_works_60 : decode cX0_works 60 = .ok (.iload 4, 2) := dk_21 4 (dk_at dksX0_works_2 14 rfl rfl)
theorem dX0_works_62 : decode cX0_works 62 = .ok (.goto 12, 3) := dk_167 0 12 (dk_at dksX0_works_2 16 rfl rfl)
theorem dX0_works_65 : decode cX0_works 65 = .ok (.aload_n 0, 1) := dk_42 (dk_at dksX0_works_2 19 rfl rfl)
theorem dX0_works_66 : decode cX0_works 66 = .ok (.iload_n 2, 1) := dk_28 (dk_at dksX0_works_2 20 rfl rfl)
theorem dX0_works_67 : decode cX0_works 67 = .ok (.iload_n 3, 1) := dk_29 (dk_at dksX0_works_2 21 rfl rfl)
theorem dX0_works_68 : decode cX0_works 68 = .ok (.iload 4, 2) := dk_21 4 (dk_at dksX0_works_2 22 rfl rfl)
theorem dX0_works_70 : decode cX0_works 70 = .ok (.iload_n 1, 1) := dk_27 (dk_at dksX0_works_3 0 rfl rfl)
theorem dX0_works_71 : decode cX0_works 71 = .ok (.invokevirtual 367, 3) := dk_182 1 111 (dk_at dksX0_works_3 1 rfl rfl)
theorem dX0_works_74 : decode cX0_works 74 = .ok (.iastore, 1) := dk_79 (dk_at dksX0_works_3 4 rfl rfl)
theorem dX0_works_75 : decode cX0_works 75 = .ok (.iinc 4 1, 3) := dk_132 4 1 (dk_at dksX0_works_3 5 rfl rfl)
theorem dX0_works_78 : decode cX0_works 78 = .ok (.goto (-50), 3) := dk_167 255 206 (dk_at dksX0_works_3 8 rfl rfl)
theorem dX0_works_81 : decode cX0_works 81 = .ok (.iinc 3 1, 3) := dk_132 3 1 (dk_at dksX0_works_3 11 rfl rfl)
theorem dX0_works_84 : decode cX0_works 84 = .ok (.goto (-70), 3) := dk_167 255 186 (dk_at dksX0_works_3 14 rfl rfl)
theorem dX0_works_87 : decode cX0_works 87 = .ok (.iinc 2 (-1), 3) := dk_132 2 255 (dk_at dksX0_works_3 17 rfl rfl)
theorem dX0_works_90 : decode cX0_works 90 = .ok (.goto (-82), 3) := dk_167 255 174 (dk_at dksX0_works_3 20 rfl rfl)
theorem dX0_works_93 : decode cX0_works 93 = .ok (.return_, 1) := dk_177 (dk_at dksX0_works_3 23 rfl rfl)
abbrev cX0_paceAt : ByteArray := prog_1_method_53_code
def yX0_paceAt : MethodName := ⟨RX0, "paceAt", "(III)I"⟩
def dkwX0_paceAt_0 : List UInt8 := [27, 16, 10, 104, 28, 96, 17, 4, 147, 104, 29, 96, 172]
abbrev dktX0_paceAt_0 : List UInt8 := dkwX0_paceAt_0 ++ []
theorem dksX0_paceAt_0 : cX0_paceAt.data.toList.drop 0 = dktX0_paceAt_0 := by decide +kernel
theorem dX0_paceAt_0 : decode cX0_paceAt 0 = .ok (.iload_n 1, 1) := dk_27 (dk_at dksX0_paceAt_0 0 rfl rfl)
theorem dX0_paceAt_1 : decode cX0_paceAt 1 = .ok (.bipush 10, 2) := dk_16 10 (dk_at dksX0_paceAt_0 1 rfl rfl)
theorem dX0_paceAt_3 : decode cX0_paceAt 3 = .ok (.imul, 1) := dk_104 (dk_at dksX0_paceAt_0 3 rfl rfl)
theorem dX0_paceAt_4 : decode cX0_paceAt 4 = .ok (.iload_n 2, 1) := dk_28 (dk_at dksX0_paceAt_0 4 rfl rfl)
theorem dX0_paceAt_5 : decode cX0_paceAt 5 = .ok (.iadd, 1) := dk_96 (dk_at dksX0_paceAt_0 5 rfl rfl)
theorem dX0_paceAt_6 : decode cX0_paceAt 6 = .ok (.sipush 1171, 3) := dk_17 4 147 (dk_at dksX0_paceAt_0 6 rfl rfl)
theorem dX0_paceAt_9 : decode cX0_paceAt 9 = .ok (.imul, 1) := dk_104 (dk_at dksX0_paceAt_0 9 rfl rfl)
theorem dX0_paceAt_10 : decode cX0_paceAt 10 = .ok (.iload_n 3, 1) := dk_29 (dk_at dksX0_paceAt_0 10 rfl rfl)
theorem dX0_paceAt_11 : decode cX0_paceAt 11 = .ok (.iadd, 1) := dk_96 (dk_at dksX0_paceAt_0 11 rfl rfl)
theorem dX0_paceAt_12 : decode cX0_paceAt 12 = .ok (.ireturn, 1) := dk_172 (dk_at dksX0_paceAt_0 12 rfl rfl)
abbrev cX0_worked : ByteArray := prog_1_method_58_code
def yX0_worked : MethodName := ⟨RX0, "worked", "(IIII)I"⟩
def dkwX0_worked_4 : List UInt8 := [19, 1, 95, 167, 0, 18, 21, 7, 21, 6, 158, 0, 9, 19, 1, 110, 167, 0, 4, 3, 96, 172]
abbrev dktX0_worked_4 : List UInt8 := dkwX0_worked_4 ++ []
def dkwX0_worked_3 : List UInt8 := [21, 8, 182, 1, 107, 184, 1, 58, 54, 7, 132, 8, 1, 167, 255, 225, 21, 7, 19, 1, 95, 160, 0, 9]
abbrev dktX0_worked_3 : List UInt8 := dkwX0_worked_3 ++ dktX0_worked_4
def dkwX0_worked_2 : List UInt8 := [182, 1, 103, 54, 8, 21, 8, 42, 182, 1, 106, 163, 0, 28, 21, 7, 42, 27, 28, 29, 21, 6, 96]
abbrev dktX0_worked_2 : List UInt8 := dkwX0_worked_2 ++ dktX0_worked_3
def dkwX0_worked_1 : List UInt8 := [21, 4, 29, 96, 182, 0, 191, 54, 6, 21, 6, 156, 0, 7, 19, 1, 95, 172, 19, 1, 95, 54, 7, 42]
abbrev dktX0_worked_1 : List UInt8 := dkwX0_worked_1 ++ dktX0_worked_2
def dkwX0_worked_0 : List UInt8 := [42, 27, 182, 1, 99, 54, 5, 42, 21, 5, 27, 21, 5, 100, 42, 180, 0, 42, 180, 0, 228, 27, 46]
abbrev dktX0_worked_0 : List UInt8 := dkwX0_worked_0 ++ dktX0_worked_1
theorem dksX0_worked_0 : cX0_worked.data.toList.drop 0 = dktX0_worked_0 := by decide +kernel
theorem dksX0_worked_1 : cX0_worked.data.toList.drop 23 = dktX0_worked_1 := dk_seg dksX0_worked_0 23 rfl rfl
theorem dksX0_worked_2 : cX0_worked.data.toList.drop 47 = dktX0_worked_2 := dk_seg dksX0_worked_1 24 rfl rfl
theorem dksX0_worked_3 : cX0_worked.data.toList.drop 70 = dktX0_worked_3 := dk_seg dksX0_worked_2 23 rfl rfl
theorem dksX0_worked_4 : cX0_worked.data.toList.drop 94 = dktX0_worked_4 := dk_seg dksX0_worked_3 24 rfl rfl
theorem dX0_worked_0 : decode cX0_worked 0 = .ok (.aload_n 0, 1) := dk_42 (dk_at dksX0_worked_0 0 rfl rfl)
theorem dX0_worked_1 : decode cX0_worked 1 = .ok (.iload_n 1, 1) := dk_27 (dk_at dksX0_worked_0 1 rfl rfl)
theorem dX0_worked_2 : decode cX0_worked 2 = .ok (.invokevirtual 355, 3) := dk_182 1 99 (dk_at dksX0_worked_0 2 rfl rfl)
theorem dX0_worked_5 : decode cX0_worked 5 = .ok (.istore 5, 2) := dk_54 5 (dk_at dksX0_worked_0 5 rfl rfl)
theorem dX0_worked_7 : decode cX0_worked 7 = .ok (.aload_n 0, 1) := dk_42 (dk_at dksX0_worked_0 7 rfl rfl)
theorem dX0_worked_8 : decode cX0_worked 8 = .ok (.iload 5, 2) := dk_21 5 (dk_at dksX0_worked_0 8 rfl rfl)
theorem dX0_worked_10 : decode cX0_worked 10 = .ok (.iload_n 1, 1) := dk_27 (dk_at dksX0_worked_0 10 rfl rfl)
theorem dX0_worked_11 : decode cX0_worked 11 = .ok (.iload 5, 2) := dk_21 5 (dk_at dksX0_worked_0 11 rfl rfl)
theorem dX0_worked_13 : decode cX0_worked 13 = .ok (.isub, 1) := dk_100 (dk_at dksX0_worked_0 13 rfl rfl)
theorem dX0_worked_14 : decode cX0_worked 14 = .ok (.aload_n 0, 1) := dk_42 (dk_at dksX0_worked_0 14 rfl rfl)
theorem dX0_worked_15 : decode cX0_worked 15 = .ok (.getfield 42, 3) := dk_180 0 42 (dk_at dksX0_worked_0 15 rfl rfl)
theorem dX0_worked_18 : decode cX0_worked 18 = .ok (.getfield 228, 3) := dk_180 0 228 (dk_at dksX0_worked_0 18 rfl rfl)
theorem dX0_worked_21 : decode cX0_worked 21 = .ok (.iload_n 1, 1) := dk_27 (dk_at dksX0_worked_0 21 rfl rfl)
theorem dX0_worked_22 : decode cX0_worked 22 = .ok (.iaload, 1) := dk_46 (dk_at dksX0_worked_0 22 rfl rfl)
theorem dX0_worked_23 : decode cX0_worked 23 = .ok (.iload 4, 2) := dk_21 4 (dk_at dksX0_worked_1 0 rfl rfl)
theorem dX0_worked_25 : decode cX0_worked 25 = .ok (.iload_n 3, 1) := dk_29 (dk_at dksX0_worked_1 2 rfl rfl)
theorem dX0_worked_26 : decode cX0_worked 26 = .ok (.iadd, 1) := dk_96 (dk_at dksX0_worked_1 3 rfl rfl)
theorem dX0_worked_27 : decode cX0_worked 27 = .ok (.invokevirtual 191, 3) := dk_182 0 191 (dk_at dksX0_worked_1 4 rfl rfl)
theorem dX0_worked_30 : decode cX0_worked 30 = .ok (.istore 6, 2) := dk_54 6 (dk_at dksX0_worked_1 7 rfl rfl)
theorem dX0_worked_32 : decode cX0_worked 32 = .ok (.iload 6, 2) := dk_21 6 (dk_at dksX0_worked_1 9 rfl rfl)
theorem dX0_worked_34 : decode cX0_worked 34 = .ok (.ifCond .ge 7, 3) := dk_156 0 7 (dk_at dksX0_worked_1 11 rfl rfl)
theorem dX0_worked_37 : decode cX0_worked 37 = .ok (.ldc_w 351, 3) := dk_19 1 95 (dk_at dksX0_worked_1 14 rfl rfl)
theorem dX0_worked_40 : decode cX0_worked 40 = .ok (.ireturn, 1) := dk_172 (dk_at dksX0_worked_1 17 rfl rfl)
theorem dX0_worked_41 : decode cX0_worked 41 = .ok (.ldc_w 351, 3) := dk_19 1 95 (dk_at dksX0_worked_1 18 rfl rfl)
theorem dX0_worked_44 : decode cX0_worked 44 = .ok (.istore 7, 2) := dk_54 7 (dk_at dksX0_worked_1 21 rfl rfl)
theorem dX0_worked_46 : decode cX0_worked 46 = .ok (.aload_n 0, 1) := dk_42 (dk_at dksX0_worked_1 23 rfl rfl)
theorem dX0_worked_47 : decode cX0_worked 47 = .ok (.invokevirtual 359, 3) := dk_182 1 103 (dk_at dksX0_worked_2 0 rfl rfl)
theorem dX0_worked_50 : decode cX0_worked 50 = .ok (.istore 8, 2) := dk_54 8 (dk_at dksX0_worked_2 3 rfl rfl)
theorem dX0_worked_52 : decode cX0_worked 52 = .ok (.iload 8, 2) := dk_21 8 (dk_at dksX0_worked_2 5 rfl rfl)
theorem dX0_worked_54 : decode cX0_worked 54 = .ok (.aload_n 0, 1) := dk_42 (dk_at dksX0_worked_2 7 rfl rfl)
theorem dX0_worked_55 : decode cX0_worked 55 = .ok (.invokevirtual 362, 3) := dk_182 1 106 (dk_at dksX0_worked_2 8 rfl rfl)
theorem dX0_worked_58 : decode cX0_worked 58 = .ok (.if_icmp .gt 28, 3) := dk_163 0 28 (dk_at dksX0_worked_2 11 rfl rfl)
theorem dX0_worked_61 : decode cX0_worked 61 = .ok (.iload 7, 2) := dk_21 7 (dk_at dksX0_worked_2 14 rfl rfl)
theorem dX0_worked_63 : decode cX0_worked 63 = .ok (.aload_n 0, 1) := dk_42 (dk_at dksX0_worked_2 16 rfl rfl)
theorem dX0_worked_64 : decode cX0_worked 64 = .ok (.iload_n 1, 1) := dk_27 (dk_at dksX0_worked_2 17 rfl rfl)
theorem dX0_worked_65 : decode cX0_worked 65 = .ok (.iload_n 2, 1) := dk_28 (dk_at dksX0_worked_2 18 rfl rfl)
theorem dX0_worked_66 : decode cX0_worked 66 = .ok (.iload_n 3, 1) := dk_29 (dk_at dksX0_worked_2 19 rfl rfl)
theorem dX0_worked_67 : decode cX0_worked 67 = .ok (.iload 6, 2) := dk_21 6 (dk_at dksX0_worked_2 20 rfl rfl)
theorem dX0_worked_69 : decode cX0_worked 69 = .ok (.iadd, 1) := dk_96 (dk_at dksX0_worked_2 22 rfl rfl)
theorem dX0_worked_70 : decode cX0_worked 70 = .ok (.iload 8, 2) := dk_21 8 (dk_at dksX0_worked_3 0 rfl rfl)
theorem dX0_worked_72 : decode cX0_worked 72 = .ok (.invokevirtual 363, 3) := dk_182 1 107 (dk_at dksX0_worked_3 2 rfl rfl)
theorem dX0_worked_75 : decode cX0_worked 75 = .ok (.invokestatic 314, 3) := dk_184 1 58 (dk_at dksX0_worked_3 5 rfl rfl)
theorem dX0_worked_78 : decode cX0_worked 78 = .ok (.istore 7, 2) := dk_54 7 (dk_at dksX0_worked_3 8 rfl rfl)
theorem dX0_worked_80 : decode cX0_worked 80 = .ok (.iinc 8 1, 3) := dk_132 8 1 (dk_at dksX0_worked_3 10 rfl rfl)
theorem dX0_worked_83 : decode cX0_worked 83 = .ok (.goto (-31), 3) := dk_167 255 225 (dk_at dksX0_worked_3 13 rfl rfl)
theorem dX0_worked_86 : decode cX0_worked 86 = .ok (.iload 7, 2) := dk_21 7 (dk_at dksX0_worked_3 16 rfl rfl)
theorem dX0_worked_88 : decode cX0_worked 88 = .ok (.ldc_w 351, 3) := dk_19 1 95 (dk_at dksX0_worked_3 18 rfl rfl)
theorem dX0_worked_91 : decode cX0_worked 91 = .ok (.if_icmp .ne 9, 3) := dk_160 0 9 (dk_at dksX0_worked_3 21 rfl rfl)
theorem dX0_worked_94 : decode cX0_worked 94 = .ok (.ldc_w 351, 3) := dk_19 1 95 (dk_at dksX0_worked_4 0 rfl rfl)
theorem dX0_worked_97 : decode cX0_worked 97 = .ok (.goto 18, 3) := dk_167 0 18 (dk_at dksX0_worked_4 3 rfl rfl)
theorem dX0_worked_100 : decode cX0_worked 100 = .ok (.iload 7, 2) := dk_21 7 (dk_at dksX0_worked_4 6 rfl rfl)
theorem dX0_worked_102 : decode cX0_worked 102 = .ok (.iload 6, 2) := dk_21 6 (dk_at dksX0_worked_4 8 rfl rfl)
theorem dX0_worked_104 : decode cX0_worked 104 = .ok (.ifCond .le 9, 3) := dk_158 0 9 (dk_at dksX0_worked_4 10 rfl rfl)
theorem dX0_worked_107 : decode cX0_worked 107 = .ok (.ldc_w 366, 3) := dk_19 1 110 (dk_at dksX0_worked_4 13 rfl rfl)
theorem dX0_worked_110 : decode cX0_worked 110 = .ok (.goto 4, 3) := dk_167 0 4 (dk_at dksX0_worked_4 16 rfl rfl)
theorem dX0_worked_113 : decode cX0_worked 113 = .ok (.iconst 0, 1) := dk_3 (dk_at dksX0_worked_4 19 rfl rfl)
theorem dX0_worked_114 : decode cX0_worked 114 = .ok (.iadd, 1) := dk_96 (dk_at dksX0_worked_4 20 rfl rfl)
theorem dX0_worked_115 : decode cX0_worked 115 = .ok (.ireturn, 1) := dk_172 (dk_at dksX0_worked_4 21 rfl rfl)
abbrev cX0_xOf : ByteArray := prog_1_method_54_code
def yX0_xOf : MethodName := ⟨RX0, "xOf", "(I)I"⟩
def dkwX0_xOf_1 : List UInt8 := [132, 3, 1, 167, 255, 233, 28, 172]
abbrev dktX0_xOf_1 : List UInt8 := dkwX0_xOf_1 ++ []
def dkwX0_xOf_0 : List UInt8 := [3, 61, 3, 62, 29, 27, 162, 0, 24, 42, 180, 0, 42, 180, 0, 228, 29, 46, 154, 0, 6, 132, 2, 1]
abbrev dktX0_xOf_0 : List UInt8 := dkwX0_xOf_0 ++ dktX0_xOf_1
theorem dksX0_xOf_0 : cX0_xOf.data.toList.drop 0 = dktX0_xOf_0 := by decide +kernel
theorem dksX0_xOf_1 : cX0_xOf.data.toList.drop 24 = dktX0_xOf_1 := dk_seg dksX0_xOf_0 24 rfl rfl
theorem dX0_xOf_0 : decode cX0_xOf 0 = .ok (.iconst 0, 1) := dk_3 (dk_at dksX0_xOf_0 0 rfl rfl)
theorem dX0_xOf_1 : decode cX0_xOf 1 = .ok (.istore_n 2, 1) := dk_61 (dk_at dksX0_xOf_0 1 rfl rfl)
theorem dX0_xOf_2 : decode cX0_xOf 2 = .ok (.iconst 0, 1) := dk_3 (dk_at dksX0_xOf_0 2 rfl rfl)
theorem dX0_xOf_3 : decode cX0_xOf 3 = .ok (.istore_n 3, 1) := dk_62 (dk_at dksX0_xOf_0 3 rfl rfl)
theorem dX0_xOf_4 : decode cX0_xOf 4 = .ok (.iload_n 3, 1) := dk_29 (dk_at dksX0_xOf_0 4 rfl rfl)
theorem dX0_xOf_5 : decode cX0_xOf 5 = .ok (.iload_n 1, 1) := dk_27 (dk_at dksX0_xOf_0 5 rfl rfl)
theorem dX0_xOf_6 : decode cX0_xOf 6 = .ok (.if_icmp .ge 24, 3) := dk_162 0 24 (dk_at dksX0_xOf_0 6 rfl rfl)
theorem dX0_xOf_9 : decode cX0_xOf 9 = .ok (.aload_n 0, 1) := dk_42 (dk_at dksX0_xOf_0 9 rfl rfl)
theorem dX0_xOf_10 : decode cX0_xOf 10 = .ok (.getfield 42, 3) := dk_180 0 42 (dk_at dksX0_xOf_0 10 rfl rfl)
theorem dX0_xOf_13 : decode cX0_xOf 13 = .ok (.getfield 228, 3) := dk_180 0 228 (dk_at dksX0_xOf_0 13 rfl rfl)
theorem dX0_xOf_16 : decode cX0_xOf 16 = .ok (.iload_n 3, 1) := dk_29 (dk_at dksX0_xOf_0 16 rfl rfl)
theorem dX0_xOf_17 : decode cX0_xOf 17 = .ok (.iaload, 1) := dk_46 (dk_at dksX0_xOf_0 17 rfl rfl)
theorem dX0_xOf_18 : decode cX0_xOf 18 = .ok (.ifCond .ne 6, 3) := dk_154 0 6 (dk_at dksX0_xOf_0 18 rfl rfl)
theorem dX0_xOf_21 : decode cX0_xOf 21 = .ok (.iinc 2 1, 3) := dk_132 2 1 (dk_at dksX0_xOf_0 21 rfl rfl)
theorem dX0_xOf_24 : decode cX0_xOf 24 = .ok (.iinc 3 1, 3) := dk_132 3 1 (dk_at dksX0_xOf_1 0 rfl rfl)
theorem dX0_xOf_27 : decode cX0_xOf 27 = .ok (.goto (-23), 3) := dk_167 255 233 (dk_at dksX0_xOf_1 3 rfl rfl)
theorem dX0_xOf_30 : decode cX0_xOf 30 = .ok (.iload_n 2, 1) := dk_28 (dk_at dksX0_xOf_1 6 rfl rfl)
theorem dX0_xOf_31 : decode cX0_xOf 31 = .ok (.ireturn, 1) := dk_172 (dk_at dksX0_xOf_1 7 rfl rfl)
abbrev cX0_fast : ByteArray := prog_1_method_55_code
def yX0_fast : MethodName := ⟨RX0, "fast", "()I"⟩
def dkwX0_fast_1 : List UInt8 := [167, 0, 10, 42, 180, 0, 35, 182, 0, 214, 172]
abbrev dktX0_fast_1 : List UInt8 := dkwX0_fast_1 ++ []
def dkwX0_fast_0 : List UInt8 := [42, 180, 0, 35, 182, 0, 214, 42, 180, 0, 35, 182, 1, 92, 164, 0, 13, 42, 180, 0, 35, 182, 0, 217]
abbrev dktX0_fast_0 : List UInt8 := dkwX0_fast_0 ++ dktX0_fast_1
theorem dksX0_fast_0 : cX0_fast.data.toList.drop 0 = dktX0_fast_0 := by decide +kernel
theorem dksX0_fast_1 : cX0_fast.data.toList.drop 24 = dktX0_fast_1 := dk_seg dksX0_fast_0 24 rfl rfl
theorem dX0_fast_0 : decode cX0_fast 0 = .ok (.aload_n 0, 1) := dk_42 (dk_at dksX0_fast_0 0 rfl rfl)
theorem dX0_fast_1 : decode cX0_fast 1 = .ok (.getfield 35, 3) := dk_180 0 35 (dk_at dksX0_fast_0 1 rfl rfl)
theorem dX0_fast_4 : decode cX0_fast 4 = .ok (.invokevirtual 214, 3) := dk_182 0 214 (dk_at dksX0_fast_0 4 rfl rfl)
theorem dX0_fast_7 : decode cX0_fast 7 = .ok (.aload_n 0, 1) := dk_42 (dk_at dksX0_fast_0 7 rfl rfl)
theorem dX0_fast_8 : decode cX0_fast 8 = .ok (.getfield 35, 3) := dk_180 0 35 (dk_at dksX0_fast_0 8 rfl rfl)
theorem dX0_fast_11 : decode cX0_fast 11 = .ok (.invokevirtual 348, 3) := dk_182 1 92 (dk_at dksX0_fast_0 11 rfl rfl)
theorem dX0_fast_14 : decode cX0_fast 14 = .ok (.if_icmp .le 13, 3) := dk_164 0 13 (dk_at dksX0_fast_0 14 rfl rfl)
theorem dX0_fast_17 : decode cX0_fast 17 = .ok (.aload_n 0, 1) := dk_42 (dk_at dksX0_fast_0 17 rfl rfl)
theorem dX0_fast_18 : decode cX0_fast 18 = .ok (.getfield 35, 3) := dk_180 0 35 (dk_at dksX0_fast_0 18 rfl rfl)
theorem dX0_fast_21 : decode cX0_fast 21 = .ok (.invokevirtual 217, 3) := dk_182 0 217 (dk_at dksX0_fast_0 21 rfl rfl)
theorem dX0_fast_24 : decode cX0_fast 24 = .ok (.goto 10, 3) := dk_167 0 10 (dk_at dksX0_fast_1 0 rfl rfl)
theorem dX0_fast_27 : decode cX0_fast 27 = .ok (.aload_n 0, 1) := dk_42 (dk_at dksX0_fast_1 3 rfl rfl)
theorem dX0_fast_28 : decode cX0_fast 28 = .ok (.getfield 35, 3) := dk_180 0 35 (dk_at dksX0_fast_1 4 rfl rfl)
theorem dX0_fast_31 : decode cX0_fast 31 = .ok (.invokevirtual 214, 3) := dk_182 0 214 (dk_at dksX0_fast_1 7 rfl rfl)
theorem dX0_fast_34 : decode cX0_fast 34 = .ok (.ireturn, 1) := dk_172 (dk_at dksX0_fast_1 10 rfl rfl)
abbrev cX0_slow : ByteArray := prog_1_method_56_code
def yX0_slow : MethodName := ⟨RX0, "slow", "()I"⟩
def dkwX0_slow_1 : List UInt8 := [167, 0, 10, 42, 180, 0, 35, 182, 1, 92, 172]
abbrev dktX0_slow_1 : List UInt8 := dkwX0_slow_1 ++ []
def dkwX0_slow_0 : List UInt8 := [42, 180, 0, 35, 182, 0, 214, 42, 180, 0, 35, 182, 1, 92, 164, 0, 13, 42, 180, 0, 35, 182, 0, 217]
abbrev dktX0_slow_0 : List UInt8 := dkwX0_slow_0 ++ dktX0_slow_1
theorem dksX0_slow_0 : cX0_slow.data.toList.drop 0 = dktX0_slow_0 := by decide +kernel
theorem dksX0_slow_1 : cX0_slow.data.toList.drop 24 = dktX0_slow_1 := dk_seg dksX0_slow_0 24 rfl rfl
theorem dX0_slow_0 : decode cX0_slow 0 = .ok (.aload_n 0, 1) := dk_42 (dk_at dksX0_slow_0 0 rfl rfl)
theorem dX0_slow_1 : decode cX0_slow 1 = .ok (.getfield 35, 3) := dk_180 0 35 (dk_at dksX0_slow_0 1 rfl rfl)
theorem dX0_slow_4 : decode cX0_slow 4 = .ok (.invokevirtual 214, 3) := dk_182 0 214 (dk_at dksX0_slow_0 4 rfl rfl)
theorem dX0_slow_7 : decode cX0_slow 7 = .ok (.aload_n 0, 1) := dk_42 (dk_at dksX0_slow_0 7 rfl rfl)
theorem dX0_slow_8 : decode cX0_slow 8 = .ok (.getfield 35, 3) := dk_180 0 35 (dk_at dksX0_slow_0 8 rfl rfl)
theorem dX0_slow_11 : decode cX0_slow 11 = .ok (.invokevirtual 348, 3) := dk_182 1 92 (dk_at dksX0_slow_0 11 rfl rfl)
theorem dX0_slow_14 : decode cX0_slow 14 = .ok (.if_icmp .le 13, 3) := dk_164 0 13 (dk_at dksX0_slow_0 14 rfl rfl)
theorem dX0_slow_17 : decode cX0_slow 17 = .ok (.aload_n 0, 1) := dk_42 (dk_at dksX0_slow_0 17 rfl rfl)
theorem dX0_slow_18 : decode cX0_slow 18 = .ok (.getfield 35, 3) := dk_180 0 35 (dk_at dksX0_slow_0 18 rfl rfl)
theorem dX0_slow_21 : decode cX0_slow 21 = .ok (.invokevirtual 217, 3) := dk_182 0 217 (dk_at dksX0_slow_0 21 rfl rfl)
theorem dX0_slow_24 : decode cX0_slow 24 = .ok (.goto 10, 3) := dk_167 0 10 (dk_at dksX0_slow_1 0 rfl rfl)
theorem dX0_slow_27 : decode cX0_slow 27 = .ok (.aload_n 0, 1) := dk_42 (dk_at dksX0_slow_1 3 rfl rfl)
theorem dX0_slow_28 : decode cX0_slow 28 = .ok (.getfield 35, 3) := dk_180 0 35 (dk_at dksX0_slow_1 4 rfl rfl)
theorem dX0_slow_31 : decode cX0_slow 31 = .ok (.invokevirtual 348, 3) := dk_182 1 92 (dk_at dksX0_slow_1 7 rfl rfl)
theorem dX0_slow_34 : decode cX0_slow 34 = .ok (.ireturn, 1) := dk_172 (dk_at dksX0_slow_1 10 rfl rfl)
abbrev cX0_onAt : ByteArray := prog_1_method_57_code
def yX0_onAt : MethodName := ⟨RX0, "onAt", "(IIII)I"⟩
def dkwX0_onAt_2 : List UInt8 := [21, 5, 29, 21, 4, 96, 182, 1, 96, 46, 172]
abbrev dktX0_onAt_2 : List UInt8 := dkwX0_onAt_2 ++ []
def dkwX0_onAt_1 : List UInt8 := [180, 0, 35, 182, 0, 209, 164, 0, 9, 19, 1, 95, 167, 0, 21, 42, 180, 0, 74, 42, 27, 4, 96]
abbrev dktX0_onAt_1 : List UInt8 := dkwX0_onAt_1 ++ dktX0_onAt_2
def dkwX0_onAt_0 : List UInt8 := [21, 4, 42, 180, 0, 35, 182, 0, 217, 162, 0, 9, 28, 4, 96, 167, 0, 4, 28, 54, 5, 21, 5, 42]
abbrev dktX0_onAt_0 : List UInt8 := dkwX0_onAt_0 ++ dktX0_onAt_1
theorem dksX0_onAt_0 : cX0_onAt.data.toList.drop 0 = dktX0_onAt_0 := by decide +kernel
theorem dksX0_onAt_1 : cX0_onAt.data.toList.drop 24 = dktX0_onAt_1 := dk_seg dksX0_onAt_0 24 rfl rfl
theorem dksX0_onAt_2 : cX0_onAt.data.toList.drop 47 = dktX0_onAt_2 := dk_seg dksX0_onAt_1 23 rfl rfl
theorem dX0_onAt_0 : decode cX0_onAt 0 = .ok (.iload 4, 2) := dk_21 4 (dk_at dksX0_onAt_0 0 rfl rfl)
theorem dX0_onAt_2 : decode cX0_onAt 2 = .ok (.aload_n 0, 1) := dk_42 (dk_at dksX0_onAt_0 2 rfl rfl)
theorem dX0_onAt_3 : decode cX0_onAt 3 = .ok (.getfield 35, 3) := dk_180 0 35 (dk_at dksX0_onAt_0 3 rfl rfl)
theorem dX0_onAt_6 : decode cX0_onAt 6 = .ok (.invokevirtual 217, 3) := dk_182 0 217 (dk_at dksX0_onAt_0 6 rfl rfl)
theorem dX0_onAt_9 : decode cX0_onAt 9 = .ok (.if_icmp .ge 9, 3) := dk_162 0 9 (dk_at dksX0_onAt_0 9 rfl rfl)
theorem dX0_onAt_12 : decode cX0_onAt 12 = .ok (.iload_n 2, 1) := dk_28 (dk_at dksX0_onAt_0 12 rfl rfl)
theorem dX0_onAt_13 : decode cX0_onAt 13 = .ok (.iconst 1, 1) := dk_4 (dk_at dksX0_onAt_0 13 rfl rfl)
theorem dX0_onAt_14 : decode cX0_onAt 14 = .ok (.iadd, 1) := dk_96 (dk_at dksX0_onAt_0 14 rfl rfl)
theorem dX0_onAt_15 : decode cX0_onAt 15 = .ok (.goto 4, 3) := dk_167 0 4 (dk_at dksX0_onAt_0 15 rfl rfl)
theorem dX0_onAt_18 : decode cX0_onAt 18 = .ok (.iload_n 2, 1) := dk_28 (dk_at dksX0_onAt_0 18 rfl rfl)
theorem dX0_onAt_19 : decode cX0_onAt 19 = .ok (.istore 5, 2) := dk_54 5 (dk_at dksX0_onAt_0 19 rfl rfl)
theorem dX0_onAt_21 : decode cX0_onAt 21 = .ok (.iload 5, 2) := dk_21 5 (dk_at dksX0_onAt_0 21 rfl rfl)
theorem dX0_onAt_23 : decode cX0_onAt 23 = .ok (.aload_n 0, 1) := dk_42 (dk_at dksX0_onAt_0 23 rfl rfl)
theorem dX0_onAt_24 : decode cX0_onAt 24 = .ok (.getfield 35, 3) := dk_180 0 35 (dk_at dksX0_onAt_1 0 rfl rfl)
theorem dX0_onAt_27 : decode cX0_onAt 27 = .ok (.invokevirtual 209, 3) := dk_182 0 209 (dk_at dksX0_onAt_1 3 rfl rfl)
theorem dX0_onAt_30 : decode cX0_onAt 30 = .ok (.if_icmp .le 9, 3) := dk_164 0 9 (dk_at dksX0_onAt_1 6 rfl rfl)
theorem dX0_onAt_33 : decode cX0_onAt 33 = .ok (.ldc_w 351, 3) := dk_19 1 95 (dk_at dksX0_onAt_1 9 rfl rfl)
theorem dX0_onAt_36 : decode cX0_onAt 36 = .ok (.goto 21, 3) := dk_167 0 21 (dk_at dksX0_onAt_1 12 rfl rfl)
theorem dX0_onAt_39 : decode cX0_onAt 39 = .ok (.aload_n 0, 1) := dk_42 (dk_at dksX0_onAt_1 15 rfl rfl)
theorem dX0_onAt_40 : decode cX0_onAt 40 = .ok (.getfield 74, 3) := dk_180 0 74 (dk_at dksX0_onAt_1 16 rfl rfl)
theorem dX0_onAt_43 : decode cX0_onAt 43 = .ok (.aload_n 0, 1) := dk_42 (dk_at dksX0_onAt_1 19 rfl rfl)
theorem dX0_onAt_44 : decode cX0_onAt 44 = .ok (.iload_n 1, 1) := dk_27 (dk_at dksX0_onAt_1 20 rfl rfl)
theorem dX0_onAt_45 : decode cX0_onAt 45 = .ok (.iconst 1, 1) := dk_4 (dk_at dksX0_onAt_1 21 rfl rfl)
theorem dX0_onAt_46 : decode cX0_onAt 46 = .ok (.iadd, 1) := dk_96 (dk_at dksX0_onAt_1 22 rfl rfl)
theorem dX0_onAt_47 : decode cX0_onAt 47 = .ok (.iload 5, 2) := dk_21 5 (dk_at dksX0_onAt_2 0 rfl rfl)
theorem dX0_onAt_49 : decode cX0_onAt 49 = .ok (.iload_n 3, 1) := dk_29 (dk_at dksX0_onAt_2 2 rfl rfl)
theorem dX0_onAt_50 : decode cX0_onAt 50 = .ok (.iload 4, 2) := dk_21 4 (dk_at dksX0_onAt_2 3 rfl rfl)
theorem dX0_onAt_52 : decode cX0_onAt 52 = .ok (.iadd, 1) := dk_96 (dk_at dksX0_onAt_2 5 rfl rfl)
theorem dX0_onAt_53 : decode cX0_onAt 53 = .ok (.invokevirtual 352, 3) := dk_182 1 96 (dk_at dksX0_onAt_2 6 rfl rfl)
theorem dX0_onAt_56 : decode cX0_onAt 56 = .ok (.iaload, 1) := dk_46 (dk_at dksX0_onAt_2 9 rfl rfl)
theorem dX0_onAt_57 : decode cX0_onAt 57 = .ok (.ireturn, 1) := dk_172 (dk_at dksX0_onAt_2 10 rfl rfl)
abbrev cX0_tried : ByteArray := prog_1_method_62_code
def yX0_tried : MethodName := ⟨RX0, "tried", "(IIZI)Z"⟩
def dkwX0_tried_4 : List UInt8 := [172]
abbrev dktX0_tried_4 : List UInt8 := dkwX0_tried_4 ++ []
def dkwX0_tried_3 : List UInt8 := [180, 0, 49, 180, 1, 129, 42, 180, 0, 49, 89, 180, 1, 120, 90, 4, 96, 181, 1, 120, 21, 4, 79, 4]
abbrev dktX0_tried_3 : List UInt8 := dkwX0_tried_3 ++ dktX0_tried_4
def dkwX0_tried_2 : List UInt8 := [28, 16, 6, 104, 27, 96, 79, 42, 180, 0, 49, 180, 1, 126, 42, 180, 0, 49, 180, 1, 120, 29, 84, 42]
abbrev dktX0_tried_2 : List UInt8 := dkwX0_tried_2 ++ dktX0_tried_3
def dkwX0_tried_1 : List UInt8 := [180, 1, 120, 16, 10, 160, 0, 5, 3, 172, 42, 180, 0, 49, 180, 1, 123, 42, 180, 0, 49, 180, 1, 120]
abbrev dktX0_tried_1 : List UInt8 := dkwX0_tried_1 ++ dktX0_tried_2
def dkwX0_tried_0 : List UInt8 := [42, 27, 28, 182, 1, 118, 153, 0, 26, 21, 4, 3, 16, 59, 184, 0, 127, 153, 0, 15, 42, 180, 0, 49]
abbrev dktX0_tried_0 : List UInt8 := dkwX0_tried_0 ++ dktX0_tried_1
theorem dksX0_tried_0 : cX0_tried.data.toList.drop 0 = dktX0_tried_0 := by decide +kernel
theorem dksX0_tried_1 : cX0_tried.data.toList.drop 24 = dktX0_tried_1 := dk_seg dksX0_tried_0 24 rfl rfl
theorem dksX0_tried_2 : cX0_tried.data.toList.drop 48 = dktX0_tried_2 := dk_seg dksX0_tried_1 24 rfl rfl
theorem dksX0_tried_3 : cX0_tried.data.toList.drop 72 = dktX0_tried_3 := dk_seg dksX0_tried_2 24 rfl rfl
theorem dksX0_tried_4 : cX0_tried.data.toList.drop 96 = dktX0_tried_4 := dk_seg dksX0_tried_3 24 rfl rfl
theorem dX0_tried_0 : decode cX0_tried 0 = .ok (.aload_n 0, 1) := dk_42 (dk_at dksX0_tried_0 0 rfl rfl)
theorem dX0_tried_1 : decode cX0_tried 1 = .ok (.iload_n 1, 1) := dk_27 (dk_at dksX0_tried_0 1 rfl rfl)
theorem dX0_tried_2 : decode cX0_tried 2 = .ok (.iload_n 2, 1) := dk_28 (dk_at dksX0_tried_0 2 rfl rfl)
theorem dX0_tried_3 : decode cX0_tried 3 = .ok (.invokevirtual 374, 3) := dk_182 1 118 (dk_at dksX0_tried_0 3 rfl rfl)
theorem dX0_tried_6 : decode cX0_tried 6 = .ok (.ifCond .eq 26, 3) := dk_153 0 26 (dk_at dksX0_tried_0 6 rfl rfl)
theorem dX0_tried_9 : decode cX0_tried 9 = .ok (.iload 4, 2) := dk_21 4 (dk_at dksX0_tried_0 9 rfl rfl)
theorem dX0_tried_11 : decode cX0_tried 11 = .ok (.iconst 0, 1) := dk_3 (dk_at dksX0_tried_0 11 rfl rfl)
theorem dX0_tried_12 : decode cX0_tried 12 = .ok (.bipush 59, 2) := dk_16 59 (dk_at dksX0_tried_0 12 rfl rfl)
theorem dX0_tried_14 : decode cX0_tried 14 = .ok (.invokestatic 127, 3) := dk_184 0 127 (dk_at dksX0_tried_0 14 rfl rfl)
theorem dX0_tried_17 : decode cX0_tried 17 = .ok (.ifCond .eq 15, 3) := dk_153 0 15 (dk_at dksX0_tried_0 17 rfl rfl)
theorem dX0_tried_20 : decode cX0_tried 20 = .ok (.aload_n 0, 1) := dk_42 (dk_at dksX0_tried_0 20 rfl rfl)
theorem dX0_tried_21 : decode cX0_tried 21 = .ok (.getfield 49, 3) := dk_180 0 49 (dk_at dksX0_tried_0 21 rfl rfl)
theorem dX0_tried_24 : decode cX0_tried 24 = .ok (.getfield 376, 3) := dk_180 1 120 (dk_at dksX0_tried_1 0 rfl rfl)
theorem dX0_tried_27 : decode cX0_tried 27 = .ok (.bipush 10, 2) := dk_16 10 (dk_at dksX0_tried_1 3 rfl rfl)
theorem dX0_tried_29 : decode cX0_tried 29 = .ok (.if_icmp .ne 5, 3) := dk_160 0 5 (dk_at dksX0_tried_1 5 rfl rfl)
theorem dX0_tried_32 : decode cX0_tried 32 = .ok (.iconst 0, 1) := dk_3 (dk_at dksX0_tried_1 8 rfl rfl)
theorem dX0_tried_33 : decode cX0_tried 33 = .ok (.ireturn, 1) := dk_172 (dk_at dksX0_tried_1 9 rfl rfl)
theorem dX0_tried_34 : decode cX0_tried 34 = .ok (.aload_n 0, 1) := dk_42 (dk_at dksX0_tried_1 10 rfl rfl)
theorem dX0_tried_35 : decode cX0_tried 35 = .ok (.getfield 49, 3) := dk_180 0 49 (dk_at dksX0_tried_1 11 rfl rfl)
theorem dX0_tried_38 : decode cX0_tried 38 = .ok (.getfield 379, 3) := dk_180 1 123 (dk_at dksX0_tried_1 14 rfl rfl)
theorem dX0_tried_41 : decode cX0_tried 41 = .ok (.aload_n 0, 1) := dk_42 (dk_at dksX0_tried_1 17 rfl rfl)
theorem dX0_tried_42 : decode cX0_tried 42 = .ok (.getfield 49, 3) := dk_180 0 49 (dk_at dksX0_tried_1 18 rfl rfl)
theorem dX0_tried_45 : decode cX0_tried 45 = .ok (.getfield 376, 3) := dk_180 1 120 (dk_at dksX0_tried_1 21 rfl rfl)
theorem dX0_tried_48 : decode cX0_tried 48 = .ok (.iload_n 2, 1) := dk_28 (dk_at dksX0_tried_2 0 rfl rfl)
theorem dX0_tried_49 : decode cX0_tried 49 = .ok (.bipush 6, 2) := dk_16 6 (dk_at dksX0_tried_2 1 rfl rfl)
theorem dX0_tried_51 : decode cX0_tried 51 = .ok (.imul, 1) := dk_104 (dk_at dksX0_tried_2 3 rfl rfl)
theorem dX0_tried_52 : decode cX0_tried 52 = .ok (.iload_n 1, 1) := dk_27 (dk_at dksX0_tried_2 4 rfl rfl)
theorem dX0_tried_53 : decode cX0_tried 53 = .ok (.iadd, 1) := dk_96 (dk_at dksX0_tried_2 5 rfl rfl)
theorem dX0_tried_54 : decode cX0_tried 54 = .ok (.iastore, 1) := dk_79 (dk_at dksX0_tried_2 6 rfl rfl)
theorem dX0_tried_55 : decode cX0_tried 55 = .ok (.aload_n 0, 1) := dk_42 (dk_at dksX0_tried_2 7 rfl rfl)
theorem dX0_tried_56 : decode cX0_tried 56 = .ok (.getfield 49, 3) := dk_180 0 49 (dk_at dksX0_tried_2 8 rfl rfl)
theorem dX0_tried_59 : decode cX0_tried 59 = .ok (.getfield 382, 3) := dk_180 1 126 (dk_at dksX0_tried_2 11 rfl rfl)
theorem dX0_tried_62 : decode cX0_tried 62 = .ok (.aload_n 0, 1) := dk_42 (dk_at dksX0_tried_2 14 rfl rfl)
theorem dX0_tried_63 : decode cX0_tried 63 = .ok (.getfield 49, 3) := dk_180 0 49 (dk_at dksX0_tried_2 15 rfl rfl)
theorem dX0_tried_66 : decode cX0_tried 66 = .ok (.getfield 376, 3) := dk_180 1 120 (dk_at dksX0_tried_2 18 rfl rfl)
theorem dX0_tried_69 : decode cX0_tried 69 = .ok (.iload_n 3, 1) := dk_29 (dk_at dksX0_tried_2 21 rfl rfl)
theorem dX0_tried_70 : decode cX0_tried 70 = .ok (.bastore, 1) := dk_84 (dk_at dksX0_tried_2 22 rfl rfl)
theorem dX0_tried_71 : decode cX0_tried 71 = .ok (.aload_n 0, 1) := dk_42 (dk_at dksX0_tried_2 23 rfl rfl)
theorem dX0_tried_72 : decode cX0_tried 72 = .ok (.getfield 49, 3) := dk_180 0 49 (dk_at dksX0_tried_3 0 rfl rfl)
theorem dX0_tried_75 : decode cX0_tried 75 = .ok (.getfield 385, 3) := dk_180 1 129 (dk_at dksX0_tried_3 3 rfl rfl)
theorem dX0_tried_78 : decode cX0_tried 78 = .ok (.aload_n 0, 1) := dk_42 (dk_at dksX0_tried_3 6 rfl rfl)
theorem dX0_tried_79 : decode cX0_tried 79 = .ok (.getfield 49, 3) := dk_180 0 49 (dk_at dksX0_tried_3 7 rfl rfl)
theorem dX0_tried_82 : decode cX0_tried 82 = .ok (.dup, 1) := dk_89 (dk_at dksX0_tried_3 10 rfl rfl)
theorem dX0_tried_83 : decode cX0_tried 83 = .ok (.getfield 376, 3) := dk_180 1 120 (dk_at dksX0_tried_3 11 rfl rfl)
theorem dX0_tried_86 : decode cX0_tried 86 = .ok (.dup_x1, 1) := dk_90 (dk_at dksX0_tried_3 14 rfl rfl)
theorem dX0_tried_87 : decode cX0_tried 87 = .ok (.iconst 1, 1) := dk_4 (dk_at dksX0_tried_3 15 rfl rfl)
theorem dX0_tried_88 : decode cX0_tried 88 = .ok (.iadd, 1) := dk_96 (dk_at dksX0_tried_3 16 rfl rfl)
theorem dX0_tried_89 : decode cX0_tried 89 = .ok (.putfield 376, 3) := dk_181 1 120 (dk_at dksX0_tried_3 17 rfl rfl)
theorem dX0_tried_92 : decode cX0_tried 92 = .ok (.iload 4, 2) := dk_21 4 (dk_at dksX0_tried_3 20 rfl rfl)
theorem dX0_tried_94 : decode cX0_tried 94 = .ok (.iastore, 1) := dk_79 (dk_at dksX0_tried_3 22 rfl rfl)
theorem dX0_tried_95 : decode cX0_tried 95 = .ok (.iconst 1, 1) := dk_4 (dk_at dksX0_tried_3 23 rfl rfl)
theorem dX0_tried_96 : decode cX0_tried 96 = .ok (.ireturn, 1) := dk_172 (dk_at dksX0_tried_4 0 rfl rfl)
abbrev cX0_isButton : ByteArray := prog_1_method_61_code
def yX0_isButton : MethodName := ⟨RX0, "isButton", "(II)Z"⟩
def dkwX0_isButton_1 : List UInt8 := [182, 0, 140, 182, 0, 181, 153, 0, 7, 4, 167, 0, 4, 3, 172]
abbrev dktX0_isButton_1 : List UInt8 := dkwX0_isButton_1 ++ []
def dkwX0_isButton_0 : List UInt8 := [42, 180, 0, 35, 27, 28, 182, 0, 149, 153, 0, 28, 42, 27, 28, 182, 0, 140, 198, 0, 19, 42, 27, 28]
abbrev dktX0_isButton_0 : List UInt8 := dkwX0_isButton_0 ++ dktX0_isButton_1
theorem dksX0_isButton_0 : cX0_isButton.data.toList.drop 0 = dktX0_isButton_0 := by decide +kernel
theorem dksX0_isButton_1 : cX0_isButton.data.toList.drop 24 = dktX0_isButton_1 := dk_seg dksX0_isButton_0 24 rfl rfl
theorem dX0_isButton_0 : decode cX0_isButton 0 = .ok (.aload_n 0, 1) := dk_42 (dk_at dksX0_isButton_0 0 rfl rfl)
theorem dX0_isButton_1 : decode cX0_isButton 1 = .ok (.getfield 35, 3) := dk_180 0 35 (dk_at dksX0_isButton_0 1 rfl rfl)
theorem dX0_isButton_4 : decode cX0_isButton 4 = .ok (.iload_n 1, 1) := dk_27 (dk_at dksX0_isButton_0 4 rfl rfl)
theorem dX0_isButton_5 : decode cX0_isButton 5 = .ok (.iload_n 2, 1) := dk_28 (dk_at dksX0_isButton_0 5 rfl rfl)
theorem dX0_isButton_6 : decode cX0_isButton 6 = .ok (.invokevirtual 149, 3) := dk_182 0 149 (dk_at dksX0_isButton_0 6 rfl rfl)
theorem dX0_isButton_9 : decode cX0_isButton 9 = .ok (.ifCond .eq 28, 3) := dk_153 0 28 (dk_at dksX0_isButton_0 9 rfl rfl)
theorem dX0_isButton_12 : decode cX0_isButton 12 = .ok (.aload_n 0, 1) := dk_42 (dk_at dksX0_isButton_0 12 rfl rfl)
theorem dX0_isButton_13 : decode cX0_isButton 13 = .ok (.iload_n 1, 1) := dk_27 (dk_at dksX0_isButton_0 13 rfl rfl)
theorem dX0_isButton_14 : decode cX0_isButton 14 = .ok (.iload_n 2, 1) := dk_28 (dk_at dksX0_isButton_0 14 rfl rfl)
theorem dX0_isButton_15 : decode cX0_isButton 15 = .ok (.invokevirtual 140, 3) := dk_182 0 140 (dk_at dksX0_isButton_0 15 rfl rfl)
theorem dX0_isButton_18 : decode cX0_isButton 18 = .ok (.ifnull 19, 3) := dk_198 0 19 (dk_at dksX0_isButton_0 18 rfl rfl)
theorem dX0_isButton_21 : decode cX0_isButton 21 = .ok (.aload_n 0, 1) := dk_42 (dk_at dksX0_isButton_0 21 rfl rfl)
theorem dX0_isButton_22 : decode cX0_isButton 22 = .ok (.iload_n 1, 1) := dk_27 (dk_at dksX0_isButton_0 22 rfl rfl)
theorem dX0_isButton_23 : decode cX0_isButton 23 = .ok (.iload_n 2, 1) := dk_28 (dk_at dksX0_isButton_0 23 rfl rfl)
theorem dX0_isButton_24 : decode cX0_isButton 24 = .ok (.invokevirtual 140, 3) := dk_182 0 140 (dk_at dksX0_isButton_1 0 rfl rfl)
theorem dX0_isButton_27 : decode cX0_isButton 27 = .ok (.invokevirtual 181, 3) := dk_182 0 181 (dk_at dksX0_isButton_1 3 rfl rfl)
theorem dX0_isButton_30 : decode cX0_isButton 30 = .ok (.ifCond .eq 7, 3) := dk_153 0 7 (dk_at dksX0_isButton_1 6 rfl rfl)
theorem dX0_isButton_33 : decode cX0_isButton 33 = .ok (.iconst 1, 1) := dk_4 (dk_at dksX0_isButton_1 9 rfl rfl)
theorem dX0_isButton_34 : decode cX0_isButton 34 = .ok (.goto 4, 3) := dk_167 0 4 (dk_at dksX0_isButton_1 10 rfl rfl)
theorem dX0_isButton_37 : decode cX0_isButton 37 = .ok (.iconst 0, 1) := dk_3 (dk_at dksX0_isButton_1 13 rfl rfl)
theorem dX0_isButton_38 : decode cX0_isButton 38 = .ok (.ireturn, 1) := dk_172 (dk_at dksX0_isButton_1 14 rfl rfl)
abbrev cX0_does : ByteArray := prog_1_method_63_code
def yX0_does : MethodName := ⟨RX0, "does", "(III)J"⟩
def dkwX0_does_8 : List UInt8 := [22, 9, 22, 5, 184, 0, 9, 109, 173]
abbrev dktX0_does_8 : List UInt8 := dkwX0_does_8 ++ []
def dkwX0_does_7 : List UInt8 := [22, 9, 9, 148, 154, 0, 9, 20, 1, 132, 167, 0, 22, 29, 154, 0, 8, 22, 5, 167, 0, 5, 22, 9]
abbrev dktX0_does_7 : List UInt8 := dkwX0_does_7 ++ dktX0_does_8
def dkwX0_does_6 : List UInt8 := [25, 4, 180, 0, 163, 4, 96, 133, 105, 55, 7, 132, 9, 1, 167, 255, 138, 22, 5, 22, 7, 97, 55, 9]
abbrev dktX0_does_6 : List UInt8 := dkwX0_does_6 ++ dktX0_does_7
def dkwX0_does_5 : List UInt8 := [22, 7, 42, 180, 0, 49, 180, 1, 129, 21, 9, 46, 25, 4, 180, 0, 160, 161, 0, 7, 9, 167, 0, 11]
abbrev dktX0_does_5 : List UInt8 := dkwX0_does_5 ++ dktX0_does_6
def dkwX0_does_4 : List UInt8 := [21, 9, 46, 25, 4, 180, 0, 163, 164, 0, 7, 9, 167, 0, 9, 25, 4, 180, 0, 160, 133, 105, 55, 5]
abbrev dktX0_does_4 : List UInt8 := dkwX0_does_4 ++ dktX0_does_5
def dkwX0_does_3 : List UInt8 := [180, 0, 49, 180, 1, 126, 21, 9, 51, 154, 0, 6, 167, 0, 71, 22, 5, 42, 180, 0, 49, 180, 1, 129]
abbrev dktX0_does_3 : List UInt8 := dkwX0_does_3 ++ dktX0_does_4
def dkwX0_does_2 : List UInt8 := [162, 0, 112, 42, 180, 0, 49, 180, 1, 123, 21, 9, 46, 28, 16, 6, 104, 27, 96, 160, 0, 87, 42]
abbrev dktX0_does_2 : List UInt8 := dkwX0_does_2 ++ dktX0_does_3
def dkwX0_does_1 : List UInt8 := [28, 182, 0, 140, 58, 4, 10, 55, 5, 10, 55, 7, 3, 54, 9, 21, 9, 42, 180, 0, 49, 180, 1, 120]
abbrev dktX0_does_1 : List UInt8 := dkwX0_does_1 ++ dktX0_does_2
def dkwX0_does_0 : List UInt8 := [42, 27, 28, 182, 1, 118, 153, 0, 12, 29, 3, 4, 184, 0, 127, 154, 0, 7, 20, 1, 132, 173, 42, 27]
abbrev dktX0_does_0 : List UInt8 := dkwX0_does_0 ++ dktX0_does_1
theorem dksX0_does_0 : cX0_does.data.toList.drop 0 = dktX0_does_0 := by decide +kernel
theorem dksX0_does_1 : cX0_does.data.toList.drop 24 = dktX0_does_1 := dk_seg dksX0_does_0 24 rfl rfl
theorem dksX0_does_2 : cX0_does.data.toList.drop 48 = dktX0_does_2 := dk_seg dksX0_does_1 24 rfl rfl
theorem dksX0_does_3 : cX0_does.data.toList.drop 71 = dktX0_does_3 := dk_seg dksX0_does_2 23 rfl rfl
theorem dksX0_does_4 : cX0_does.data.toList.drop 95 = dktX0_does_4 := dk_seg dksX0_does_3 24 rfl rfl
theorem dksX0_does_5 : cX0_does.data.toList.drop 119 = dktX0_does_5 := dk_seg dksX0_does_4 24 rfl rfl
theorem dksX0_does_6 : cX0_does.data.toList.drop 143 = dktX0_does_6 := dk_seg dksX0_does_5 24 rfl rfl
theorem dksX0_does_7 : cX0_does.data.toList.drop 167 = dktX0_does_7 := dk_seg dksX0_does_6 24 rfl rfl
theorem dksX0_does_8 : cX0_does.data.toList.drop 191 = dktX0_does_8 := dk_seg dksX0_does_7 24 rfl rfl
theorem dX0_does_0 : decode cX0_does 0 = .ok (.aload_n 0, 1) := dk_42 (dk_at dksX0_does_0 0 rfl rfl)
theorem dX0_does_1 : decode cX0_does 1 = .ok (.iload_n 1, 1) := dk_27 (dk_at dksX0_does_0 1 rfl rfl)
theorem dX0_does_2 : decode cX0_does 2 = .ok (.iload_n 2, 1) := dk_28 (dk_at dksX0_does_0 2 rfl rfl)
theorem dX0_does_3 : decode cX0_does 3 = .ok (.invokevirtual 374, 3) := dk_182 1 118 (dk_at dksX0_does_0 3 rfl rfl)
theorem dX0_does_6 : decode cX0_does 6 = .ok (.ifCond .eq 12, 3) := dk_153 0 12 (dk_at dksX0_does_0 6 rfl rfl)
theorem dX0_does_9 : decode cX0_does 9 = .ok (.iload_n 3, 1) := dk_29 (dk_at dksX0_does_0 9 rfl rfl)
theorem dX0_does_10 : decode cX0_does 10 = .ok (.iconst 0, 1) := dk_3 (dk_at dksX0_does_0 10 rfl rfl)
theorem dX0_does_11 : decode cX0_does 11 = .ok (.iconst 1, 1) := dk_4 (dk_at dksX0_does_0 11 rfl rfl)
theorem dX0_does_12 : decode cX0_does 12 = .ok (.invokestatic 127, 3) := dk_184 0 127 (dk_at dksX0_does_0 12 rfl rfl)
theorem dX0_does_15 : decode cX0_does 15 = .ok (.ifCond .ne 7, 3) := dk_154 0 7 (dk_at dksX0_does_0 15 rfl rfl)
theorem dX0_does_18 : decode cX0_does 18 = .ok (.ldc2_w 388, 3) := dk_20 1 132 (dk_at dksX0_does_0 18 rfl rfl)
theorem dX0_does_21 : decode cX0_does 21 = .ok (.lreturn, 1) := dk_173 (dk_at dksX0_does_0 21 rfl rfl)
theorem dX0_does_22 : decode cX0_does 22 = .ok (.aload_n 0, 1) := dk_42 (dk_at dksX0_does_0 22 rfl rfl)
theorem dX0_does_23 : decode cX0_does 23 = .ok (.iload_n 1, 1) := dk_27 (dk_at dksX0_does_0 23 rfl rfl)
theorem dX0_does_24 : decode cX0_does 24 = .ok (.iload_n 2, 1) := dk_28 (dk_at dksX0_does_1 0 rfl rfl)
theorem dX0_does_25 : decode cX0_does 25 = .ok (.invokevirtual 140, 3) := dk_182 0 140 (dk_at dksX0_does_1 1 rfl rfl)
theorem dX0_does_28 : decode cX0_does 28 = .ok (.astore 4, 2) := dk_58 4 (dk_at dksX0_does_1 4 rfl rfl)
theorem dX0_does_30 : decode cX0_does 30 = .ok (.lconst 1, 1) := dk_10 (dk_at dksX0_does_1 6 rfl rfl)
theorem dX0_does_31 : decode cX0_does 31 = .ok (.lstore 5, 2) := dk_55 5 (dk_at dksX0_does_1 7 rfl rfl)
theorem dX0_does_33 : decode cX0_does 33 = .ok (.lconst 1, 1) := dk_10 (dk_at dksX0_does_1 9 rfl rfl)
theorem dX0_does_34 : decode cX0_does 34 = .ok (.lstore 7, 2) := dk_55 7 (dk_at dksX0_does_1 10 rfl rfl)
theorem dX0_does_36 : decode cX0_does 36 = .ok (.iconst 0, 1) := dk_3 (dk_at dksX0_does_1 12 rfl rfl)
theorem dX0_does_37 : decode cX0_does 37 = .ok (.istore 9, 2) := dk_54 9 (dk_at dksX0_does_1 13 rfl rfl)
theorem dX0_does_39 : decode cX0_does 39 = .ok (.iload 9, 2) := dk_21 9 (dk_at dksX0_does_1 15 rfl rfl)
theorem dX0_does_41 : decode cX0_does 41 = .ok (.aload_n 0, 1) := dk_42 (dk_at dksX0_does_1 17 rfl rfl)
theorem dX0_does_42 : decode cX0_does 42 = .ok (.getfield 49, 3) := dk_180 0 49 (dk_at dksX0_does_1 18 rfl rfl)
theorem dX0_does_45 : decode cX0_does 45 = .ok (.getfield 376, 3) := dk_180 1 120 (dk_at dksX0_does_1 21 rfl rfl)
theorem dX0_does_48 : decode cX0_does 48 = .ok (.if_icmp .ge 112, 3) := dk_162 0 112 (dk_at dksX0_does_2 0 rfl rfl)
theorem dX0_does_51 : decode cX0_does 51 = .ok (.aload_n 0, 1) := dk_42 (dk_at dksX0_does_2 3 rfl rfl)
theorem dX0_does_52 : decode cX0_does 52 = .ok (.getfield 49, 3) := dk_180 0 49 (dk_at dksX0_does_2 4 rfl rfl)
theorem dX0_does_55 : decode cX0_does 55 = .ok (.getfield 379, 3) := dk_180 1 123 (dk_at dksX0_does_2 7 rfl rfl)
theorem dX0_does_58 : decode cX0_does 58 = .ok (.iload 9, 2) := dk_21 9 (dk_at dksX0_does_2 10 rfl rfl)
theorem dX0_does_60 : decode cX0_does 60 = .ok (.iaload, 1) := dk_46 (dk_at dksX0_does_2 12 rfl rfl)
theorem dX0_does_61 : decode cX0_does 61 = .ok (.iload_n 2, 1) := dk_28 (dk_at dksX0_does_2 13 rfl rfl)
theorem dX0_does_62 : decode cX0_does 62 = .ok (.bipush 6, 2) := dk_16 6 (dk_at dksX0_does_2 14 rfl rfl)
theorem dX0_does_64 : decode cX0_does 64 = .ok (.imul, 1) := dk_104 (dk_at dksX0_does_2 16 rfl rfl)
theorem dX0_does_65 : decode cX0_does 65 = .ok (.iload_n 1, 1) := dk_27 (dk_at dksX0_does_2 17 rfl rfl)
theorem dX0_does_66 : decode cX0_does 66 = .ok (.iadd, 1) := dk_96 (dk_at dksX0_does_2 18 rfl rfl)
theorem dX0_does_67 : decode cX0_does 67 = .ok (.if_icmp .ne 87, 3) := dk_160 0 87 (dk_at dksX0_does_2 19 rfl rfl)
theorem dX0_does_70 : decode cX0_does 70 = .ok (.aload_n 0, 1) := dk_42 (dk_at dksX0_does_2 22 rfl rfl)
theorem dX0_does_71 : decode cX0_does 71 = .ok (.getfield 49, 3) := dk_180 0 49 (dk_at dksX0_does_3 0 rfl rfl)
theorem dX0_does_74 : decode cX0_does 74 = .ok (.getfield 382, 3) := dk_180 1 126 (dk_at dksX0_does_3 3 rfl rfl)
theorem dX0_does_77 : decode cX0_does 77 = .ok (.iload 9, 2) := dk_21 9 (dk_at dksX0_does_3 6 rfl rfl)
theorem dX0_does_79 : decode cX0_does 79 = .ok (.baload, 1) := dk_51 (dk_at dksX0_does_3 8 rfl rfl)
theorem dX0_does_80 : decode cX0_does 80 = .ok (.ifCond .ne 6, 3) := dk_154 0 6 (dk_at dksX0_does_3 9 rfl rfl)
theorem dX0_does_83 : decode cX0_does 83 = .ok (.goto 71, 3) := dk_167 0 71 (dk_at dksX0_does_3 12 rfl rfl)
theorem dX0_does_86 : decode cX0_does 86 = .ok (.lload 5, 2) := dk_22 5 (dk_at dksX0_does_3 15 rfl rfl)
theorem dX0_does_88 : decode cX0_does 88 = .ok (.aload_n 0, 1) := dk_42 (dk_at dksX0_does_3 17 rfl rfl)
theorem dX0_does_89 : decode cX0_does 89 = .ok (.getfield 49, 3) := dk_180 0 49 (dk_at dksX0_does_3 18 rfl rfl)
theorem dX0_does_92 : decode cX0_does 92 = .ok (.getfield 385, 3) := dk_180 1 129 (dk_at dksX0_does_3 21 rfl rfl)
theorem dX0_does_95 : decode cX0_does 95 = .ok (.iload 9, 2) := dk_21 9 (dk_at dksX0_does_4 0 rfl rfl)
theorem dX0_does_97 : decode cX0_does 97 = .ok (.iaload, 1) := dk_46 (dk_at dksX0_does_4 2 rfl rfl)
theorem dX0_does_98 : decode cX0_does 98 = .ok (.aload 4, 2) := dk_25 4 (dk_at dksX0_does_4 3 rfl rfl)
theorem dX0_does_100 : decode cX0_does 100 = .ok (.getfield 163, 3) := dk_180 0 163 (dk_at dksX0_does_4 5 rfl rfl)
theorem dX0_does_103 : decode cX0_does 103 = .ok (.if_icmp .le 7, 3) := dk_164 0 7 (dk_at dksX0_does_4 8 rfl rfl)
theorem dX0_does_106 : decode cX0_does 106 = .ok (.lconst 0, 1) := dk_9 (dk_at dksX0_does_4 11 rfl rfl)
theorem dX0_does_107 : decode cX0_does 107 = .ok (.goto 9, 3) := dk_167 0 9 (dk_at dksX0_does_4 12 rfl rfl)
theorem dX0_does_110 : decode cX0_does 110 = .ok (.aload 4, 2) := dk_25 4 (dk_at dksX0_does_4 15 rfl rfl)
theorem dX0_does_112 : decode cX0_does 112 = .ok (.getfield 160, 3) := dk_180 0 160 (dk_at dksX0_does_4 17 rfl rfl)
theorem dX0_does_115 : decode cX0_does 115 = .ok (.i2l, 1) := dk_133 (dk_at dksX0_does_4 20 rfl rfl)
theorem dX0_does_116 : decode cX0_does 116 = .ok (.lmul, 1) := dk_105 (dk_at dksX0_does_4 21 rfl rfl)
theorem dX0_does_117 : decode cX0_does 117 = .ok (.lstore 5, 2) := dk_55 5 (dk_at dksX0_does_4 22 rfl rfl)
theorem dX0_does_119 : decode cX0_does 119 = .ok (.lload 7, 2) := dk_22 7 (dk_at dksX0_does_5 0 rfl rfl)
theorem dX0_does_121 : decode cX0_does 121 = .ok (.aload_n 0, 1) := dk_42 (dk_at dksX0_does_5 2 rfl rfl)
theorem dX0_does_122 : decode cX0_does 122 = .ok (.getfield 49, 3) := dk_180 0 49 (dk_at dksX0_does_5 3 rfl rfl)
theorem dX0_does_125 : decode cX0_does 125 = .ok (.getfield 385, 3) := dk_180 1 129 (dk_at dksX0_does_5 6 rfl rfl)
theorem dX0_does_128 : decode cX0_does 128 = .ok (.iload 9, 2) := dk_21 9 (dk_at dksX0_does_5 9 rfl rfl)
theorem dX0_does_130 : decode cX0_does 130 = .ok (.iaload, 1) := dk_46 (dk_at dksX0_does_5 11 rfl rfl)
theorem dX0_does_131 : decode cX0_does 131 = .ok (.aload 4, 2) := dk_25 4 (dk_at dksX0_does_5 12 rfl rfl)
theorem dX0_does_133 : decode cX0_does 133 = .ok (.getfield 160, 3) := dk_180 0 160 (dk_at dksX0_does_5 14 rfl rfl)
theorem dX0_does_136 : decode cX0_does 136 = .ok (.if_icmp .lt 7, 3) := dk_161 0 7 (dk_at dksX0_does_5 17 rfl rfl)
theorem dX0_does_139 : decode cX0_does 139 = .ok (.lconst 0, 1) := dk_9 (dk_at dksX0_does_5 20 rfl rfl)
theorem dX0_does_140 : decode cX0_does 140 = .ok (.goto 11, 3) := dk_167 0 11 (dk_at dksX0_does_5 21 rfl rfl)
theorem dX0_does_143 : decode cX0_does 143 = .ok (.aload 4, 2) := dk_25 4 (dk_at dksX0_does_6 0 rfl rfl)
theorem dX0_does_145 : decode cX0_does 145 = .ok (.getfield 163, 3) := dk_180 0 163 (dk_at dksX0_does_6 2 rfl rfl)
theorem dX0_does_148 : decode cX0_does 148 = .ok (.iconst 1, 1) := dk_4 (dk_at dksX0_does_6 5 rfl rfl)
theorem dX0_does_149 : decode cX0_does 149 = .ok (.iadd, 1) := dk_96 (dk_at dksX0_does_6 6 rfl rfl)
theorem dX0_does_150 : decode cX0_does 150 = .ok (.i2l, 1) := dk_133 (dk_at dksX0_does_6 7 rfl rfl)
theorem dX0_does_151 : decode cX0_does 151 = .ok (.lmul, 1) := dk_105 (dk_at dksX0_does_6 8 rfl rfl)
theorem dX0_does_152 : decode cX0_does 152 = .ok (.lstore 7, 2) := dk_55 7 (dk_at dksX0_does_6 9 rfl rfl)
theorem dX0_does_154 : decode cX0_does 154 = .ok (.iinc 9 1, 3) := dk_132 9 1 (dk_at dksX0_does_6 11 rfl rfl)
theorem dX0_does_157 : decode cX0_does 157 = .ok (.goto (-118), 3) := dk_167 255 138 (dk_at dksX0_does_6 14 rfl rfl)
theorem dX0_does_160 : decode cX0_does 160 = .ok (.lload 5, 2) := dk_22 5 (dk_at dksX0_does_6 17 rfl rfl)
theorem dX0_does_162 : decode cX0_does 162 = .ok (.lload 7, 2) := dk_22 7 (dk_at dksX0_does_6 19 rfl rfl)
theorem dX0_does_164 : decode cX0_does 164 = .ok (.ladd, 1) := dk_97 (dk_at dksX0_does_6 21 rfl rfl)
theorem dX0_does_165 : decode cX0_does 165 = .ok (.lstore 9, 2) := dk_55 9 (dk_at dksX0_does_6 22 rfl rfl)
theorem dX0_does_167 : decode cX0_does 167 = .ok (.lload 9, 2) := dk_22 9 (dk_at dksX0_does_7 0 rfl rfl)
theorem dX0_does_169 : decode cX0_does 169 = .ok (.lconst 0, 1) := dk_9 (dk_at dksX0_does_7 2 rfl rfl)
theorem dX0_does_170 : decode cX0_does 170 = .ok (.lcmp, 1) := dk_148 (dk_at dksX0_does_7 3 rfl rfl)
theorem dX0_does_171 : decode cX0_does 171 = .ok (.ifCond .ne 9, 3) := dk_154 0 9 (dk_at dksX0_does_7 4 rfl rfl)
theorem dX0_does_174 : decode cX0_does 174 = .ok (.ldc2_w 388, 3) := dk_20 1 132 (dk_at dksX0_does_7 7 rfl rfl)
theorem dX0_does_177 : decode cX0_does 177 = .ok (.goto 22, 3) := dk_167 0 22 (dk_at dksX0_does_7 10 rfl rfl)
theorem dX0_does_180 : decode cX0_does 180 = .ok (.iload_n 3, 1) := dk_29 (dk_at dksX0_does_7 13 rfl rfl)
theorem dX0_does_181 : decode cX0_does 181 = .ok (.ifCond .ne 8, 3) := dk_154 0 8 (dk_at dksX0_does_7 14 rfl rfl)
theorem dX0_does_184 : decode cX0_does 184 = .ok (.lload 5, 2) := dk_22 5 (dk_at dksX0_does_7 17 rfl rfl)
theorem dX0_does_186 : decode cX0_does 186 = .ok (.goto 5, 3) := dk_167 0 5 (dk_at dksX0_does_7 19 rfl rfl)
theorem dX0_does_189 : decode cX0_does 189 = .ok (.lload 9, 2) := dk_22 9 (dk_at dksX0_does_7 22 rfl rfl)
theorem dX0_does_191 : decode cX0_does 191 = .ok (.lload 9, 2) := dk_22 9 (dk_at dksX0_does_8 0 rfl rfl)
theorem dX0_does_193 : decode cX0_does 193 = .ok (.lload 5, 2) := dk_22 5 (dk_at dksX0_does_8 2 rfl rfl)
theorem dX0_does_195 : decode cX0_does 195 = .ok (.invokestatic 9, 3) := dk_184 0 9 (dk_at dksX0_does_8 4 rfl rfl)
theorem dX0_does_198 : decode cX0_does 198 = .ok (.ldiv, 1) := dk_109 (dk_at dksX0_does_8 7 rfl rfl)
theorem dX0_does_199 : decode cX0_does 199 = .ok (.lreturn, 1) := dk_173 (dk_at dksX0_does_8 8 rfl rfl)
abbrev cX0_gcd_2 : ByteArray := prog_1_method_3_code
def yX0_gcd_2 : MethodName := ⟨RX0, "gcd", "(JJ)J"⟩
def dkwX0_gcd_2_0 : List UInt8 := [32, 9, 148, 154, 0, 7, 30, 167, 0, 10, 32, 30, 32, 113, 184, 0, 9, 173]
abbrev dktX0_gcd_2_0 : List UInt8 := dkwX0_gcd_2_0 ++ []
theorem dksX0_gcd_2_0 : cX0_gcd_2.data.toList.drop 0 = dktX0_gcd_2_0 := by decide +kernel
theorem dX0_gcd_2_0 : decode cX0_gcd_2 0 = .ok (.lload_n 2, 1) := dk_32 (dk_at dksX0_gcd_2_0 0 rfl rfl)
theorem dX0_gcd_2_1 : decode cX0_gcd_2 1 = .ok (.lconst 0, 1) := dk_9 (dk_at dksX0_gcd_2_0 1 rfl rfl)
theorem dX0_gcd_2_2 : decode cX0_gcd_2 2 = .ok (.lcmp, 1) := dk_148 (dk_at dksX0_gcd_2_0 2 rfl rfl)
theorem dX0_gcd_2_3 : decode cX0_gcd_2 3 = .ok (.ifCond .ne 7, 3) := dk_154 0 7 (dk_at dksX0_gcd_2_0 3 rfl rfl)
theorem dX0_gcd_2_6 : decode cX0_gcd_2 6 = .ok (.lload_n 0, 1) := dk_30 (dk_at dksX0_gcd_2_0 6 rfl rfl)
theorem dX0_gcd_2_7 : decode cX0_gcd_2 7 = .ok (.goto 10, 3) := dk_167 0 10 (dk_at dksX0_gcd_2_0 7 rfl rfl)
theorem dX0_gcd_2_10 : decode cX0_gcd_2 10 = .ok (.lload_n 2, 1) := dk_32 (dk_at dksX0_gcd_2_0 10 rfl rfl)
theorem dX0_gcd_2_11 : decode cX0_gcd_2 11 = .ok (.lload_n 0, 1) := dk_30 (dk_at dksX0_gcd_2_0 11 rfl rfl)
theorem dX0_gcd_2_12 : decode cX0_gcd_2 12 = .ok (.lload_n 2, 1) := dk_32 (dk_at dksX0_gcd_2_0 12 rfl rfl)
theorem dX0_gcd_2_13 : decode cX0_gcd_2 13 = .ok (.lrem, 1) := dk_113 (dk_at dksX0_gcd_2_0 13 rfl rfl)
theorem dX0_gcd_2_14 : decode cX0_gcd_2 14 = .ok (.invokestatic 9, 3) := dk_184 0 9 (dk_at dksX0_gcd_2_0 14 rfl rfl)
theorem dX0_gcd_2_17 : decode cX0_gcd_2 17 = .ok (.lreturn, 1) := dk_173 (dk_at dksX0_gcd_2_0 17 rfl rfl)
abbrev cX0_wave : ByteArray := prog_1_method_66_code
def yX0_wave : MethodName := ⟨RX0, "wave", "(IIIZI)I"⟩
def dkwX0_wave_11 : List UInt8 := [180, 1, 140, 167, 0, 10, 42, 180, 0, 87, 21, 5, 46, 172]
abbrev dktX0_wave_11 : List UInt8 := dkwX0_wave_11 ++ []
def dkwX0_wave_10 : List UInt8 := [180, 0, 81, 21, 7, 47, 21, 4, 25, 6, 180, 0, 160, 182, 1, 143, 21, 5, 154, 0, 10, 42]
abbrev dktX0_wave_10 : List UInt8 := dkwX0_wave_10 ++ dktX0_wave_11
def dkwX0_wave_9 : List UInt8 := [25, 6, 180, 0, 160, 112, 54, 7, 42, 2, 181, 1, 140, 42, 4, 29, 42, 180, 0, 77, 21, 7, 47, 42]
abbrev dktX0_wave_9 : List UInt8 := dkwX0_wave_9 ++ dktX0_wave_10
def dkwX0_wave_8 : List UInt8 := [132, 9, 1, 167, 255, 179, 132, 7, 1, 167, 255, 125, 25, 6, 180, 0, 163, 25, 6, 180, 0, 166, 96]
abbrev dktX0_wave_8 : List UInt8 := dkwX0_wave_8 ++ dktX0_wave_9
def dkwX0_wave_7 : List UInt8 := [25, 8, 21, 9, 29, 4, 100, 21, 7, 100, 42, 180, 0, 35, 182, 0, 217, 104, 184, 1, 150, 80]
abbrev dktX0_wave_7 : List UInt8 := dkwX0_wave_7 ++ dktX0_wave_8
def dkwX0_wave_6 : List UInt8 := [180, 0, 35, 182, 0, 217, 104, 184, 1, 150, 80, 42, 180, 0, 81, 21, 7, 16, 60, 104, 21, 9, 96]
abbrev dktX0_wave_6 : List UInt8 := dkwX0_wave_6 ++ dktX0_wave_7
def dkwX0_wave_5 : List UInt8 := [162, 0, 73, 42, 180, 0, 77, 21, 7, 16, 60, 104, 21, 9, 96, 25, 8, 21, 9, 21, 7, 42]
abbrev dktX0_wave_5 : List UInt8 := dkwX0_wave_5 ++ dktX0_wave_6
def dkwX0_wave_4 : List UInt8 := [180, 0, 160, 25, 6, 180, 0, 160, 159, 0, 5, 2, 172, 3, 54, 9, 21, 9, 25, 8, 180, 0, 160]
abbrev dktX0_wave_4 : List UInt8 := dkwX0_wave_4 ++ dktX0_wave_5
def dkwX0_wave_3 : List UInt8 := [28, 21, 7, 96, 182, 0, 140, 58, 8, 25, 8, 198, 0, 24, 25, 8, 182, 1, 147, 153, 0, 16, 25, 8]
abbrev dktX0_wave_3 : List UInt8 := dkwX0_wave_3 ++ dktX0_wave_4
def dkwX0_wave_2 : List UInt8 := [154, 0, 5, 2, 172, 42, 27, 28, 182, 0, 140, 58, 6, 3, 54, 7, 21, 7, 29, 162, 0, 131, 42, 27]
abbrev dktX0_wave_2 : List UInt8 := dkwX0_wave_2 ++ dktX0_wave_3
def dkwX0_wave_1 : List UInt8 := [180, 0, 35, 27, 28, 29, 96, 4, 100, 182, 0, 149, 153, 0, 15, 21, 5, 3, 29, 4, 100, 184, 0, 127]
abbrev dktX0_wave_1 : List UInt8 := dkwX0_wave_1 ++ dktX0_wave_2
def dkwX0_wave_0 : List UInt8 := [42, 180, 0, 35, 27, 28, 182, 0, 149, 153, 0, 40, 29, 5, 7, 184, 0, 127, 153, 0, 31, 42]
abbrev dktX0_wave_0 : List UInt8 := dkwX0_wave_0 ++ dktX0_wave_1
theorem dksX0_wave_0 : cX0_wave.data.toList.drop 0 = dktX0_wave_0 := by decide +kernel
theorem dksX0_wave_1 : cX0_wave.data.toList.drop 22 = dktX0_wave_1 := dk_seg dksX0_wave_0 22 rfl rfl
theorem dksX0_wave_2 : cX0_wave.data.toList.drop 46 = dktX0_wave_2 := dk_seg dksX0_wave_1 24 rfl rfl
theorem dksX0_wave_3 : cX0_wave.data.toList.drop 70 = dktX0_wave_3 := dk_seg dksX0_wave_2 24 rfl rfl
theorem dksX0_wave_4 : cX0_wave.data.toList.drop 94 = dktX0_wave_4 := dk_seg dksX0_wave_3 24 rfl rfl
theorem dksX0_wave_5 : cX0_wave.data.toList.drop 117 = dktX0_wave_5 := dk_seg dksX0_wave_4 23 rfl rfl
theorem dksX0_wave_6 : cX0_wave.data.toList.drop 139 = dktX0_wave_6 := dk_seg dksX0_wave_5 22 rfl rfl
theorem dksX0_wave_7 : cX0_wave.data.toList.drop 162 = dktX0_wave_7 := dk_seg dksX0_wave_6 23 rfl rfl
theorem dksX0_wave_8 : cX0_wave.data.toList.drop 184 = dktX0_wave_8 := dk_seg dksX0_wave_7 22 rfl rfl
theorem dksX0_wave_9 : cX0_wave.data.toList.drop 207 = dktX0_wave_9 := dk_seg dksX0_wave_8 23 rfl rfl
theorem dksX0_wave_10 : cX0_wave.data.toList.drop 231 = dktX0_wave_10 := dk_seg dksX0_wave_9 24 rfl rfl
theorem dksX0_wave_11 : cX0_wave.data.toList.drop 253 = dktX0_wave_11 := dk_seg dksX0_wave_10 22 rfl rfl
theorem dX0_wave_0 : decode cX0_wave 0 = .ok (.aload_n 0, 1) := dk_42 (dk_at dksX0_wave_0 0 rfl rfl)
theorem dX0_wave_1 : decode cX0_wave 1 = .ok (.getfield 35, 3) := dk_180 0 35 (dk_at dksX0_wave_0 1 rfl rfl)
theorem dX0_wave_4 : decode cX0_wave 4 = .ok (.iload_n 1, 1) := dk_27 (dk_at dksX0_wave_0 4 rfl rfl)
theorem dX0_wave_5 : decode cX0_wave 5 = .ok (.iload_n 2, 1) := dk_28 (dk_at dksX0_wave_0 5 rfl rfl)
theorem dX0_wave_6 : decode cX0_wave 6 = .ok (.invokevirtual 149, 3) := dk_182 0 149 (dk_at dksX0_wave_0 6 rfl rfl)
theorem dX0_wave_9 : decode cX0_wave 9 = .ok (.ifCond .eq 40, 3) := dk_153 0 40 (dk_at dksX0_wave_0 9 rfl rfl)
theorem dX0_wave_12 : decode cX0_wave 12 = .ok (.iload_n 3, 1) := dk_29 (dk_at dksX0_wave_0 12 rfl rfl)
theorem dX0_wave_13 : decode cX0_wave 13 = .ok (.iconst 2, 1) := dk_5 (dk_at dksX0_wave_0 13 rfl rfl)
theorem dX0_wave_14 : decode cX0_wave 14 = .ok (.iconst 4, 1) := dk_7 (dk_at dksX0_wave_0 14 rfl rfl)
theorem dX0_wave_15 : decode cX0_wave 15 = .ok (.invokestatic 127, 3) := dk_184 0 127 (dk_at dksX0_wave_0 15 rfl rfl)
theorem dX0_wave_18 : decode cX0_wave 18 = .ok (.ifCond .eq 31, 3) := dk_153 0 31 (dk_at dksX0_wave_0 18 rfl rfl)
theorem dX0_wave_21 : decode cX0_wave 21 = .ok (.aload_n 0, 1) := dk_42 (dk_at dksX0_wave_0 21 rfl rfl)
theorem dX0_wave_22 : decode cX0_wave 22 = .ok (.getfield 35, 3) := dk_180 0 35 (dk_at dksX0_wave_1 0 rfl rfl)
theorem dX0_wave_25 : decode cX0_wave 25 = .ok (.iload_n 1, 1) := dk_27 (dk_at dksX0_wave_1 3 rfl rfl)
theorem dX0_wave_26 : decode cX0_wave 26 = .ok (.iload_n 2, 1) := dk_28 (dk_at dksX0_wave_1 4 rfl rfl)
theorem dX0_wave_27 : decode cX0_wave 27 = .ok (.iload_n 3, 1) := dk_29 (dk_at dksX0_wave_1 5 rfl rfl)
theorem dX0_wave_28 : decode cX0_wave 28 = .ok (.iadd, 1) := dk_96 (dk_at dksX0_wave_1 6 rfl rfl)
theorem dX0_wave_29 : decode cX0_wave 29 = .ok (.iconst 1, 1) := dk_4 (dk_at dksX0_wave_1 7 rfl rfl)
theorem dX0_wave_30 : decode cX0_wave 30 = .ok (.isub, 1) := dk_100 (dk_at dksX0_wave_1 8 rfl rfl)
theorem dX0_wave_31 : decode cX0_wave 31 = .ok (.invokevirtual 149, 3) := dk_182 0 149 (dk_at dksX0_wave_1 9 rfl rfl)
theorem dX0_wave_34 : decode cX0_wave 34 = .ok (.ifCond .eq 15, 3) := dk_153 0 15 (dk_at dksX0_wave_1 12 rfl rfl)
theorem dX0_wave_37 : decode cX0_wave 37 = .ok (.iload 5, 2) := dk_21 5 (dk_at dksX0_wave_1 15 rfl rfl)
theorem dX0_wave_39 : decode cX0_wave 39 = .ok (.iconst 0, 1) := dk_3 (dk_at dksX0_wave_1 17 rfl rfl)
theorem dX0_wave_40 : decode cX0_wave 40 = .ok (.iload_n 3, 1) := dk_29 (dk_at dksX0_wave_1 18 rfl rfl)
theorem dX0_wave_41 : decode cX0_wave 41 = .ok (.iconst 1, 1) := dk_4 (dk_at dksX0_wave_1 19 rfl rfl)
theorem dX0_wave_42 : decode cX0_wave 42 = .ok (.isub, 1) := dk_100 (dk_at dksX0_wave_1 20 rfl rfl)
theorem dX0_wave_43 : decode cX0_wave 43 = .ok (.invokestatic 127, 3) := dk_184 0 127 (dk_at dksX0_wave_1 21 rfl rfl)
theorem dX0_wave_46 : decode cX0_wave 46 = .ok (.ifCond .ne 5, 3) := dk_154 0 5 (dk_at dksX0_wave_2 0 rfl rfl)
theorem dX0_wave_49 : decode cX0_wave 49 = .ok (.iconst (-1), 1) := dk_2 (dk_at dksX0_wave_2 3 rfl rfl)
theorem dX0_wave_50 : decode cX0_wave 50 = .ok (.ireturn, 1) := dk_172 (dk_at dksX0_wave_2 4 rfl rfl)
theorem dX0_wave_51 : decode cX0_wave 51 = .ok (.aload_n 0, 1) := dk_42 (dk_at dksX0_wave_2 5 rfl rfl)
theorem dX0_wave_52 : decode cX0_wave 52 = .ok (.iload_n 1, 1) := dk_27 (dk_at dksX0_wave_2 6 rfl rfl)
theorem dX0_wave_53 : decode cX0_wave 53 = .ok (.iload_n 2, 1) := dk_28 (dk_at dksX0_wave_2 7 rfl rfl)
theorem dX0_wave_54 : decode cX0_wave 54 = .ok (.invokevirtual 140, 3) := dk_182 0 140 (dk_at dksX0_wave_2 8 rfl rfl)
theorem dX0_wave_57 : decode cX0_wave 57 = .ok (.astore 6, 2) := dk_58 6 (dk_at dksX0_wave_2 11 rfl rfl)
theorem dX0_wave_59 : decode cX0_wave 59 = .ok (.iconst 0, 1) := dk_3 (dk_at dksX0_wave_2 13 rfl rfl)
theorem dX0_wave_60 : decode cX0_wave 60 = .ok (.istore 7, 2) := dk_54 7 (dk_at dksX0_wave_2 14 rfl rfl)
theorem dX0_wave_62 : decode cX0_wave 62 = .ok (.iload 7, 2) := dk_21 7 (dk_at dksX0_wave_2 16 rfl rfl)
theorem dX0_wave_64 : decode cX0_wave 64 = .ok (.iload_n 3, 1) := dk_29 (dk_at dksX0_wave_2 18 rfl rfl)
theorem dX0_wave_65 : decode cX0_wave 65 = .ok (.if_icmp .ge 131, 3) := dk_162 0 131 (dk_at dksX0_wave_2 19 rfl rfl)
theorem dX0_wave_68 : decode cX0_wave 68 = .ok (.aload_n 0, 1) := dk_42 (dk_at dksX0_wave_2 22 rfl rfl)
theorem dX0_wave_69 : decode cX0_wave 69 = .ok (.iload_n 1, 1) := dk_27 (dk_at dksX0_wave_2 23 rfl rfl)
theorem dX0_wave_70 : decode cX0_wave 70 = .ok (.iload_n 2, 1) := dk_28 (dk_at dksX0_wave_3 0 rfl rfl)
theorem dX0_wave_71 : decode cX0_wave 71 = .ok (.iload 7, 2) := dk_21 7 (dk_at dksX0_wave_3 1 rfl rfl)
theorem dX0_wave_73 : decode cX0_wave 73 = .ok (.iadd, 1) := dk_96 (dk_at dksX0_wave_3 3 rfl rfl)
theorem dX0_wave_74 : decode cX0_wave 74 = .ok (.invokevirtual 140, 3) := dk_182 0 140 (dk_at dksX0_wave_3 4 rfl rfl)
theorem dX0_wave_77 : decode cX0_wave 77 = .ok (.astore 8, 2) := dk_58 8 (dk_at dksX0_wave_3 7 rfl rfl)
theorem dX0_wave_79 : decode cX0_wave 79 = .ok (.aload 8, 2) := dk_25 8 (dk_at dksX0_wave_3 9 rfl rfl)
theorem dX0_wave_81 : decode cX0_wave 81 = .ok (.ifnull 24, 3) := dk_198 0 24 (dk_at dksX0_wave_3 11 rfl rfl)
theorem dX0_wave_84 : decode cX0_wave 84 = .ok (.aload 8, 2) := dk_25 8 (dk_at dksX0_wave_3 14 rfl rfl)
theorem dX0_wave_86 : decode cX0_wave 86 = .ok (.invokevirtual 403, 3) := dk_182 1 147 (dk_at dksX0_wave_3 16 rfl rfl)
theorem dX0_wave_89 : decode cX0_wave 89 = .ok (.ifCond .eq 16, 3) := dk_153 0 16 (dk_at dksX0_wave_3 19 rfl rfl)
theorem dX0_wave_92 : decode cX0_wave 92 = .ok (.aload 8, 2) := dk_25 8 (dk_at dksX0_wave_3 22 rfl rfl)
theorem dX0_wave_94 : decode cX0_wave 94 = .ok (.getfield 160, 3) := dk_180 0 160 (dk_at dksX0_wave_4 0 rfl rfl)
theorem dX0_wave_97 : decode cX0_wave 97 = .ok (.aload 6, 2) := dk_25 6 (dk_at dksX0_wave_4 3 rfl rfl)
theorem dX0_wave_99 : decode cX0_wave 99 = .ok (.getfield 160, 3) := dk_180 0 160 (dk_at dksX0_wave_4 5 rfl rfl)
theorem dX0_wave_102 : decode cX0_wave 102 = .ok (.if_icmp .eq 5, 3) := dk_159 0 5 (dk_at dksX0_wave_4 8 rfl rfl)
theorem dX0_wave_105 : decode cX0_wave 105 = .ok (.iconst (-1), 1) := dk_2 (dk_at dksX0_wave_4 11 rfl rfl)
theorem dX0_wave_106 : decode cX0_wave 106 = .ok (.ireturn, 1) := dk_172 (dk_at dksX0_wave_4 12 rfl rfl)
theorem dX0_wave_107 : decode cX0_wave 107 = .ok (.iconst 0, 1) := dk_3 (dk_at dksX0_wave_4 13 rfl rfl)
theorem dX0_wave_108 : decode cX0_wave 108 = .ok (.istore 9, 2) := dk_54 9 (dk_at dksX0_wave_4 14 rfl rfl)
theorem dX0_wave_110 : decode cX0_wave 110 = .ok (.iload 9, 2) := dk_21 9 (dk_at dksX0_wave_4 16 rfl rfl)
theorem dX0_wave_112 : decode cX0_wave 112 = .ok (.aload 8, 2) := dk_25 8 (dk_at dksX0_wave_4 18 rfl rfl)
theorem dX0_wave_114 : decode cX0_wave 114 = .ok (.getfield 160, 3) := dk_180 0 160 (dk_at dksX0_wave_4 20 rfl rfl)
theorem dX0_wave_117 : decode cX0_wave 117 = .ok (.if_icmp .ge 73, 3) := dk_162 0 73 (dk_at dksX0_wave_5 0 rfl rfl)
theorem dX0_wave_120 : decode cX0_wave 120 = .ok (.aload_n 0, 1) := dk_42 (dk_at dksX0_wave_5 3 rfl rfl)
theorem dX0_wave_121 : decode cX0_wave 121 = .ok (.getfield 77, 3) := dk_180 0 77 (dk_at dksX0_wave_5 4 rfl rfl)
theorem dX0_wave_124 : decode cX0_wave 124 = .ok (.iload 7, 2) := dk_21 7 (dk_at dksX0_wave_5 7 rfl rfl)
theorem dX0_wave_126 : decode cX0_wave 126 = .ok (.bipush 60, 2) := dk_16 60 (dk_at dksX0_wave_5 9 rfl rfl)
theorem dX0_wave_128 : decode cX0_wave 128 = .ok (.imul, 1) := dk_104 (dk_at dksX0_wave_5 11 rfl rfl)
theorem dX0_wave_129 : decode cX0_wave 129 = .ok (.iload 9, 2) := dk_21 9 (dk_at dksX0_wave_5 12 rfl rfl)
theorem dX0_wave_131 : decode cX0_wave 131 = .ok (.iadd, 1) := dk_96 (dk_at dksX0_wave_5 14 rfl rfl)
theorem dX0_wave_132 : decode cX0_wave 132 = .ok (.aload 8, 2) := dk_25 8 (dk_at dksX0_wave_5 15 rfl rfl)
theorem dX0_wave_134 : decode cX0_wave 134 = .ok (.iload 9, 2) := dk_21 9 (dk_at dksX0_wave_5 17 rfl rfl)
theorem dX0_wave_136 : decode cX0_wave 136 = .ok (.iload 7, 2) := dk_21 7 (dk_at dksX0_wave_5 19 rfl rfl)
theorem dX0_wave_138 : decode cX0_wave 138 = .ok (.aload_n 0, 1) := dk_42 (dk_at dksX0_wave_5 21 rfl rfl)
theorem dX0_wave_139 : decode cX0_wave 139 = .ok (.getfield 35, 3) := dk_180 0 35 (dk_at dksX0_wave_6 0 rfl rfl)
theorem dX0_wave_142 : decode cX0_wave 142 = .ok (.invokevirtual 217, 3) := dk_182 0 217 (dk_at dksX0_wave_6 3 rfl rfl)
theorem dX0_wave_145 : decode cX0_wave 145 = .ok (.imul, 1) := dk_104 (dk_at dksX0_wave_6 6 rfl rfl)
theorem dX0_wave_146 : decode cX0_wave 146 = .ok (.invokestatic 406, 3) := dk_184 1 150 (dk_at dksX0_wave_6 7 rfl rfl)
theorem dX0_wave_149 : decode cX0_wave 149 = .ok (.lastore, 1) := dk_80 (dk_at dksX0_wave_6 10 rfl rfl)
theorem dX0_wave_150 : decode cX0_wave 150 = .ok (.aload_n 0, 1) := dk_42 (dk_at dksX0_wave_6 11 rfl rfl)
theorem dX0_wave_151 : decode cX0_wave 151 = .ok (.getfield 81, 3) := dk_180 0 81 (dk_at dksX0_wave_6 12 rfl rfl)
theorem dX0_wave_154 : decode cX0_wave 154 = .ok (.iload 7, 2) := dk_21 7 (dk_at dksX0_wave_6 15 rfl rfl)
theorem dX0_wave_156 : decode cX0_wave 156 = .ok (.bipush 60, 2) := dk_16 60 (dk_at dksX0_wave_6 17 rfl rfl)
theorem dX0_wave_158 : decode cX0_wave 158 = .ok (.imul, 1) := dk_104 (dk_at dksX0_wave_6 19 rfl rfl)
theorem dX0_wave_159 : decode cX0_wave 159 = .ok (.iload 9, 2) := dk_21 9 (dk_at dksX0_wave_6 20 rfl rfl)
theorem dX0_wave_161 : decode cX0_wave 161 = .ok (.iadd, 1) := dk_96 (dk_at dksX0_wave_6 22 rfl rfl)
theorem dX0_wave_162 : decode cX0_wave 162 = .ok (.aload 8, 2) := dk_25 8 (dk_at dksX0_wave_7 0 rfl rfl)
theorem dX0_wave_164 : decode cX0_wave 164 = .ok (.iload 9, 2) := dk_21 9 (dk_at dksX0_wave_7 2 rfl rfl)
theorem dX0_wave_166 : decode cX0_wave 166 = .ok (.iload_n 3, 1) := dk_29 (dk_at dksX0_wave_7 4 rfl rfl)
theorem dX0_wave_167 : decode cX0_wave 167 = .ok (.iconst 1, 1) := dk_4 (dk_at dksX0_wave_7 5 rfl rfl)
theorem dX0_wave_168 : decode cX0_wave 168 = .ok (.isub, 1) := dk_100 (dk_at dksX0_wave_7 6 rfl rfl)
theorem dX0_wave_169 : decode cX0_wave 169 = .ok (.iload 7, 2) := dk_21 7 (dk_at dksX0_wave_7 7 rfl rfl)
theorem dX0_wave_171 : decode cX0_wave 171 = .ok (.isub, 1) := dk_100 (dk_at dksX0_wave_7 9 rfl rfl)
theorem dX0_wave_172 : decode cX0_wave 172 = .ok (.aload_n 0, 1) := dk_42 (dk_at dksX0_wave_7 10 rfl rfl)
theorem dX0_wave_173 : decode cX0_wave 173 = .ok (.getfield 35, 3) := dk_180 0 35 (dk_at dksX0_wave_7 11 rfl rfl)
theorem dX0_wave_176 : decode cX0_wave 176 = .ok (.invokevirtual 217, 3) := dk_182 0 217 (dk_at dksX0_wave_7 14 rfl rfl)
theorem dX0_wave_179 : decode cX0_wave 179 = .ok (.imul, 1) := dk_104 (dk_at dksX0_wave_7 17 rfl rfl)
theorem dX0_wave_180 : decode cX0_wave 180 = .ok (.invokestatic 406, 3) := dk_184 1 150 (dk_at dksX0_wave_7 18 rfl rfl)
theorem dX0_wave_183 : decode cX0_wave 183 = .ok (.lastore, 1) := dk_80 (dk_at dksX0_wave_7 21 rfl rfl)
theorem dX0_wave_184 : decode cX0_wave 184 = .ok (.iinc 9 1, 3) := dk_132 9 1 (dk_at dksX0_wave_8 0 rfl rfl)
theorem dX0_wave_187 : decode cX0_wave 187 = .ok (.goto (-77), 3) := dk_167 255 179 (dk_at dksX0_wave_8 3 rfl rfl)
theorem dX0_wave_190 : decode cX0_wave 190 = .ok (.iinc 7 1, 3) := dk_132 7 1 (dk_at dksX0_wave_8 6 rfl rfl)
theorem dX0_wave_193 : decode cX0_wave 193 = .ok (.goto (-131), 3) := dk_167 255 125 (dk_at dksX0_wave_8 9 rfl rfl)
theorem dX0_wave_196 : decode cX0_wave 196 = .ok (.aload 6, 2) := dk_25 6 (dk_at dksX0_wave_8 12 rfl rfl)
theorem dX0_wave_198 : decode cX0_wave 198 = .ok (.getfield 163, 3) := dk_180 0 163 (dk_at dksX0_wave_8 14 rfl rfl)
theorem dX0_wave_201 : decode cX0_wave 201 = .ok (.aload 6, 2) := dk_25 6 (dk_at dksX0_wave_8 17 rfl rfl)
theorem dX0_wave_203 : decode cX0_wave 203 = .ok (.getfield 166, 3) := dk_180 0 166 (dk_at dksX0_wave_8 19 rfl rfl)
theorem dX0_wave_206 : decode cX0_wave 206 = .ok (.iadd, 1) := dk_96 (dk_at dksX0_wave_8 22 rfl rfl)
theorem dX0_wave_207 : decode cX0_wave 207 = .ok (.aload 6, 2) := dk_25 6 (dk_at dksX0_wave_9 0 rfl rfl)
theorem dX0_wave_209 : decode cX0_wave 209 = .ok (.getfield 160, 3) := dk_180 0 160 (dk_at dksX0_wave_9 2 rfl rfl)
theorem dX0_wave_212 : decode cX0_wave 212 = .ok (.irem, 1) := dk_112 (dk_at dksX0_wave_9 5 rfl rfl)
theorem dX0_wave_213 : decode cX0_wave 213 = .ok (.istore 7, 2) := dk_54 7 (dk_at dksX0_wave_9 6 rfl rfl)
theorem dX0_wave_215 : decode cX0_wave 215 = .ok (.aload_n 0, 1) := dk_42 (dk_at dksX0_wave_9 8 rfl rfl)
theorem dX0_wave_216 : decode cX0_wave 216 = .ok (.iconst (-1), 1) := dk_2 (dk_at dksX0_wave_9 9 rfl rfl)
theorem dX0_wave_217 : decode cX0_wave 217 = .ok (.putfield 396, 3) := dk_181 1 140 (dk_at dksX0_wave_9 10 rfl rfl)
theorem dX0_wave_220 : decode cX0_wave 220 = .ok (.aload_n 0, 1) := dk_42 (dk_at dksX0_wave_9 13 rfl rfl)
theorem dX0_wave_221 : decode cX0_wave 221 = .ok (.iconst 1, 1) := dk_4 (dk_at dksX0_wave_9 14 rfl rfl)
theorem dX0_wave_222 : decode cX0_wave 222 = .ok (.iload_n 3, 1) := dk_29 (dk_at dksX0_wave_9 15 rfl rfl)
theorem dX0_wave_223 : decode cX0_wave 223 = .ok (.aload_n 0, 1) := dk_42 (dk_at dksX0_wave_9 16 rfl rfl)
theorem dX0_wave_224 : decode cX0_wave 224 = .ok (.getfield 77, 3) := dk_180 0 77 (dk_at dksX0_wave_9 17 rfl rfl)
theorem dX0_wave_227 : decode cX0_wave 227 = .ok (.iload 7, 2) := dk_21 7 (dk_at dksX0_wave_9 20 rfl rfl)
theorem dX0_wave_229 : decode cX0_wave 229 = .ok (.laload, 1) := dk_47 (dk_at dksX0_wave_9 22 rfl rfl)
theorem dX0_wave_230 : decode cX0_wave 230 = .ok (.aload_n 0, 1) := dk_42 (dk_at dksX0_wave_9 23 rfl rfl)
theorem dX0_wave_231 : decode cX0_wave 231 = .ok (.getfield 81, 3) := dk_180 0 81 (dk_at dksX0_wave_10 0 rfl rfl)
theorem dX0_wave_234 : decode cX0_wave 234 = .ok (.iload 7, 2) := dk_21 7 (dk_at dksX0_wave_10 3 rfl rfl)
theorem dX0_wave_236 : decode cX0_wave 236 = .ok (.laload, 1) := dk_47 (dk_at dksX0_wave_10 5 rfl rfl)
theorem dX0_wave_237 : decode cX0_wave 237 = .ok (.iload 4, 2) := dk_21 4 (dk_at dksX0_wave_10 6 rfl rfl)
theorem dX0_wave_239 : decode cX0_wave 239 = .ok (.aload 6, 2) := dk_25 6 (dk_at dksX0_wave_10 8 rfl rfl)
theorem dX0_wave_241 : decode cX0_wave 241 = .ok (.getfield 160, 3) := dk_180 0 160 (dk_at dksX0_wave_10 10 rfl rfl)
theorem dX0_wave_244 : decode cX0_wave 244 = .ok (.invokevirtual 399, 3) := dk_182 1 143 (dk_at dksX0_wave_10 13 rfl rfl)
theorem dX0_wave_247 : decode cX0_wave 247 = .ok (.iload 5, 2) := dk_21 5 (dk_at dksX0_wave_10 16 rfl rfl)
theorem dX0_wave_249 : decode cX0_wave 249 = .ok (.ifCond .ne 10, 3) := dk_154 0 10 (dk_at dksX0_wave_10 18 rfl rfl)
theorem dX0_wave_252 : decode cX0_wave 252 = .ok (.aload_n 0, 1) := dk_42 (dk_at dksX0_wave_10 21 rfl rfl)
theorem dX0_wave_253 : decode cX0_wave 253 = .ok (.getfield 396, 3) := dk_180 1 140 (dk_at dksX0_wave_11 0 rfl rfl)
theorem dX0_wave_256 : decode cX0_wave 256 = .ok (.goto 10, 3) := dk_167 0 10 (dk_at dksX0_wave_11 3 rfl rfl)
theorem dX0_wave_259 : decode cX0_wave 259 = .ok (.aload_n 0, 1) := dk_42 (dk_at dksX0_wave_11 6 rfl rfl)
theorem dX0_wave_260 : decode cX0_wave 260 = .ok (.getfield 87, 3) := dk_180 0 87 (dk_at dksX0_wave_11 7 rfl rfl)
theorem dX0_wave_263 : decode cX0_wave 263 = .ok (.iload 5, 2) := dk_21 5 (dk_at dksX0_wave_11 10 rfl rfl)
theorem dX0_wave_265 : decode cX0_wave 265 = .ok (.iaload, 1) := dk_46 (dk_at dksX0_wave_11 12 rfl rfl)
theorem dX0_wave_266 : decode cX0_wave 266 = .ok (.ireturn, 1) := dk_172 (dk_at dksX0_wave_11 13 rfl rfl)
abbrev cX0_greenFrom : ByteArray := prog_1_method_64_code
def yX0_greenFrom : MethodName := ⟨RX0, "greenFrom", "(LOverFirst$Light;II)J"⟩
def dkwX0_greenFrom_2 : List UInt8 := [42, 180, 0, 166, 100, 162, 0, 10, 33, 10, 21, 5, 121, 129, 66, 132, 5, 1, 167, 255, 195, 33, 173]
abbrev dktX0_greenFrom_2 : List UInt8 := dkwX0_greenFrom_2 ++ []
def dkwX0_greenFrom_1 : List UInt8 := [112, 54, 6, 21, 6, 156, 0, 13, 21, 6, 42, 180, 0, 160, 96, 167, 0, 5, 21, 6, 42, 180, 0, 160]
abbrev dktX0_greenFrom_1 : List UInt8 := dkwX0_greenFrom_1 ++ dktX0_greenFrom_2
def dkwX0_greenFrom_0 : List UInt8 := [9, 66, 3, 54, 5, 21, 5, 42, 180, 0, 160, 162, 0, 58, 21, 5, 28, 96, 27, 100, 42, 180, 0, 160]
abbrev dktX0_greenFrom_0 : List UInt8 := dkwX0_greenFrom_0 ++ dktX0_greenFrom_1
theorem dksX0_greenFrom_0 : cX0_greenFrom.data.toList.drop 0 = dktX0_greenFrom_0 := by decide +kernel
theorem dksX0_greenFrom_1 : cX0_greenFrom.data.toList.drop 24 = dktX0_greenFrom_1 := dk_seg dksX0_greenFrom_0 24 rfl rfl
theorem dksX0_greenFrom_2 : cX0_greenFrom.data.toList.drop 48 = dktX0_greenFrom_2 := dk_seg dksX0_greenFrom_1 24 rfl rfl
theorem dX0_greenFrom_0 : decode cX0_greenFrom 0 = .ok (.lconst 0, 1) := dk_9 (dk_at dksX0_greenFrom_0 0 rfl rfl)
theorem dX0_greenFrom_1 : decode cX0_greenFrom 1 = .ok (.lstore_n 3, 1) := dk_66 (dk_at dksX0_greenFrom_0 1 rfl rfl)
theorem dX0_greenFrom_2 : decode cX0_greenFrom 2 = .ok (.iconst 0, 1) := dk_3 (dk_at dksX0_greenFrom_0 2 rfl rfl)
theorem dX0_greenFrom_3 : decode cX0_greenFrom 3 = .ok (.istore 5, 2) := dk_54 5 (dk_at dksX0_greenFrom_0 3 rfl rfl)
theorem dX0_greenFrom_5 : decode cX0_greenFrom 5 = .ok (.iload 5, 2) := dk_21 5 (dk_at dksX0_greenFrom_0 5 rfl rfl)
theorem dX0_greenFrom_7 : decode cX0_greenFrom 7 = .ok (.aload_n 0, 1) := dk_42 (dk_at dksX0_greenFrom_0 7 rfl rfl)
theorem dX0_greenFrom_8 : decode cX0_greenFrom 8 = .ok (.getfield 160, 3) := dk_180 0 160 (dk_at dksX0_greenFrom_0 8 rfl rfl)
theorem dX0_greenFrom_11 : decode cX0_greenFrom 11 = .ok (.if_icmp .ge 58, 3) := dk_162 0 58 (dk_at dksX0_greenFrom_0 11 rfl rfl)
theorem dX0_greenFrom_14 : decode cX0_greenFrom 14 = .ok (.iload 5, 2) := dk_21 5 (dk_at dksX0_greenFrom_0 14 rfl rfl)
theorem dX0_greenFrom_16 : decode cX0_greenFrom 16 = .ok (.iload_n 2, 1) := dk_28 (dk_at dksX0_greenFrom_0 16 rfl rfl)
theorem dX0_greenFrom_17 : decode cX0_greenFrom 17 = .ok (.iadd, 1) := dk_96 (dk_at dksX0_greenFrom_0 17 rfl rfl)
theorem dX0_greenFrom_18 : decode cX0_greenFrom 18 = .ok (.iload_n 1, 1) := dk_27 (dk_at dksX0_greenFrom_0 18 rfl rfl)
theorem dX0_greenFrom_19 : decode cX0_greenFrom 19 = .ok (.isub, 1) := dk_100 (dk_at dksX0_greenFrom_0 19 rfl rfl)
theorem dX0_greenFrom_20 : decode cX0_greenFrom 20 = .ok (.aload_n 0, 1) := dk_42 (dk_at dksX0_greenFrom_0 20 rfl rfl)
theorem dX0_greenFrom_21 : decode cX0_greenFrom 21 = .ok (.getfield 160, 3) := dk_180 0 160 (dk_at dksX0_greenFrom_0 21 rfl rfl)
theorem dX0_greenFrom_24 : decode cX0_greenFrom 24 = .ok (.irem, 1) := dk_112 (dk_at dksX0_greenFrom_1 0 rfl rfl)
theorem dX0_greenFrom_25 : decode cX0_greenFrom 25 = .ok (.istore 6, 2) := dk_54 6 (dk_at dksX0_greenFrom_1 1 rfl rfl)
theorem dX0_greenFrom_27 : decode cX0_greenFrom 27 = .ok (.iload 6, 2) := dk_21 6 (dk_at dksX0_greenFrom_1 3 rfl rfl)
theorem dX0_greenFrom_29 : decode cX0_greenFrom 29 = .ok (.ifCond .ge 13, 3) := dk_156 0 13 (dk_at dksX0_greenFrom_1 5 rfl rfl)
theorem dX0_greenFrom_32 : decode cX0_greenFrom 32 = .ok (.iload 6, 2) := dk_21 6 (dk_at dksX0_greenFrom_1 8 rfl rfl)
theorem dX0_greenFrom_34 : decode cX0_greenFrom 34 = .ok (.aload_n 0, 1) := dk_42 (dk_at dksX0_greenFrom_1 10 rfl rfl)
theorem dX0_greenFrom_35 : decode cX0_greenFrom 35 = .ok (.getfield 160, 3) := dk_180 0 160 (dk_at dksX0_greenFrom_1 11 rfl rfl)
theorem dX0_greenFrom_38 : decode cX0_greenFrom 38 = .ok (.iadd, 1) := dk_96 (dk_at dksX0_greenFrom_1 14 rfl rfl)
theorem dX0_greenFrom_39 : decode cX0_greenFrom 39 = .ok (.goto 5, 3) := dk_167 0 5 (dk_at dksX0_greenFrom_1 15 rfl rfl)
theorem dX0_greenFrom_42 : decode cX0_greenFrom 42 = .ok (.iload 6, 2) := dk_21 6 (dk_at dksX0_greenFrom_1 18 rfl rfl)
theorem dX0_greenFrom_44 : decode cX0_greenFrom 44 = .ok (.aload_n 0, 1) := dk_42 (dk_at dksX0_greenFrom_1 20 rfl rfl)
theorem dX0_greenFrom_45 : decode cX0_greenFrom 45 = .ok (.getfield 160, 3) := dk_180 0 160 (dk_at dksX0_greenFrom_1 21 rfl rfl)
theorem dX0_greenFrom_48 : decode cX0_greenFrom 48 = .ok (.aload_n 0, 1) := dk_42 (dk_at dksX0_greenFrom_2 0 rfl rfl)
theorem dX0_greenFrom_49 : decode cX0_greenFrom 49 = .ok (.getfield 166, 3) := dk_180 0 166 (dk_at dksX0_greenFrom_2 1 rfl rfl)
theorem dX0_greenFrom_52 : decode cX0_greenFrom 52 = .ok (.isub, 1) := dk_100 (dk_at dksX0_greenFrom_2 4 rfl rfl)
theorem dX0_greenFrom_53 : decode cX0_greenFrom 53 = .ok (.if_icmp .ge 10, 3) := dk_162 0 10 (dk_at dksX0_greenFrom_2 5 rfl rfl)
theorem dX0_greenFrom_56 : decode cX0_greenFrom 56 = .ok (.lload_n 3, 1) := dk_33 (dk_at dksX0_greenFrom_2 8 rfl rfl)
theorem dX0_greenFrom_57 : decode cX0_greenFrom 57 = .ok (.lconst 1, 1) := dk_10 (dk_at dksX0_greenFrom_2 9 rfl rfl)
theorem dX0_greenFrom_58 : decode cX0_greenFrom 58 = .ok (.iload 5, 2) := dk_21 5 (dk_at dksX0_greenFrom_2 10 rfl rfl)
theorem dX0_greenFrom_60 : decode cX0_greenFrom 60 = .ok (.lshl, 1) := dk_121 (dk_at dksX0_greenFrom_2 12 rfl rfl)
theorem dX0_greenFrom_61 : decode cX0_greenFrom 61 = .ok (.lor, 1) := dk_129 (dk_at dksX0_greenFrom_2 13 rfl rfl)
theorem dX0_greenFrom_62 : decode cX0_greenFrom 62 = .ok (.lstore_n 3, 1) := dk_66 (dk_at dksX0_greenFrom_2 14 rfl rfl)
theorem dX0_greenFrom_63 : decode cX0_greenFrom 63 = .ok (.iinc 5 1, 3) := dk_132 5 1 (dk_at dksX0_greenFrom_2 15 rfl rfl)
theorem dX0_greenFrom_66 : decode cX0_greenFrom 66 = .ok (.goto (-61), 3) := dk_167 255 195 (dk_at dksX0_greenFrom_2 18 rfl rfl)
theorem dX0_greenFrom_69 : decode cX0_greenFrom 69 = .ok (.lload_n 3, 1) := dk_33 (dk_at dksX0_greenFrom_2 21 rfl rfl)
theorem dX0_greenFrom_70 : decode cX0_greenFrom 70 = .ok (.lreturn, 1) := dk_173 (dk_at dksX0_greenFrom_2 22 rfl rfl)
abbrev cX0_waves : ByteArray := prog_1_method_65_code
def yX0_waves : MethodName := ⟨RX0, "waves", "(IIJJZI)V"⟩
def dkwX0_waves_5 : List UInt8 := [21, 9, 96, 47, 127, 21, 7, 21, 8, 182, 1, 143, 132, 9, 1, 167, 255, 197, 177]
abbrev dktX0_waves_5 : List UInt8 := dkwX0_waves_5 ++ []
def dkwX0_waves_4 : List UInt8 := [42, 180, 0, 77, 27, 16, 60, 104, 21, 9, 96, 47, 127, 22, 5, 42, 180, 0, 81, 27, 16, 60, 104]
abbrev dktX0_waves_4 : List UInt8 := dkwX0_waves_4 ++ dktX0_waves_5
def dkwX0_waves_3 : List UInt8 := [3, 54, 9, 21, 9, 21, 8, 162, 0, 58, 42, 180, 0, 84, 27, 21, 9, 79, 42, 27, 4, 96, 28, 33]
abbrev dktX0_waves_3 : List UInt8 := dkwX0_waves_3 ++ dktX0_waves_4
def dkwX0_waves_2 : List UInt8 := [162, 0, 23, 42, 180, 0, 87, 21, 10, 42, 180, 0, 84, 21, 10, 46, 79, 132, 10, 1, 167, 255, 233, 177]
abbrev dktX0_waves_2 : List UInt8 := dkwX0_waves_2 ++ dktX0_waves_3
def dkwX0_waves_1 : List UInt8 := [54, 9, 21, 9, 42, 180, 1, 140, 163, 0, 4, 177, 42, 21, 9, 181, 1, 140, 3, 54, 10, 21, 10, 28]
abbrev dktX0_waves_1 : List UInt8 := dkwX0_waves_1 ++ dktX0_waves_2
def dkwX0_waves_0 : List UInt8 := [27, 28, 160, 0, 70, 33, 184, 1, 134, 21, 7, 153, 0, 11, 22, 5, 184, 1, 134, 167, 0, 4, 3, 96]
abbrev dktX0_waves_0 : List UInt8 := dkwX0_waves_0 ++ dktX0_waves_1
theorem dksX0_waves_0 : cX0_waves.data.toList.drop 0 = dktX0_waves_0 := by decide +kernel
theorem dksX0_waves_1 : cX0_waves.data.toList.drop 24 = dktX0_waves_1 := dk_seg dksX0_waves_0 24 rfl rfl
theorem dksX0_waves_2 : cX0_waves.data.toList.drop 48 = dktX0_waves_2 := dk_seg dksX0_waves_1 24 rfl rfl
theorem dksX0_waves_3 : cX0_waves.data.toList.drop 72 = dktX0_waves_3 := dk_seg dksX0_waves_2 24 rfl rfl
theorem dksX0_waves_4 : cX0_waves.data.toList.drop 96 = dktX0_waves_4 := dk_seg dksX0_waves_3 24 rfl rfl
theorem dksX0_waves_5 : cX0_waves.data.toList.drop 119 = dktX0_waves_5 := dk_seg dksX0_waves_4 23 rfl rfl
theorem dX0_waves_0 : decode cX0_waves 0 = .ok (.iload_n 1, 1) := dk_27 (dk_at dksX0_waves_0 0 rfl rfl)
theorem dX0_waves_1 : decode cX0_waves 1 = .ok (.iload_n 2, 1) := dk_28 (dk_at dksX0_waves_0 1 rfl rfl)
theorem dX0_waves_2 : decode cX0_waves 2 = .ok (.if_icmp .ne 70, 3) := dk_160 0 70 (dk_at dksX0_waves_0 2 rfl rfl)
theorem dX0_waves_5 : decode cX0_waves 5 = .ok (.lload_n 3, 1) := dk_33 (dk_at dksX0_waves_0 5 rfl rfl)
theorem dX0_waves_6 : decode cX0_waves 6 = .ok (.invokestatic 390, 3) := dk_184 1 134 (dk_at dksX0_waves_0 6 rfl rfl)
theorem dX0_waves_9 : decode cX0_waves 9 = .ok (.iload 7, 2) := dk_21 7 (dk_at dksX0_waves_0 9 rfl rfl)
theorem dX0_waves_11 : decode cX0_waves 11 = .ok (.ifCond .eq 11, 3) := dk_153 0 11 (dk_at dksX0_waves_0 11 rfl rfl)
theorem dX0_waves_14 : decode cX0_waves 14 = .ok (.lload 5, 2) := dk_22 5 (dk_at dksX0_waves_0 14 rfl rfl)
theorem dX0_waves_16 : decode cX0_waves 16 = .ok (.invokestatic 390, 3) := dk_184 1 134 (dk_at dksX0_waves_0 16 rfl rfl)
theorem dX0_waves_19 : decode cX0_waves 19 = .ok (.goto 4, 3) := dk_167 0 4 (dk_at dksX0_waves_0 19 rfl rfl)
theorem dX0_waves_22 : decode cX0_waves 22 = .ok (.iconst 0, 1) := dk_3 (dk_at dksX0_waves_0 22 rfl rfl)
theorem dX0_waves_23 : decode cX0_waves 23 = .ok (.iadd, 1) := dk_96 (dk_at dksX0_waves_0 23 rfl rfl)
theorem dX0_waves_24 : decode cX0_waves 24 = .ok (.istore 9, 2) := dk_54 9 (dk_at dksX0_waves_1 0 rfl rfl)
theorem dX0_waves_26 : decode cX0_waves 26 = .ok (.iload 9, 2) := dk_21 9 (dk_at dksX0_waves_1 2 rfl rfl)
theorem dX0_waves_28 : decode cX0_waves 28 = .ok (.aload_n 0, 1) := dk_42 (dk_at dksX0_waves_1 4 rfl rfl)
theorem dX0_waves_29 : decode cX0_waves 29 = .ok (.getfield 396, 3) := dk_180 1 140 (dk_at dksX0_waves_1 5 rfl rfl)
theorem dX0_waves_32 : decode cX0_waves 32 = .ok (.if_icmp .gt 4, 3) := dk_163 0 4 (dk_at dksX0_waves_1 8 rfl rfl)
theorem dX0_waves_35 : decode cX0_waves 35 = .ok (.return_, 1) := dk_177 (dk_at dksX0_waves_1 11 rfl rfl)
theorem dX0_waves_36 : decode cX0_waves 36 = .ok (.aload_n 0, 1) := dk_42 (dk_at dksX0_waves_1 12 rfl rfl)
theorem dX0_waves_37 : decode cX0_waves 37 = .ok (.iload 9, 2) := dk_21 9 (dk_at dksX0_waves_1 13 rfl rfl)
theorem dX0_waves_39 : decode cX0_waves 39 = .ok (.putfield 396, 3) := dk_181 1 140 (dk_at dksX0_waves_1 15 rfl rfl)
theorem dX0_waves_42 : decode cX0_waves 42 = .ok (.iconst 0, 1) := dk_3 (dk_at dksX0_waves_1 18 rfl rfl)
theorem dX0_waves_43 : decode cX0_waves 43 = .ok (.istore 10, 2) := dk_54 10 (dk_at dksX0_waves_1 19 rfl rfl)
theorem dX0_waves_45 : decode cX0_waves 45 = .ok (.iload 10, 2) := dk_21 10 (dk_at dksX0_waves_1 21 rfl rfl)
theorem dX0_waves_47 : decode cX0_waves 47 = .ok (.iload_n 2, 1) := dk_28 (dk_at dksX0_waves_1 23 rfl rfl)
theorem dX0_waves_48 : decode cX0_waves 48 = .ok (.if_icmp .ge 23, 3) := dk_162 0 23 (dk_at dksX0_waves_2 0 rfl rfl)
theorem dX0_waves_51 : decode cX0_waves 51 = .ok (.aload_n 0, 1) := dk_42 (dk_at dksX0_waves_2 3 rfl rfl)
theorem dX0_waves_52 : decode cX0_waves 52 = .ok (.getfield 87, 3) := dk_180 0 87 (dk_at dksX0_waves_2 4 rfl rfl)
theorem dX0_waves_55 : decode cX0_waves 55 = .ok (.iload 10, 2) := dk_21 10 (dk_at dksX0_waves_2 7 rfl rfl)
theorem dX0_waves_57 : decode cX0_waves 57 = .ok (.aload_n 0, 1) := dk_42 (dk_at dksX0_waves_2 9 rfl rfl)
theorem dX0_waves_58 : decode cX0_waves 58 = .ok (.getfield 84, 3) := dk_180 0 84 (dk_at dksX0_waves_2 10 rfl rfl)
theorem dX0_waves_61 : decode cX0_waves 61 = .ok (.iload 10, 2) := dk_21 10 (dk_at dksX0_waves_2 13 rfl rfl)
theorem dX0_waves_63 : decode cX0_waves 63 = .ok (.iaload, 1) := dk_46 (dk_at dksX0_waves_2 15 rfl rfl)
theorem dX0_waves_64 : decode cX0_waves 64 = .ok (.iastore, 1) := dk_79 (dk_at dksX0_waves_2 16 rfl rfl)
theorem dX0_waves_65 : decode cX0_waves 65 = .ok (.iinc 10 1, 3) := dk_132 10 1 (dk_at dksX0_waves_2 17 rfl rfl)
theorem dX0_waves_68 : decode cX0_waves 68 = .ok (.goto (-23), 3) := dk_167 255 233 (dk_at dksX0_waves_2 20 rfl rfl)
theorem dX0_waves_71 : decode cX0_waves 71 = .ok (.return_, 1) := dk_177 (dk_at dksX0_waves_2 23 rfl rfl)
theorem dX0_waves_72 : decode cX0_waves 72 = .ok (.iconst 0, 1) := dk_3 (dk_at dksX0_waves_3 0 rfl rfl)
theorem dX0_waves_73 : decode cX0_waves 73 = .ok (.istore 9, 2) := dk_54 9 (dk_at dksX0_waves_3 1 rfl rfl)
theorem dX0_waves_75 : decode cX0_waves 75 = .ok (.iload 9, 2) := dk_21 9 (dk_at dksX0_waves_3 3 rfl rfl)
theorem dX0_waves_77 : decode cX0_waves 77 = .ok (.iload 8, 2) := dk_21 8 (dk_at dksX0_waves_3 5 rfl rfl)
theorem dX0_waves_79 : decode cX0_waves 79 = .ok (.if_icmp .ge 58, 3) := dk_162 0 58 (dk_at dksX0_waves_3 7 rfl rfl)
theorem dX0_waves_82 : decode cX0_waves 82 = .ok (.aload_n 0, 1) := dk_42 (dk_at dksX0_waves_3 10 rfl rfl)
theorem dX0_waves_83 : decode cX0_waves 83 = .ok (.getfield 84, 3) := dk_180 0 84 (dk_at dksX0_waves_3 11 rfl rfl)
theorem dX0_waves_86 : decode cX0_waves 86 = .ok (.iload_n 1, 1) := dk_27 (dk_at dksX0_waves_3 14 rfl rfl)
theorem dX0_waves_87 : decode cX0_waves 87 = .ok (.iload 9, 2) := dk_21 9 (dk_at dksX0_waves_3 15 rfl rfl)
theorem dX0_waves_89 : decode cX0_waves 89 = .ok (.iastore, 1) := dk_79 (dk_at dksX0_waves_3 17 rfl rfl)
theorem dX0_waves_90 : decode cX0_waves 90 = .ok (.aload_n 0, 1) := dk_42 (dk_at dksX0_waves_3 18 rfl rfl)
theorem dX0_waves_91 : decode cX0_waves 91 = .ok (.iload_n 1, 1) := dk_27 (dk_at dksX0_waves_3 19 rfl rfl)
theorem dX0_waves_92 : decode cX0_waves 92 = .ok (.iconst 1, 1) := dk_4 (dk_at dksX0_waves_3 20 rfl rfl)
theorem dX0_waves_93 : decode cX0_waves 93 = .ok (.iadd, 1) := dk_96 (dk_at dksX0_waves_3 21 rfl rfl)
theorem dX0_waves_94 : decode cX0_waves 94 = .ok (.iload_n 2, 1) := dk_28 (dk_at dksX0_waves_3 22 rfl rfl)
theorem dX0_waves_95 : decode cX0_waves 95 = .ok (.lload_n 3, 1) := dk_33 (dk_at dksX0_waves_3 23 rfl rfl)
theorem dX0_waves_96 : decode cX0_waves 96 = .ok (.aload_n 0, 1) := dk_42 (dk_at dksX0_waves_4 0 rfl rfl)
theorem dX0_waves_97 : decode cX0_waves 97 = .ok (.getfield 77, 3) := dk_180 0 77 (dk_at dksX0_waves_4 1 rfl rfl)
theorem dX0_waves_100 : decode cX0_waves 100 = .ok (.iload_n 1, 1) := dk_27 (dk_at dksX0_waves_4 4 rfl rfl)
theorem dX0_waves_101 : decode cX0_waves 101 = .ok (.bipush 60, 2) := dk_16 60 (dk_at dksX0_waves_4 5 rfl rfl)
theorem dX0_waves_103 : decode cX0_waves 103 = .ok (.imul, 1) := dk_104 (dk_at dksX0_waves_4 7 rfl rfl)
theorem dX0_waves_104 : decode cX0_waves 104 = .ok (.iload 9, 2) := dk_21 9 (dk_at dksX0_waves_4 8 rfl rfl)
theorem dX0_waves_106 : decode cX0_waves 106 = .ok (.iadd, 1) := dk_96 (dk_at dksX0_waves_4 10 rfl rfl)
theorem dX0_waves_107 : decode cX0_waves 107 = .ok (.laload, 1) := dk_47 (dk_at dksX0_waves_4 11 rfl rfl)
theorem dX0_waves_108 : decode cX0_waves 108 = .ok (.land, 1) := dk_127 (dk_at dksX0_waves_4 12 rfl rfl)
theorem dX0_waves_109 : decode cX0_waves 109 = .ok (.lload 5, 2) := dk_22 5 (dk_at dksX0_waves_4 13 rfl rfl)
theorem dX0_waves_111 : decode cX0_waves 111 = .ok (.aload_n 0, 1) := dk_42 (dk_at dksX0_waves_4 15 rfl rfl)
theorem dX0_waves_112 : decode cX0_waves 112 = .ok (.getfield 81, 3) := dk_180 0 81 (dk_at dksX0_waves_4 16 rfl rfl)
theorem dX0_waves_115 : decode cX0_waves 115 = .ok (.iload_n 1, 1) := dk_27 (dk_at dksX0_waves_4 19 rfl rfl)
theorem dX0_waves_116 : decode cX0_waves 116 = .ok (.bipush 60, 2) := dk_16 60 (dk_at dksX0_waves_4 20 rfl rfl)
theorem dX0_waves_118 : decode cX0_waves 118 = .ok (.imul, 1) := dk_104 (dk_at dksX0_waves_4 22 rfl rfl)
theorem dX0_waves_119 : decode cX0_waves 119 = .ok (.iload 9, 2) := dk_21 9 (dk_at dksX0_waves_5 0 rfl rfl)
theorem dX0_waves_121 : decode cX0_waves 121 = .ok (.iadd, 1) := dk_96 (dk_at dksX0_waves_5 2 rfl rfl)
theorem dX0_waves_122 : decode cX0_waves 122 = .ok (.laload, 1) := dk_47 (dk_at dksX0_waves_5 3 rfl rfl)
theorem dX0_waves_123 : decode cX0_waves 123 = .ok (.land, 1) := dk_127 (dk_at dksX0_waves_5 4 rfl rfl)
theorem dX0_waves_124 : decode cX0_waves 124 = .ok (.iload 7, 2) := dk_21 7 (dk_at dksX0_waves_5 5 rfl rfl)
theorem dX0_waves_126 : decode cX0_waves 126 = .ok (.iload 8, 2) := dk_21 8 (dk_at dksX0_waves_5 7 rfl rfl)
theorem dX0_waves_128 : decode cX0_waves 128 = .ok (.invokevirtual 399, 3) := dk_182 1 143 (dk_at dksX0_waves_5 9 rfl rfl)
theorem dX0_waves_131 : decode cX0_waves 131 = .ok (.iinc 9 1, 3) := dk_132 9 1 (dk_at dksX0_waves_5 12 rfl rfl)
theorem dX0_waves_134 : decode cX0_waves 134 = .ok (.goto (-59), 3) := dk_167 255 197 (dk_at dksX0_waves_5 15 rfl rfl)
theorem dX0_waves_137 : decode cX0_waves 137 = .ok (.return_, 1) := dk_177 (dk_at dksX0_waves_5 18 rfl rfl)
abbrev cX0_was : ByteArray := prog_1_method_67_code
def yX0_was : MethodName := ⟨RX0, "was", "(III)Z"⟩
def dkwX0_was_3 : List UInt8 := [180, 1, 154, 90, 4, 96, 181, 1, 154, 29, 79, 4, 172]
abbrev dktX0_was_3 : List UInt8 := dkwX0_was_3 ++ []
def dkwX0_was_2 : List UInt8 := [180, 1, 154, 28, 16, 6, 104, 27, 96, 79, 42, 180, 0, 49, 180, 1, 160, 42, 180, 0, 49, 89]
abbrev dktX0_was_2 : List UInt8 := dkwX0_was_2 ++ dktX0_was_3
def dkwX0_was_1 : List UInt8 := [180, 0, 49, 180, 1, 154, 16, 8, 160, 0, 5, 3, 172, 42, 180, 0, 49, 180, 1, 157, 42, 180, 0, 49]
abbrev dktX0_was_1 : List UInt8 := dkwX0_was_1 ++ dktX0_was_2
def dkwX0_was_0 : List UInt8 := [42, 180, 0, 35, 27, 28, 182, 0, 149, 153, 0, 26, 29, 3, 17, 39, 15, 184, 0, 127, 153, 0, 15, 42]
abbrev dktX0_was_0 : List UInt8 := dkwX0_was_0 ++ dktX0_was_1
theorem dksX0_was_0 : cX0_was.data.toList.drop 0 = dktX0_was_0 := by decide +kernel
theorem dksX0_was_1 : cX0_was.data.toList.drop 24 = dktX0_was_1 := dk_seg dksX0_was_0 24 rfl rfl
theorem dksX0_was_2 : cX0_was.data.toList.drop 48 = dktX0_was_2 := dk_seg dksX0_was_1 24 rfl rfl
theorem dksX0_was_3 : cX0_was.data.toList.drop 70 = dktX0_was_3 := dk_seg dksX0_was_2 22 rfl rfl
theorem dX0_was_0 : decode cX0_was 0 = .ok (.aload_n 0, 1) := dk_42 (dk_at dksX0_was_0 0 rfl rfl)
theorem dX0_was_1 : decode cX0_was 1 = .ok (.getfield 35, 3) := dk_180 0 35 (dk_at dksX0_was_0 1 rfl rfl)
theorem dX0_was_4 : decode cX0_was 4 = .ok (.iload_n 1, 1) := dk_27 (dk_at dksX0_was_0 4 rfl rfl)
theorem dX0_was_5 : decode cX0_was 5 = .ok (.iload_n 2, 1) := dk_28 (dk_at dksX0_was_0 5 rfl rfl)
theorem dX0_was_6 : decode cX0_was 6 = .ok (.invokevirtual 149, 3) := dk_182 0 149 (dk_at dksX0_was_0 6 rfl rfl)
theorem dX0_was_9 : decode cX0_was 9 = .ok (.ifCond .eq 26, 3) := dk_153 0 26 (dk_at dksX0_was_0 9 rfl rfl)
theorem dX0_was_12 : decode cX0_was 12 = .ok (.iload_n 3, 1) := dk_29 (dk_at dksX0_was_0 12 rfl rfl)
theorem dX0_was_13 : decode cX0_was 13 = .ok (.iconst 0, 1) := dk_3 (dk_at dksX0_was_0 13 rfl rfl)
theorem dX0_was_14 : decode cX0_was 14 = .ok (.sipush 9999, 3) := dk_17 39 15 (dk_at dksX0_was_0 14 rfl rfl)
theorem dX0_was_17 : decode cX0_was 17 = .ok (.invokestatic 127, 3) := dk_184 0 127 (dk_at dksX0_was_0 17 rfl rfl)
theorem dX0_was_20 : decode cX0_was 20 = .ok (.ifCond .eq 15, 3) := dk_153 0 15 (dk_at dksX0_was_0 20 rfl rfl)
theorem dX0_was_23 : decode cX0_was 23 = .ok (.aload_n 0, 1) := dk_42 (dk_at dksX0_was_0 23 rfl rfl)
theorem dX0_was_24 : decode cX0_was 24 = .ok (.getfield 49, 3) := dk_180 0 49 (dk_at dksX0_was_1 0 rfl rfl)
theorem dX0_was_27 : decode cX0_was 27 = .ok (.getfield 410, 3) := dk_180 1 154 (dk_at dksX0_was_1 3 rfl rfl)
theorem dX0_was_30 : decode cX0_was 30 = .ok (.bipush 8, 2) := dk_16 8 (dk_at dksX0_was_1 6 rfl rfl)
theorem dX0_was_32 : decode cX0_was 32 = .ok (.if_icmp .ne 5, 3) := dk_160 0 5 (dk_at dksX0_was_1 8 rfl rfl)
theorem dX0_was_35 : decode cX0_was 35 = .ok (.iconst 0, 1) := dk_3 (dk_at dksX0_was_1 11 rfl rfl)
theorem dX0_was_36 : decode cX0_was 36 = .ok (.ireturn, 1) := dk_172 (dk_at dksX0_was_1 12 rfl rfl)
theorem dX0_was_37 : decode cX0_was 37 = .ok (.aload_n 0, 1) := dk_42 (dk_at dksX0_was_1 13 rfl rfl)
theorem dX0_was_38 : decode cX0_was 38 = .ok (.getfield 49, 3) := dk_180 0 49 (dk_at dksX0_was_1 14 rfl rfl)
theorem dX0_was_41 : decode cX0_was 41 = .ok (.getfield 413, 3) := dk_180 1 157 (dk_at dksX0_was_1 17 rfl rfl)
theorem dX0_was_44 : decode cX0_was 44 = .ok (.aload_n 0, 1) := dk_42 (dk_at dksX0_was_1 20 rfl rfl)
theorem dX0_was_45 : decode cX0_was 45 = .ok (.getfield 49, 3) := dk_180 0 49 (dk_at dksX0_was_1 21 rfl rfl)
theorem dX0_was_48 : decode cX0_was 48 = .ok (.getfield 410, 3) := dk_180 1 154 (dk_at dksX0_was_2 0 rfl rfl)
theorem dX0_was_51 : decode cX0_was 51 = .ok (.iload_n 2, 1) := dk_28 (dk_at dksX0_was_2 3 rfl rfl)
theorem dX0_was_52 : decode cX0_was 52 = .ok (.bipush 6, 2) := dk_16 6 (dk_at dksX0_was_2 4 rfl rfl)
theorem dX0_was_54 : decode cX0_was 54 = .ok (.imul, 1) := dk_104 (dk_at dksX0_was_2 6 rfl rfl)
theorem dX0_was_55 : decode cX0_was 55 = .ok (.iload_n 1, 1) := dk_27 (dk_at dksX0_was_2 7 rfl rfl)
theorem dX0_was_56 : decode cX0_was 56 = .ok (.iadd, 1) := dk_96 (dk_at dksX0_was_2 8 rfl rfl)
theorem dX0_was_57 : decode cX0_was 57 = .ok (.iastore, 1) := dk_79 (dk_at dksX0_was_2 9 rfl rfl)
theorem dX0_was_58 : decode cX0_was 58 = .ok (.aload_n 0, 1) := dk_42 (dk_at dksX0_was_2 10 rfl rfl)
theorem dX0_was_59 : decode cX0_was 59 = .ok (.getfield 49, 3) := dk_180 0 49 (dk_at dksX0_was_2 11 rfl rfl)
theorem dX0_was_62 : decode cX0_was 62 = .ok (.getfield 416, 3) := dk_180 1 160 (dk_at dksX0_was_2 14 rfl rfl)
theorem dX0_was_65 : decode cX0_was 65 = .ok (.aload_n 0, 1) := dk_42 (dk_at dksX0_was_2 17 rfl rfl)
theorem dX0_was_66 : decode cX0_was 66 = .ok (.getfield 49, 3) := dk_180 0 49 (dk_at dksX0_was_2 18 rfl rfl)
theorem dX0_was_69 : decode cX0_was 69 = .ok (.dup, 1) := dk_89 (dk_at dksX0_was_2 21 rfl rfl)
theorem dX0_was_70 : decode cX0_was 70 = .ok (.getfield 410, 3) := dk_180 1 154 (dk_at dksX0_was_3 0 rfl rfl)
theorem dX0_was_73 : decode cX0_was 73 = .ok (.dup_x1, 1) := dk_90 (dk_at dksX0_was_3 3 rfl rfl)
theorem dX0_was_74 : decode cX0_was 74 = .ok (.iconst 1, 1) := dk_4 (dk_at dksX0_was_3 4 rfl rfl)
theorem dX0_was_75 : decode cX0_was 75 = .ok (.iadd, 1) := dk_96 (dk_at dksX0_was_3 5 rfl rfl)
theorem dX0_was_76 : decode cX0_was 76 = .ok (.putfield 410, 3) := dk_181 1 154 (dk_at dksX0_was_3 6 rfl rfl)
theorem dX0_was_79 : decode cX0_was 79 = .ok (.iload_n 3, 1) := dk_29 (dk_at dksX0_was_3 9 rfl rfl)
theorem dX0_was_80 : decode cX0_was 80 = .ok (.iastore, 1) := dk_79 (dk_at dksX0_was_3 10 rfl rfl)
theorem dX0_was_81 : decode cX0_was 81 = .ok (.iconst 1, 1) := dk_4 (dk_at dksX0_was_3 11 rfl rfl)
theorem dX0_was_82 : decode cX0_was 82 = .ok (.ireturn, 1) := dk_172 (dk_at dksX0_was_3 12 rfl rfl)
abbrev cX0_fits : ByteArray := prog_1_method_70_code
def yX0_fits : MethodName := ⟨RX0, "fits", "(I)J"⟩
def dkwX0_fits_4 : List UInt8 := [167, 0, 7, 42, 180, 1, 176, 173]
abbrev dktX0_fits_4 : List UInt8 := dkwX0_fits_4 ++ []
def dkwX0_fits_3 : List UInt8 := [27, 4, 160, 0, 11, 42, 180, 1, 169, 133, 167, 0, 19, 27, 5, 160, 0, 10, 42, 180, 1, 172]
abbrev dktX0_fits_3 : List UInt8 := dkwX0_fits_3 ++ dktX0_fits_4
def dkwX0_fits_2 : List UInt8 := [154, 0, 11, 42, 180, 1, 166, 133, 167, 0, 45, 42, 180, 1, 166, 154, 0, 9, 20, 1, 132, 167, 0, 32]
abbrev dktX0_fits_2 : List UInt8 := dkwX0_fits_2 ++ dktX0_fits_3
def dkwX0_fits_1 : List UInt8 := [181, 1, 172, 42, 20, 1, 132, 181, 1, 176, 42, 3, 3, 3, 3, 3, 9, 9, 3, 182, 1, 179, 27]
abbrev dktX0_fits_1 : List UInt8 := dkwX0_fits_1 ++ dktX0_fits_2
def dkwX0_fits_0 : List UInt8 := [27, 3, 6, 184, 0, 127, 154, 0, 7, 20, 1, 132, 173, 42, 3, 181, 1, 166, 42, 20, 1, 132]
abbrev dktX0_fits_0 : List UInt8 := dkwX0_fits_0 ++ dktX0_fits_1
theorem dksX0_fits_0 : cX0_fits.data.toList.drop 0 = dktX0_fits_0 := by decide +kernel
theorem dksX0_fits_1 : cX0_fits.data.toList.drop 22 = dktX0_fits_1 := dk_seg dksX0_fits_0 22 rfl rfl
theorem dksX0_fits_2 : cX0_fits.data.toList.drop 45 = dktX0_fits_2 := dk_seg dksX0_fits_1 23 rfl rfl
theorem dksX0_fits_3 : cX0_fits.data.toList.drop 69 = dktX0_fits_3 := dk_seg dksX0_fits_2 24 rfl rfl
theorem dksX0_fits_4 : cX0_fits.data.toList.drop 91 = dktX0_fits_4 := dk_seg dksX0_fits_3 22 rfl rfl
theorem dX0_fits_0 : decode cX0_fits 0 = .ok (.iload_n 1, 1) := dk_27 (dk_at dksX0_fits_0 0 rfl rfl)
theorem dX0_fits_1 : decode cX0_fits 1 = .ok (.iconst 0, 1) := dk_3 (dk_at dksX0_fits_0 1 rfl rfl)
theorem dX0_fits_2 : decode cX0_fits 2 = .ok (.iconst 3, 1) := dk_6 (dk_at dksX0_fits_0 2 rfl rfl)
theorem dX0_fits_3 : decode cX0_fits 3 = .ok (.invokestatic 127, 3) := dk_184 0 127 (dk_at dksX0_fits_0 3 rfl rfl)
theorem dX0_fits_6 : decode cX0_fits 6 = .ok (.ifCond .ne 7, 3) := dk_154 0 7 (dk_at dksX0_fits_0 6 rfl rfl)
theorem dX0_fits_9 : decode cX0_fits 9 = .ok (.ldc2_w 388, 3) := dk_20 1 132 (dk_at dksX0_fits_0 9 rfl rfl)
theorem dX0_fits_12 : decode cX0_fits 12 = .ok (.lreturn, 1) := dk_173 (dk_at dksX0_fits_0 12 rfl rfl)
theorem dX0_fits_13 : decode cX0_fits 13 = .ok (.aload_n 0, 1) := dk_42 (dk_at dksX0_fits_0 13 rfl rfl)
theorem dX0_fits_14 : decode cX0_fits 14 = .ok (.iconst 0, 1) := dk_3 (dk_at dksX0_fits_0 14 rfl rfl)
theorem dX0_fits_15 : decode cX0_fits 15 = .ok (.putfield 422, 3) := dk_181 1 166 (dk_at dksX0_fits_0 15 rfl rfl)
theorem dX0_fits_18 : decode cX0_fits 18 = .ok (.aload_n 0, 1) := dk_42 (dk_at dksX0_fits_0 18 rfl rfl)
theorem dX0_fits_19 : decode cX0_fits 19 = .ok (.ldc2_w 388, 3) := dk_20 1 132 (dk_at dksX0_fits_0 19 rfl rfl)
theorem dX0_fits_22 : decode cX0_fits 22 = .ok (.putfield 428, 3) := dk_181 1 172 (dk_at dksX0_fits_1 0 rfl rfl)
theorem dX0_fits_25 : decode cX0_fits 25 = .ok (.aload_n 0, 1) := dk_42 (dk_at dksX0_fits_1 3 rfl rfl)
theorem dX0_fits_26 : decode cX0_fits 26 = .ok (.ldc2_w 388, 3) := dk_20 1 132 (dk_at dksX0_fits_1 4 rfl rfl)
theorem dX0_fits_29 : decode cX0_fits 29 = .ok (.putfield 432, 3) := dk_181 1 176 (dk_at dksX0_fits_1 7 rfl rfl)
theorem dX0_fits_32 : decode cX0_fits 32 = .ok (.aload_n 0, 1) := dk_42 (dk_at dksX0_fits_1 10 rfl rfl)
theorem dX0_fits_33 : decode cX0_fits 33 = .ok (.iconst 0, 1) := dk_3 (dk_at dksX0_fits_1 11 rfl rfl)
theorem dX0_fits_34 : decode cX0_fits 34 = .ok (.iconst 0, 1) := dk_3 (dk_at dksX0_fits_1 12 rfl rfl)
theorem dX0_fits_35 : decode cX0_fits 35 = .ok (.iconst 0, 1) := dk_3 (dk_at dksX0_fits_1 13 rfl rfl)
theorem dX0_fits_36 : decode cX0_fits 36 = .ok (.iconst 0, 1) := dk_3 (dk_at dksX0_fits_1 14 rfl rfl)
theorem dX0_fits_37 : decode cX0_fits 37 = .ok (.iconst 0, 1) := dk_3 (dk_at dksX0_fits_1 15 rfl rfl)
theorem dX0_fits_38 : decode cX0_fits 38 = .ok (.lconst 0, 1) := dk_9 (dk_at dksX0_fits_1 16 rfl rfl)
theorem dX0_fits_39 : decode cX0_fits 39 = .ok (.lconst 0, 1) := dk_9 (dk_at dksX0_fits_1 17 rfl rfl)
theorem dX0_fits_40 : decode cX0_fits 40 = .ok (.iconst 0, 1) := dk_3 (dk_at dksX0_fits_1 18 rfl rfl)
theorem dX0_fits_41 : decode cX0_fits 41 = .ok (.invokevirtual 435, 3) := dk_182 1 179 (dk_at dksX0_fits_1 19 rfl rfl)
theorem dX0_fits_44 : decode cX0_fits 44 = .ok (.iload_n 1, 1) := dk_27 (dk_at dksX0_fits_1 22 rfl rfl)
theorem dX0_fits_45 : decode cX0_fits 45 = .ok (.ifCond .ne 11, 3) := dk_154 0 11 (dk_at dksX0_fits_2 0 rfl rfl)
theorem dX0_fits_48 : decode cX0_fits 48 = .ok (.aload_n 0, 1) := dk_42 (dk_at dksX0_fits_2 3 rfl rfl)
theorem dX0_fits_49 : decode cX0_fits 49 = .ok (.getfield 422, 3) := dk_180 1 166 (dk_at dksX0_fits_2 4 rfl rfl)
theorem dX0_fits_52 : decode cX0_fits 52 = .ok (.i2l, 1) := dk_133 (dk_at dksX0_fits_2 7 rfl rfl)
theorem dX0_fits_53 : decode cX0_fits 53 = .ok (.goto 45, 3) := dk_167 0 45 (dk_at dksX0_fits_2 8 rfl rfl)
theorem dX0_fits_56 : decode cX0_fits 56 = .ok (.aload_n 0, 1) := dk_42 (dk_at dksX0_fits_2 11 rfl rfl)
theorem dX0_fits_57 : decode cX0_fits 57 = .ok (.getfield 422, 3) := dk_180 1 166 (dk_at dksX0_fits_2 12 rfl rfl)
theorem dX0_fits_60 : decode cX0_fits 60 = .ok (.ifCond .ne 9, 3) := dk_154 0 9 (dk_at dksX0_fits_2 15 rfl rfl)
theorem dX0_fits_63 : decode cX0_fits 63 = .ok (.ldc2_w 388, 3) := dk_20 1 132 (dk_at dksX0_fits_2 18 rfl rfl)
theorem dX0_fits_66 : decode cX0_fits 66 = .ok (.goto 32, 3) := dk_167 0 32 (dk_at dksX0_fits_2 21 rfl rfl)
theorem dX0_fits_69 : decode cX0_fits 69 = .ok (.iload_n 1, 1) := dk_27 (dk_at dksX0_fits_3 0 rfl rfl)
theorem dX0_fits_70 : decode cX0_fits 70 = .ok (.iconst 1, 1) := dk_4 (dk_at dksX0_fits_3 1 rfl rfl)
theorem dX0_fits_71 : decode cX0_fits 71 = .ok (.if_icmp .ne 11, 3) := dk_160 0 11 (dk_at dksX0_fits_3 2 rfl rfl)
theorem dX0_fits_74 : decode cX0_fits 74 = .ok (.aload_n 0, 1) := dk_42 (dk_at dksX0_fits_3 5 rfl rfl)
theorem dX0_fits_75 : decode cX0_fits 75 = .ok (.getfield 425, 3) := dk_180 1 169 (dk_at dksX0_fits_3 6 rfl rfl)
theorem dX0_fits_78 : decode cX0_fits 78 = .ok (.i2l, 1) := dk_133 (dk_at dksX0_fits_3 9 rfl rfl)
theorem dX0_fits_79 : decode cX0_fits 79 = .ok (.goto 19, 3) := dk_167 0 19 (dk_at dksX0_fits_3 10 rfl rfl)
theorem dX0_fits_82 : decode cX0_fits 82 = .ok (.iload_n 1, 1) := dk_27 (dk_at dksX0_fits_3 13 rfl rfl)
theorem dX0_fits_83 : decode cX0_fits 83 = .ok (.iconst 2, 1) := dk_5 (dk_at dksX0_fits_3 14 rfl rfl)
theorem dX0_fits_84 : decode cX0_fits 84 = .ok (.if_icmp .ne 10, 3) := dk_160 0 10 (dk_at dksX0_fits_3 15 rfl rfl)
theorem dX0_fits_87 : decode cX0_fits 87 = .ok (.aload_n 0, 1) := dk_42 (dk_at dksX0_fits_3 18 rfl rfl)
theorem dX0_fits_88 : decode cX0_fits 88 = .ok (.getfield 428, 3) := dk_180 1 172 (dk_at dksX0_fits_3 19 rfl rfl)
theorem dX0_fits_91 : decode cX0_fits 91 = .ok (.goto 7, 3) := dk_167 0 7 (dk_at dksX0_fits_4 0 rfl rfl)
theorem dX0_fits_94 : decode cX0_fits 94 = .ok (.aload_n 0, 1) := dk_42 (dk_at dksX0_fits_4 3 rfl rfl)
theorem dX0_fits_95 : decode cX0_fits 95 = .ok (.getfield 432, 3) := dk_180 1 176 (dk_at dksX0_fits_4 4 rfl rfl)
theorem dX0_fits_98 : decode cX0_fits 98 = .ok (.lreturn, 1) := dk_173 (dk_at dksX0_fits_4 7 rfl rfl)
abbrev cX0_ways : ByteArray := prog_1_method_69_code
def yX0_ways : MethodName := ⟨RX0, "ways", "(IIIIIJJI)V"⟩
def dkwX0_ways_9 : List UInt8 := [28, 29, 21, 17, 182, 1, 163, 96, 182, 1, 179, 132, 15, 1, 167, 255, 156, 177]
abbrev dktX0_ways_9 : List UInt8 := dkwX0_ways_9 ++ []
def dkwX0_ways_8 : List UInt8 := [182, 0, 217, 96, 21, 4, 4, 96, 21, 5, 21, 15, 21, 4, 120, 128, 22, 11, 22, 13, 21, 10, 42, 27]
abbrev dktX0_ways_8 : List UInt8 := dkwX0_ways_8 ++ dktX0_ways_9
def dkwX0_ways_7 : List UInt8 := [167, 0, 4, 27, 21, 15, 154, 0, 7, 28, 167, 0, 6, 28, 4, 96, 21, 17, 42, 180, 0, 35]
abbrev dktX0_ways_7 : List UInt8 := dkwX0_ways_7 ++ dktX0_ways_8
def dkwX0_ways_6 : List UInt8 := [21, 16, 156, 0, 6, 167, 0, 75, 29, 21, 16, 96, 54, 17, 42, 21, 15, 154, 0, 9, 27, 4, 96]
abbrev dktX0_ways_6 : List UInt8 := dkwX0_ways_6 ++ dktX0_ways_7
def dkwX0_ways_5 : List UInt8 := [181, 1, 176, 177, 3, 54, 15, 21, 15, 4, 163, 0, 100, 42, 27, 28, 21, 15, 29, 182, 0, 191, 54, 16]
abbrev dktX0_ways_5 : List UInt8 := dkwX0_ways_5 ++ dktX0_ways_6
def dkwX0_ways_4 : List UInt8 := [181, 1, 169, 42, 89, 180, 1, 172, 22, 11, 127, 181, 1, 172, 42, 89, 180, 1, 176, 22, 13, 127]
abbrev dktX0_ways_4 : List UInt8 := dkwX0_ways_4 ++ dktX0_ways_5
def dkwX0_ways_3 : List UInt8 := [180, 1, 154, 162, 0, 4, 177, 42, 89, 180, 1, 166, 90, 4, 96, 181, 1, 166, 154, 0, 9, 42, 21, 5]
abbrev dktX0_ways_3 : List UInt8 := dkwX0_ways_3 ++ dktX0_ways_4
def dkwX0_ways_2 : List UInt8 := [182, 1, 22, 153, 0, 70, 21, 10, 42, 27, 28, 29, 19, 1, 61, 182, 1, 163, 96, 42, 180, 0, 49]
abbrev dktX0_ways_2 : List UInt8 := dkwX0_ways_2 ++ dktX0_ways_3
def dkwX0_ways_1 : List UInt8 := [28, 16, 8, 162, 0, 8, 22, 8, 167, 0, 9, 22, 8, 10, 27, 121, 129, 55, 13, 42, 27, 28]
abbrev dktX0_ways_1 : List UInt8 := dkwX0_ways_1 ++ dktX0_ways_2
def dkwX0_ways_0 : List UInt8 := [28, 16, 8, 162, 0, 17, 22, 6, 10, 16, 8, 28, 104, 27, 96, 121, 129, 167, 0, 5, 22, 6, 55, 11]
abbrev dktX0_ways_0 : List UInt8 := dkwX0_ways_0 ++ dktX0_ways_1
theorem dksX0_ways_0 : cX0_ways.data.toList.drop 0 = dktX0_ways_0 := by decide +kernel
theorem dksX0_ways_1 : cX0_ways.data.toList.drop 24 = dktX0_ways_1 := dk_seg dksX0_ways_0 24 rfl rfl
theorem dksX0_ways_2 : cX0_ways.data.toList.drop 46 = dktX0_ways_2 := dk_seg dksX0_ways_1 22 rfl rfl
theorem dksX0_ways_3 : cX0_ways.data.toList.drop 69 = dktX0_ways_3 := dk_seg dksX0_ways_2 23 rfl rfl
theorem dksX0_ways_4 : cX0_ways.data.toList.drop 93 = dktX0_ways_4 := dk_seg dksX0_ways_3 24 rfl rfl
theorem dksX0_ways_5 : cX0_ways.data.toList.drop 115 = dktX0_ways_5 := dk_seg dksX0_ways_4 22 rfl rfl
theorem dksX0_ways_6 : cX0_ways.data.toList.drop 139 = dktX0_ways_6 := dk_seg dksX0_ways_5 24 rfl rfl
theorem dksX0_ways_7 : cX0_ways.data.toList.drop 162 = dktX0_ways_7 := dk_seg dksX0_ways_6 23 rfl rfl
theorem dksX0_ways_8 : cX0_ways.data.toList.drop 184 = dktX0_ways_8 := dk_seg dksX0_ways_7 22 rfl rfl
theorem dksX0_ways_9 : cX0_ways.data.toList.drop 208 = dktX0_ways_9 := dk_seg dksX0_ways_8 24 rfl rfl
theorem dX0_ways_0 : decode cX0_ways 0 = .ok (.iload_n 2, 1) := dk_28 (dk_at dksX0_ways_0 0 rfl rfl)
theorem dX0_ways_1 : decode cX0_ways 1 = .ok (.bipush 8, 2) := dk_16 8 (dk_at dksX0_ways_0 1 rfl rfl)
theorem dX0_ways_3 : decode cX0_ways 3 = .ok (.if_icmp .ge 17, 3) := dk_162 0 17 (dk_at dksX0_ways_0 3 rfl rfl)
theorem dX0_ways_6 : decode cX0_ways 6 = .ok (.lload 6, 2) := dk_22 6 (dk_at dksX0_ways_0 6 rfl rfl)
theorem dX0_ways_8 : decode cX0_ways 8 = .ok (.lconst 1, 1) := dk_10 (dk_at dksX0_ways_0 8 rfl rfl)
theorem dX0_ways_9 : decode cX0_ways 9 = .ok (.bipush 8, 2) := dk_16 8 (dk_at dksX0_ways_0 9 rfl rfl)
theorem dX0_ways_11 : decode cX0_ways 11 = .ok (.iload_n 2, 1) := dk_28 (dk_at dksX0_ways_0 11 rfl rfl)
theorem dX0_ways_12 : decode cX0_ways 12 = .ok (.imul, 1) := dk_104 (dk_at dksX0_ways_0 12 rfl rfl)
theorem dX0_ways_13 : decode cX0_ways 13 = .ok (.iload_n 1, 1) := dk_27 (dk_at dksX0_ways_0 13 rfl rfl)
theorem dX0_ways_14 : decode cX0_ways 14 = .ok (.iadd, 1) := dk_96 (dk_at dksX0_ways_0 14 rfl rfl)
theorem dX0_ways_15 : decode cX0_ways 15 = .ok (.lshl, 1) := dk_121 (dk_at dksX0_ways_0 15 rfl rfl)
theorem dX0_ways_16 : decode cX0_ways 16 = .ok (.lor, 1) := dk_129 (dk_at dksX0_ways_0 16 rfl rfl)
theorem dX0_ways_17 : decode cX0_ways 17 = .ok (.goto 5, 3) := dk_167 0 5 (dk_at dksX0_ways_0 17 rfl rfl)
theorem dX0_ways_20 : decode cX0_ways 20 = .ok (.lload 6, 2) := dk_22 6 (dk_at dksX0_ways_0 20 rfl rfl)
theorem dX0_ways_22 : decode cX0_ways 22 = .ok (.lstore 11, 2) := dk_55 11 (dk_at dksX0_ways_0 22 rfl rfl)
theorem dX0_ways_24 : decode cX0_ways 24 = .ok (.iload_n 2, 1) := dk_28 (dk_at dksX0_ways_1 0 rfl rfl)
theorem dX0_ways_25 : decode cX0_ways 25 = .ok (.bipush 8, 2) := dk_16 8 (dk_at dksX0_ways_1 1 rfl rfl)
theorem dX0_ways_27 : decode cX0_ways 27 = .ok (.if_icmp .ge 8, 3) := dk_162 0 8 (dk_at dksX0_ways_1 3 rfl rfl)
theorem dX0_ways_30 : decode cX0_ways 30 = .ok (.lload 8, 2) := dk_22 8 (dk_at dksX0_ways_1 6 rfl rfl)
theorem dX0_ways_32 : decode cX0_ways 32 = .ok (.goto 9, 3) := dk_167 0 9 (dk_at dksX0_ways_1 8 rfl rfl)
theorem dX0_ways_35 : decode cX0_ways 35 = .ok (.lload 8, 2) := dk_22 8 (dk_at dksX0_ways_1 11 rfl rfl)
theorem dX0_ways_37 : decode cX0_ways 37 = .ok (.lconst 1, 1) := dk_10 (dk_at dksX0_ways_1 13 rfl rfl)
theorem dX0_ways_38 : decode cX0_ways 38 = .ok (.iload_n 1, 1) := dk_27 (dk_at dksX0_ways_1 14 rfl rfl)
theorem dX0_ways_39 : decode cX0_ways 39 = .ok (.lshl, 1) := dk_121 (dk_at dksX0_ways_1 15 rfl rfl)
theorem dX0_ways_40 : decode cX0_ways 40 = .ok (.lor, 1) := dk_129 (dk_at dksX0_ways_1 16 rfl rfl)
theorem dX0_ways_41 : decode cX0_ways 41 = .ok (.lstore 13, 2) := dk_55 13 (dk_at dksX0_ways_1 17 rfl rfl)
theorem dX0_ways_43 : decode cX0_ways 43 = .ok (.aload_n 0, 1) := dk_42 (dk_at dksX0_ways_1 19 rfl rfl)
theorem dX0_ways_44 : decode cX0_ways 44 = .ok (.iload_n 1, 1) := dk_27 (dk_at dksX0_ways_1 20 rfl rfl)
theorem dX0_ways_45 : decode cX0_ways 45 = .ok (.iload_n 2, 1) := dk_28 (dk_at dksX0_ways_1 21 rfl rfl)
theorem dX0_ways_46 : decode cX0_ways 46 = .ok (.invokevirtual 278, 3) := dk_182 1 22 (dk_at dksX0_ways_2 0 rfl rfl)
theorem dX0_ways_49 : decode cX0_ways 49 = .ok (.ifCond .eq 70, 3) := dk_153 0 70 (dk_at dksX0_ways_2 3 rfl rfl)
theorem dX0_ways_52 : decode cX0_ways 52 = .ok (.iload 10, 2) := dk_21 10 (dk_at dksX0_ways_2 6 rfl rfl)
theorem dX0_ways_54 : decode cX0_ways 54 = .ok (.aload_n 0, 1) := dk_42 (dk_at dksX0_ways_2 8 rfl rfl)
theorem dX0_ways_55 : decode cX0_ways 55 = .ok (.iload_n 1, 1) := dk_27 (dk_at dksX0_ways_2 9 rfl rfl)
theorem dX0_ways_56 : decode cX0_ways 56 = .ok (.iload_n 2, 1) := dk_28 (dk_at dksX0_ways_2 10 rfl rfl)
theorem dX0_ways_57 : decode cX0_ways 57 = .ok (.iload_n 3, 1) := dk_29 (dk_at dksX0_ways_2 11 rfl rfl)
theorem dX0_ways_58 : decode cX0_ways 58 = .ok (.ldc_w 317, 3) := dk_19 1 61 (dk_at dksX0_ways_2 12 rfl rfl)
theorem dX0_ways_61 : decode cX0_ways 61 = .ok (.invokevirtual 419, 3) := dk_182 1 163 (dk_at dksX0_ways_2 15 rfl rfl)
theorem dX0_ways_64 : decode cX0_ways 64 = .ok (.iadd, 1) := dk_96 (dk_at dksX0_ways_2 18 rfl rfl)
theorem dX0_ways_65 : decode cX0_ways 65 = .ok (.aload_n 0, 1) := dk_42 (dk_at dksX0_ways_2 19 rfl rfl)
theorem dX0_ways_66 : decode cX0_ways 66 = .ok (.getfield 49, 3) := dk_180 0 49 (dk_at dksX0_ways_2 20 rfl rfl)
theorem dX0_ways_69 : decode cX0_ways 69 = .ok (.getfield 410, 3) := dk_180 1 154 (dk_at dksX0_ways_3 0 rfl rfl)
theorem dX0_ways_72 : decode cX0_ways 72 = .ok (.if_icmp .ge 4, 3) := dk_162 0 4 (dk_at dksX0_ways_3 3 rfl rfl)
theorem dX0_ways_75 : decode cX0_ways 75 = .ok (.return_, 1) := dk_177 (dk_at dksX0_ways_3 6 rfl rfl)
theorem dX0_ways_76 : decode cX0_ways 76 = .ok (.aload_n 0, 1) := dk_42 (dk_at dksX0_ways_3 7 rfl rfl)
theorem dX0_ways_77 : decode cX0_ways 77 = .ok (.dup, 1) := dk_89 (dk_at dksX0_ways_3 8 rfl rfl)
theorem dX0_ways_78 : decode cX0_ways 78 = .ok (.getfield 422, 3) := dk_180 1 166 (dk_at dksX0_ways_3 9 rfl rfl)
theorem dX0_ways_81 : decode cX0_ways 81 = .ok (.dup_x1, 1) := dk_90 (dk_at dksX0_ways_3 12 rfl rfl)
theorem dX0_ways_82 : decode cX0_ways 82 = .ok (.iconst 1, 1) := dk_4 (dk_at dksX0_ways_3 13 rfl rfl)
theorem dX0_ways_83 : decode cX0_ways 83 = .ok (.iadd, 1) := dk_96 (dk_at dksX0_ways_3 14 rfl rfl)
theorem dX0_ways_84 : decode cX0_ways 84 = .ok (.putfield 422, 3) := dk_181 1 166 (dk_at dksX0_ways_3 15 rfl rfl)
theorem dX0_ways_87 : decode cX0_ways 87 = .ok (.ifCond .ne 9, 3) := dk_154 0 9 (dk_at dksX0_ways_3 18 rfl rfl)
theorem dX0_ways_90 : decode cX0_ways 90 = .ok (.aload_n 0, 1) := dk_42 (dk_at dksX0_ways_3 21 rfl rfl)
theorem dX0_ways_91 : decode cX0_ways 91 = .ok (.iload 5, 2) := dk_21 5 (dk_at dksX0_ways_3 22 rfl rfl)
theorem dX0_ways_93 : decode cX0_ways 93 = .ok (.putfield 425, 3) := dk_181 1 169 (dk_at dksX0_ways_4 0 rfl rfl)
theorem dX0_ways_96 : decode cX0_ways 96 = .ok (.aload_n 0, 1) := dk_42 (dk_at dksX0_ways_4 3 rfl rfl)
theorem dX0_ways_97 : decode cX0_ways 97 = .ok (.dup, 1) := dk_89 (dk_at dksX0_ways_4 4 rfl rfl)
theorem dX0_ways_98 : decode cX0_ways 98 = .ok (.getfield 428, 3) := dk_180 1 172 (dk_at dksX0_ways_4 5 rfl rfl)
theorem dX0_ways_101 : decode cX0_ways 101 = .ok (.lload 11, 2) := dk_22 11 (dk_at dksX0_ways_4 8 rfl rfl)
theorem dX0_ways_103 : decode cX0_ways 103 = .ok (.land, 1) := dk_127 (dk_at dksX0_ways_4 10 rfl rfl)
theorem dX0_ways_104 : decode cX0_ways 104 = .ok (.putfield 428, 3) := dk_181 1 172 (dk_at dksX0_ways_4 11 rfl rfl)
theorem dX0_ways_107 : decode cX0_ways 107 = .ok (.aload_n 0, 1) := dk_42 (dk_at dksX0_ways_4 14 rfl rfl)
theorem dX0_ways_108 : decode cX0_ways 108 = .ok (.dup, 1) := dk_89 (dk_at dksX0_ways_4 15 rfl rfl)
theorem dX0_ways_109 : decode cX0_ways 109 = .ok (.getfield 432, 3) := dk_180 1 176 (dk_at dksX0_ways_4 16 rfl rfl)
theorem dX0_ways_112 : decode cX0_ways 112 = .ok (.lload 13, 2) := dk_22 13 (dk_at dksX0_ways_4 19 rfl rfl)
theorem dX0_ways_114 : decode cX0_ways 114 = .ok (.land, 1) := dk_127 (dk_at dksX0_ways_4 21 rfl rfl)
theorem dX0_ways_115 : decode cX0_ways 115 = .ok (.putfield 432, 3) := dk_181 1 176 (dk_at dksX0_ways_5 0 rfl rfl)
theorem dX0_ways_118 : decode cX0_ways 118 = .ok (.return_, 1) := dk_177 (dk_at dksX0_ways_5 3 rfl rfl)
theorem dX0_ways_119 : decode cX0_ways 119 = .ok (.iconst 0, 1) := dk_3 (dk_at dksX0_ways_5 4 rfl rfl)
theorem dX0_ways_120 : decode cX0_ways 120 = .ok (.istore 15, 2) := dk_54 15 (dk_at dksX0_ways_5 5 rfl rfl)
theorem dX0_ways_122 : decode cX0_ways 122 = .ok (.iload 15, 2) := dk_21 15 (dk_at dksX0_ways_5 7 rfl rfl)
theorem dX0_ways_124 : decode cX0_ways 124 = .ok (.iconst 1, 1) := dk_4 (dk_at dksX0_ways_5 9 rfl rfl)
theorem dX0_ways_125 : decode cX0_ways 125 = .ok (.if_icmp .gt 100, 3) := dk_163 0 100 (dk_at dksX0_ways_5 10 rfl rfl)
theorem dX0_ways_128 : decode cX0_ways 128 = .ok (.aload_n 0, 1) := dk_42 (dk_at dksX0_ways_5 13 rfl rfl)
theorem dX0_ways_129 : decode cX0_ways 129 = .ok (.iload_n 1, 1) := dk_27 (dk_at dksX0_ways_5 14 rfl rfl)
theorem dX0_ways_130 : decode cX0_ways 130 = .ok (.iload_n 2, 1) := dk_28 (dk_at dksX0_ways_5 15 rfl rfl)
theorem dX0_ways_131 : decode cX0_ways 131 = .ok (.iload 15, 2) := dk_21 15 (dk_at dksX0_ways_5 16 rfl rfl)
theorem dX0_ways_133 : decode cX0_ways 133 = .ok (.iload_n 3, 1) := dk_29 (dk_at dksX0_ways_5 18 rfl rfl)
theorem dX0_ways_134 : decode cX0_ways 134 = .ok (.invokevirtual 191, 3) := dk_182 0 191 (dk_at dksX0_ways_5 19 rfl rfl)
theorem dX0_ways_137 : decode cX0_ways 137 = .ok (.istore 16, 2) := dk_54 16 (dk_at dksX0_ways_5 22 rfl rfl)
theorem dX0_ways_139 : decode cX0_ways 139 = .ok (.iload 16, 2) := dk_21 16 (dk_at dksX0_ways_6 0 rfl rfl)
theorem dX0_ways_141 : decode cX0_ways 141 = .ok (.ifCond .ge 6, 3) := dk_156 0 6 (dk_at dksX0_ways_6 2 rfl rfl)
theorem dX0_ways_144 : decode cX0_ways 144 = .ok (.goto 75, 3) := dk_167 0 75 (dk_at dksX0_ways_6 5 rfl rfl)
theorem dX0_ways_147 : decode cX0_ways 147 = .ok (.iload_n 3, 1) := dk_29 (dk_at dksX0_ways_6 8 rfl rfl)
theorem dX0_ways_148 : decode cX0_ways 148 = .ok (.iload 16, 2) := dk_21 16 (dk_at dksX0_ways_6 9 rfl rfl)
theorem dX0_ways_150 : decode cX0_ways 150 = .ok (.iadd, 1) := dk_96 (dk_at dksX0_ways_6 11 rfl rfl)
theorem dX0_ways_151 : decode cX0_ways 151 = .ok (.istore 17, 2) := dk_54 17 (dk_at dksX0_ways_6 12 rfl rfl)
theorem dX0_ways_153 : decode cX0_ways 153 = .ok (.aload_n 0, 1) := dk_42 (dk_at dksX0_ways_6 14 rfl rfl)
theorem dX0_ways_154 : decode cX0_ways 154 = .ok (.iload 15, 2) := dk_21 15 (dk_at dksX0_ways_6 15 rfl rfl)
theorem dX0_ways_156 : decode cX0_ways 156 = .ok (.ifCond .ne 9, 3) := dk_154 0 9 (dk_at dksX0_ways_6 17 rfl rfl)
theorem dX0_ways_159 : decode cX0_ways 159 = .ok (.iload_n 1, 1) := dk_27 (dk_at dksX0_ways_6 20 rfl rfl)
theorem dX0_ways_160 : decode cX0_ways 160 = .ok (.iconst 1, 1) := dk_4 (dk_at dksX0_ways_6 21 rfl rfl)
theorem dX0_ways_161 : decode cX0_ways 161 = .ok (.iadd, 1) := dk_96 (dk_at dksX0_ways_6 22 rfl rfl)
theorem dX0_ways_162 : decode cX0_ways 162 = .ok (.goto 4, 3) := dk_167 0 4 (dk_at dksX0_ways_7 0 rfl rfl)
theorem dX0_ways_165 : decode cX0_ways 165 = .ok (.iload_n 1, 1) := dk_27 (dk_at dksX0_ways_7 3 rfl rfl)
theorem dX0_ways_166 : decode cX0_ways 166 = .ok (.iload 15, 2) := dk_21 15 (dk_at dksX0_ways_7 4 rfl rfl)
theorem dX0_ways_168 : decode cX0_ways 168 = .ok (.ifCond .ne 7, 3) := dk_154 0 7 (dk_at dksX0_ways_7 6 rfl rfl)
theorem dX0_ways_171 : decode cX0_ways 171 = .ok (.iload_n 2, 1) := dk_28 (dk_at dksX0_ways_7 9 rfl rfl)
theorem dX0_ways_172 : decode cX0_ways 172 = .ok (.goto 6, 3) := dk_167 0 6 (dk_at dksX0_ways_7 10 rfl rfl)
theorem dX0_ways_175 : decode cX0_ways 175 = .ok (.iload_n 2, 1) := dk_28 (dk_at dksX0_ways_7 13 rfl rfl)
theorem dX0_ways_176 : decode cX0_ways 176 = .ok (.iconst 1, 1) := dk_4 (dk_at dksX0_ways_7 14 rfl rfl)
theorem dX0_ways_177 : decode cX0_ways 177 = .ok (.iadd, 1) := dk_96 (dk_at dksX0_ways_7 15 rfl rfl)
theorem dX0_ways_178 : decode cX0_ways 178 = .ok (.iload 17, 2) := dk_21 17 (dk_at dksX0_ways_7 16 rfl rfl)
theorem dX0_ways_180 : decode cX0_ways 180 = .ok (.aload_n 0, 1) := dk_42 (dk_at dksX0_ways_7 18 rfl rfl)
theorem dX0_ways_181 : decode cX0_ways 181 = .ok (.getfield 35, 3) := dk_180 0 35 (dk_at dksX0_ways_7 19 rfl rfl)
theorem dX0_ways_184 : decode cX0_ways 184 = .ok (.invokevirtual 217, 3) := dk_182 0 217 (dk_at dksX0_ways_8 0 rfl rfl)
theorem dX0_ways_187 : decode cX0_ways 187 = .ok (.iadd, 1) := dk_96 (dk_at dksX0_ways_8 3 rfl rfl)
theorem dX0_ways_188 : decode cX0_ways 188 = .ok (.iload 4, 2) := dk_21 4 (dk_at dksX0_ways_8 4 rfl rfl)
theorem dX0_ways_190 : decode cX0_ways 190 = .ok (.iconst 1, 1) := dk_4 (dk_at dksX0_ways_8 6 rfl rfl)
theorem dX0_ways_191 : decode cX0_ways 191 = .ok (.iadd, 1) := dk_96 (dk_at dksX0_ways_8 7 rfl rfl)
theorem dX0_ways_192 : decode cX0_ways 192 = .ok (.iload 5, 2) := dk_21 5 (dk_at dksX0_ways_8 8 rfl rfl)
theorem dX0_ways_194 : decode cX0_ways 194 = .ok (.iload 15, 2) := dk_21 15 (dk_at dksX0_ways_8 10 rfl rfl)
theorem dX0_ways_196 : decode cX0_ways 196 = .ok (.iload 4, 2) := dk_21 4 (dk_at dksX0_ways_8 12 rfl rfl)
theorem dX0_ways_198 : decode cX0_ways 198 = .ok (.ishl, 1) := dk_120 (dk_at dksX0_ways_8 14 rfl rfl)
theorem dX0_ways_199 : decode cX0_ways 199 = .ok (.ior, 1) := dk_128 (dk_at dksX0_ways_8 15 rfl rfl)
theorem dX0_ways_200 : decode cX0_ways 200 = .ok (.lload 11, 2) := dk_22 11 (dk_at dksX0_ways_8 16 rfl rfl)
theorem dX0_ways_202 : decode cX0_ways 202 = .ok (.lload 13, 2) := dk_22 13 (dk_at dksX0_ways_8 18 rfl rfl)
theorem dX0_ways_204 : decode cX0_ways 204 = .ok (.iload 10, 2) := dk_21 10 (dk_at dksX0_ways_8 20 rfl rfl)
theorem dX0_ways_206 : decode cX0_ways 206 = .ok (.aload_n 0, 1) := dk_42 (dk_at dksX0_ways_8 22 rfl rfl)
theorem dX0_ways_207 : decode cX0_ways 207 = .ok (.iload_n 1, 1) := dk_27 (dk_at dksX0_ways_8 23 rfl rfl)
theorem dX0_ways_208 : decode cX0_ways 208 = .ok (.iload_n 2, 1) := dk_28 (dk_at dksX0_ways_9 0 rfl rfl)
theorem dX0_ways_209 : decode cX0_ways 209 = .ok (.iload_n 3, 1) := dk_29 (dk_at dksX0_ways_9 1 rfl rfl)
theorem dX0_ways_210 : decode cX0_ways 210 = .ok (.iload 17, 2) := dk_21 17 (dk_at dksX0_ways_9 2 rfl rfl)
theorem dX0_ways_212 : decode cX0_ways 212 = .ok (.invokevirtual 419, 3) := dk_182 1 163 (dk_at dksX0_ways_9 4 rfl rfl)
theorem dX0_ways_215 : decode cX0_ways 215 = .ok (.iadd, 1) := dk_96 (dk_at dksX0_ways_9 7 rfl rfl)
theorem dX0_ways_216 : decode cX0_ways 216 = .ok (.invokevirtual 435, 3) := dk_182 1 179 (dk_at dksX0_ways_9 8 rfl rfl)
theorem dX0_ways_219 : decode cX0_ways 219 = .ok (.iinc 15 1, 3) := dk_132 15 1 (dk_at dksX0_ways_9 11 rfl rfl)
theorem dX0_ways_222 : decode cX0_ways 222 = .ok (.goto (-100), 3) := dk_167 255 156 (dk_at dksX0_ways_9 14 rfl rfl)
theorem dX0_ways_225 : decode cX0_ways 225 = .ok (.return_, 1) := dk_177 (dk_at dksX0_ways_9 17 rfl rfl)
abbrev cX0_toldAt : ByteArray := prog_1_method_68_code
def yX0_toldAt : MethodName := ⟨RX0, "toldAt", "(IIII)I"⟩
def dkwX0_toldAt_2 : List UInt8 := [46, 29, 21, 4, 184, 0, 127, 153, 0, 6, 132, 5, 1, 132, 6, 1, 167, 255, 200, 21, 5, 172]
abbrev dktX0_toldAt_2 : List UInt8 := dkwX0_toldAt_2 ++ []
def dkwX0_toldAt_1 : List UInt8 := [180, 1, 157, 21, 6, 46, 28, 16, 6, 104, 27, 96, 160, 0, 25, 42, 180, 0, 49, 180, 1, 160, 21, 6]
abbrev dktX0_toldAt_1 : List UInt8 := dkwX0_toldAt_1 ++ dktX0_toldAt_2
def dkwX0_toldAt_0 : List UInt8 := [3, 54, 5, 3, 54, 6, 21, 6, 42, 180, 0, 49, 180, 1, 154, 162, 0, 50, 42, 180, 0, 49]
abbrev dktX0_toldAt_0 : List UInt8 := dkwX0_toldAt_0 ++ dktX0_toldAt_1
theorem dksX0_toldAt_0 : cX0_toldAt.data.toList.drop 0 = dktX0_toldAt_0 := by decide +kernel
theorem dksX0_toldAt_1 : cX0_toldAt.data.toList.drop 22 = dktX0_toldAt_1 := dk_seg dksX0_toldAt_0 22 rfl rfl
theorem dksX0_toldAt_2 : cX0_toldAt.data.toList.drop 46 = dktX0_toldAt_2 := dk_seg dksX0_toldAt_1 24 rfl rfl
theorem dX0_toldAt_0 : decode cX0_toldAt 0 = .ok (.iconst 0, 1) := dk_3 (dk_at dksX0_toldAt_0 0 rfl rfl)
theorem dX0_toldAt_1 : decode cX0_toldAt 1 = .ok (.istore 5, 2) := dk_54 5 (dk_at dksX0_toldAt_0 1 rfl rfl)
theorem dX0_toldAt_3 : decode cX0_toldAt 3 = .ok (.iconst 0, 1) := dk_3 (dk_at dksX0_toldAt_0 3 rfl rfl)
theorem dX0_toldAt_4 : decode cX0_toldAt 4 = .ok (.istore 6, 2) := dk_54 6 (dk_at dksX0_toldAt_0 4 rfl rfl)
theorem dX0_toldAt_6 : decode cX0_toldAt 6 = .ok (.iload 6, 2) := dk_21 6 (dk_at dksX0_toldAt_0 6 rfl rfl)
theorem dX0_toldAt_8 : decode cX0_toldAt 8 = .ok (.aload_n 0, 1) := dk_42 (dk_at dksX0_toldAt_0 8 rfl rfl)
theorem dX0_toldAt_9 : decode cX0_toldAt 9 = .ok (.getfield 49, 3) := dk_180 0 49 (dk_at dksX0_toldAt_0 9 rfl rfl)
theorem dX0_toldAt_12 : decode cX0_toldAt 12 = .ok (.getfield 410, 3) := dk_180 1 154 (dk_at dksX0_toldAt_0 12 rfl rfl)
theorem dX0_toldAt_15 : decode cX0_toldAt 15 = .ok (.if_icmp .ge 50, 3) := dk_162 0 50 (dk_at dksX0_toldAt_0 15 rfl rfl)
theorem dX0_toldAt_18 : decode cX0_toldAt 18 = .ok (.aload_n 0, 1) := dk_42 (dk_at dksX0_toldAt_0 18 rfl rfl)
theorem dX0_toldAt_19 : decode cX0_toldAt 19 = .ok (.getfield 49, 3) := dk_180 0 49 (dk_at dksX0_toldAt_0 19 rfl rfl)
theorem dX0_toldAt_22 : decode cX0_toldAt 22 = .ok (.getfield 413, 3) := dk_180 1 157 (dk_at dksX0_toldAt_1 0 rfl rfl)
theorem dX0_toldAt_25 : decode cX0_toldAt 25 = .ok (.iload 6, 2) := dk_21 6 (dk_at dksX0_toldAt_1 3 rfl rfl)
theorem dX0_toldAt_27 : decode cX0_toldAt 27 = .ok (.iaload, 1) := dk_46 (dk_at dksX0_toldAt_1 5 rfl rfl)
theorem dX0_toldAt_28 : decode cX0_toldAt 28 = .ok (.iload_n 2, 1) := dk_28 (dk_at dksX0_toldAt_1 6 rfl rfl)
theorem dX0_toldAt_29 : decode cX0_toldAt 29 = .ok (.bipush 6, 2) := dk_16 6 (dk_at dksX0_toldAt_1 7 rfl rfl)
theorem dX0_toldAt_31 : decode cX0_toldAt 31 = .ok (.imul, 1) := dk_104 (dk_at dksX0_toldAt_1 9 rfl rfl)
theorem dX0_toldAt_32 : decode cX0_toldAt 32 = .ok (.iload_n 1, 1) := dk_27 (dk_at dksX0_toldAt_1 10 rfl rfl)
theorem dX0_toldAt_33 : decode cX0_toldAt 33 = .ok (.iadd, 1) := dk_96 (dk_at dksX0_toldAt_1 11 rfl rfl)
theorem dX0_toldAt_34 : decode cX0_toldAt 34 = .ok (.if_icmp .ne 25, 3) := dk_160 0 25 (dk_at dksX0_toldAt_1 12 rfl rfl)
theorem dX0_toldAt_37 : decode cX0_toldAt 37 = .ok (.aload_n 0, 1) := dk_42 (dk_at dksX0_toldAt_1 15 rfl rfl)
theorem dX0_toldAt_38 : decode cX0_toldAt 38 = .ok (.getfield 49, 3) := dk_180 0 49 (dk_at dksX0_toldAt_1 16 rfl rfl)
theorem dX0_toldAt_41 : decode cX0_toldAt 41 = .ok (.getfield 416, 3) := dk_180 1 160 (dk_at dksX0_toldAt_1 19 rfl rfl)
theorem dX0_toldAt_44 : decode cX0_toldAt 44 = .ok (.iload 6, 2) := dk_21 6 (dk_at dksX0_toldAt_1 22 rfl rfl)
theorem dX0_toldAt_46 : decode cX0_toldAt 46 = .ok (.iaload, 1) := dk_46 (dk_at dksX0_toldAt_2 0 rfl rfl)
theorem dX0_toldAt_47 : decode cX0_toldAt 47 = .ok (.iload_n 3, 1) := dk_29 (dk_at dksX0_toldAt_2 1 rfl rfl)
theorem dX0_toldAt_48 : decode cX0_toldAt 48 = .ok (.iload 4, 2) := dk_21 4 (dk_at dksX0_toldAt_2 2 rfl rfl)
theorem dX0_toldAt_50 : decode cX0_toldAt 50 = .ok (.invokestatic 127, 3) := dk_184 0 127 (dk_at dksX0_toldAt_2 4 rfl rfl)
theorem dX0_toldAt_53 : decode cX0_toldAt 53 = .ok (.ifCond .eq 6, 3) := dk_153 0 6 (dk_at dksX0_toldAt_2 7 rfl rfl)
theorem dX0_toldAt_56 : decode cX0_toldAt 56 = .ok (.iinc 5 1, 3) := dk_132 5 1 (dk_at dksX0_toldAt_2 10 rfl rfl)
theorem dX0_toldAt_59 : decode cX0_toldAt 59 = .ok (.iinc 6 1, 3) := dk_132 6 1 (dk_at dksX0_toldAt_2 13 rfl rfl)
theorem dX0_toldAt_62 : decode cX0_toldAt 62 = .ok (.goto (-56), 3) := dk_167 255 200 (dk_at dksX0_toldAt_2 16 rfl rfl)
theorem dX0_toldAt_65 : decode cX0_toldAt 65 = .ok (.iload 5, 2) := dk_21 5 (dk_at dksX0_toldAt_2 19 rfl rfl)
theorem dX0_toldAt_67 : decode cX0_toldAt 67 = .ok (.ireturn, 1) := dk_172 (dk_at dksX0_toldAt_2 21 rfl rfl)
abbrev cX0_nights : ByteArray := prog_1_method_73_code
def yX0_nights : MethodName := ⟨RX0, "nights", "(IIII)I"⟩
def dkwX0_nights_5 : List UInt8 := [21, 6, 172]
abbrev dktX0_nights_5 : List UInt8 := dkwX0_nights_5 ++ []
def dkwX0_nights_4 : List UInt8 := [21, 8, 184, 1, 17, 54, 6, 132, 7, 1, 167, 255, 211, 21, 4, 154, 0, 8, 21, 5, 167, 0, 5]
abbrev dktX0_nights_4 : List UInt8 := dkwX0_nights_4 ++ dktX0_nights_5
def dkwX0_nights_3 : List UInt8 := [180, 1, 35, 29, 182, 1, 39, 192, 0, 252, 182, 1, 197, 54, 8, 21, 5, 21, 8, 96, 54, 5, 21, 6]
abbrev dktX0_nights_3 : List UInt8 := dkwX0_nights_3 ++ dktX0_nights_4
def dkwX0_nights_2 : List UInt8 := [181, 1, 183, 3, 54, 5, 3, 54, 6, 3, 54, 7, 21, 7, 28, 162, 0, 45, 42, 42, 180, 0, 35]
abbrev dktX0_nights_2 : List UInt8 := dkwX0_nights_2 ++ dktX0_nights_3
def dkwX0_nights_1 : List UInt8 := [4, 184, 0, 127, 153, 0, 14, 42, 29, 3, 3, 3, 182, 1, 76, 156, 0, 5, 2, 172, 42, 27, 133]
abbrev dktX0_nights_1 : List UInt8 := dkwX0_nights_1 ++ dktX0_nights_2
def dkwX0_nights_0 : List UInt8 := [27, 3, 17, 39, 15, 184, 0, 127, 153, 0, 34, 28, 4, 16, 30, 184, 0, 127, 153, 0, 24, 21, 4, 3]
abbrev dktX0_nights_0 : List UInt8 := dkwX0_nights_0 ++ dktX0_nights_1
theorem dksX0_nights_0 : cX0_nights.data.toList.drop 0 = dktX0_nights_0 := by decide +kernel
theorem dksX0_nights_1 : cX0_nights.data.toList.drop 24 = dktX0_nights_1 := dk_seg dksX0_nights_0 24 rfl rfl
theorem dksX0_nights_2 : cX0_nights.data.toList.drop 47 = dktX0_nights_2 := dk_seg dksX0_nights_1 23 rfl rfl
theorem dksX0_nights_3 : cX0_nights.data.toList.drop 70 = dktX0_nights_3 := dk_seg dksX0_nights_2 23 rfl rfl
theorem dksX0_nights_4 : cX0_nights.data.toList.drop 94 = dktX0_nights_4 := dk_seg dksX0_nights_3 24 rfl rfl
theorem dksX0_nights_5 : cX0_nights.data.toList.drop 117 = dktX0_nights_5 := dk_seg dksX0_nights_4 23 rfl rfl
theorem dX0_nights_0 : decode cX0_nights 0 = .ok (.iload_n 1, 1) := dk_27 (dk_at dksX0_nights_0 0 rfl rfl)
theorem dX0_nights_1 : decode cX0_nights 1 = .ok (.iconst 0, 1) := dk_3 (dk_at dksX0_nights_0 1 rfl rfl)
theorem dX0_nights_2 : decode cX0_nights 2 = .ok (.sipush 9999, 3) := dk_17 39 15 (dk_at dksX0_nights_0 2 rfl rfl)
theorem dX0_nights_5 : decode cX0_nights 5 = .ok (.invokestatic 127, 3) := dk_184 0 127 (dk_at dksX0_nights_0 5 rfl rfl)
theorem dX0_nights_8 : decode cX0_nights 8 = .ok (.ifCond .eq 34, 3) := dk_153 0 34 (dk_at dksX0_nights_0 8 rfl rfl)
theorem dX0_nights_11 : decode cX0_nights 11 = .ok (.iload_n 2, 1) := dk_28 (dk_at dksX0_nights_0 11 rfl rfl)
theorem dX0_nights_12 : decode cX0_nights 12 = .ok (.iconst 1, 1) := dk_4 (dk_at dksX0_nights_0 12 rfl rfl)
theorem dX0_nights_13 : decode cX0_nights 13 = .ok (.bipush 30, 2) := dk_16 30 (dk_at dksX0_nights_0 13 rfl rfl)
theorem dX0_nights_15 : decode cX0_nights 15 = .ok (.invokestatic 127, 3) := dk_184 0 127 (dk_at dksX0_nights_0 15 rfl rfl)
theorem dX0_nights_18 : decode cX0_nights 18 = .ok (.ifCond .eq 24, 3) := dk_153 0 24 (dk_at dksX0_nights_0 18 rfl rfl)
theorem dX0_nights_21 : decode cX0_nights 21 = .ok (.iload 4, 2) := dk_21 4 (dk_at dksX0_nights_0 21 rfl rfl)
theorem dX0_nights_23 : decode cX0_nights 23 = .ok (.iconst 0, 1) := dk_3 (dk_at dksX0_nights_0 23 rfl rfl)
theorem dX0_nights_24 : decode cX0_nights 24 = .ok (.iconst 1, 1) := dk_4 (dk_at dksX0_nights_1 0 rfl rfl)
theorem dX0_nights_25 : decode cX0_nights 25 = .ok (.invokestatic 127, 3) := dk_184 0 127 (dk_at dksX0_nights_1 1 rfl rfl)
theorem dX0_nights_28 : decode cX0_nights 28 = .ok (.ifCond .eq 14, 3) := dk_153 0 14 (dk_at dksX0_nights_1 4 rfl rfl)
theorem dX0_nights_31 : decode cX0_nights 31 = .ok (.aload_n 0, 1) := dk_42 (dk_at dksX0_nights_1 7 rfl rfl)
theorem dX0_nights_32 : decode cX0_nights 32 = .ok (.iload_n 3, 1) := dk_29 (dk_at dksX0_nights_1 8 rfl rfl)
theorem dX0_nights_33 : decode cX0_nights 33 = .ok (.iconst 0, 1) := dk_3 (dk_at dksX0_nights_1 9 rfl rfl)
theorem dX0_nights_34 : decode cX0_nights 34 = .ok (.iconst 0, 1) := dk_3 (dk_at dksX0_nights_1 10 rfl rfl)
theorem dX0_nights_35 : decode cX0_nights 35 = .ok (.iconst 0, 1) := dk_3 (dk_at dksX0_nights_1 11 rfl rfl)
theorem dX0_nights_36 : decode cX0_nights 36 = .ok (.invokevirtual 332, 3) := dk_182 1 76 (dk_at dksX0_nights_1 12 rfl rfl)
theorem dX0_nights_39 : decode cX0_nights 39 = .ok (.ifCond .ge 5, 3) := dk_156 0 5 (dk_at dksX0_nights_1 15 rfl rfl)
theorem dX0_nights_42 : decode cX0_nights 42 = .ok (.iconst (-1), 1) := dk_2 (dk_at dksX0_nights_1 18 rfl rfl)
theorem dX0_nights_43 : decode cX0_nights 43 = .ok (.ireturn, 1) := dk_172 (dk_at dksX0_nights_1 19 rfl rfl)
theorem dX0_nights_44 : decode cX0_nights 44 = .ok (.aload_n 0, 1) := dk_42 (dk_at dksX0_nights_1 20 rfl rfl)
theorem dX0_nights_45 : decode cX0_nights 45 = .ok (.iload_n 1, 1) := dk_27 (dk_at dksX0_nights_1 21 rfl rfl)
theorem dX0_nights_46 : decode cX0_nights 46 = .ok (.i2l, 1) := dk_133 (dk_at dksX0_nights_1 22 rfl rfl)
theorem dX0_nights_47 : decode cX0_nights 47 = .ok (.putfield 439, 3) := dk_181 1 183 (dk_at dksX0_nights_2 0 rfl rfl)
theorem dX0_nights_50 : decode cX0_nights 50 = .ok (.iconst 0, 1) := dk_3 (dk_at dksX0_nights_2 3 rfl rfl)
theorem dX0_nights_51 : decode cX0_nights 51 = .ok (.istore 5, 2) := dk_54 5 (dk_at dksX0_nights_2 4 rfl rfl)
theorem dX0_nights_53 : decode cX0_nights 53 = .ok (.iconst 0, 1) := dk_3 (dk_at dksX0_nights_2 6 rfl rfl)
theorem dX0_nights_54 : decode cX0_nights 54 = .ok (.istore 6, 2) := dk_54 6 (dk_at dksX0_nights_2 7 rfl rfl)
theorem dX0_nights_56 : decode cX0_nights 56 = .ok (.iconst 0, 1) := dk_3 (dk_at dksX0_nights_2 9 rfl rfl)
theorem dX0_nights_57 : decode cX0_nights 57 = .ok (.istore 7, 2) := dk_54 7 (dk_at dksX0_nights_2 10 rfl rfl)
theorem dX0_nights_59 : decode cX0_nights 59 = .ok (.iload 7, 2) := dk_21 7 (dk_at dksX0_nights_2 12 rfl rfl)
theorem dX0_nights_61 : decode cX0_nights 61 = .ok (.iload_n 2, 1) := dk_28 (dk_at dksX0_nights_2 14 rfl rfl)
theorem dX0_nights_62 : decode cX0_nights 62 = .ok (.if_icmp .ge 45, 3) := dk_162 0 45 (dk_at dksX0_nights_2 15 rfl rfl)
theorem dX0_nights_65 : decode cX0_nights 65 = .ok (.aload_n 0, 1) := dk_42 (dk_at dksX0_nights_2 18 rfl rfl)
theorem dX0_nights_66 : decode cX0_nights 66 = .ok (.aload_n 0, 1) := dk_42 (dk_at dksX0_nights_2 19 rfl rfl)
theorem dX0_nights_67 : decode cX0_nights 67 = .ok (.getfield 35, 3) := dk_180 0 35 (dk_at dksX0_nights_2 20 rfl rfl)
theorem dX0_nights_70 : decode cX0_nights 70 = .ok (.getfield 291, 3) := dk_180 1 35 (dk_at dksX0_nights_3 0 rfl rfl)
theorem dX0_nights_73 : decode cX0_nights 73 = .ok (.iload_n 3, 1) := dk_29 (dk_at dksX0_nights_3 3 rfl rfl)
theorem dX0_nights_74 : decode cX0_nights 74 = .ok (.invokevirtual 295, 3) := dk_182 1 39 (dk_at dksX0_nights_3 4 rfl rfl)
theorem dX0_nights_77 : decode cX0_nights 77 = .ok (.checkcast 252, 3) := dk_192 0 252 (dk_at dksX0_nights_3 7 rfl rfl)
theorem dX0_nights_80 : decode cX0_nights 80 = .ok (.invokevirtual 453, 3) := dk_182 1 197 (dk_at dksX0_nights_3 10 rfl rfl)
theorem dX0_nights_83 : decode cX0_nights 83 = .ok (.istore 8, 2) := dk_54 8 (dk_at dksX0_nights_3 13 rfl rfl)
theorem dX0_nights_85 : decode cX0_nights 85 = .ok (.iload 5, 2) := dk_21 5 (dk_at dksX0_nights_3 15 rfl rfl)
theorem dX0_nights_87 : decode cX0_nights 87 = .ok (.iload 8, 2) := dk_21 8 (dk_at dksX0_nights_3 17 rfl rfl)
theorem dX0_nights_89 : decode cX0_nights 89 = .ok (.iadd, 1) := dk_96 (dk_at dksX0_nights_3 19 rfl rfl)
theorem dX0_nights_90 : decode cX0_nights 90 = .ok (.istore 5, 2) := dk_54 5 (dk_at dksX0_nights_3 20 rfl rfl)
theorem dX0_nights_92 : decode cX0_nights 92 = .ok (.iload 6, 2) := dk_21 6 (dk_at dksX0_nights_3 22 rfl rfl)
theorem dX0_nights_94 : decode cX0_nights 94 = .ok (.iload 8, 2) := dk_21 8 (dk_at dksX0_nights_4 0 rfl rfl)
theorem dX0_nights_96 : decode cX0_nights 96 = .ok (.invokestatic 273, 3) := dk_184 1 17 (dk_at dksX0_nights_4 2 rfl rfl)
theorem dX0_nights_99 : decode cX0_nights 99 = .ok (.istore 6, 2) := dk_54 6 (dk_at dksX0_nights_4 5 rfl rfl)
theorem dX0_nights_101 : decode cX0_nights 101 = .ok (.iinc 7 1, 3) := dk_132 7 1 (dk_at dksX0_nights_4 7 rfl rfl)
theorem dX0_nights_104 : decode cX0_nights 104 = .ok (.goto (-45), 3) := dk_167 255 211 (dk_at dksX0_nights_4 10 rfl rfl)
theorem dX0_nights_107 : decode cX0_nights 107 = .ok (.iload 4, 2) := dk_21 4 (dk_at dksX0_nights_4 13 rfl rfl)
theorem dX0_nights_109 : decode cX0_nights 109 = .ok (.ifCond .ne 8, 3) := dk_154 0 8 (dk_at dksX0_nights_4 15 rfl rfl)
theorem dX0_nights_112 : decode cX0_nights 112 = .ok (.iload 5, 2) := dk_21 5 (dk_at dksX0_nights_4 18 rfl rfl)
theorem dX0_nights_114 : decode cX0_nights 114 = .ok (.goto 5, 3) := dk_167 0 5 (dk_at dksX0_nights_4 20 rfl rfl)
theorem dX0_nights_117 : decode cX0_nights 117 = .ok (.iload 6, 2) := dk_21 6 (dk_at dksX0_nights_5 0 rfl rfl)
theorem dX0_nights_119 : decode cX0_nights 119 = .ok (.ireturn, 1) := dk_172 (dk_at dksX0_nights_5 2 rfl rfl)
abbrev cX0_lives : ByteArray := prog_1_method_72_code
def yX0_lives : MethodName := ⟨RX0, "lives", "(LOverFirst$Goer;)I"⟩
def dkwX0_lives_6 : List UInt8 := [96, 54, 4, 21, 8, 154, 0, 9, 132, 2, 1, 167, 0, 6, 132, 3, 1, 167, 255, 155, 21, 4, 172]
abbrev dktX0_lives_6 : List UInt8 := dkwX0_lives_6 ++ []
def dkwX0_lives_5 : List UInt8 := [54, 8, 21, 4, 21, 8, 154, 0, 8, 21, 6, 167, 0, 5, 21, 7, 42, 180, 0, 35, 182, 0, 217, 96]
abbrev dktX0_lives_5 : List UInt8 := dkwX0_lives_5 ++ dktX0_lives_6
def dkwX0_lives_4 : List UInt8 := [42, 28, 29, 4, 21, 5, 182, 0, 191, 54, 7, 42, 43, 28, 29, 21, 4, 21, 6, 21, 7, 182, 1, 9]
abbrev dktX0_lives_4 : List UInt8 := dkwX0_lives_4 ++ dktX0_lives_5
def dkwX0_lives_3 : List UInt8 := [180, 0, 90, 29, 16, 6, 104, 28, 96, 46, 96, 54, 5, 42, 28, 29, 3, 21, 5, 182, 0, 191, 54, 6]
abbrev dktX0_lives_3 : List UInt8 := dkwX0_lives_3 ++ dktX0_lives_4
def dkwX0_lives_2 : List UInt8 := [167, 255, 213, 3, 61, 3, 62, 3, 54, 4, 42, 28, 29, 182, 1, 22, 154, 0, 98, 21, 4, 42]
abbrev dktX0_lives_2 : List UInt8 := dkwX0_lives_2 ++ dktX0_lives_3
def dkwX0_lives_1 : List UInt8 := [180, 0, 35, 180, 0, 122, 28, 50, 180, 0, 160, 182, 1, 194, 167, 0, 4, 3, 79, 132, 2, 1]
abbrev dktX0_lives_1 : List UInt8 := dkwX0_lives_1 ++ dktX0_lives_2
def dkwX0_lives_0 : List UInt8 := [3, 61, 28, 16, 54, 162, 0, 43, 42, 180, 0, 90, 28, 42, 28, 182, 0, 222, 153, 0, 22, 42, 42]
abbrev dktX0_lives_0 : List UInt8 := dkwX0_lives_0 ++ dktX0_lives_1
theorem dksX0_lives_0 : cX0_lives.data.toList.drop 0 = dktX0_lives_0 := by decide +kernel
theorem dksX0_lives_1 : cX0_lives.data.toList.drop 23 = dktX0_lives_1 := dk_seg dksX0_lives_0 23 rfl rfl
theorem dksX0_lives_2 : cX0_lives.data.toList.drop 45 = dktX0_lives_2 := dk_seg dksX0_lives_1 22 rfl rfl
theorem dksX0_lives_3 : cX0_lives.data.toList.drop 67 = dktX0_lives_3 := dk_seg dksX0_lives_2 22 rfl rfl
theorem dksX0_lives_4 : cX0_lives.data.toList.drop 91 = dktX0_lives_4 := dk_seg dksX0_lives_3 24 rfl rfl
theorem dksX0_lives_5 : cX0_lives.data.toList.drop 115 = dktX0_lives_5 := dk_seg dksX0_lives_4 24 rfl rfl
theorem dksX0_lives_6 : cX0_lives.data.toList.drop 139 = dktX0_lives_6 := dk_seg dksX0_lives_5 24 rfl rfl
theorem dX0_lives_0 : decode cX0_lives 0 = .ok (.iconst 0, 1) := dk_3 (dk_at dksX0_lives_0 0 rfl rfl)
theorem dX0_lives_1 : decode cX0_lives 1 = .ok (.istore_n 2, 1) := dk_61 (dk_at dksX0_lives_0 1 rfl rfl)
theorem dX0_lives_2 : decode cX0_lives 2 = .ok (.iload_n 2, 1) := dk_28 (dk_at dksX0_lives_0 2 rfl rfl)
theorem dX0_lives_3 : decode cX0_lives 3 = .ok (.bipush 54, 2) := dk_16 54 (dk_at dksX0_lives_0 3 rfl rfl)
theorem dX0_lives_5 : decode cX0_lives 5 = .ok (.if_icmp .ge 43, 3) := dk_162 0 43 (dk_at dksX0_lives_0 5 rfl rfl)
theorem dX0_lives_8 : decode cX0_lives 8 = .ok (.aload_n 0, 1) := dk_42 (dk_at dksX0_lives_0 8 rfl rfl)
theorem dX0_lives_9 : decode cX0_lives 9 = .ok (.getfield 90, 3) := dk_180 0 90 (dk_at dksX0_lives_0 9 rfl rfl)
theorem dX0_lives_12 : decode cX0_lives 12 = .ok (.iload_n 2, 1) := dk_28 (dk_at dksX0_lives_0 12 rfl rfl)
theorem dX0_lives_13 : decode cX0_lives 13 = .ok (.aload_n 0, 1) := dk_42 (dk_at dksX0_lives_0 13 rfl rfl)
theorem dX0_lives_14 : decode cX0_lives 14 = .ok (.iload_n 2, 1) := dk_28 (dk_at dksX0_lives_0 14 rfl rfl)
theorem dX0_lives_15 : decode cX0_lives 15 = .ok (.invokevirtual 222, 3) := dk_182 0 222 (dk_at dksX0_lives_0 15 rfl rfl)
theorem dX0_lives_18 : decode cX0_lives 18 = .ok (.ifCond .eq 22, 3) := dk_153 0 22 (dk_at dksX0_lives_0 18 rfl rfl)
theorem dX0_lives_21 : decode cX0_lives 21 = .ok (.aload_n 0, 1) := dk_42 (dk_at dksX0_lives_0 21 rfl rfl)
theorem dX0_lives_22 : decode cX0_lives 22 = .ok (.aload_n 0, 1) := dk_42 (dk_at dksX0_lives_0 22 rfl rfl)
theorem dX0_lives_23 : decode cX0_lives 23 = .ok (.getfield 35, 3) := dk_180 0 35 (dk_at dksX0_lives_1 0 rfl rfl)
theorem dX0_lives_26 : decode cX0_lives 26 = .ok (.getfield 122, 3) := dk_180 0 122 (dk_at dksX0_lives_1 3 rfl rfl)
theorem dX0_lives_29 : decode cX0_lives 29 = .ok (.iload_n 2, 1) := dk_28 (dk_at dksX0_lives_1 6 rfl rfl)
theorem dX0_lives_30 : decode cX0_lives 30 = .ok (.aaload, 1) := dk_50 (dk_at dksX0_lives_1 7 rfl rfl)
theorem dX0_lives_31 : decode cX0_lives 31 = .ok (.getfield 160, 3) := dk_180 0 160 (dk_at dksX0_lives_1 8 rfl rfl)
theorem dX0_lives_34 : decode cX0_lives 34 = .ok (.invokevirtual 450, 3) := dk_182 1 194 (dk_at dksX0_lives_1 11 rfl rfl)
theorem dX0_lives_37 : decode cX0_lives 37 = .ok (.goto 4, 3) := dk_167 0 4 (dk_at dksX0_lives_1 14 rfl rfl)
theorem dX0_lives_40 : decode cX0_lives 40 = .ok (.iconst 0, 1) := dk_3 (dk_at dksX0_lives_1 17 rfl rfl)
theorem dX0_lives_41 : decode cX0_lives 41 = .ok (.iastore, 1) := dk_79 (dk_at dksX0_lives_1 18 rfl rfl)
theorem dX0_lives_42 : decode cX0_lives 42 = .ok (.iinc 2 1, 3) := dk_132 2 1 (dk_at dksX0_lives_1 19 rfl rfl)
theorem dX0_lives_45 : decode cX0_lives 45 = .ok (.goto (-43), 3) := dk_167 255 213 (dk_at dksX0_lives_2 0 rfl rfl)
theorem dX0_lives_48 : decode cX0_lives 48 = .ok (.iconst 0, 1) := dk_3 (dk_at dksX0_lives_2 3 rfl rfl)
theorem dX0_lives_49 : decode cX0_lives 49 = .ok (.istore_n 2, 1) := dk_61 (dk_at dksX0_lives_2 4 rfl rfl)
theorem dX0_lives_50 : decode cX0_lives 50 = .ok (.iconst 0, 1) := dk_3 (dk_at dksX0_lives_2 5 rfl rfl)
theorem dX0_lives_51 : decode cX0_lives 51 = .ok (.istore_n 3, 1) := dk_62 (dk_at dksX0_lives_2 6 rfl rfl)
theorem dX0_lives_52 : decode cX0_lives 52 = .ok (.iconst 0, 1) := dk_3 (dk_at dksX0_lives_2 7 rfl rfl)
theorem dX0_lives_53 : decode cX0_lives 53 = .ok (.istore 4, 2) := dk_54 4 (dk_at dksX0_lives_2 8 rfl rfl)
theorem dX0_lives_55 : decode cX0_lives 55 = .ok (.aload_n 0, 1) := dk_42 (dk_at dksX0_lives_2 10 rfl rfl)
theorem dX0_lives_56 : decode cX0_lives 56 = .ok (.iload_n 2, 1) := dk_28 (dk_at dksX0_lives_2 11 rfl rfl)
theorem dX0_lives_57 : decode cX0_lives 57 = .ok (.iload_n 3, 1) := dk_29 (dk_at dksX0_lives_2 12 rfl rfl)
theorem dX0_lives_58 : decode cX0_lives 58 = .ok (.invokevirtual 278, 3) := dk_182 1 22 (dk_at dksX0_lives_2 13 rfl rfl)
theorem dX0_lives_61 : decode cX0_lives 61 = .ok (.ifCond .ne 98, 3) := dk_154 0 98 (dk_at dksX0_lives_2 16 rfl rfl)
theorem dX0_lives_64 : decode cX0_lives 64 = .ok (.iload 4, 2) := dk_21 4 (dk_at dksX0_lives_2 19 rfl rfl)
theorem dX0_lives_66 : decode cX0_lives 66 = .ok (.aload_n 0, 1) := dk_42 (dk_at dksX0_lives_2 21 rfl rfl)
theorem dX0_lives_67 : decode cX0_lives 67 = .ok (.getfield 90, 3) := dk_180 0 90 (dk_at dksX0_lives_3 0 rfl rfl)
theorem dX0_lives_70 : decode cX0_lives 70 = .ok (.iload_n 3, 1) := dk_29 (dk_at dksX0_lives_3 3 rfl rfl)
theorem dX0_lives_71 : decode cX0_lives 71 = .ok (.bipush 6, 2) := dk_16 6 (dk_at dksX0_lives_3 4 rfl rfl)
theorem dX0_lives_73 : decode cX0_lives 73 = .ok (.imul, 1) := dk_104 (dk_at dksX0_lives_3 6 rfl rfl)
theorem dX0_lives_74 : decode cX0_lives 74 = .ok (.iload_n 2, 1) := dk_28 (dk_at dksX0_lives_3 7 rfl rfl)
theorem dX0_lives_75 : decode cX0_lives 75 = .ok (.iadd, 1) := dk_96 (dk_at dksX0_lives_3 8 rfl rfl)
theorem dX0_lives_76 : decode cX0_lives 76 = .ok (.iaload, 1) := dk_46 (dk_at dksX0_lives_3 9 rfl rfl)
theorem dX0_lives_77 : decode cX0_lives 77 = .ok (.iadd, 1) := dk_96 (dk_at dksX0_lives_3 10 rfl rfl)
theorem dX0_lives_78 : decode cX0_lives 78 = .ok (.istore 5, 2) := dk_54 5 (dk_at dksX0_lives_3 11 rfl rfl)
theorem dX0_lives_80 : decode cX0_lives 80 = .ok (.aload_n 0, 1) := dk_42 (dk_at dksX0_lives_3 13 rfl rfl)
theorem dX0_lives_81 : decode cX0_lives 81 = .ok (.iload_n 2, 1) := dk_28 (dk_at dksX0_lives_3 14 rfl rfl)
theorem dX0_lives_82 : decode cX0_lives 82 = .ok (.iload_n 3, 1) := dk_29 (dk_at dksX0_lives_3 15 rfl rfl)
theorem dX0_lives_83 : decode cX0_lives 83 = .ok (.iconst 0, 1) := dk_3 (dk_at dksX0_lives_3 16 rfl rfl)
theorem dX0_lives_84 : decode cX0_lives 84 = .ok (.iload 5, 2) := dk_21 5 (dk_at dksX0_lives_3 17 rfl rfl)
theorem dX0_lives_86 : decode cX0_lives 86 = .ok (.invokevirtual 191, 3) := dk_182 0 191 (dk_at dksX0_lives_3 19 rfl rfl)
theorem dX0_lives_89 : decode cX0_lives 89 = .ok (.istore 6, 2) := dk_54 6 (dk_at dksX0_lives_3 22 rfl rfl)
theorem dX0_lives_91 : decode cX0_lives 91 = .ok (.aload_n 0, 1) := dk_42 (dk_at dksX0_lives_4 0 rfl rfl)
theorem dX0_lives_92 : decode cX0_lives 92 = .ok (.iload_n 2, 1) := dk_28 (dk_at dksX0_lives_4 1 rfl rfl)
theorem dX0_lives_93 : decode cX0_lives 93 = .ok (.iload_n 3, 1) := dk_29 (dk_at dksX0_lives_4 2 rfl rfl)
theorem dX0_lives_94 : decode cX0_lives 94 = .ok (.iconst 1, 1) := dk_4 (dk_at dksX0_lives_4 3 rfl rfl)
theorem dX0_lives_95 : decode cX0_lives 95 = .ok (.iload 5, 2) := dk_21 5 (dk_at dksX0_lives_4 4 rfl rfl)
theorem dX0_lives_97 : decode cX0_lives 97 = .ok (.invokevirtual 191, 3) := dk_182 0 191 (dk_at dksX0_lives_4 6 rfl rfl)
theorem dX0_lives_100 : decode cX0_lives 100 = .ok (.istore 7, 2) := dk_54 7 (dk_at dksX0_lives_4 9 rfl rfl)
theorem dX0_lives_102 : decode cX0_lives 102 = .ok (.aload_n 0, 1) := dk_42 (dk_at dksX0_lives_4 11 rfl rfl)
theorem dX0_lives_103 : decode cX0_lives 103 = .ok (.aload_n 1, 1) := dk_43 (dk_at dksX0_lives_4 12 rfl rfl)
theorem dX0_lives_104 : decode cX0_lives 104 = .ok (.iload_n 2, 1) := dk_28 (dk_at dksX0_lives_4 13 rfl rfl)
theorem dX0_lives_105 : decode cX0_lives 105 = .ok (.iload_n 3, 1) := dk_29 (dk_at dksX0_lives_4 14 rfl rfl)
theorem dX0_lives_106 : decode cX0_lives 106 = .ok (.iload 4, 2) := dk_21 4 (dk_at dksX0_lives_4 15 rfl rfl)
theorem dX0_lives_108 : decode cX0_lives 108 = .ok (.iload 6, 2) := dk_21 6 (dk_at dksX0_lives_4 17 rfl rfl)
theorem dX0_lives_110 : decode cX0_lives 110 = .ok (.iload 7, 2) := dk_21 7 (dk_at dksX0_lives_4 19 rfl rfl)
theorem dX0_lives_112 : decode cX0_lives 112 = .ok (.invokevirtual 265, 3) := dk_182 1 9 (dk_at dksX0_lives_4 21 rfl rfl)
theorem dX0_lives_115 : decode cX0_lives 115 = .ok (.istore 8, 2) := dk_54 8 (dk_at dksX0_lives_5 0 rfl rfl)
theorem dX0_lives_117 : decode cX0_lives 117 = .ok (.iload 4, 2) := dk_21 4 (dk_at dksX0_lives_5 2 rfl rfl)
theorem dX0_lives_119 : decode cX0_lives 119 = .ok (.iload 8, 2) := dk_21 8 (dk_at dksX0_lives_5 4 rfl rfl)
theorem dX0_lives_121 : decode cX0_lives 121 = .ok (.ifCond .ne 8, 3) := dk_154 0 8 (dk_at dksX0_lives_5 6 rfl rfl)
theorem dX0_lives_124 : decode cX0_lives 124 = .ok (.iload 6, 2) := dk_21 6 (dk_at dksX0_lives_5 9 rfl rfl)
theorem dX0_lives_126 : decode cX0_lives 126 = .ok (.goto 5, 3) := dk_167 0 5 (dk_at dksX0_lives_5 11 rfl rfl)
theorem dX0_lives_129 : decode cX0_lives 129 = .ok (.iload 7, 2) := dk_21 7 (dk_at dksX0_lives_5 14 rfl rfl)
theorem dX0_lives_131 : decode cX0_lives 131 = .ok (.aload_n 0, 1) := dk_42 (dk_at dksX0_lives_5 16 rfl rfl)
theorem dX0_lives_132 : decode cX0_lives 132 = .ok (.getfield 35, 3) := dk_180 0 35 (dk_at dksX0_lives_5 17 rfl rfl)
theorem dX0_lives_135 : decode cX0_lives 135 = .ok (.invokevirtual 217, 3) := dk_182 0 217 (dk_at dksX0_lives_5 20 rfl rfl)
theorem dX0_lives_138 : decode cX0_lives 138 = .ok (.iadd, 1) := dk_96 (dk_at dksX0_lives_5 23 rfl rfl)
theorem dX0_lives_139 : decode cX0_lives 139 = .ok (.iadd, 1) := dk_96 (dk_at dksX0_lives_6 0 rfl rfl)
theorem dX0_lives_140 : decode cX0_lives 140 = .ok (.istore 4, 2) := dk_54 4 (dk_at dksX0_lives_6 1 rfl rfl)
theorem dX0_lives_142 : decode cX0_lives 142 = .ok (.iload 8, 2) := dk_21 8 (dk_at dksX0_lives_6 3 rfl rfl)
theorem dX0_lives_144 : decode cX0_lives 144 = .ok (.ifCond .ne 9, 3) := dk_154 0 9 (dk_at dksX0_lives_6 5 rfl rfl)
theorem dX0_lives_147 : decode cX0_lives 147 = .ok (.iinc 2 1, 3) := dk_132 2 1 (dk_at dksX0_lives_6 8 rfl rfl)
theorem dX0_lives_150 : decode cX0_lives 150 = .ok (.goto 6, 3) := dk_167 0 6 (dk_at dksX0_lives_6 11 rfl rfl)
theorem dX0_lives_153 : decode cX0_lives 153 = .ok (.iinc 3 1, 3) := dk_132 3 1 (dk_at dksX0_lives_6 14 rfl rfl)
theorem dX0_lives_156 : decode cX0_lives 156 = .ok (.goto (-101), 3) := dk_167 255 155 (dk_at dksX0_lives_6 17 rfl rfl)
theorem dX0_lives_159 : decode cX0_lives 159 = .ok (.iload 4, 2) := dk_21 4 (dk_at dksX0_lives_6 20 rfl rfl)
theorem dX0_lives_161 : decode cX0_lives 161 = .ok (.ireturn, 1) := dk_172 (dk_at dksX0_lives_6 22 rfl rfl)
abbrev cX0_draws : ByteArray := prog_1_method_71_code
def yX0_draws : MethodName := ⟨RX0, "draws", "(I)I"⟩
def dkwX0_draws_1 : List UInt8 := [20, 1, 192, 109, 27, 133, 113, 136, 172]
abbrev dktX0_draws_1 : List UInt8 := dkwX0_draws_1 ++ []
def dkwX0_draws_0 : List UInt8 := [42, 42, 180, 1, 183, 20, 1, 186, 105, 20, 1, 188, 97, 20, 1, 190, 113, 181, 1, 183, 42, 180, 1, 183]
abbrev dktX0_draws_0 : List UInt8 := dkwX0_draws_0 ++ dktX0_draws_1
theorem dksX0_draws_0 : cX0_draws.data.toList.drop 0 = dktX0_draws_0 := by decide +kernel
theorem dksX0_draws_1 : cX0_draws.data.toList.drop 24 = dktX0_draws_1 := dk_seg dksX0_draws_0 24 rfl rfl
theorem dX0_draws_0 : decode cX0_draws 0 = .ok (.aload_n 0, 1) := dk_42 (dk_at dksX0_draws_0 0 rfl rfl)
theorem dX0_draws_1 : decode cX0_draws 1 = .ok (.aload_n 0, 1) := dk_42 (dk_at dksX0_draws_0 1 rfl rfl)
theorem dX0_draws_2 : decode cX0_draws 2 = .ok (.getfield 439, 3) := dk_180 1 183 (dk_at dksX0_draws_0 2 rfl rfl)
theorem dX0_draws_5 : decode cX0_draws 5 = .ok (.ldc2_w 442, 3) := dk_20 1 186 (dk_at dksX0_draws_0 5 rfl rfl)
theorem dX0_draws_8 : decode cX0_draws 8 = .ok (.lmul, 1) := dk_105 (dk_at dksX0_draws_0 8 rfl rfl)
theorem dX0_draws_9 : decode cX0_draws 9 = .ok (.ldc2_w 444, 3) := dk_20 1 188 (dk_at dksX0_draws_0 9 rfl rfl)
theorem dX0_draws_12 : decode cX0_draws 12 = .ok (.ladd, 1) := dk_97 (dk_at dksX0_draws_0 12 rfl rfl)
theorem dX0_draws_13 : decode cX0_draws 13 = .ok (.ldc2_w 446, 3) := dk_20 1 190 (dk_at dksX0_draws_0 13 rfl rfl)
theorem dX0_draws_16 : decode cX0_draws 16 = .ok (.lrem, 1) := dk_113 (dk_at dksX0_draws_0 16 rfl rfl)
theorem dX0_draws_17 : decode cX0_draws 17 = .ok (.putfield 439, 3) := dk_181 1 183 (dk_at dksX0_draws_0 17 rfl rfl)
theorem dX0_draws_20 : decode cX0_draws 20 = .ok (.aload_n 0, 1) := dk_42 (dk_at dksX0_draws_0 20 rfl rfl)
theorem dX0_draws_21 : decode cX0_draws 21 = .ok (.getfield 439, 3) := dk_180 1 183 (dk_at dksX0_draws_0 21 rfl rfl)
theorem dX0_draws_24 : decode cX0_draws 24 = .ok (.ldc2_w 448, 3) := dk_20 1 192 (dk_at dksX0_draws_1 0 rfl rfl)
theorem dX0_draws_27 : decode cX0_draws 27 = .ok (.ldiv, 1) := dk_109 (dk_at dksX0_draws_1 3 rfl rfl)
theorem dX0_draws_28 : decode cX0_draws 28 = .ok (.iload_n 1, 1) := dk_27 (dk_at dksX0_draws_1 4 rfl rfl)
theorem dX0_draws_29 : decode cX0_draws 29 = .ok (.i2l, 1) := dk_133 (dk_at dksX0_draws_1 5 rfl rfl)
theorem dX0_draws_30 : decode cX0_draws 30 = .ok (.lrem, 1) := dk_113 (dk_at dksX0_draws_1 6 rfl rfl)
theorem dX0_draws_31 : decode cX0_draws 31 = .ok (.l2i, 1) := dk_136 (dk_at dksX0_draws_1 7 rfl rfl)
theorem dX0_draws_32 : decode cX0_draws 32 = .ok (.ireturn, 1) := dk_172 (dk_at dksX0_draws_1 8 rfl rfl)
abbrev cX0_mark : ByteArray := prog_1_method_74_code
def yX0_mark : MethodName := ⟨RX0, "mark", "(IZ)Z"⟩
def dkwX0_mark_3 : List UInt8 := [42, 180, 0, 93, 27, 50, 42, 180, 0, 49, 182, 1, 201, 4, 172]
abbrev dktX0_mark_3 : List UInt8 := dkwX0_mark_3 ++ []
def dkwX0_mark_2 : List UInt8 := [153, 0, 24, 42, 180, 0, 49, 42, 180, 0, 93, 27, 50, 182, 1, 201, 42, 3, 181, 0, 116, 167, 0, 16]
abbrev dktX0_mark_2 : List UInt8 := dkwX0_mark_2 ++ dktX0_mark_3
def dkwX0_mark_1 : List UInt8 := [42, 180, 0, 93, 27, 50, 199, 0, 16, 42, 180, 0, 93, 27, 187, 0, 46, 89, 183, 0, 48, 83, 28]
abbrev dktX0_mark_1 : List UInt8 := dkwX0_mark_1 ++ dktX0_mark_2
def dkwX0_mark_0 : List UInt8 := [27, 3, 6, 184, 0, 127, 153, 0, 16, 28, 153, 0, 14, 42, 180, 0, 93, 27, 50, 199, 0, 5, 3, 172]
abbrev dktX0_mark_0 : List UInt8 := dkwX0_mark_0 ++ dktX0_mark_1
theorem dksX0_mark_0 : cX0_mark.data.toList.drop 0 = dktX0_mark_0 := by decide +kernel
theorem dksX0_mark_1 : cX0_mark.data.toList.drop 24 = dktX0_mark_1 := dk_seg dksX0_mark_0 24 rfl rfl
theorem dksX0_mark_2 : cX0_mark.data.toList.drop 47 = dktX0_mark_2 := dk_seg dksX0_mark_1 23 rfl rfl
theorem dksX0_mark_3 : cX0_mark.data.toList.drop 71 = dktX0_mark_3 := dk_seg dksX0_mark_2 24 rfl rfl
theorem dX0_mark_0 : decode cX0_mark 0 = .ok (.iload_n 1, 1) := dk_27 (dk_at dksX0_mark_0 0 rfl rfl)
theorem dX0_mark_1 : decode cX0_mark 1 = .ok (.iconst 0, 1) := dk_3 (dk_at dksX0_mark_0 1 rfl rfl)
theorem dX0_mark_2 : decode cX0_mark 2 = .ok (.iconst 3, 1) := dk_6 (dk_at dksX0_mark_0 2 rfl rfl)
theorem dX0_mark_3 : decode cX0_mark 3 = .ok (.invokestatic 127, 3) := dk_184 0 127 (dk_at dksX0_mark_0 3 rfl rfl)
theorem dX0_mark_6 : decode cX0_mark 6 = .ok (.ifCond .eq 16, 3) := dk_153 0 16 (dk_at dksX0_mark_0 6 rfl rfl)
theorem dX0_mark_9 : decode cX0_mark 9 = .ok (.iload_n 2, 1) := dk_28 (dk_at dksX0_mark_0 9 rfl rfl)
theorem dX0_mark_10 : decode cX0_mark 10 = .ok (.ifCond .eq 14, 3) := dk_153 0 14 (dk_at dksX0_mark_0 10 rfl rfl)
theorem dX0_mark_13 : decode cX0_mark 13 = .ok (.aload_n 0, 1) := dk_42 (dk_at dksX0_mark_0 13 rfl rfl)
theorem dX0_mark_14 : decode cX0_mark 14 = .ok (.getfield 93, 3) := dk_180 0 93 (dk_at dksX0_mark_0 14 rfl rfl)
theorem dX0_mark_17 : decode cX0_mark 17 = .ok (.iload_n 1, 1) := dk_27 (dk_at dksX0_mark_0 17 rfl rfl)
theorem dX0_mark_18 : decode cX0_mark 18 = .ok (.aaload, 1) := dk_50 (dk_at dksX0_mark_0 18 rfl rfl)
theorem dX0_mark_19 : decode cX0_mark 19 = .ok (.ifnonnull 5, 3) := dk_199 0 5 (dk_at dksX0_mark_0 19 rfl rfl)
theorem dX0_mark_22 : decode cX0_mark 22 = .ok (.iconst 0, 1) := dk_3 (dk_at dksX0_mark_0 22 rfl rfl)
theorem dX0_mark_23 : decode cX0_mark 23 = .ok (.ireturn, 1) := dk_172 (dk_at dksX0_mark_0 23 rfl rfl)
theorem dX0_mark_24 : decode cX0_mark 24 = .ok (.aload_n 0, 1) := dk_42 (dk_at dksX0_mark_1 0 rfl rfl)
theorem dX0_mark_25 : decode cX0_mark 25 = .ok (.getfield 93, 3) := dk_180 0 93 (dk_at dksX0_mark_1 1 rfl rfl)
theorem dX0_mark_28 : decode cX0_mark 28 = .ok (.iload_n 1, 1) := dk_27 (dk_at dksX0_mark_1 4 rfl rfl)
theorem dX0_mark_29 : decode cX0_mark 29 = .ok (.aaload, 1) := dk_50 (dk_at dksX0_mark_1 5 rfl rfl)
theorem dX0_mark_30 : decode cX0_mark 30 = .ok (.ifnonnull 16, 3) := dk_199 0 16 (dk_at dksX0_mark_1 6 rfl rfl)
theorem dX0_mark_33 : decode cX0_mark 33 = .ok (.aload_n 0, 1) := dk_42 (dk_at dksX0_mark_1 9 rfl rfl)
theorem dX0_mark_34 : decode cX0_mark 34 = .ok (.getfield 93, 3) := dk_180 0 93 (dk_at dksX0_mark_1 10 rfl rfl)
theorem dX0_mark_37 : decode cX0_mark 37 = .ok (.iload_n 1, 1) := dk_27 (dk_at dksX0_mark_1 13 rfl rfl)
theorem dX0_mark_38 : decode cX0_mark 38 = .ok (.new 46, 3) := dk_187 0 46 (dk_at dksX0_mark_1 14 rfl rfl)
theorem dX0_mark_41 : decode cX0_mark 41 = .ok (.dup, 1) := dk_89 (dk_at dksX0_mark_1 17 rfl rfl)
theorem dX0_mark_42 : decode cX0_mark 42 = .ok (.invokespecial 48, 3) := dk_183 0 48 (dk_at dksX0_mark_1 18 rfl rfl)
theorem dX0_mark_45 : decode cX0_mark 45 = .ok (.aastore, 1) := dk_83 (dk_at dksX0_mark_1 21 rfl rfl)
theorem dX0_mark_46 : decode cX0_mark 46 = .ok (.iload_n 2, 1) := dk_28 (dk_at dksX0_mark_1 22 rfl rfl)
theorem dX0_mark_47 : decode cX0_mark 47 = .ok (.ifCond .eq 24, 3) := dk_153 0 24 (dk_at dksX0_mark_2 0 rfl rfl)
theorem dX0_mark_50 : decode cX0_mark 50 = .ok (.aload_n 0, 1) := dk_42 (dk_at dksX0_mark_2 3 rfl rfl)
theorem dX0_mark_51 : decode cX0_mark 51 = .ok (.getfield 49, 3) := dk_180 0 49 (dk_at dksX0_mark_2 4 rfl rfl)
theorem dX0_mark_54 : decode cX0_mark 54 = .ok (.aload_n 0, 1) := dk_42 (dk_at dksX0_mark_2 7 rfl rfl)
theorem dX0_mark_55 : decode cX0_mark 55 = .ok (.getfield 93, 3) := dk_180 0 93 (dk_at dksX0_mark_2 8 rfl rfl)
theorem dX0_mark_58 : decode cX0_mark 58 = .ok (.iload_n 1, 1) := dk_27 (dk_at dksX0_mark_2 11 rfl rfl)
theorem dX0_mark_59 : decode cX0_mark 59 = .ok (.aaload, 1) := dk_50 (dk_at dksX0_mark_2 12 rfl rfl)
theorem dX0_mark_60 : decode cX0_mark 60 = .ok (.invokevirtual 457, 3) := dk_182 1 201 (dk_at dksX0_mark_2 13 rfl rfl)
theorem dX0_mark_63 : decode cX0_mark 63 = .ok (.aload_n 0, 1) := dk_42 (dk_at dksX0_mark_2 16 rfl rfl)
theorem dX0_mark_64 : decode cX0_mark 64 = .ok (.iconst 0, 1) := dk_3 (dk_at dksX0_mark_2 17 rfl rfl)
theorem dX0_mark_65 : decode cX0_mark 65 = .ok (.putfield 116, 3) := dk_181 0 116 (dk_at dksX0_mark_2 18 rfl rfl)
theorem dX0_mark_68 : decode cX0_mark 68 = .ok (.goto 16, 3) := dk_167 0 16 (dk_at dksX0_mark_2 21 rfl rfl)
theorem dX0_mark_71 : decode cX0_mark 71 = .ok (.aload_n 0, 1) := dk_42 (dk_at dksX0_mark_3 0 rfl rfl)
theorem dX0_mark_72 : decode cX0_mark 72 = .ok (.getfield 93, 3) := dk_180 0 93 (dk_at dksX0_mark_3 1 rfl rfl)
theorem dX0_mark_75 : decode cX0_mark 75 = .ok (.iload_n 1, 1) := dk_27 (dk_at dksX0_mark_3 4 rfl rfl)
theorem dX0_mark_76 : decode cX0_mark 76 = .ok (.aaload, 1) := dk_50 (dk_at dksX0_mark_3 5 rfl rfl)
theorem dX0_mark_77 : decode cX0_mark 77 = .ok (.aload_n 0, 1) := dk_42 (dk_at dksX0_mark_3 6 rfl rfl)
theorem dX0_mark_78 : decode cX0_mark 78 = .ok (.getfield 49, 3) := dk_180 0 49 (dk_at dksX0_mark_3 7 rfl rfl)
theorem dX0_mark_81 : decode cX0_mark 81 = .ok (.invokevirtual 457, 3) := dk_182 1 201 (dk_at dksX0_mark_3 10 rfl rfl)
theorem dX0_mark_84 : decode cX0_mark 84 = .ok (.iconst 1, 1) := dk_4 (dk_at dksX0_mark_3 13 rfl rfl)
theorem dX0_mark_85 : decode cX0_mark 85 = .ok (.ireturn, 1) := dk_172 (dk_at dksX0_mark_3 14 rfl rfl)
abbrev cX0_count : ByteArray := prog_1_method_77_code
def yX0_count : MethodName := ⟨RX0, "count", "(I)I"⟩
def dkwX0_count_7 : List UInt8 := [180, 0, 96, 172, 2, 172]
abbrev dktX0_count_7 : List UInt8 := dkwX0_count_7 ++ []
def dkwX0_count_6 : List UInt8 := [172, 42, 180, 0, 49, 180, 1, 154, 172, 42, 180, 0, 35, 180, 0, 241, 172, 42, 180, 0, 116, 172, 42]
abbrev dktX0_count_6 : List UInt8 := dkwX0_count_6 ++ dktX0_count_7
def dkwX0_count_5 : List UInt8 := [182, 0, 209, 42, 180, 0, 49, 180, 0, 206, 100, 172, 42, 182, 1, 207, 172, 42, 180, 0, 49, 180, 1, 120]
abbrev dktX0_count_5 : List UInt8 := dkwX0_count_5 ++ dktX0_count_6
def dkwX0_count_4 : List UInt8 := [180, 0, 197, 172, 42, 180, 0, 49, 180, 0, 200, 172, 42, 180, 0, 49, 180, 0, 203, 172, 42, 180, 0, 35]
abbrev dktX0_count_4 : List UInt8 := dkwX0_count_4 ++ dktX0_count_5
def dkwX0_count_3 : List UInt8 := [180, 0, 35, 180, 1, 89, 182, 1, 70, 172, 42, 180, 0, 42, 180, 0, 225, 172, 42, 180, 0, 49]
abbrev dktX0_count_3 : List UInt8 := dkwX0_count_3 ++ dktX0_count_4
def dkwX0_count_2 : List UInt8 := [42, 180, 0, 35, 180, 0, 131, 172, 42, 180, 0, 35, 180, 0, 134, 172, 42, 182, 1, 204, 172, 42]
abbrev dktX0_count_2 : List UInt8 := dkwX0_count_2 ++ dktX0_count_3
def dkwX0_count_1 : List UInt8 := [170, 0, 0, 0, 0, 0, 194, 0, 0, 0, 0, 0, 0, 0, 14, 0, 0, 0, 75, 0, 0, 0, 83, 0, 0, 0, 91, 0, 0, 0, 96, 0, 0, 0, 107, 0, 0, 0, 115, 0, 0, 0, 123, 0, 0, 0, 131, 0, 0, 0, 139, 0, 0, 0, 155, 0, 0, 0, 160, 0, 0, 0, 168, 0, 0, 0, 176, 0, 0, 0, 184, 0, 0, 0, 189]
abbrev dktX0_count_1 : List UInt8 := dkwX0_count_1 ++ dktX0_count_2
def dkwX0_count_0 : List UInt8 := [27]
abbrev dktX0_count_0 : List UInt8 := dkwX0_count_0 ++ dktX0_count_1
theorem dksX0_count_0 : cX0_count.data.toList.drop 0 = dktX0_count_0 := by decide +kernel
theorem dksX0_count_1 : cX0_count.data.toList.drop 1 = dktX0_count_1 := dk_seg dksX0_count_0 1 rfl rfl
theorem dksX0_count_2 : cX0_count.data.toList.drop 76 = dktX0_count_2 := dk_seg dksX0_count_1 75 rfl rfl
theorem dksX0_count_3 : cX0_count.data.toList.drop 98 = dktX0_count_3 := dk_seg dksX0_count_2 22 rfl rfl
theorem dksX0_count_4 : cX0_count.data.toList.drop 120 = dktX0_count_4 := dk_seg dksX0_count_3 22 rfl rfl
theorem dksX0_count_5 : cX0_count.data.toList.drop 144 = dktX0_count_5 := dk_seg dksX0_count_4 24 rfl rfl
theorem dksX0_count_6 : cX0_count.data.toList.drop 168 = dktX0_count_6 := dk_seg dksX0_count_5 24 rfl rfl
theorem dksX0_count_7 : cX0_count.data.toList.drop 191 = dktX0_count_7 := dk_seg dksX0_count_6 23 rfl rfl
theorem dX0_count_0 : decode cX0_count 0 = .ok (.iload_n 1, 1) := dk_27 (dk_at dksX0_count_0 0 rfl rfl)
theorem dX0_count_1 : decode cX0_count 1 = .ok (.tableswitch 194 0 14 #[75, 83, 91, 96, 107, 115, 123, 131, 139, 155, 160, 168, 176, 184, 189], 75) := by decide +kernel
theorem dX0_count_76 : decode cX0_count 76 = .ok (.aload_n 0, 1) := dk_42 (dk_at dksX0_count_2 0 rfl rfl)
theorem dX0_count_77 : decode cX0_count 77 = .ok (.getfield 35, 3) := dk_180 0 35 (dk_at dksX0_count_2 1 rfl rfl)
theorem dX0_count_80 : decode cX0_count 80 = .ok (.getfield 131, 3) := dk_180 0 131 (dk_at dksX0_count_2 4 rfl rfl)
theorem dX0_count_83 : decode cX0_count 83 = .ok (.ireturn, 1) := dk_172 (dk_at dksX0_count_2 7 rfl rfl)
theorem dX0_count_84 : decode cX0_count 84 = .ok (.aload_n 0, 1) := dk_42 (dk_at dksX0_count_2 8 rfl rfl)
theorem dX0_count_85 : decode cX0_count 85 = .ok (.getfield 35, 3) := dk_180 0 35 (dk_at dksX0_count_2 9 rfl rfl)
theorem dX0_count_88 : decode cX0_count 88 = .ok (.getfield 134, 3) := dk_180 0 134 (dk_at dksX0_count_2 12 rfl rfl)
theorem dX0_count_91 : decode cX0_count 91 = .ok (.ireturn, 1) := dk_172 (dk_at dksX0_count_2 15 rfl rfl)
theorem dX0_count_92 : decode cX0_count 92 = .ok (.aload_n 0, 1) := dk_42 (dk_at dksX0_count_2 16 rfl rfl)
theorem dX0_count_93 : decode cX0_count 93 = .ok (.invokevirtual 460, 3) := dk_182 1 204 (dk_at dksX0_count_2 17 rfl rfl)
theorem dX0_count_96 : decode cX0_count 96 = .ok (.ireturn, 1) := dk_172 (dk_at dksX0_count_2 20 rfl rfl)
theorem dX0_count_97 : decode cX0_count 97 = .ok (.aload_n 0, 1) := dk_42 (dk_at dksX0_count_2 21 rfl rfl)
theorem dX0_count_98 : decode cX0_count 98 = .ok (.getfield 35, 3) := dk_180 0 35 (dk_at dksX0_count_3 0 rfl rfl)
theorem dX0_count_101 : decode cX0_count 101 = .ok (.getfield 345, 3) := dk_180 1 89 (dk_at dksX0_count_3 3 rfl rfl)
theorem dX0_count_104 : decode cX0_count 104 = .ok (.invokevirtual 326, 3) := dk_182 1 70 (dk_at dksX0_count_3 6 rfl rfl)
theorem dX0_count_107 : decode cX0_count 107 = .ok (.ireturn, 1) := dk_172 (dk_at dksX0_count_3 9 rfl rfl)
theorem dX0_count_108 : decode cX0_count 108 = .ok (.aload_n 0, 1) := dk_42 (dk_at dksX0_count_3 10 rfl rfl)
theorem dX0_count_109 : decode cX0_count 109 = .ok (.getfield 42, 3) := dk_180 0 42 (dk_at dksX0_count_3 11 rfl rfl)
theorem dX0_count_112 : decode cX0_count 112 = .ok (.getfield 225, 3) := dk_180 0 225 (dk_at dksX0_count_3 14 rfl rfl)
theorem dX0_count_115 : decode cX0_count 115 = .ok (.ireturn, 1) := dk_172 (dk_at dksX0_count_3 17 rfl rfl)
theorem dX0_count_116 : decode cX0_count 116 = .ok (.aload_n 0, 1) := dk_42 (dk_at dksX0_count_3 18 rfl rfl)
theorem dX0_count_117 : decode cX0_count 117 = .ok (.getfield 49, 3) := dk_180 0 49 (dk_at dksX0_count_3 19 rfl rfl)
theorem dX0_count_120 : decode cX0_count 120 = .ok (.getfield 197, 3) := dk_180 0 197 (dk_at dksX0_count_4 0 rfl rfl)
theorem dX0_count_123 : decode cX0_count 123 = .ok (.ireturn, 1) := dk_172 (dk_at dksX0_count_4 3 rfl rfl)
theorem dX0_count_124 : decode cX0_count 124 = .ok (.aload_n 0, 1) := dk_42 (dk_at dksX0_count_4 4 rfl rfl)
theorem dX0_count_125 : decode cX0_count 125 = .ok (.getfield 49, 3) := dk_180 0 49 (dk_at dksX0_count_4 5 rfl rfl)
theorem dX0_count_128 : decode cX0_count 128 = .ok (.getfield 200, 3) := dk_180 0 200 (dk_at dksX0_count_4 8 rfl rfl)
theorem dX0_count_131 : decode cX0_count 131 = .ok (.ireturn, 1) := dk_172 (dk_at dksX0_count_4 11 rfl rfl)
theorem dX0_count_132 : decode cX0_count 132 = .ok (.aload_n 0, 1) := dk_42 (dk_at dksX0_count_4 12 rfl rfl)
theorem dX0_count_133 : decode cX0_count 133 = .ok (.getfield 49, 3) := dk_180 0 49 (dk_at dksX0_count_4 13 rfl rfl)
theorem dX0_count_136 : decode cX0_count 136 = .ok (.getfield 203, 3) := dk_180 0 203 (dk_at dksX0_count_4 16 rfl rfl)
theorem dX0_count_139 : decode cX0_count 139 = .ok (.ireturn, 1) := dk_172 (dk_at dksX0_count_4 19 rfl rfl)
theorem dX0_count_140 : decode cX0_count 140 = .ok (.aload_n 0, 1) := dk_42 (dk_at dksX0_count_4 20 rfl rfl)
theorem dX0_count_141 : decode cX0_count 141 = .ok (.getfield 35, 3) := dk_180 0 35 (dk_at dksX0_count_4 21 rfl rfl)
theorem dX0_count_144 : decode cX0_count 144 = .ok (.invokevirtual 209, 3) := dk_182 0 209 (dk_at dksX0_count_5 0 rfl rfl)
theorem dX0_count_147 : decode cX0_count 147 = .ok (.aload_n 0, 1) := dk_42 (dk_at dksX0_count_5 3 rfl rfl)
theorem dX0_count_148 : decode cX0_count 148 = .ok (.getfield 49, 3) := dk_180 0 49 (dk_at dksX0_count_5 4 rfl rfl)
theorem dX0_count_151 : decode cX0_count 151 = .ok (.getfield 206, 3) := dk_180 0 206 (dk_at dksX0_count_5 7 rfl rfl)
theorem dX0_count_154 : decode cX0_count 154 = .ok (.isub, 1) := dk_100 (dk_at dksX0_count_5 10 rfl rfl)
theorem dX0_count_155 : decode cX0_count 155 = .ok (.ireturn, 1) := dk_172 (dk_at dksX0_count_5 11 rfl rfl)
theorem dX0_count_156 : decode cX0_count 156 = .ok (.aload_n 0, 1) := dk_42 (dk_at dksX0_count_5 12 rfl rfl)
theorem dX0_count_157 : decode cX0_count 157 = .ok (.invokevirtual 463, 3) := dk_182 1 207 (dk_at dksX0_count_5 13 rfl rfl)
theorem dX0_count_160 : decode cX0_count 160 = .ok (.ireturn, 1) := dk_172 (dk_at dksX0_count_5 16 rfl rfl)
theorem dX0_count_161 : decode cX0_count 161 = .ok (.aload_n 0, 1) := dk_42 (dk_at dksX0_count_5 17 rfl rfl)
theorem dX0_count_162 : decode cX0_count 162 = .ok (.getfield 49, 3) := dk_180 0 49 (dk_at dksX0_count_5 18 rfl rfl)
theorem dX0_count_165 : decode cX0_count 165 = .ok (.getfield 376, 3) := dk_180 1 120 (dk_at dksX0_count_5 21 rfl rfl)
theorem dX0_count_168 : decode cX0_count 168 = .ok (.ireturn, 1) := dk_172 (dk_at dksX0_count_6 0 rfl rfl)
theorem dX0_count_169 : decode cX0_count 169 = .ok (.aload_n 0, 1) := dk_42 (dk_at dksX0_count_6 1 rfl rfl)
theorem dX0_count_170 : decode cX0_count 170 = .ok (.getfield 49, 3) := dk_180 0 49 (dk_at dksX0_count_6 2 rfl rfl)
theorem dX0_count_173 : decode cX0_count 173 = .ok (.getfield 410, 3) := dk_180 1 154 (dk_at dksX0_count_6 5 rfl rfl)
theorem dX0_count_176 : decode cX0_count 176 = .ok (.ireturn, 1) := dk_172 (dk_at dksX0_count_6 8 rfl rfl)
theorem dX0_count_177 : decode cX0_count 177 = .ok (.aload_n 0, 1) := dk_42 (dk_at dksX0_count_6 9 rfl rfl)
theorem dX0_count_178 : decode cX0_count 178 = .ok (.getfield 35, 3) := dk_180 0 35 (dk_at dksX0_count_6 10 rfl rfl)
theorem dX0_count_181 : decode cX0_count 181 = .ok (.getfield 241, 3) := dk_180 0 241 (dk_at dksX0_count_6 13 rfl rfl)
theorem dX0_count_184 : decode cX0_count 184 = .ok (.ireturn, 1) := dk_172 (dk_at dksX0_count_6 16 rfl rfl)
theorem dX0_count_185 : decode cX0_count 185 = .ok (.aload_n 0, 1) := dk_42 (dk_at dksX0_count_6 17 rfl rfl)
theorem dX0_count_186 : decode cX0_count 186 = .ok (.getfield 116, 3) := dk_180 0 116 (dk_at dksX0_count_6 18 rfl rfl)
theorem dX0_count_189 : decode cX0_count 189 = .ok (.ireturn, 1) := dk_172 (dk_at dksX0_count_6 21 rfl rfl)
theorem dX0_count_190 : decode cX0_count 190 = .ok (.aload_n 0, 1) := dk_42 (dk_at dksX0_count_6 22 rfl rfl)
theorem dX0_count_191 : decode cX0_count 191 = .ok (.getfield 96, 3) := dk_180 0 96 (dk_at dksX0_count_7 0 rfl rfl)
theorem dX0_count_194 : decode cX0_count 194 = .ok (.ireturn, 1) := dk_172 (dk_at dksX0_count_7 3 rfl rfl)
theorem dX0_count_195 : decode cX0_count 195 = .ok (.iconst (-1), 1) := dk_2 (dk_at dksX0_count_7 4 rfl rfl)
theorem dX0_count_196 : decode cX0_count 196 = .ok (.ireturn, 1) := dk_172 (dk_at dksX0_count_7 5 rfl rfl)
abbrev cX0_lights : ByteArray := prog_1_method_75_code
def yX0_lights : MethodName := ⟨RX0, "lights", "()I"⟩
def dkwX0_lights_1 : List UInt8 := [132, 1, 1, 132, 2, 1, 167, 255, 232, 27, 172]
abbrev dktX0_lights_1 : List UInt8 := dkwX0_lights_1 ++ []
def dkwX0_lights_0 : List UInt8 := [3, 60, 3, 61, 28, 16, 54, 162, 0, 24, 42, 180, 0, 35, 180, 0, 122, 28, 50, 198, 0, 6]
abbrev dktX0_lights_0 : List UInt8 := dkwX0_lights_0 ++ dktX0_lights_1
theorem dksX0_lights_0 : cX0_lights.data.toList.drop 0 = dktX0_lights_0 := by decide +kernel
theorem dksX0_lights_1 : cX0_lights.data.toList.drop 22 = dktX0_lights_1 := dk_seg dksX0_lights_0 22 rfl rfl
theorem dX0_lights_0 : decode cX0_lights 0 = .ok (.iconst 0, 1) := dk_3 (dk_at dksX0_lights_0 0 rfl rfl)
theorem dX0_lights_1 : decode cX0_lights 1 = .ok (.istore_n 1, 1) := dk_60 (dk_at dksX0_lights_0 1 rfl rfl)
theorem dX0_lights_2 : decode cX0_lights 2 = .ok (.iconst 0, 1) := dk_3 (dk_at dksX0_lights_0 2 rfl rfl)
theorem dX0_lights_3 : decode cX0_lights 3 = .ok (.istore_n 2, 1) := dk_61 (dk_at dksX0_lights_0 3 rfl rfl)
theorem dX0_lights_4 : decode cX0_lights 4 = .ok (.iload_n 2, 1) := dk_28 (dk_at dksX0_lights_0 4 rfl rfl)
theorem dX0_lights_5 : decode cX0_lights 5 = .ok (.bipush 54, 2) := dk_16 54 (dk_at dksX0_lights_0 5 rfl rfl)
theorem dX0_lights_7 : decode cX0_lights 7 = .ok (.if_icmp .ge 24, 3) := dk_162 0 24 (dk_at dksX0_lights_0 7 rfl rfl)
theorem dX0_lights_10 : decode cX0_lights 10 = .ok (.aload_n 0, 1) := dk_42 (dk_at dksX0_lights_0 10 rfl rfl)
theorem dX0_lights_11 : decode cX0_lights 11 = .ok (.getfield 35, 3) := dk_180 0 35 (dk_at dksX0_lights_0 11 rfl rfl)
theorem dX0_lights_14 : decode cX0_lights 14 = .ok (.getfield 122, 3) := dk_180 0 122 (dk_at dksX0_lights_0 14 rfl rfl)
theorem dX0_lights_17 : decode cX0_lights 17 = .ok (.iload_n 2, 1) := dk_28 (dk_at dksX0_lights_0 17 rfl rfl)
theorem dX0_lights_18 : decode cX0_lights 18 = .ok (.aaload, 1) := dk_50 (dk_at dksX0_lights_0 18 rfl rfl)
theorem dX0_lights_19 : decode cX0_lights 19 = .ok (.ifnull 6, 3) := dk_198 0 6 (dk_at dksX0_lights_0 19 rfl rfl)
theorem dX0_lights_22 : decode cX0_lights 22 = .ok (.iinc 1 1, 3) := dk_132 1 1 (dk_at dksX0_lights_1 0 rfl rfl)
theorem dX0_lights_25 : decode cX0_lights 25 = .ok (.iinc 2 1, 3) := dk_132 2 1 (dk_at dksX0_lights_1 3 rfl rfl)
theorem dX0_lights_28 : decode cX0_lights 28 = .ok (.goto (-24), 3) := dk_167 255 232 (dk_at dksX0_lights_1 6 rfl rfl)
theorem dX0_lights_31 : decode cX0_lights 31 = .ok (.iload_n 1, 1) := dk_27 (dk_at dksX0_lights_1 9 rfl rfl)
theorem dX0_lights_32 : decode cX0_lights 32 = .ok (.ireturn, 1) := dk_172 (dk_at dksX0_lights_1 10 rfl rfl)
abbrev cX0_unknown : ByteArray := prog_1_method_76_code
def yX0_unknown : MethodName := ⟨RX0, "unknown", "()I"⟩
def dkwX0_unknown_1 : List UInt8 := [167, 255, 236, 27, 172]
abbrev dktX0_unknown_1 : List UInt8 := dkwX0_unknown_1 ++ []
def dkwX0_unknown_0 : List UInt8 := [3, 60, 3, 61, 28, 16, 54, 162, 0, 20, 42, 28, 182, 0, 222, 153, 0, 6, 132, 1, 1, 132, 2, 1]
abbrev dktX0_unknown_0 : List UInt8 := dkwX0_unknown_0 ++ dktX0_unknown_1
theorem dksX0_unknown_0 : cX0_unknown.data.toList.drop 0 = dktX0_unknown_0 := by decide +kernel
theorem dksX0_unknown_1 : cX0_unknown.data.toList.drop 24 = dktX0_unknown_1 := dk_seg dksX0_unknown_0 24 rfl rfl
theorem dX0_unknown_0 : decode cX0_unknown 0 = .ok (.iconst 0, 1) := dk_3 (dk_at dksX0_unknown_0 0 rfl rfl)
theorem dX0_unknown_1 : decode cX0_unknown 1 = .ok (.istore_n 1, 1) := dk_60 (dk_at dksX0_unknown_0 1 rfl rfl)
theorem dX0_unknown_2 : decode cX0_unknown 2 = .ok (.iconst 0, 1) := dk_3 (dk_at dksX0_unknown_0 2 rfl rfl)
theorem dX0_unknown_3 : decode cX0_unknown 3 = .ok (.istore_n 2, 1) := dk_61 (dk_at dksX0_unknown_0 3 rfl rfl)
theorem dX0_unknown_4 : decode cX0_unknown 4 = .ok (.iload_n 2, 1) := dk_28 (dk_at dksX0_unknown_0 4 rfl rfl)
theorem dX0_unknown_5 : decode cX0_unknown 5 = .ok (.bipush 54, 2) := dk_16 54 (dk_at dksX0_unknown_0 5 rfl rfl)
theorem dX0_unknown_7 : decode cX0_unknown 7 = .ok (.if_icmp .ge 20, 3) := dk_162 0 20 (dk_at dksX0_unknown_0 7 rfl rfl)
theorem dX0_unknown_10 : decode cX0_unknown 10 = .ok (.aload_n 0, 1) := dk_42 (dk_at dksX0_unknown_0 10 rfl rfl)
theorem dX0_unknown_11 : decode cX0_unknown 11 = .ok (.iload_n 2, 1) := dk_28 (dk_at dksX0_unknown_0 11 rfl rfl)
theorem dX0_unknown_12 : decode cX0_unknown 12 = .ok (.invokevirtual 222, 3) := dk_182 0 222 (dk_at dksX0_unknown_0 12 rfl rfl)
theorem dX0_unknown_15 : decode cX0_unknown 15 = .ok (.ifCond .eq 6, 3) := dk_153 0 6 (dk_at dksX0_unknown_0 15 rfl rfl)
theorem dX0_unknown_18 : decode cX0_unknown 18 = .ok (.iinc 1 1, 3) := dk_132 1 1 (dk_at dksX0_unknown_0 18 rfl rfl)
theorem dX0_unknown_21 : decode cX0_unknown 21 = .ok (.iinc 2 1, 3) := dk_132 2 1 (dk_at dksX0_unknown_0 21 rfl rfl)
theorem dX0_unknown_24 : decode cX0_unknown 24 = .ok (.goto (-20), 3) := dk_167 255 236 (dk_at dksX0_unknown_1 0 rfl rfl)
theorem dX0_unknown_27 : decode cX0_unknown 27 = .ok (.iload_n 1, 1) := dk_27 (dk_at dksX0_unknown_1 3 rfl rfl)
theorem dX0_unknown_28 : decode cX0_unknown 28 = .ok (.ireturn, 1) := dk_172 (dk_at dksX0_unknown_1 4 rfl rfl)
theorem q136 : (Jvm.Cond.initialized "OverFirst") ∈ lw_all := lw_g (lw_at lw_m1 1 rfl) rfl
theorem q178 : (Jvm.Cond.instantiable "OverFirst" (28 : Nat)) ∈ lw_all := lw_g (lw_at lw_m1 43 rfl) rfl
theorem q180 : (Jvm.Cond.instanceMethod ({ cls := "OverFirst", name := "<init>", desc := "()V" } : Jvm.MethodName)) ∈ lw_all := lw_g (lw_at lw_m1 45 rfl) rfl
theorem q181 : (Jvm.Cond.code ({ cls := "OverFirst", name := "<init>", desc := "()V" } : Jvm.MethodName) prog_1_method_5_code (1 : Nat) (Option.none : Option Jvm.ClassFile.FieldType)) ∈ lw_all := lw_g (lw_at lw_m1 46 rfl) rfl
theorem q182 : (Jvm.Cond.methodLink "OverFirst" (18 : Nat) ({ cls := "java/lang/Object", name := "<init>", desc := "()V" } : Jvm.MethodName)) ∈ lw_all := lw_g (lw_at lw_m1 47 rfl) rfl
theorem q185 : (Jvm.Cond.classLink "OverFirst" (25 : Nat) "OverFirst$Reader") ∈ lw_all := lw_g (lw_at lw_m1 50 rfl) rfl
theorem q187 : (Jvm.Cond.methodLinkNest "OverFirst" (27 : Nat) ({ cls := "OverFirst$Reader", name := "<init>", desc := "()V" } : Jvm.MethodName) "OverFirst") ∈ lw_tbl := lw_at lw_m1 52 rfl
theorem q217 : (Jvm.Cond.classLink "OverFirst" (32 : Nat) "OverFirst$Town") ∈ lw_all := lw_g (lw_at lw_m1 82 rfl) rfl
theorem q219 : (Jvm.Cond.methodLink "OverFirst" (34 : Nat) ({ cls := "OverFirst$Town", name := "<init>", desc := "()V" } : Jvm.MethodName)) ∈ lw_all := lw_g (lw_at lw_m1 84 rfl) rfl
theorem q301 : (Jvm.Cond.selects "OverFirst" ({ cls := "java/lang/Object", name := "getClass", desc := "()Ljava/lang/Class;" } : Jvm.MethodName) ({ cls := "java/lang/Object", name := "getClass", desc := "()Ljava/lang/Class;" } : Jvm.MethodName)) ∈ lw_all := lw_g (lw_at lw_m1 166 rfl) rfl
theorem q351 : (Jvm.Cond.fieldLinkNest "OverFirst" (131 : Nat) "OverFirst$Town" "wide" "I" "OverFirst") ∈ lw_tbl := lw_at lw_m1 216 rfl
theorem q354 : (Jvm.Cond.fieldLinkNest "OverFirst" (134 : Nat) "OverFirst$Town" "deep" "I" "OverFirst") ∈ lw_tbl := lw_at lw_m1 219 rfl
theorem q366 : (Jvm.Cond.fieldLinkNest "OverFirst" (241 : Nat) "OverFirst$Town" "common" "I" "OverFirst") ∈ lw_tbl := lw_at lw_m1 231 rfl
theorem q371 : (Jvm.Cond.fieldLinkNest "OverFirst" (122 : Nat) "OverFirst$Town" "light" "[LOverFirst$Light;" "OverFirst") ∈ lw_tbl := lw_at lw_m1 236 rfl
theorem q374 : (Jvm.Cond.fieldLinkNest "OverFirst" (153 : Nat) "OverFirst$Town" "bar" "[I" "OverFirst") ∈ lw_tbl := lw_at lw_m1 239 rfl
theorem q378 : (Jvm.Cond.fieldLinkNest "OverFirst" (345 : Nat) "OverFirst$Town" "names" "Ljava/util/ArrayList;" "OverFirst") ∈ lw_tbl := lw_at lw_m2 3 rfl
theorem q381 : (Jvm.Cond.fieldLinkNest "OverFirst" (291 : Nat) "OverFirst$Town" "goers" "Ljava/util/ArrayList;" "OverFirst") ∈ lw_tbl := lw_at lw_m2 6 rfl
theorem q409 : (Jvm.Cond.classLink "OverFirst" (39 : Nat) "OverFirst$Walk") ∈ lw_all := lw_g (lw_at lw_m2 34 rfl) rfl
theorem q411 : (Jvm.Cond.methodLinkNest "OverFirst" (41 : Nat) ({ cls := "OverFirst$Walk", name := "<init>", desc := "()V" } : Jvm.MethodName) "OverFirst") ∈ lw_tbl := lw_at lw_m2 36 rfl
theorem q417 : (Jvm.Cond.fieldLinkNest "OverFirst" (228 : Nat) "OverFirst$Walk" "way" "[I" "OverFirst") ∈ lw_tbl := lw_at lw_m2 42 rfl
theorem q420 : (Jvm.Cond.fieldLinkNest "OverFirst" (231 : Nat) "OverFirst$Walk" "second" "[I" "OverFirst") ∈ lw_tbl := lw_at lw_m2 45 rfl
theorem q422 : (Jvm.Cond.fieldLinkNest "OverFirst" (225 : Nat) "OverFirst$Walk" "many" "I" "OverFirst") ∈ lw_tbl := lw_at lw_m2 47 rfl
theorem q430 : (Jvm.Cond.classLink "OverFirst" (46 : Nat) "OverFirst$State") ∈ lw_all := lw_g (lw_at lw_m2 55 rfl) rfl
theorem q432 : (Jvm.Cond.methodLinkNest "OverFirst" (48 : Nat) ({ cls := "OverFirst$State", name := "<init>", desc := "()V" } : Jvm.MethodName) "OverFirst") ∈ lw_tbl := lw_at lw_m2 57 rfl
theorem q437 : (Jvm.Cond.fieldLinkNest "OverFirst" (197 : Nat) "OverFirst$State" "x" "I" "OverFirst") ∈ lw_tbl := lw_at lw_m2 62 rfl
theorem q439 : (Jvm.Cond.fieldLinkNest "OverFirst" (200 : Nat) "OverFirst$State" "y" "I" "OverFirst") ∈ lw_tbl := lw_at lw_m2 64 rfl
theorem q441 : (Jvm.Cond.fieldLinkNest "OverFirst" (203 : Nat) "OverFirst$State" "second" "I" "OverFirst") ∈ lw_tbl := lw_at lw_m2 66 rfl
theorem q443 : (Jvm.Cond.fieldLinkNest "OverFirst" (206 : Nat) "OverFirst$State" "runs" "I" "OverFirst") ∈ lw_tbl := lw_at lw_m2 68 rfl
theorem q445 : (Jvm.Cond.fieldLinkNest "OverFirst" (376 : Nat) "OverFirst$State" "tried" "I" "OverFirst") ∈ lw_tbl := lw_at lw_m2 70 rfl
theorem q447 : (Jvm.Cond.fieldLinkNest "OverFirst" (410 : Nat) "OverFirst$State" "was" "I" "OverFirst") ∈ lw_tbl := lw_at lw_m2 72 rfl
theorem q449 : (Jvm.Cond.fieldLinkNest "OverFirst" (169 : Nat) "OverFirst$State" "known" "[Z" "OverFirst") ∈ lw_tbl := lw_at lw_m2 74 rfl
theorem q451 : (Jvm.Cond.fieldLinkNest "OverFirst" (382 : Nat) "OverFirst$State" "pressed" "[Z" "OverFirst") ∈ lw_tbl := lw_at lw_m2 76 rfl
theorem q453 : (Jvm.Cond.fieldLinkNest "OverFirst" (379 : Nat) "OverFirst$State" "triedAt" "[I" "OverFirst") ∈ lw_tbl := lw_at lw_m2 78 rfl
theorem q455 : (Jvm.Cond.fieldLinkNest "OverFirst" (385 : Nat) "OverFirst$State" "waited" "[I" "OverFirst") ∈ lw_tbl := lw_at lw_m2 80 rfl
theorem q457 : (Jvm.Cond.fieldLinkNest "OverFirst" (413 : Nat) "OverFirst$State" "wasAt" "[I" "OverFirst") ∈ lw_tbl := lw_at lw_m2 82 rfl
theorem q459 : (Jvm.Cond.fieldLinkNest "OverFirst" (416 : Nat) "OverFirst$State" "wasWhen" "[I" "OverFirst") ∈ lw_tbl := lw_at lw_m2 84 rfl
theorem q487 : (Jvm.Cond.constant "OverFirst" (57 : Nat) (64800 : Int32)) ∈ lw_all := lw_g (lw_at lw_m2 112 rfl) rfl
theorem q488 : (Jvm.Cond.constant "OverFirst" (69 : Nat) (63234 : Int32)) ∈ lw_all := lw_g (lw_at lw_m2 113 rfl) rfl
theorem q489 : (Jvm.Cond.constant "OverFirst" (73 : Nat) (163940 : Int32)) ∈ lw_all := lw_g (lw_at lw_m2 114 rfl) rfl
theorem q490 : (Jvm.Cond.fieldLink "OverFirst" (21 : Nat) "OverFirst" "tape" "[B") ∈ lw_all := lw_g (lw_at lw_m2 115 rfl) rfl
theorem q491 : (Jvm.Cond.fieldLink "OverFirst" (28 : Nat) "OverFirst" "reader" "LOverFirst$Reader;") ∈ lw_all := lw_g (lw_at lw_m2 116 rfl) rfl
theorem q492 : (Jvm.Cond.fieldLink "OverFirst" (35 : Nat) "OverFirst" "town" "LOverFirst$Town;") ∈ lw_all := lw_g (lw_at lw_m2 117 rfl) rfl
theorem q493 : (Jvm.Cond.fieldLink "OverFirst" (42 : Nat) "OverFirst" "walk" "LOverFirst$Walk;") ∈ lw_all := lw_g (lw_at lw_m2 118 rfl) rfl
theorem q494 : (Jvm.Cond.fieldLink "OverFirst" (49 : Nat) "OverFirst" "state" "LOverFirst$State;") ∈ lw_all := lw_g (lw_at lw_m2 119 rfl) rfl
theorem q495 : (Jvm.Cond.fieldLink "OverFirst" (96 : Nat) "OverFirst" "taped" "I") ∈ lw_all := lw_g (lw_at lw_m2 120 rfl) rfl
theorem q496 : (Jvm.Cond.fieldLink "OverFirst" (53 : Nat) "OverFirst" "undone" "[LOverFirst$State;") ∈ lw_all := lw_g (lw_at lw_m2 121 rfl) rfl
theorem q497 : (Jvm.Cond.fieldLink "OverFirst" (116 : Nat) "OverFirst" "done" "I") ∈ lw_all := lw_g (lw_at lw_m2 122 rfl) rfl
theorem q498 : (Jvm.Cond.fieldLink "OverFirst" (58 : Nat) "OverFirst" "takes" "[I") ∈ lw_all := lw_g (lw_at lw_m2 123 rfl) rfl
theorem q499 : (Jvm.Cond.fieldLink "OverFirst" (284 : Nat) "OverFirst" "areTold" "Z") ∈ lw_all := lw_g (lw_at lw_m2 124 rfl) rfl
theorem q500 : (Jvm.Cond.fieldLink "OverFirst" (237 : Nat) "OverFirst" "isWorst" "Z") ∈ lw_all := lw_g (lw_at lw_m2 125 rfl) rfl
theorem q501 : (Jvm.Cond.fieldLink "OverFirst" (62 : Nat) "OverFirst" "watched" "I") ∈ lw_all := lw_g (lw_at lw_m2 126 rfl) rfl
theorem q502 : (Jvm.Cond.fieldLink "OverFirst" (281 : Nat) "OverFirst" "stands" "I") ∈ lw_all := lw_g (lw_at lw_m2 127 rfl) rfl
theorem q503 : (Jvm.Cond.fieldLink "OverFirst" (66 : Nat) "OverFirst" "comes" "[I") ∈ lw_all := lw_g (lw_at lw_m2 128 rfl) rfl
theorem q504 : (Jvm.Cond.fieldLink "OverFirst" (70 : Nat) "OverFirst" "odds" "[I") ∈ lw_all := lw_g (lw_at lw_m2 129 rfl) rfl
theorem q505 : (Jvm.Cond.fieldLink "OverFirst" (74 : Nat) "OverFirst" "paces" "[I") ∈ lw_all := lw_g (lw_at lw_m2 130 rfl) rfl
theorem q506 : (Jvm.Cond.fieldLink "OverFirst" (77 : Nat) "OverFirst" "greens" "[J") ∈ lw_all := lw_g (lw_at lw_m2 131 rfl) rfl
theorem q507 : (Jvm.Cond.fieldLink "OverFirst" (81 : Nat) "OverFirst" "backs" "[J") ∈ lw_all := lw_g (lw_at lw_m2 132 rfl) rfl
theorem q508 : (Jvm.Cond.fieldLink "OverFirst" (84 : Nat) "OverFirst" "begins" "[I") ∈ lw_all := lw_g (lw_at lw_m2 133 rfl) rfl
theorem q509 : (Jvm.Cond.fieldLink "OverFirst" (87 : Nat) "OverFirst" "bestBegins" "[I") ∈ lw_all := lw_g (lw_at lw_m2 134 rfl) rfl
theorem q510 : (Jvm.Cond.fieldLink "OverFirst" (396 : Nat) "OverFirst" "bestWave" "I") ∈ lw_all := lw_g (lw_at lw_m2 135 rfl) rfl
theorem q511 : (Jvm.Cond.fieldLink "OverFirst" (422 : Nat) "OverFirst" "fits" "I") ∈ lw_all := lw_g (lw_at lw_m2 136 rfl) rfl
theorem q512 : (Jvm.Cond.fieldLink "OverFirst" (425 : Nat) "OverFirst" "firstFit" "I") ∈ lw_all := lw_g (lw_at lw_m2 137 rfl) rfl
theorem q513 : (Jvm.Cond.fieldLink "OverFirst" (428 : Nat) "OverFirst" "onAll" "J") ∈ lw_all := lw_g (lw_at lw_m2 138 rfl) rfl
theorem q514 : (Jvm.Cond.fieldLink "OverFirst" (432 : Nat) "OverFirst" "onAllHigh" "J") ∈ lw_all := lw_g (lw_at lw_m2 139 rfl) rfl
theorem q515 : (Jvm.Cond.fieldLink "OverFirst" (439 : Nat) "OverFirst" "g" "J") ∈ lw_all := lw_g (lw_at lw_m2 140 rfl) rfl
theorem q516 : (Jvm.Cond.fieldLink "OverFirst" (90 : Nat) "OverFirst" "shift" "[I") ∈ lw_all := lw_g (lw_at lw_m2 141 rfl) rfl
theorem q517 : (Jvm.Cond.fieldLink "OverFirst" (93 : Nat) "OverFirst" "marks" "[LOverFirst$State;") ∈ lw_all := lw_g (lw_at lw_m2 142 rfl) rfl
theorem q518 : (Jvm.Cond.laysFinal "OverFirst" "OverFirst" "tape" "[B") ∈ lw_all := lw_g (lw_at lw_m2 143 rfl) rfl
theorem q519 : (Jvm.Cond.soleField "OverFirst" "tape") ∈ lw_all := lw_g (lw_at lw_m2 144 rfl) rfl
theorem q520 : (Jvm.Cond.laysFinal "OverFirst" "OverFirst" "reader" "LOverFirst$Reader;") ∈ lw_all := lw_g (lw_at lw_m2 145 rfl) rfl
theorem q521 : (Jvm.Cond.soleField "OverFirst" "reader") ∈ lw_all := lw_g (lw_at lw_m2 146 rfl) rfl
theorem q522 : (Jvm.Cond.lays "OverFirst" "OverFirst" "town" "LOverFirst$Town;") ∈ lw_all := lw_g (lw_at lw_m2 147 rfl) rfl
theorem q523 : (Jvm.Cond.soleField "OverFirst" "town") ∈ lw_all := lw_g (lw_at lw_m2 148 rfl) rfl
theorem q524 : (Jvm.Cond.lays "OverFirst" "OverFirst" "walk" "LOverFirst$Walk;") ∈ lw_all := lw_g (lw_at lw_m2 149 rfl) rfl
theorem q525 : (Jvm.Cond.soleField "OverFirst" "walk") ∈ lw_all := lw_g (lw_at lw_m2 150 rfl) rfl
theorem q526 : (Jvm.Cond.laysFinal "OverFirst" "OverFirst" "state" "LOverFirst$State;") ∈ lw_all := lw_g (lw_at lw_m2 151 rfl) rfl
theorem q527 : (Jvm.Cond.soleField "OverFirst" "state") ∈ lw_all := lw_g (lw_at lw_m2 152 rfl) rfl
theorem q528 : (Jvm.Cond.lays "OverFirst" "OverFirst" "taped" "I") ∈ lw_all := lw_g (lw_at lw_m2 153 rfl) rfl
theorem q529 : (Jvm.Cond.soleField "OverFirst" "taped") ∈ lw_all := lw_g (lw_at lw_m2 154 rfl) rfl
theorem q530 : (Jvm.Cond.laysFinal "OverFirst" "OverFirst" "undone" "[LOverFirst$State;") ∈ lw_all := lw_g (lw_at lw_m2 155 rfl) rfl
theorem q531 : (Jvm.Cond.soleField "OverFirst" "undone") ∈ lw_all := lw_g (lw_at lw_m2 156 rfl) rfl
theorem q532 : (Jvm.Cond.lays "OverFirst" "OverFirst" "done" "I") ∈ lw_all := lw_g (lw_at lw_m2 157 rfl) rfl
theorem q533 : (Jvm.Cond.soleField "OverFirst" "done") ∈ lw_all := lw_g (lw_at lw_m2 158 rfl) rfl
theorem q534 : (Jvm.Cond.laysFinal "OverFirst" "OverFirst" "takes" "[I") ∈ lw_all := lw_g (lw_at lw_m2 159 rfl) rfl
theorem q535 : (Jvm.Cond.soleField "OverFirst" "takes") ∈ lw_all := lw_g (lw_at lw_m2 160 rfl) rfl
theorem q536 : (Jvm.Cond.lays "OverFirst" "OverFirst" "areTold" "Z") ∈ lw_all := lw_g (lw_at lw_m2 161 rfl) rfl
theorem q537 : (Jvm.Cond.soleField "OverFirst" "areTold") ∈ lw_all := lw_g (lw_at lw_m2 162 rfl) rfl
theorem q538 : (Jvm.Cond.lays "OverFirst" "OverFirst" "isWorst" "Z") ∈ lw_all := lw_g (lw_at lw_m2 163 rfl) rfl
theorem q539 : (Jvm.Cond.soleField "OverFirst" "isWorst") ∈ lw_all := lw_g (lw_at lw_m2 164 rfl) rfl
theorem q540 : (Jvm.Cond.lays "OverFirst" "OverFirst" "watched" "I") ∈ lw_all := lw_g (lw_at lw_m2 165 rfl) rfl
theorem q541 : (Jvm.Cond.soleField "OverFirst" "watched") ∈ lw_all := lw_g (lw_at lw_m2 166 rfl) rfl
theorem q542 : (Jvm.Cond.lays "OverFirst" "OverFirst" "stands" "I") ∈ lw_all := lw_g (lw_at lw_m2 167 rfl) rfl
theorem q543 : (Jvm.Cond.soleField "OverFirst" "stands") ∈ lw_all := lw_g (lw_at lw_m2 168 rfl) rfl
theorem q544 : (Jvm.Cond.laysFinal "OverFirst" "OverFirst" "comes" "[I") ∈ lw_all := lw_g (lw_at lw_m2 169 rfl) rfl
theorem q545 : (Jvm.Cond.soleField "OverFirst" "comes") ∈ lw_all := lw_g (lw_at lw_m2 170 rfl) rfl
theorem q546 : (Jvm.Cond.laysFinal "OverFirst" "OverFirst" "odds" "[I") ∈ lw_all := lw_g (lw_at lw_m2 171 rfl) rfl
theorem q547 : (Jvm.Cond.soleField "OverFirst" "odds") ∈ lw_all := lw_g (lw_at lw_m2 172 rfl) rfl
theorem q548 : (Jvm.Cond.laysFinal "OverFirst" "OverFirst" "paces" "[I") ∈ lw_all := lw_g (lw_at lw_m2 173 rfl) rfl
theorem q549 : (Jvm.Cond.soleField "OverFirst" "paces") ∈ lw_all := lw_g (lw_at lw_m2 174 rfl) rfl
theorem q550 : (Jvm.Cond.laysFinal "OverFirst" "OverFirst" "greens" "[J") ∈ lw_all := lw_g (lw_at lw_m2 175 rfl) rfl
theorem q551 : (Jvm.Cond.soleField "OverFirst" "greens") ∈ lw_all := lw_g (lw_at lw_m2 176 rfl) rfl
theorem q552 : (Jvm.Cond.laysFinal "OverFirst" "OverFirst" "backs" "[J") ∈ lw_all := lw_g (lw_at lw_m2 177 rfl) rfl
theorem q553 : (Jvm.Cond.soleField "OverFirst" "backs") ∈ lw_all := lw_g (lw_at lw_m2 178 rfl) rfl
theorem q554 : (Jvm.Cond.laysFinal "OverFirst" "OverFirst" "begins" "[I") ∈ lw_all := lw_g (lw_at lw_m2 179 rfl) rfl
theorem q555 : (Jvm.Cond.soleField "OverFirst" "begins") ∈ lw_all := lw_g (lw_at lw_m2 180 rfl) rfl
theorem q556 : (Jvm.Cond.laysFinal "OverFirst" "OverFirst" "bestBegins" "[I") ∈ lw_all := lw_g (lw_at lw_m2 181 rfl) rfl
theorem q557 : (Jvm.Cond.soleField "OverFirst" "bestBegins") ∈ lw_all := lw_g (lw_at lw_m2 182 rfl) rfl
theorem q558 : (Jvm.Cond.lays "OverFirst" "OverFirst" "bestWave" "I") ∈ lw_all := lw_g (lw_at lw_m2 183 rfl) rfl
theorem q559 : (Jvm.Cond.soleField "OverFirst" "bestWave") ∈ lw_all := lw_g (lw_at lw_m2 184 rfl) rfl
theorem q560 : (Jvm.Cond.lays "OverFirst" "OverFirst" "fits" "I") ∈ lw_all := lw_g (lw_at lw_m2 185 rfl) rfl
theorem q561 : (Jvm.Cond.soleField "OverFirst" "fits") ∈ lw_all := lw_g (lw_at lw_m2 186 rfl) rfl
theorem q562 : (Jvm.Cond.lays "OverFirst" "OverFirst" "firstFit" "I") ∈ lw_all := lw_g (lw_at lw_m2 187 rfl) rfl
theorem q563 : (Jvm.Cond.soleField "OverFirst" "firstFit") ∈ lw_all := lw_g (lw_at lw_m2 188 rfl) rfl
theorem q564 : (Jvm.Cond.lays "OverFirst" "OverFirst" "onAll" "J") ∈ lw_all := lw_g (lw_at lw_m2 189 rfl) rfl
theorem q565 : (Jvm.Cond.soleField "OverFirst" "onAll") ∈ lw_all := lw_g (lw_at lw_m2 190 rfl) rfl
theorem q566 : (Jvm.Cond.lays "OverFirst" "OverFirst" "onAllHigh" "J") ∈ lw_all := lw_g (lw_at lw_m2 191 rfl) rfl
theorem q567 : (Jvm.Cond.soleField "OverFirst" "onAllHigh") ∈ lw_all := lw_g (lw_at lw_m2 192 rfl) rfl
theorem q568 : (Jvm.Cond.lays "OverFirst" "OverFirst" "g" "J") ∈ lw_all := lw_g (lw_at lw_m2 193 rfl) rfl
theorem q569 : (Jvm.Cond.soleField "OverFirst" "g") ∈ lw_all := lw_g (lw_at lw_m2 194 rfl) rfl
theorem q570 : (Jvm.Cond.laysFinal "OverFirst" "OverFirst" "shift" "[I") ∈ lw_all := lw_g (lw_at lw_m2 195 rfl) rfl
theorem q571 : (Jvm.Cond.soleField "OverFirst" "shift") ∈ lw_all := lw_g (lw_at lw_m2 196 rfl) rfl
theorem q572 : (Jvm.Cond.laysFinal "OverFirst" "OverFirst" "marks" "[LOverFirst$State;") ∈ lw_all := lw_g (lw_at lw_m2 197 rfl) rfl
theorem q573 : (Jvm.Cond.soleField "OverFirst" "marks") ∈ lw_all := lw_g (lw_at lw_m2 198 rfl) rfl
theorem q574 : (Jvm.Cond.superclass "OverFirst" "java/lang/Object") ∈ lw_all := lw_g (lw_at lw_m2 199 rfl) rfl
theorem q577 : (Jvm.Cond.instanceMethod ({ cls := "OverFirst", name := "feed", desc := "(JJJ)I" } : Jvm.MethodName)) ∈ lw_all := lw_g (lw_at lw_m2 202 rfl) rfl
theorem q578 : (Jvm.Cond.selects "OverFirst" ({ cls := "OverFirst", name := "feed", desc := "(JJJ)I" } : Jvm.MethodName) ({ cls := "OverFirst", name := "feed", desc := "(JJJ)I" } : Jvm.MethodName)) ∈ lw_all := lw_g (lw_at lw_m2 203 rfl) rfl
theorem q579 : (Jvm.Cond.code ({ cls := "OverFirst", name := "feed", desc := "(JJJ)I" } : Jvm.MethodName) prog_1_method_6_code (9 : Nat) (Option.some Jvm.ClassFile.FieldType.int)) ∈ lw_all := lw_g (lw_at lw_m2 204 rfl) rfl
theorem q581 : (Jvm.Cond.instanceMethod ({ cls := "OverFirst", name := "town", desc := "()I" } : Jvm.MethodName)) ∈ lw_all := lw_g (lw_at lw_m2 206 rfl) rfl
theorem q582 : (Jvm.Cond.selects "OverFirst" ({ cls := "OverFirst", name := "town", desc := "()I" } : Jvm.MethodName) ({ cls := "OverFirst", name := "town", desc := "()I" } : Jvm.MethodName)) ∈ lw_all := lw_g (lw_at lw_m2 207 rfl) rfl
theorem q583 : (Jvm.Cond.codeWith ({ cls := "OverFirst", name := "town", desc := "()I" } : Jvm.MethodName) prog_1_method_8_code (2 : Nat) (Option.some Jvm.ClassFile.FieldType.int) [((4 : Nat), (15 : Nat), (18 : Nat), (109 : Nat))]) ∈ lw_all := lw_g (lw_at lw_m2 208 rfl) rfl
theorem q584 : (Jvm.Cond.classLink "OverFirst" (109 : Nat) "OverFirst$Wrong") ∈ lw_all := lw_g (lw_at lw_m2 209 rfl) rfl
theorem q585 : (Jvm.Cond.methodLink "OverFirst" (103 : Nat) ({ cls := "OverFirst", name := "reads", desc := "()V" } : Jvm.MethodName)) ∈ lw_all := lw_g (lw_at lw_m2 210 rfl) rfl
theorem q586 : (Jvm.Cond.privateMethod ({ cls := "OverFirst", name := "reads", desc := "()V" } : Jvm.MethodName)) ∈ lw_tbl := lw_at lw_m2 211 rfl
theorem q587 : (Jvm.Cond.instanceMethod ({ cls := "OverFirst", name := "reads", desc := "()V" } : Jvm.MethodName)) ∈ lw_all := lw_g (lw_at lw_m2 212 rfl) rfl
theorem q588 : (Jvm.Cond.code ({ cls := "OverFirst", name := "reads", desc := "()V" } : Jvm.MethodName) prog_1_method_7_code (1 : Nat) (Option.none : Option Jvm.ClassFile.FieldType)) ∈ lw_all := lw_g (lw_at lw_m2 213 rfl) rfl
theorem q589 : (Jvm.Cond.methodLink "OverFirst" (99 : Nat) ({ cls := "OverFirst$Reader", name := "begin", desc := "([BI)V" } : Jvm.MethodName)) ∈ lw_all := lw_g (lw_at lw_m2 214 rfl) rfl
theorem q690 : (Jvm.Cond.methodLink "OverFirst" (106 : Nat) ({ cls := "OverFirst$Reader", name := "town", desc := "()LOverFirst$Town;" } : Jvm.MethodName)) ∈ lw_all := lw_g (lw_at lw_m3 75 rfl) rfl
theorem q787 : (Jvm.Cond.fieldLinkNest "OverFirst" (111 : Nat) "OverFirst$Wrong" "fault" "I" "OverFirst") ∈ lw_tbl := lw_at lw_m3 172 rfl
theorem q837 : (Jvm.Cond.static ({ cls := "OverFirst", name := "in", desc := "(III)Z" } : Jvm.MethodName)) ∈ lw_all := lw_g (lw_at lw_m3 222 rfl) rfl
theorem q838 : (Jvm.Cond.code ({ cls := "OverFirst", name := "in", desc := "(III)Z" } : Jvm.MethodName) prog_1_method_1_code (3 : Nat) (Option.some Jvm.ClassFile.FieldType.boolean)) ∈ lw_all := lw_g (lw_at lw_m3 223 rfl) rfl
theorem q842 : (Jvm.Cond.static ({ cls := "OverFirst", name := "gcd", desc := "(II)I" } : Jvm.MethodName)) ∈ lw_all := lw_g (lw_at lw_m3 227 rfl) rfl
theorem q843 : (Jvm.Cond.code ({ cls := "OverFirst", name := "gcd", desc := "(II)I" } : Jvm.MethodName) prog_1_method_2_code (2 : Nat) (Option.some Jvm.ClassFile.FieldType.int)) ∈ lw_all := lw_g (lw_at lw_m3 228 rfl) rfl
theorem q844 : (Jvm.Cond.methodLink "OverFirst" (5 : Nat) ({ cls := "OverFirst", name := "gcd", desc := "(II)I" } : Jvm.MethodName)) ∈ lw_all := lw_g (lw_at lw_m3 229 rfl) rfl
theorem q859 : (Jvm.Cond.fieldLink "OverFirst" (160 : Nat) "OverFirst$Light" "round" "I") ∈ lw_all := lw_g (lw_at lw_m4 4 rfl) rfl
theorem q865 : (Jvm.Cond.fieldLink "OverFirst" (163 : Nat) "OverFirst$Light" "over" "I") ∈ lw_all := lw_g (lw_at lw_m4 10 rfl) rfl
theorem q869 : (Jvm.Cond.fieldLink "OverFirst" (166 : Nat) "OverFirst$Light" "length" "I") ∈ lw_all := lw_g (lw_at lw_m4 14 rfl) rfl
theorem q1175 : (Jvm.Cond.methodLink "OverFirst" (114 : Nat) ({ cls := "OverFirst$State", name := "begin", desc := "()V" } : Jvm.MethodName)) ∈ lw_all := lw_g (lw_at lw_m5 80 rfl) rfl
theorem q1180 : (Jvm.Cond.instanceMethod ({ cls := "OverFirst", name := "walk", desc := "()I" } : Jvm.MethodName)) ∈ lw_all := lw_g (lw_at lw_m5 85 rfl) rfl
theorem q1181 : (Jvm.Cond.selects "OverFirst" ({ cls := "OverFirst", name := "walk", desc := "()I" } : Jvm.MethodName) ({ cls := "OverFirst", name := "walk", desc := "()I" } : Jvm.MethodName)) ∈ lw_all := lw_g (lw_at lw_m5 86 rfl) rfl
theorem q1182 : (Jvm.Cond.codeWith ({ cls := "OverFirst", name := "walk", desc := "()I" } : Jvm.MethodName) prog_1_method_9_code (2 : Nat) (Option.some Jvm.ClassFile.FieldType.int) [((4 : Nat), (19 : Nat), (22 : Nat), (109 : Nat))]) ∈ lw_all := lw_g (lw_at lw_m5 87 rfl) rfl
theorem q1183 : (Jvm.Cond.methodLink "OverFirst" (119 : Nat) ({ cls := "OverFirst$Reader", name := "walk", desc := "(LOverFirst$Town;)LOverFirst$Walk;" } : Jvm.MethodName)) ∈ lw_all := lw_g (lw_at lw_m5 88 rfl) rfl
theorem q1194 : (Jvm.Cond.instanceMethod ({ cls := "OverFirst", name := "light", desc := "(III)I" } : Jvm.MethodName)) ∈ lw_all := lw_g (lw_at lw_m5 99 rfl) rfl
theorem q1195 : (Jvm.Cond.selects "OverFirst" ({ cls := "OverFirst", name := "light", desc := "(III)I" } : Jvm.MethodName) ({ cls := "OverFirst", name := "light", desc := "(III)I" } : Jvm.MethodName)) ∈ lw_all := lw_g (lw_at lw_m5 100 rfl) rfl
theorem q1196 : (Jvm.Cond.code ({ cls := "OverFirst", name := "light", desc := "(III)I" } : Jvm.MethodName) prog_1_method_15_code (5 : Nat) (Option.some Jvm.ClassFile.FieldType.int)) ∈ lw_all := lw_g (lw_at lw_m5 101 rfl) rfl
theorem q1197 : (Jvm.Cond.methodLink "OverFirst" (149 : Nat) ({ cls := "OverFirst$Town", name := "isCorner", desc := "(II)Z" } : Jvm.MethodName)) ∈ lw_all := lw_g (lw_at lw_m5 102 rfl) rfl
theorem q1202 : (Jvm.Cond.methodLink "OverFirst" (127 : Nat) ({ cls := "OverFirst", name := "in", desc := "(III)Z" } : Jvm.MethodName)) ∈ lw_all := lw_g (lw_at lw_m5 107 rfl) rfl
theorem q1203 : (Jvm.Cond.methodLink "OverFirst" (140 : Nat) ({ cls := "OverFirst", name := "lightAt", desc := "(II)LOverFirst$Light;" } : Jvm.MethodName)) ∈ lw_all := lw_g (lw_at lw_m5 108 rfl) rfl
theorem q1204 : (Jvm.Cond.privateMethod ({ cls := "OverFirst", name := "lightAt", desc := "(II)LOverFirst$Light;" } : Jvm.MethodName)) ∈ lw_tbl := lw_at lw_m5 109 rfl
theorem q1205 : (Jvm.Cond.instanceMethod ({ cls := "OverFirst", name := "lightAt", desc := "(II)LOverFirst$Light;" } : Jvm.MethodName)) ∈ lw_all := lw_g (lw_at lw_m5 110 rfl) rfl
theorem q1206 : (Jvm.Cond.code ({ cls := "OverFirst", name := "lightAt", desc := "(II)LOverFirst$Light;" } : Jvm.MethodName) prog_1_method_10_code (3 : Nat) (Option.some (Jvm.ClassFile.FieldType.object "OverFirst$Light"))) ∈ lw_all := lw_g (lw_at lw_m5 111 rfl) rfl
theorem q1207 : (Jvm.Cond.methodLink "OverFirst" (156 : Nat) ({ cls := "OverFirst$Light", name := "kind", desc := "()I" } : Jvm.MethodName)) ∈ lw_all := lw_g (lw_at lw_m5 112 rfl) rfl
theorem q1223 : (Jvm.Cond.instanceMethod ({ cls := "OverFirst", name := "green", desc := "(IIII)I" } : Jvm.MethodName)) ∈ lw_all := lw_g (lw_at lw_m5 128 rfl) rfl
theorem q1224 : (Jvm.Cond.selects "OverFirst" ({ cls := "OverFirst", name := "green", desc := "(IIII)I" } : Jvm.MethodName) ({ cls := "OverFirst", name := "green", desc := "(IIII)I" } : Jvm.MethodName)) ∈ lw_all := lw_g (lw_at lw_m5 129 rfl) rfl
theorem q1225 : (Jvm.Cond.code ({ cls := "OverFirst", name := "green", desc := "(IIII)I" } : Jvm.MethodName) prog_1_method_17_code (7 : Nat) (Option.some Jvm.ClassFile.FieldType.int)) ∈ lw_all := lw_g (lw_at lw_m5 130 rfl) rfl
theorem q1226 : (Jvm.Cond.methodLink "OverFirst" (177 : Nat) ({ cls := "OverFirst", name := "until", desc := "(IIII)I" } : Jvm.MethodName)) ∈ lw_all := lw_g (lw_at lw_m5 131 rfl) rfl
theorem q1227 : (Jvm.Cond.instanceMethod ({ cls := "OverFirst", name := "until", desc := "(IIII)I" } : Jvm.MethodName)) ∈ lw_all := lw_g (lw_at lw_m5 132 rfl) rfl
theorem q1228 : (Jvm.Cond.selects "OverFirst" ({ cls := "OverFirst", name := "until", desc := "(IIII)I" } : Jvm.MethodName) ({ cls := "OverFirst", name := "until", desc := "(IIII)I" } : Jvm.MethodName)) ∈ lw_all := lw_g (lw_at lw_m5 133 rfl) rfl
theorem q1229 : (Jvm.Cond.code ({ cls := "OverFirst", name := "until", desc := "(IIII)I" } : Jvm.MethodName) prog_1_method_18_code (5 : Nat) (Option.some Jvm.ClassFile.FieldType.int)) ∈ lw_all := lw_g (lw_at lw_m5 134 rfl) rfl
theorem q1230 : (Jvm.Cond.methodLink "OverFirst" (185 : Nat) ({ cls := "OverFirst", name := "isAsked", desc := "(III)Z" } : Jvm.MethodName)) ∈ lw_all := lw_g (lw_at lw_m5 135 rfl) rfl
theorem q1231 : (Jvm.Cond.privateMethod ({ cls := "OverFirst", name := "isAsked", desc := "(III)Z" } : Jvm.MethodName)) ∈ lw_tbl := lw_at lw_m5 136 rfl
theorem q1232 : (Jvm.Cond.instanceMethod ({ cls := "OverFirst", name := "isAsked", desc := "(III)Z" } : Jvm.MethodName)) ∈ lw_all := lw_g (lw_at lw_m5 137 rfl) rfl
theorem q1233 : (Jvm.Cond.code ({ cls := "OverFirst", name := "isAsked", desc := "(III)Z" } : Jvm.MethodName) prog_1_method_16_code (4 : Nat) (Option.some Jvm.ClassFile.FieldType.boolean)) ∈ lw_all := lw_g (lw_at lw_m5 138 rfl) rfl
theorem q1234 : (Jvm.Cond.methodLink "OverFirst" (173 : Nat) ({ cls := "OverFirst", name := "isSecond", desc := "(I)Z" } : Jvm.MethodName)) ∈ lw_all := lw_g (lw_at lw_m5 139 rfl) rfl
theorem q1235 : (Jvm.Cond.static ({ cls := "OverFirst", name := "isSecond", desc := "(I)Z" } : Jvm.MethodName)) ∈ lw_all := lw_g (lw_at lw_m5 140 rfl) rfl
theorem q1236 : (Jvm.Cond.code ({ cls := "OverFirst", name := "isSecond", desc := "(I)Z" } : Jvm.MethodName) prog_1_method_11_code (1 : Nat) (Option.some Jvm.ClassFile.FieldType.boolean)) ∈ lw_all := lw_g (lw_at lw_m5 141 rfl) rfl
theorem q1237 : (Jvm.Cond.constant "OverFirst" (126 : Nat) (1000000 : Int32)) ∈ lw_all := lw_g (lw_at lw_m5 142 rfl) rfl
theorem q1238 : (Jvm.Cond.methodLink "OverFirst" (188 : Nat) ({ cls := "OverFirst", name := "isWay", desc := "(I)Z" } : Jvm.MethodName)) ∈ lw_all := lw_g (lw_at lw_m5 143 rfl) rfl
theorem q1239 : (Jvm.Cond.static ({ cls := "OverFirst", name := "isWay", desc := "(I)Z" } : Jvm.MethodName)) ∈ lw_all := lw_g (lw_at lw_m5 144 rfl) rfl
theorem q1240 : (Jvm.Cond.code ({ cls := "OverFirst", name := "isWay", desc := "(I)Z" } : Jvm.MethodName) prog_1_method_12_code (1 : Nat) (Option.some Jvm.ClassFile.FieldType.boolean)) ∈ lw_all := lw_g (lw_at lw_m5 145 rfl) rfl
theorem q1241 : (Jvm.Cond.methodLink "OverFirst" (191 : Nat) ({ cls := "OverFirst", name := "waits", desc := "(IIII)I" } : Jvm.MethodName)) ∈ lw_all := lw_g (lw_at lw_m5 146 rfl) rfl
theorem q1242 : (Jvm.Cond.privateMethod ({ cls := "OverFirst", name := "waits", desc := "(IIII)I" } : Jvm.MethodName)) ∈ lw_tbl := lw_at lw_m5 147 rfl
theorem q1243 : (Jvm.Cond.instanceMethod ({ cls := "OverFirst", name := "waits", desc := "(IIII)I" } : Jvm.MethodName)) ∈ lw_all := lw_g (lw_at lw_m5 148 rfl) rfl
theorem q1244 : (Jvm.Cond.code ({ cls := "OverFirst", name := "waits", desc := "(IIII)I" } : Jvm.MethodName) prog_1_method_14_code (6 : Nat) (Option.some Jvm.ClassFile.FieldType.int)) ∈ lw_all := lw_g (lw_at lw_m5 149 rfl) rfl
theorem q1245 : (Jvm.Cond.methodLink "OverFirst" (137 : Nat) ({ cls := "OverFirst$Town", name := "leads", desc := "(III)Z" } : Jvm.MethodName)) ∈ lw_all := lw_g (lw_at lw_m5 150 rfl) rfl
theorem q1246 : (Jvm.Cond.methodLink "OverFirst" (144 : Nat) ({ cls := "OverFirst$Light", name := "waits", desc := "(II)I" } : Jvm.MethodName)) ∈ lw_all := lw_g (lw_at lw_m5 151 rfl) rfl
theorem q1259 : (Jvm.Cond.methodLink "OverFirst" (181 : Nat) ({ cls := "OverFirst$Light", name := "isButton", desc := "()Z" } : Jvm.MethodName)) ∈ lw_all := lw_g (lw_at lw_m5 164 rfl) rfl
theorem q1271 : (Jvm.Cond.instanceMethod ({ cls := "OverFirst", name := "go", desc := "(IZ)I" } : Jvm.MethodName)) ∈ lw_all := lw_g (lw_at lw_m5 176 rfl) rfl
theorem q1272 : (Jvm.Cond.selects "OverFirst" ({ cls := "OverFirst", name := "go", desc := "(IZ)I" } : Jvm.MethodName) ({ cls := "OverFirst", name := "go", desc := "(IZ)I" } : Jvm.MethodName)) ∈ lw_all := lw_g (lw_at lw_m5 177 rfl) rfl
theorem q1273 : (Jvm.Cond.code ({ cls := "OverFirst", name := "go", desc := "(IZ)I" } : Jvm.MethodName) prog_1_method_20_code (4 : Nat) (Option.some Jvm.ClassFile.FieldType.int)) ∈ lw_all := lw_g (lw_at lw_m5 178 rfl) rfl
theorem q1274 : (Jvm.Cond.methodLink "OverFirst" (209 : Nat) ({ cls := "OverFirst$Town", name := "runs", desc := "()I" } : Jvm.MethodName)) ∈ lw_all := lw_g (lw_at lw_m5 179 rfl) rfl
theorem q1278 : (Jvm.Cond.methodLink "OverFirst" (211 : Nat) ({ cls := "OverFirst", name := "keeps", desc := "()V" } : Jvm.MethodName)) ∈ lw_all := lw_g (lw_at lw_m5 183 rfl) rfl
theorem q1279 : (Jvm.Cond.privateMethod ({ cls := "OverFirst", name := "keeps", desc := "()V" } : Jvm.MethodName)) ∈ lw_tbl := lw_at lw_m5 184 rfl
theorem q1280 : (Jvm.Cond.instanceMethod ({ cls := "OverFirst", name := "keeps", desc := "()V" } : Jvm.MethodName)) ∈ lw_all := lw_g (lw_at lw_m5 185 rfl) rfl
theorem q1281 : (Jvm.Cond.code ({ cls := "OverFirst", name := "keeps", desc := "()V" } : Jvm.MethodName) prog_1_method_19_code (3 : Nat) (Option.none : Option Jvm.ClassFile.FieldType)) ∈ lw_all := lw_g (lw_at lw_m5 186 rfl) rfl
theorem q1282 : (Jvm.Cond.methodLink "OverFirst" (193 : Nat) ({ cls := "OverFirst$State", name := "go", desc := "(LOverFirst$State;)V" } : Jvm.MethodName)) ∈ lw_all := lw_g (lw_at lw_m5 187 rfl) rfl
theorem q1286 : (Jvm.Cond.methodLink "OverFirst" (214 : Nat) ({ cls := "OverFirst$Town", name := "run", desc := "()I" } : Jvm.MethodName)) ∈ lw_all := lw_g (lw_at lw_m5 191 rfl) rfl
theorem q1294 : (Jvm.Cond.methodLink "OverFirst" (217 : Nat) ({ cls := "OverFirst$Town", name := "walk", desc := "()I" } : Jvm.MethodName)) ∈ lw_all := lw_g (lw_at lw_m5 199 rfl) rfl
theorem q1296 : (Jvm.Cond.instanceMethod ({ cls := "OverFirst", name := "stay", desc := "(I)I" } : Jvm.MethodName)) ∈ lw_all := lw_g (lw_at lw_m5 201 rfl) rfl
theorem q1297 : (Jvm.Cond.selects "OverFirst" ({ cls := "OverFirst", name := "stay", desc := "(I)I" } : Jvm.MethodName) ({ cls := "OverFirst", name := "stay", desc := "(I)I" } : Jvm.MethodName)) ∈ lw_all := lw_g (lw_at lw_m5 202 rfl) rfl
theorem q1298 : (Jvm.Cond.code ({ cls := "OverFirst", name := "stay", desc := "(I)I" } : Jvm.MethodName) prog_1_method_21_code (2 : Nat) (Option.some Jvm.ClassFile.FieldType.int)) ∈ lw_all := lw_g (lw_at lw_m5 203 rfl) rfl
theorem q1300 : (Jvm.Cond.instanceMethod ({ cls := "OverFirst", name := "look", desc := "()Z" } : Jvm.MethodName)) ∈ lw_all := lw_g (lw_at lw_m5 205 rfl) rfl
theorem q1301 : (Jvm.Cond.selects "OverFirst" ({ cls := "OverFirst", name := "look", desc := "()Z" } : Jvm.MethodName) ({ cls := "OverFirst", name := "look", desc := "()Z" } : Jvm.MethodName)) ∈ lw_all := lw_g (lw_at lw_m5 206 rfl) rfl
theorem q1302 : (Jvm.Cond.code ({ cls := "OverFirst", name := "look", desc := "()Z" } : Jvm.MethodName) prog_1_method_23_code (2 : Nat) (Option.some Jvm.ClassFile.FieldType.boolean)) ∈ lw_all := lw_g (lw_at lw_m5 207 rfl) rfl
theorem q1303 : (Jvm.Cond.methodLink "OverFirst" (222 : Nat) ({ cls := "OverFirst", name := "isUnknown", desc := "(I)Z" } : Jvm.MethodName)) ∈ lw_all := lw_g (lw_at lw_m5 208 rfl) rfl
theorem q1304 : (Jvm.Cond.privateMethod ({ cls := "OverFirst", name := "isUnknown", desc := "(I)Z" } : Jvm.MethodName)) ∈ lw_tbl := lw_at lw_m5 209 rfl
theorem q1305 : (Jvm.Cond.instanceMethod ({ cls := "OverFirst", name := "isUnknown", desc := "(I)Z" } : Jvm.MethodName)) ∈ lw_all := lw_g (lw_at lw_m5 210 rfl) rfl
theorem q1306 : (Jvm.Cond.code ({ cls := "OverFirst", name := "isUnknown", desc := "(I)Z" } : Jvm.MethodName) prog_1_method_22_code (2 : Nat) (Option.some Jvm.ClassFile.FieldType.boolean)) ∈ lw_all := lw_g (lw_at lw_m5 211 rfl) rfl
theorem q1307 : (Jvm.Cond.methodLink "OverFirst" (219 : Nat) ({ cls := "OverFirst$Light", name := "isHidden", desc := "()Z" } : Jvm.MethodName)) ∈ lw_all := lw_g (lw_at lw_m5 212 rfl) rfl
theorem q1318 : (Jvm.Cond.instanceMethod ({ cls := "OverFirst", name := "undo", desc := "()Z" } : Jvm.MethodName)) ∈ lw_all := lw_g (lw_at lw_m5 223 rfl) rfl
theorem q1319 : (Jvm.Cond.selects "OverFirst" ({ cls := "OverFirst", name := "undo", desc := "()Z" } : Jvm.MethodName) ({ cls := "OverFirst", name := "undo", desc := "()Z" } : Jvm.MethodName)) ∈ lw_all := lw_g (lw_at lw_m5 224 rfl) rfl
theorem q1320 : (Jvm.Cond.code ({ cls := "OverFirst", name := "undo", desc := "()Z" } : Jvm.MethodName) prog_1_method_24_code (1 : Nat) (Option.some Jvm.ClassFile.FieldType.boolean)) ∈ lw_all := lw_g (lw_at lw_m5 225 rfl) rfl
theorem q1322 : (Jvm.Cond.instanceMethod ({ cls := "OverFirst", name := "judged", desc := "()I" } : Jvm.MethodName)) ∈ lw_all := lw_g (lw_at lw_m5 227 rfl) rfl
theorem q1323 : (Jvm.Cond.selects "OverFirst" ({ cls := "OverFirst", name := "judged", desc := "()I" } : Jvm.MethodName) ({ cls := "OverFirst", name := "judged", desc := "()I" } : Jvm.MethodName)) ∈ lw_all := lw_g (lw_at lw_m5 228 rfl) rfl
theorem q1324 : (Jvm.Cond.code ({ cls := "OverFirst", name := "judged", desc := "()I" } : Jvm.MethodName) prog_1_method_26_code (5 : Nat) (Option.some Jvm.ClassFile.FieldType.int)) ∈ lw_all := lw_g (lw_at lw_m5 229 rfl) rfl
theorem q1325 : (Jvm.Cond.methodLink "OverFirst" (233 : Nat) ({ cls := "OverFirst", name := "isSo", desc := "(IIIII)Z" } : Jvm.MethodName)) ∈ lw_all := lw_g (lw_at lw_m5 230 rfl) rfl
theorem q1326 : (Jvm.Cond.privateMethod ({ cls := "OverFirst", name := "isSo", desc := "(IIIII)Z" } : Jvm.MethodName)) ∈ lw_tbl := lw_at lw_m5 231 rfl
theorem q1327 : (Jvm.Cond.instanceMethod ({ cls := "OverFirst", name := "isSo", desc := "(IIIII)Z" } : Jvm.MethodName)) ∈ lw_all := lw_g (lw_at lw_m5 232 rfl) rfl
theorem q1328 : (Jvm.Cond.code ({ cls := "OverFirst", name := "isSo", desc := "(IIIII)Z" } : Jvm.MethodName) prog_1_method_25_code (7 : Nat) (Option.some Jvm.ClassFile.FieldType.boolean)) ∈ lw_all := lw_g (lw_at lw_m5 233 rfl) rfl
theorem q1330 : (Jvm.Cond.instanceMethod ({ cls := "OverFirst", name := "soonest", desc := "(IIII)I" } : Jvm.MethodName)) ∈ lw_all := lw_g (lw_at lw_m5 235 rfl) rfl
theorem q1331 : (Jvm.Cond.selects "OverFirst" ({ cls := "OverFirst", name := "soonest", desc := "(IIII)I" } : Jvm.MethodName) ({ cls := "OverFirst", name := "soonest", desc := "(IIII)I" } : Jvm.MethodName)) ∈ lw_all := lw_g (lw_at lw_m5 236 rfl) rfl
theorem q1332 : (Jvm.Cond.code ({ cls := "OverFirst", name := "soonest", desc := "(IIII)I" } : Jvm.MethodName) prog_1_method_36_code (13 : Nat) (Option.some Jvm.ClassFile.FieldType.int)) ∈ lw_all := lw_g (lw_at lw_m5 237 rfl) rfl
theorem q1333 : (Jvm.Cond.methodLink "OverFirst" (305 : Nat) ({ cls := "OverFirst", name := "tables", desc := "(IZZ)V" } : Jvm.MethodName)) ∈ lw_all := lw_g (lw_at lw_m5 238 rfl) rfl
theorem q1334 : (Jvm.Cond.privateMethod ({ cls := "OverFirst", name := "tables", desc := "(IZZ)V" } : Jvm.MethodName)) ∈ lw_tbl := lw_at lw_m5 239 rfl
theorem q1335 : (Jvm.Cond.instanceMethod ({ cls := "OverFirst", name := "tables", desc := "(IZZ)V" } : Jvm.MethodName)) ∈ lw_all := lw_g (lw_at lw_m6 0 rfl) rfl
theorem q1336 : (Jvm.Cond.code ({ cls := "OverFirst", name := "tables", desc := "(IZZ)V" } : Jvm.MethodName) prog_1_method_35_code (4 : Nat) (Option.none : Option Jvm.ClassFile.FieldType)) ∈ lw_all := lw_g (lw_at lw_m6 1 rfl) rfl
theorem q1337 : (Jvm.Cond.methodLink "OverFirst" (295 : Nat) ({ cls := "java/util/ArrayList", name := "get", desc := "(I)Ljava/lang/Object;" } : Jvm.MethodName)) ∈ lw_all := lw_g (lw_at lw_m6 2 rfl) rfl
theorem q1338 : (Jvm.Cond.classLink "OverFirst" (252 : Nat) "OverFirst$Goer") ∈ lw_all := lw_g (lw_at lw_m6 3 rfl) rfl
theorem q1339 : (Jvm.Cond.methodLink "OverFirst" (301 : Nat) ({ cls := "OverFirst", name := "tables", desc := "(LOverFirst$Goer;II)V" } : Jvm.MethodName)) ∈ lw_all := lw_g (lw_at lw_m6 4 rfl) rfl
theorem q1340 : (Jvm.Cond.privateMethod ({ cls := "OverFirst", name := "tables", desc := "(LOverFirst$Goer;II)V" } : Jvm.MethodName)) ∈ lw_tbl := lw_at lw_m6 5 rfl
theorem q1341 : (Jvm.Cond.instanceMethod ({ cls := "OverFirst", name := "tables", desc := "(LOverFirst$Goer;II)V" } : Jvm.MethodName)) ∈ lw_all := lw_g (lw_at lw_m6 6 rfl) rfl
theorem q1342 : (Jvm.Cond.code ({ cls := "OverFirst", name := "tables", desc := "(LOverFirst$Goer;II)V" } : Jvm.MethodName) prog_1_method_34_code (9 : Nat) (Option.none : Option Jvm.ClassFile.FieldType)) ∈ lw_all := lw_g (lw_at lw_m6 7 rfl) rfl
theorem q1343 : (Jvm.Cond.methodLink "OverFirst" (278 : Nat) ({ cls := "OverFirst", name := "isHome", desc := "(II)Z" } : Jvm.MethodName)) ∈ lw_all := lw_g (lw_at lw_m6 8 rfl) rfl
theorem q1344 : (Jvm.Cond.privateMethod ({ cls := "OverFirst", name := "isHome", desc := "(II)Z" } : Jvm.MethodName)) ∈ lw_tbl := lw_at lw_m6 9 rfl
theorem q1345 : (Jvm.Cond.instanceMethod ({ cls := "OverFirst", name := "isHome", desc := "(II)Z" } : Jvm.MethodName)) ∈ lw_all := lw_g (lw_at lw_m6 10 rfl) rfl
theorem q1346 : (Jvm.Cond.code ({ cls := "OverFirst", name := "isHome", desc := "(II)Z" } : Jvm.MethodName) prog_1_method_13_code (3 : Nat) (Option.some Jvm.ClassFile.FieldType.boolean)) ∈ lw_all := lw_g (lw_at lw_m6 11 rfl) rfl
theorem q1347 : (Jvm.Cond.methodLink "OverFirst" (269 : Nat) ({ cls := "OverFirst", name := "takesBy", desc := "(LOverFirst$Goer;IIII)I" } : Jvm.MethodName)) ∈ lw_all := lw_g (lw_at lw_m6 12 rfl) rfl
theorem q1348 : (Jvm.Cond.privateMethod ({ cls := "OverFirst", name := "takesBy", desc := "(LOverFirst$Goer;IIII)I" } : Jvm.MethodName)) ∈ lw_tbl := lw_at lw_m6 13 rfl
theorem q1349 : (Jvm.Cond.instanceMethod ({ cls := "OverFirst", name := "takesBy", desc := "(LOverFirst$Goer;IIII)I" } : Jvm.MethodName)) ∈ lw_all := lw_g (lw_at lw_m6 14 rfl) rfl
theorem q1350 : (Jvm.Cond.code ({ cls := "OverFirst", name := "takesBy", desc := "(LOverFirst$Goer;IIII)I" } : Jvm.MethodName) prog_1_method_32_code (9 : Nat) (Option.some Jvm.ClassFile.FieldType.int)) ∈ lw_all := lw_g (lw_at lw_m6 15 rfl) rfl
theorem q1351 : (Jvm.Cond.methodLink "OverFirst" (265 : Nat) ({ cls := "OverFirst", name := "wayOf", desc := "(LOverFirst$Goer;IIIII)I" } : Jvm.MethodName)) ∈ lw_all := lw_g (lw_at lw_m6 16 rfl) rfl
theorem q1352 : (Jvm.Cond.privateMethod ({ cls := "OverFirst", name := "wayOf", desc := "(LOverFirst$Goer;IIIII)I" } : Jvm.MethodName)) ∈ lw_tbl := lw_at lw_m6 17 rfl
theorem q1353 : (Jvm.Cond.instanceMethod ({ cls := "OverFirst", name := "wayOf", desc := "(LOverFirst$Goer;IIIII)I" } : Jvm.MethodName)) ∈ lw_all := lw_g (lw_at lw_m6 18 rfl) rfl
theorem q1354 : (Jvm.Cond.code ({ cls := "OverFirst", name := "wayOf", desc := "(LOverFirst$Goer;IIIII)I" } : Jvm.MethodName) prog_1_method_31_code (7 : Nat) (Option.some Jvm.ClassFile.FieldType.int)) ∈ lw_all := lw_g (lw_at lw_m6 19 rfl) rfl
theorem q1355 : (Jvm.Cond.methodLink "OverFirst" (251 : Nat) ({ cls := "OverFirst$Goer", name := "isBest", desc := "()Z" } : Jvm.MethodName)) ∈ lw_all := lw_g (lw_at lw_m6 20 rfl) rfl
theorem q1365 : (Jvm.Cond.methodLink "OverFirst" (256 : Nat) ({ cls := "OverFirst", name := "by", desc := "(IIIII)I" } : Jvm.MethodName)) ∈ lw_all := lw_g (lw_at lw_m6 30 rfl) rfl
theorem q1366 : (Jvm.Cond.privateMethod ({ cls := "OverFirst", name := "by", desc := "(IIIII)I" } : Jvm.MethodName)) ∈ lw_tbl := lw_at lw_m6 31 rfl
theorem q1367 : (Jvm.Cond.instanceMethod ({ cls := "OverFirst", name := "by", desc := "(IIIII)I" } : Jvm.MethodName)) ∈ lw_all := lw_g (lw_at lw_m6 32 rfl) rfl
theorem q1368 : (Jvm.Cond.code ({ cls := "OverFirst", name := "by", desc := "(IIIII)I" } : Jvm.MethodName) prog_1_method_29_code (8 : Nat) (Option.some Jvm.ClassFile.FieldType.int)) ∈ lw_all := lw_g (lw_at lw_m6 33 rfl) rfl
theorem q1369 : (Jvm.Cond.methodLink "OverFirst" (244 : Nat) ({ cls := "OverFirst", name := "takesAt", desc := "(III)I" } : Jvm.MethodName)) ∈ lw_all := lw_g (lw_at lw_m6 34 rfl) rfl
theorem q1370 : (Jvm.Cond.privateMethod ({ cls := "OverFirst", name := "takesAt", desc := "(III)I" } : Jvm.MethodName)) ∈ lw_tbl := lw_at lw_m6 35 rfl
theorem q1371 : (Jvm.Cond.instanceMethod ({ cls := "OverFirst", name := "takesAt", desc := "(III)I" } : Jvm.MethodName)) ∈ lw_all := lw_g (lw_at lw_m6 36 rfl) rfl
theorem q1372 : (Jvm.Cond.code ({ cls := "OverFirst", name := "takesAt", desc := "(III)I" } : Jvm.MethodName) prog_1_method_28_code (4 : Nat) (Option.some Jvm.ClassFile.FieldType.int)) ∈ lw_all := lw_g (lw_at lw_m6 37 rfl) rfl
theorem q1373 : (Jvm.Cond.methodLink "OverFirst" (248 : Nat) ({ cls := "OverFirst", name := "scale", desc := "()I" } : Jvm.MethodName)) ∈ lw_all := lw_g (lw_at lw_m6 38 rfl) rfl
theorem q1374 : (Jvm.Cond.privateMethod ({ cls := "OverFirst", name := "scale", desc := "()I" } : Jvm.MethodName)) ∈ lw_tbl := lw_at lw_m6 39 rfl
theorem q1375 : (Jvm.Cond.instanceMethod ({ cls := "OverFirst", name := "scale", desc := "()I" } : Jvm.MethodName)) ∈ lw_all := lw_g (lw_at lw_m6 40 rfl) rfl
theorem q1376 : (Jvm.Cond.code ({ cls := "OverFirst", name := "scale", desc := "()I" } : Jvm.MethodName) prog_1_method_27_code (1 : Nat) (Option.some Jvm.ClassFile.FieldType.int)) ∈ lw_all := lw_g (lw_at lw_m6 41 rfl) rfl
theorem q1377 : (Jvm.Cond.methodLink "OverFirst" (260 : Nat) ({ cls := "OverFirst", name := "better", desc := "(II)I" } : Jvm.MethodName)) ∈ lw_all := lw_g (lw_at lw_m6 42 rfl) rfl
theorem q1378 : (Jvm.Cond.privateMethod ({ cls := "OverFirst", name := "better", desc := "(II)I" } : Jvm.MethodName)) ∈ lw_tbl := lw_at lw_m6 43 rfl
theorem q1379 : (Jvm.Cond.instanceMethod ({ cls := "OverFirst", name := "better", desc := "(II)I" } : Jvm.MethodName)) ∈ lw_all := lw_g (lw_at lw_m6 44 rfl) rfl
theorem q1380 : (Jvm.Cond.code ({ cls := "OverFirst", name := "better", desc := "(II)I" } : Jvm.MethodName) prog_1_method_30_code (3 : Nat) (Option.some Jvm.ClassFile.FieldType.int)) ∈ lw_all := lw_g (lw_at lw_m6 45 rfl) rfl
theorem q1381 : (Jvm.Cond.methodLink "OverFirst" (263 : Nat) ({ cls := "OverFirst$Goer", name := "way", desc := "(IIII)I" } : Jvm.MethodName)) ∈ lw_all := lw_g (lw_at lw_m6 46 rfl) rfl
theorem q1413 : (Jvm.Cond.methodLink "OverFirst" (287 : Nat) ({ cls := "OverFirst", name := "takesHidden", desc := "(LOverFirst$Goer;III)I" } : Jvm.MethodName)) ∈ lw_all := lw_g (lw_at lw_m6 78 rfl) rfl
theorem q1414 : (Jvm.Cond.privateMethod ({ cls := "OverFirst", name := "takesHidden", desc := "(LOverFirst$Goer;III)I" } : Jvm.MethodName)) ∈ lw_tbl := lw_at lw_m6 79 rfl
theorem q1415 : (Jvm.Cond.instanceMethod ({ cls := "OverFirst", name := "takesHidden", desc := "(LOverFirst$Goer;III)I" } : Jvm.MethodName)) ∈ lw_all := lw_g (lw_at lw_m6 80 rfl) rfl
theorem q1416 : (Jvm.Cond.code ({ cls := "OverFirst", name := "takesHidden", desc := "(LOverFirst$Goer;III)I" } : Jvm.MethodName) prog_1_method_33_code (11 : Nat) (Option.some Jvm.ClassFile.FieldType.int)) ∈ lw_all := lw_g (lw_at lw_m6 81 rfl) rfl
theorem q1417 : (Jvm.Cond.methodLink "OverFirst" (273 : Nat) ({ cls := "java/lang/Math", name := "max", desc := "(II)I" } : Jvm.MethodName)) ∈ lw_all := lw_g (lw_at lw_m6 82 rfl) rfl
theorem q1419 : (Jvm.Cond.instanceMethod ({ cls := "OverFirst", name := "latest", desc := "(III)I" } : Jvm.MethodName)) ∈ lw_all := lw_g (lw_at lw_m6 84 rfl) rfl
theorem q1420 : (Jvm.Cond.selects "OverFirst" ({ cls := "OverFirst", name := "latest", desc := "(III)I" } : Jvm.MethodName) ({ cls := "OverFirst", name := "latest", desc := "(III)I" } : Jvm.MethodName)) ∈ lw_all := lw_g (lw_at lw_m6 85 rfl) rfl
theorem q1421 : (Jvm.Cond.code ({ cls := "OverFirst", name := "latest", desc := "(III)I" } : Jvm.MethodName) prog_1_method_37_code (6 : Nat) (Option.some Jvm.ClassFile.FieldType.int)) ∈ lw_all := lw_g (lw_at lw_m6 86 rfl) rfl
theorem q1422 : (Jvm.Cond.methodLink "OverFirst" (308 : Nat) ({ cls := "OverFirst", name := "soonest", desc := "(IIII)I" } : Jvm.MethodName)) ∈ lw_all := lw_g (lw_at lw_m6 87 rfl) rfl
theorem q1424 : (Jvm.Cond.instanceMethod ({ cls := "OverFirst", name := "turning", desc := "(II)I" } : Jvm.MethodName)) ∈ lw_all := lw_g (lw_at lw_m6 89 rfl) rfl
theorem q1425 : (Jvm.Cond.selects "OverFirst" ({ cls := "OverFirst", name := "turning", desc := "(II)I" } : Jvm.MethodName) ({ cls := "OverFirst", name := "turning", desc := "(II)I" } : Jvm.MethodName)) ∈ lw_all := lw_g (lw_at lw_m6 90 rfl) rfl
theorem q1426 : (Jvm.Cond.code ({ cls := "OverFirst", name := "turning", desc := "(II)I" } : Jvm.MethodName) prog_1_method_41_code (6 : Nat) (Option.some Jvm.ClassFile.FieldType.int)) ∈ lw_all := lw_g (lw_at lw_m6 91 rfl) rfl
theorem q1427 : (Jvm.Cond.constant "OverFirst" (317 : Nat) (2147483647 : Int32)) ∈ lw_all := lw_g (lw_at lw_m6 92 rfl) rfl
theorem q1428 : (Jvm.Cond.methodLink "OverFirst" (318 : Nat) ({ cls := "OverFirst", name := "turnsOn", desc := "(IIIII)V" } : Jvm.MethodName)) ∈ lw_all := lw_g (lw_at lw_m6 93 rfl) rfl
theorem q1429 : (Jvm.Cond.privateMethod ({ cls := "OverFirst", name := "turnsOn", desc := "(IIIII)V" } : Jvm.MethodName)) ∈ lw_tbl := lw_at lw_m6 94 rfl
theorem q1430 : (Jvm.Cond.instanceMethod ({ cls := "OverFirst", name := "turnsOn", desc := "(IIIII)V" } : Jvm.MethodName)) ∈ lw_all := lw_g (lw_at lw_m6 95 rfl) rfl
theorem q1431 : (Jvm.Cond.code ({ cls := "OverFirst", name := "turnsOn", desc := "(IIIII)V" } : Jvm.MethodName) prog_1_method_39_code (8 : Nat) (Option.none : Option Jvm.ClassFile.FieldType)) ∈ lw_all := lw_g (lw_at lw_m6 96 rfl) rfl
theorem q1432 : (Jvm.Cond.methodLink "OverFirst" (311 : Nat) ({ cls := "OverFirst", name := "comesAt", desc := "(IIII)I" } : Jvm.MethodName)) ∈ lw_all := lw_g (lw_at lw_m6 97 rfl) rfl
theorem q1433 : (Jvm.Cond.privateMethod ({ cls := "OverFirst", name := "comesAt", desc := "(IIII)I" } : Jvm.MethodName)) ∈ lw_tbl := lw_at lw_m6 98 rfl
theorem q1434 : (Jvm.Cond.instanceMethod ({ cls := "OverFirst", name := "comesAt", desc := "(IIII)I" } : Jvm.MethodName)) ∈ lw_all := lw_g (lw_at lw_m6 99 rfl) rfl
theorem q1435 : (Jvm.Cond.code ({ cls := "OverFirst", name := "comesAt", desc := "(IIII)I" } : Jvm.MethodName) prog_1_method_38_code (5 : Nat) (Option.some Jvm.ClassFile.FieldType.int)) ∈ lw_all := lw_g (lw_at lw_m6 100 rfl) rfl
theorem q1436 : (Jvm.Cond.methodLink "OverFirst" (314 : Nat) ({ cls := "java/lang/Math", name := "min", desc := "(II)I" } : Jvm.MethodName)) ∈ lw_all := lw_g (lw_at lw_m6 101 rfl) rfl
theorem q1437 : (Jvm.Cond.methodLink "OverFirst" (322 : Nat) ({ cls := "OverFirst", name := "turnsFrom", desc := "(III)V" } : Jvm.MethodName)) ∈ lw_all := lw_g (lw_at lw_m6 102 rfl) rfl
theorem q1438 : (Jvm.Cond.privateMethod ({ cls := "OverFirst", name := "turnsFrom", desc := "(III)V" } : Jvm.MethodName)) ∈ lw_tbl := lw_at lw_m6 103 rfl
theorem q1439 : (Jvm.Cond.instanceMethod ({ cls := "OverFirst", name := "turnsFrom", desc := "(III)V" } : Jvm.MethodName)) ∈ lw_all := lw_g (lw_at lw_m6 104 rfl) rfl
theorem q1440 : (Jvm.Cond.code ({ cls := "OverFirst", name := "turnsFrom", desc := "(III)V" } : Jvm.MethodName) prog_1_method_40_code (7 : Nat) (Option.none : Option Jvm.ClassFile.FieldType)) ∈ lw_all := lw_g (lw_at lw_m6 105 rfl) rfl
theorem q1442 : (Jvm.Cond.instanceMethod ({ cls := "OverFirst", name := "mean", desc := "(IIII)I" } : Jvm.MethodName)) ∈ lw_all := lw_g (lw_at lw_m6 107 rfl) rfl
theorem q1443 : (Jvm.Cond.selects "OverFirst" ({ cls := "OverFirst", name := "mean", desc := "(IIII)I" } : Jvm.MethodName) ({ cls := "OverFirst", name := "mean", desc := "(IIII)I" } : Jvm.MethodName)) ∈ lw_all := lw_g (lw_at lw_m6 108 rfl) rfl
theorem q1444 : (Jvm.Cond.code ({ cls := "OverFirst", name := "mean", desc := "(IIII)I" } : Jvm.MethodName) prog_1_method_43_code (5 : Nat) (Option.some Jvm.ClassFile.FieldType.int)) ∈ lw_all := lw_g (lw_at lw_m6 109 rfl) rfl
theorem q1445 : (Jvm.Cond.methodLink "OverFirst" (329 : Nat) ({ cls := "OverFirst", name := "isGoer", desc := "(I)Z" } : Jvm.MethodName)) ∈ lw_all := lw_g (lw_at lw_m6 110 rfl) rfl
theorem q1446 : (Jvm.Cond.privateMethod ({ cls := "OverFirst", name := "isGoer", desc := "(I)Z" } : Jvm.MethodName)) ∈ lw_tbl := lw_at lw_m6 111 rfl
theorem q1447 : (Jvm.Cond.instanceMethod ({ cls := "OverFirst", name := "isGoer", desc := "(I)Z" } : Jvm.MethodName)) ∈ lw_all := lw_g (lw_at lw_m6 112 rfl) rfl
theorem q1448 : (Jvm.Cond.code ({ cls := "OverFirst", name := "isGoer", desc := "(I)Z" } : Jvm.MethodName) prog_1_method_42_code (2 : Nat) (Option.some Jvm.ClassFile.FieldType.boolean)) ∈ lw_all := lw_g (lw_at lw_m6 113 rfl) rfl
theorem q1449 : (Jvm.Cond.methodLink "OverFirst" (326 : Nat) ({ cls := "java/util/ArrayList", name := "size", desc := "()I" } : Jvm.MethodName)) ∈ lw_all := lw_g (lw_at lw_m6 114 rfl) rfl
theorem q1451 : (Jvm.Cond.instanceMethod ({ cls := "OverFirst", name := "worst", desc := "(IIII)I" } : Jvm.MethodName)) ∈ lw_all := lw_g (lw_at lw_m6 116 rfl) rfl
theorem q1452 : (Jvm.Cond.selects "OverFirst" ({ cls := "OverFirst", name := "worst", desc := "(IIII)I" } : Jvm.MethodName) ({ cls := "OverFirst", name := "worst", desc := "(IIII)I" } : Jvm.MethodName)) ∈ lw_all := lw_g (lw_at lw_m6 117 rfl) rfl
theorem q1453 : (Jvm.Cond.code ({ cls := "OverFirst", name := "worst", desc := "(IIII)I" } : Jvm.MethodName) prog_1_method_44_code (5 : Nat) (Option.some Jvm.ClassFile.FieldType.int)) ∈ lw_all := lw_g (lw_at lw_m6 118 rfl) rfl
theorem q1455 : (Jvm.Cond.instanceMethod ({ cls := "OverFirst", name := "choice", desc := "(IIII)I" } : Jvm.MethodName)) ∈ lw_all := lw_g (lw_at lw_m6 120 rfl) rfl
theorem q1456 : (Jvm.Cond.selects "OverFirst" ({ cls := "OverFirst", name := "choice", desc := "(IIII)I" } : Jvm.MethodName) ({ cls := "OverFirst", name := "choice", desc := "(IIII)I" } : Jvm.MethodName)) ∈ lw_all := lw_g (lw_at lw_m6 121 rfl) rfl
theorem q1457 : (Jvm.Cond.code ({ cls := "OverFirst", name := "choice", desc := "(IIII)I" } : Jvm.MethodName) prog_1_method_45_code (9 : Nat) (Option.some Jvm.ClassFile.FieldType.int)) ∈ lw_all := lw_g (lw_at lw_m6 122 rfl) rfl
theorem q1459 : (Jvm.Cond.instanceMethod ({ cls := "OverFirst", name := "gap", desc := "(III)I" } : Jvm.MethodName)) ∈ lw_all := lw_g (lw_at lw_m6 124 rfl) rfl
theorem q1460 : (Jvm.Cond.selects "OverFirst" ({ cls := "OverFirst", name := "gap", desc := "(III)I" } : Jvm.MethodName) ({ cls := "OverFirst", name := "gap", desc := "(III)I" } : Jvm.MethodName)) ∈ lw_all := lw_g (lw_at lw_m6 125 rfl) rfl
theorem q1461 : (Jvm.Cond.code ({ cls := "OverFirst", name := "gap", desc := "(III)I" } : Jvm.MethodName) prog_1_method_46_code (6 : Nat) (Option.some Jvm.ClassFile.FieldType.int)) ∈ lw_all := lw_g (lw_at lw_m6 126 rfl) rfl
theorem q1462 : (Jvm.Cond.methodLink "OverFirst" (332 : Nat) ({ cls := "OverFirst", name := "mean", desc := "(IIII)I" } : Jvm.MethodName)) ∈ lw_all := lw_g (lw_at lw_m6 127 rfl) rfl
theorem q1464 : (Jvm.Cond.instanceMethod ({ cls := "OverFirst", name := "watch", desc := "(III)I" } : Jvm.MethodName)) ∈ lw_all := lw_g (lw_at lw_m6 129 rfl) rfl
theorem q1465 : (Jvm.Cond.selects "OverFirst" ({ cls := "OverFirst", name := "watch", desc := "(III)I" } : Jvm.MethodName) ({ cls := "OverFirst", name := "watch", desc := "(III)I" } : Jvm.MethodName)) ∈ lw_all := lw_g (lw_at lw_m6 130 rfl) rfl
theorem q1466 : (Jvm.Cond.code ({ cls := "OverFirst", name := "watch", desc := "(III)I" } : Jvm.MethodName) prog_1_method_47_code (9 : Nat) (Option.some Jvm.ClassFile.FieldType.int)) ∈ lw_all := lw_g (lw_at lw_m6 131 rfl) rfl
theorem q1468 : (Jvm.Cond.instanceMethod ({ cls := "OverFirst", name := "worthiest", desc := "(I)I" } : Jvm.MethodName)) ∈ lw_all := lw_g (lw_at lw_m6 133 rfl) rfl
theorem q1469 : (Jvm.Cond.selects "OverFirst" ({ cls := "OverFirst", name := "worthiest", desc := "(I)I" } : Jvm.MethodName) ({ cls := "OverFirst", name := "worthiest", desc := "(I)I" } : Jvm.MethodName)) ∈ lw_all := lw_g (lw_at lw_m6 134 rfl) rfl
theorem q1470 : (Jvm.Cond.code ({ cls := "OverFirst", name := "worthiest", desc := "(I)I" } : Jvm.MethodName) prog_1_method_48_code (6 : Nat) (Option.some Jvm.ClassFile.FieldType.int)) ∈ lw_all := lw_g (lw_at lw_m6 135 rfl) rfl
theorem q1471 : (Jvm.Cond.methodLink "OverFirst" (335 : Nat) ({ cls := "OverFirst", name := "watch", desc := "(III)I" } : Jvm.MethodName)) ∈ lw_all := lw_g (lw_at lw_m6 136 rfl) rfl
theorem q1473 : (Jvm.Cond.instanceMethod ({ cls := "OverFirst", name := "odds", desc := "(III)I" } : Jvm.MethodName)) ∈ lw_all := lw_g (lw_at lw_m6 138 rfl) rfl
theorem q1474 : (Jvm.Cond.selects "OverFirst" ({ cls := "OverFirst", name := "odds", desc := "(III)I" } : Jvm.MethodName) ({ cls := "OverFirst", name := "odds", desc := "(III)I" } : Jvm.MethodName)) ∈ lw_all := lw_g (lw_at lw_m6 139 rfl) rfl
theorem q1475 : (Jvm.Cond.code ({ cls := "OverFirst", name := "odds", desc := "(III)I" } : Jvm.MethodName) prog_1_method_51_code (5 : Nat) (Option.some Jvm.ClassFile.FieldType.int)) ∈ lw_all := lw_g (lw_at lw_m6 140 rfl) rfl
theorem q1476 : (Jvm.Cond.methodLink "OverFirst" (338 : Nat) ({ cls := "OverFirst", name := "oddsAt", desc := "(LOverFirst$Goer;IIIII)I" } : Jvm.MethodName)) ∈ lw_all := lw_g (lw_at lw_m6 141 rfl) rfl
theorem q1477 : (Jvm.Cond.privateMethod ({ cls := "OverFirst", name := "oddsAt", desc := "(LOverFirst$Goer;IIIII)I" } : Jvm.MethodName)) ∈ lw_tbl := lw_at lw_m6 142 rfl
theorem q1478 : (Jvm.Cond.instanceMethod ({ cls := "OverFirst", name := "oddsAt", desc := "(LOverFirst$Goer;IIIII)I" } : Jvm.MethodName)) ∈ lw_all := lw_g (lw_at lw_m6 143 rfl) rfl
theorem q1479 : (Jvm.Cond.code ({ cls := "OverFirst", name := "oddsAt", desc := "(LOverFirst$Goer;IIIII)I" } : Jvm.MethodName) prog_1_method_50_code (12 : Nat) (Option.some Jvm.ClassFile.FieldType.int)) ∈ lw_all := lw_g (lw_at lw_m6 144 rfl) rfl
theorem q1480 : (Jvm.Cond.methodLink "OverFirst" (341 : Nat) ({ cls := "OverFirst", name := "oddsBy", desc := "(LOverFirst$Goer;IIIIII)I" } : Jvm.MethodName)) ∈ lw_all := lw_g (lw_at lw_m6 145 rfl) rfl
theorem q1481 : (Jvm.Cond.privateMethod ({ cls := "OverFirst", name := "oddsBy", desc := "(LOverFirst$Goer;IIIIII)I" } : Jvm.MethodName)) ∈ lw_tbl := lw_at lw_m6 146 rfl
theorem q1482 : (Jvm.Cond.instanceMethod ({ cls := "OverFirst", name := "oddsBy", desc := "(LOverFirst$Goer;IIIIII)I" } : Jvm.MethodName)) ∈ lw_all := lw_g (lw_at lw_m6 147 rfl) rfl
theorem q1483 : (Jvm.Cond.code ({ cls := "OverFirst", name := "oddsBy", desc := "(LOverFirst$Goer;IIIIII)I" } : Jvm.MethodName) prog_1_method_49_code (12 : Nat) (Option.some Jvm.ClassFile.FieldType.int)) ∈ lw_all := lw_g (lw_at lw_m6 148 rfl) rfl
theorem q1485 : (Jvm.Cond.instanceMethod ({ cls := "OverFirst", name := "rules", desc := "()I" } : Jvm.MethodName)) ∈ lw_all := lw_g (lw_at lw_m6 150 rfl) rfl
theorem q1486 : (Jvm.Cond.selects "OverFirst" ({ cls := "OverFirst", name := "rules", desc := "()I" } : Jvm.MethodName) ({ cls := "OverFirst", name := "rules", desc := "()I" } : Jvm.MethodName)) ∈ lw_all := lw_g (lw_at lw_m6 151 rfl) rfl
theorem q1487 : (Jvm.Cond.code ({ cls := "OverFirst", name := "rules", desc := "()I" } : Jvm.MethodName) prog_1_method_52_code (5 : Nat) (Option.some Jvm.ClassFile.FieldType.int)) ∈ lw_all := lw_g (lw_at lw_m6 152 rfl) rfl
theorem q1489 : (Jvm.Cond.instanceMethod ({ cls := "OverFirst", name := "pace", desc := "(II)I" } : Jvm.MethodName)) ∈ lw_all := lw_g (lw_at lw_m6 154 rfl) rfl
theorem q1490 : (Jvm.Cond.selects "OverFirst" ({ cls := "OverFirst", name := "pace", desc := "(II)I" } : Jvm.MethodName) ({ cls := "OverFirst", name := "pace", desc := "(II)I" } : Jvm.MethodName)) ∈ lw_all := lw_g (lw_at lw_m6 155 rfl) rfl
theorem q1491 : (Jvm.Cond.code ({ cls := "OverFirst", name := "pace", desc := "(II)I" } : Jvm.MethodName) prog_1_method_60_code (11 : Nat) (Option.some Jvm.ClassFile.FieldType.int)) ∈ lw_all := lw_g (lw_at lw_m6 156 rfl) rfl
theorem q1492 : (Jvm.Cond.methodLink "OverFirst" (370 : Nat) ({ cls := "OverFirst", name := "works", desc := "(I)V" } : Jvm.MethodName)) ∈ lw_all := lw_g (lw_at lw_m6 157 rfl) rfl
theorem q1493 : (Jvm.Cond.privateMethod ({ cls := "OverFirst", name := "works", desc := "(I)V" } : Jvm.MethodName)) ∈ lw_tbl := lw_at lw_m6 158 rfl
theorem q1494 : (Jvm.Cond.instanceMethod ({ cls := "OverFirst", name := "works", desc := "(I)V" } : Jvm.MethodName)) ∈ lw_all := lw_g (lw_at lw_m6 159 rfl) rfl
theorem q1495 : (Jvm.Cond.code ({ cls := "OverFirst", name := "works", desc := "(I)V" } : Jvm.MethodName) prog_1_method_59_code (5 : Nat) (Option.none : Option Jvm.ClassFile.FieldType)) ∈ lw_all := lw_g (lw_at lw_m6 160 rfl) rfl
theorem q1496 : (Jvm.Cond.methodLink "OverFirst" (352 : Nat) ({ cls := "OverFirst", name := "paceAt", desc := "(III)I" } : Jvm.MethodName)) ∈ lw_all := lw_g (lw_at lw_m6 161 rfl) rfl
theorem q1497 : (Jvm.Cond.privateMethod ({ cls := "OverFirst", name := "paceAt", desc := "(III)I" } : Jvm.MethodName)) ∈ lw_tbl := lw_at lw_m6 162 rfl
theorem q1498 : (Jvm.Cond.instanceMethod ({ cls := "OverFirst", name := "paceAt", desc := "(III)I" } : Jvm.MethodName)) ∈ lw_all := lw_g (lw_at lw_m6 163 rfl) rfl
theorem q1499 : (Jvm.Cond.code ({ cls := "OverFirst", name := "paceAt", desc := "(III)I" } : Jvm.MethodName) prog_1_method_53_code (4 : Nat) (Option.some Jvm.ClassFile.FieldType.int)) ∈ lw_all := lw_g (lw_at lw_m6 164 rfl) rfl
theorem q1500 : (Jvm.Cond.methodLink "OverFirst" (367 : Nat) ({ cls := "OverFirst", name := "worked", desc := "(IIII)I" } : Jvm.MethodName)) ∈ lw_all := lw_g (lw_at lw_m6 165 rfl) rfl
theorem q1501 : (Jvm.Cond.privateMethod ({ cls := "OverFirst", name := "worked", desc := "(IIII)I" } : Jvm.MethodName)) ∈ lw_tbl := lw_at lw_m6 166 rfl
theorem q1502 : (Jvm.Cond.instanceMethod ({ cls := "OverFirst", name := "worked", desc := "(IIII)I" } : Jvm.MethodName)) ∈ lw_all := lw_g (lw_at lw_m6 167 rfl) rfl
theorem q1503 : (Jvm.Cond.code ({ cls := "OverFirst", name := "worked", desc := "(IIII)I" } : Jvm.MethodName) prog_1_method_58_code (9 : Nat) (Option.some Jvm.ClassFile.FieldType.int)) ∈ lw_all := lw_g (lw_at lw_m6 168 rfl) rfl
theorem q1504 : (Jvm.Cond.methodLink "OverFirst" (355 : Nat) ({ cls := "OverFirst", name := "xOf", desc := "(I)I" } : Jvm.MethodName)) ∈ lw_all := lw_g (lw_at lw_m6 169 rfl) rfl
theorem q1505 : (Jvm.Cond.privateMethod ({ cls := "OverFirst", name := "xOf", desc := "(I)I" } : Jvm.MethodName)) ∈ lw_tbl := lw_at lw_m6 170 rfl
theorem q1506 : (Jvm.Cond.instanceMethod ({ cls := "OverFirst", name := "xOf", desc := "(I)I" } : Jvm.MethodName)) ∈ lw_all := lw_g (lw_at lw_m6 171 rfl) rfl
theorem q1507 : (Jvm.Cond.code ({ cls := "OverFirst", name := "xOf", desc := "(I)I" } : Jvm.MethodName) prog_1_method_54_code (4 : Nat) (Option.some Jvm.ClassFile.FieldType.int)) ∈ lw_all := lw_g (lw_at lw_m6 172 rfl) rfl
theorem q1508 : (Jvm.Cond.constant "OverFirst" (351 : Nat) (100000000 : Int32)) ∈ lw_all := lw_g (lw_at lw_m6 173 rfl) rfl
theorem q1509 : (Jvm.Cond.methodLink "OverFirst" (359 : Nat) ({ cls := "OverFirst", name := "fast", desc := "()I" } : Jvm.MethodName)) ∈ lw_all := lw_g (lw_at lw_m6 174 rfl) rfl
theorem q1510 : (Jvm.Cond.privateMethod ({ cls := "OverFirst", name := "fast", desc := "()I" } : Jvm.MethodName)) ∈ lw_tbl := lw_at lw_m6 175 rfl
theorem q1511 : (Jvm.Cond.instanceMethod ({ cls := "OverFirst", name := "fast", desc := "()I" } : Jvm.MethodName)) ∈ lw_all := lw_g (lw_at lw_m6 176 rfl) rfl
theorem q1512 : (Jvm.Cond.code ({ cls := "OverFirst", name := "fast", desc := "()I" } : Jvm.MethodName) prog_1_method_55_code (1 : Nat) (Option.some Jvm.ClassFile.FieldType.int)) ∈ lw_all := lw_g (lw_at lw_m6 177 rfl) rfl
theorem q1513 : (Jvm.Cond.methodLink "OverFirst" (348 : Nat) ({ cls := "OverFirst$Town", name := "slow", desc := "()I" } : Jvm.MethodName)) ∈ lw_all := lw_g (lw_at lw_m6 178 rfl) rfl
theorem q1517 : (Jvm.Cond.methodLink "OverFirst" (362 : Nat) ({ cls := "OverFirst", name := "slow", desc := "()I" } : Jvm.MethodName)) ∈ lw_all := lw_g (lw_at lw_m6 182 rfl) rfl
theorem q1518 : (Jvm.Cond.privateMethod ({ cls := "OverFirst", name := "slow", desc := "()I" } : Jvm.MethodName)) ∈ lw_tbl := lw_at lw_m6 183 rfl
theorem q1519 : (Jvm.Cond.instanceMethod ({ cls := "OverFirst", name := "slow", desc := "()I" } : Jvm.MethodName)) ∈ lw_all := lw_g (lw_at lw_m6 184 rfl) rfl
theorem q1520 : (Jvm.Cond.code ({ cls := "OverFirst", name := "slow", desc := "()I" } : Jvm.MethodName) prog_1_method_56_code (1 : Nat) (Option.some Jvm.ClassFile.FieldType.int)) ∈ lw_all := lw_g (lw_at lw_m6 185 rfl) rfl
theorem q1521 : (Jvm.Cond.methodLink "OverFirst" (363 : Nat) ({ cls := "OverFirst", name := "onAt", desc := "(IIII)I" } : Jvm.MethodName)) ∈ lw_all := lw_g (lw_at lw_m6 186 rfl) rfl
theorem q1522 : (Jvm.Cond.privateMethod ({ cls := "OverFirst", name := "onAt", desc := "(IIII)I" } : Jvm.MethodName)) ∈ lw_tbl := lw_at lw_m6 187 rfl
theorem q1523 : (Jvm.Cond.instanceMethod ({ cls := "OverFirst", name := "onAt", desc := "(IIII)I" } : Jvm.MethodName)) ∈ lw_all := lw_g (lw_at lw_m6 188 rfl) rfl
theorem q1524 : (Jvm.Cond.code ({ cls := "OverFirst", name := "onAt", desc := "(IIII)I" } : Jvm.MethodName) prog_1_method_57_code (6 : Nat) (Option.some Jvm.ClassFile.FieldType.int)) ∈ lw_all := lw_g (lw_at lw_m6 189 rfl) rfl
theorem q1525 : (Jvm.Cond.constant "OverFirst" (366 : Nat) (100000 : Int32)) ∈ lw_all := lw_g (lw_at lw_m6 190 rfl) rfl
theorem q1527 : (Jvm.Cond.instanceMethod ({ cls := "OverFirst", name := "tried", desc := "(IIZI)Z" } : Jvm.MethodName)) ∈ lw_all := lw_g (lw_at lw_m6 192 rfl) rfl
theorem q1528 : (Jvm.Cond.selects "OverFirst" ({ cls := "OverFirst", name := "tried", desc := "(IIZI)Z" } : Jvm.MethodName) ({ cls := "OverFirst", name := "tried", desc := "(IIZI)Z" } : Jvm.MethodName)) ∈ lw_all := lw_g (lw_at lw_m6 193 rfl) rfl
theorem q1529 : (Jvm.Cond.code ({ cls := "OverFirst", name := "tried", desc := "(IIZI)Z" } : Jvm.MethodName) prog_1_method_62_code (5 : Nat) (Option.some Jvm.ClassFile.FieldType.boolean)) ∈ lw_all := lw_g (lw_at lw_m6 194 rfl) rfl
theorem q1530 : (Jvm.Cond.methodLink "OverFirst" (374 : Nat) ({ cls := "OverFirst", name := "isButton", desc := "(II)Z" } : Jvm.MethodName)) ∈ lw_all := lw_g (lw_at lw_m6 195 rfl) rfl
theorem q1531 : (Jvm.Cond.privateMethod ({ cls := "OverFirst", name := "isButton", desc := "(II)Z" } : Jvm.MethodName)) ∈ lw_tbl := lw_at lw_m6 196 rfl
theorem q1532 : (Jvm.Cond.instanceMethod ({ cls := "OverFirst", name := "isButton", desc := "(II)Z" } : Jvm.MethodName)) ∈ lw_all := lw_g (lw_at lw_m6 197 rfl) rfl
theorem q1533 : (Jvm.Cond.code ({ cls := "OverFirst", name := "isButton", desc := "(II)Z" } : Jvm.MethodName) prog_1_method_61_code (3 : Nat) (Option.some Jvm.ClassFile.FieldType.boolean)) ∈ lw_all := lw_g (lw_at lw_m6 198 rfl) rfl
theorem q1535 : (Jvm.Cond.instanceMethod ({ cls := "OverFirst", name := "does", desc := "(III)J" } : Jvm.MethodName)) ∈ lw_all := lw_g (lw_at lw_m6 200 rfl) rfl
theorem q1536 : (Jvm.Cond.selects "OverFirst" ({ cls := "OverFirst", name := "does", desc := "(III)J" } : Jvm.MethodName) ({ cls := "OverFirst", name := "does", desc := "(III)J" } : Jvm.MethodName)) ∈ lw_all := lw_g (lw_at lw_m6 201 rfl) rfl
theorem q1537 : (Jvm.Cond.code ({ cls := "OverFirst", name := "does", desc := "(III)J" } : Jvm.MethodName) prog_1_method_63_code (11 : Nat) (Option.some Jvm.ClassFile.FieldType.long)) ∈ lw_all := lw_g (lw_at lw_m6 202 rfl) rfl
theorem q1538 : (Jvm.Cond.constantLong "OverFirst" (388 : Nat) (-1 : Int64)) ∈ lw_all := lw_g (lw_at lw_m6 203 rfl) rfl
theorem q1539 : (Jvm.Cond.methodLink "OverFirst" (9 : Nat) ({ cls := "OverFirst", name := "gcd", desc := "(JJ)J" } : Jvm.MethodName)) ∈ lw_all := lw_g (lw_at lw_m6 204 rfl) rfl
theorem q1540 : (Jvm.Cond.static ({ cls := "OverFirst", name := "gcd", desc := "(JJ)J" } : Jvm.MethodName)) ∈ lw_all := lw_g (lw_at lw_m6 205 rfl) rfl
theorem q1541 : (Jvm.Cond.code ({ cls := "OverFirst", name := "gcd", desc := "(JJ)J" } : Jvm.MethodName) prog_1_method_3_code (4 : Nat) (Option.some Jvm.ClassFile.FieldType.long)) ∈ lw_all := lw_g (lw_at lw_m6 206 rfl) rfl
theorem q1543 : (Jvm.Cond.instanceMethod ({ cls := "OverFirst", name := "wave", desc := "(IIIZI)I" } : Jvm.MethodName)) ∈ lw_all := lw_g (lw_at lw_m6 208 rfl) rfl
theorem q1544 : (Jvm.Cond.selects "OverFirst" ({ cls := "OverFirst", name := "wave", desc := "(IIIZI)I" } : Jvm.MethodName) ({ cls := "OverFirst", name := "wave", desc := "(IIIZI)I" } : Jvm.MethodName)) ∈ lw_all := lw_g (lw_at lw_m6 209 rfl) rfl
theorem q1545 : (Jvm.Cond.code ({ cls := "OverFirst", name := "wave", desc := "(IIIZI)I" } : Jvm.MethodName) prog_1_method_66_code (10 : Nat) (Option.some Jvm.ClassFile.FieldType.int)) ∈ lw_all := lw_g (lw_at lw_m6 210 rfl) rfl
theorem q1546 : (Jvm.Cond.methodLink "OverFirst" (403 : Nat) ({ cls := "OverFirst$Light", name := "isClock", desc := "()Z" } : Jvm.MethodName)) ∈ lw_all := lw_g (lw_at lw_m6 211 rfl) rfl
theorem q1556 : (Jvm.Cond.methodLink "OverFirst" (406 : Nat) ({ cls := "OverFirst", name := "greenFrom", desc := "(LOverFirst$Light;II)J" } : Jvm.MethodName)) ∈ lw_all := lw_g (lw_at lw_m6 221 rfl) rfl
theorem q1557 : (Jvm.Cond.static ({ cls := "OverFirst", name := "greenFrom", desc := "(LOverFirst$Light;II)J" } : Jvm.MethodName)) ∈ lw_all := lw_g (lw_at lw_m6 222 rfl) rfl
theorem q1558 : (Jvm.Cond.code ({ cls := "OverFirst", name := "greenFrom", desc := "(LOverFirst$Light;II)J" } : Jvm.MethodName) prog_1_method_64_code (7 : Nat) (Option.some Jvm.ClassFile.FieldType.long)) ∈ lw_all := lw_g (lw_at lw_m6 223 rfl) rfl
theorem q1559 : (Jvm.Cond.methodLink "OverFirst" (399 : Nat) ({ cls := "OverFirst", name := "waves", desc := "(IIJJZI)V" } : Jvm.MethodName)) ∈ lw_all := lw_g (lw_at lw_m6 224 rfl) rfl
theorem q1560 : (Jvm.Cond.privateMethod ({ cls := "OverFirst", name := "waves", desc := "(IIJJZI)V" } : Jvm.MethodName)) ∈ lw_tbl := lw_at lw_m6 225 rfl
theorem q1561 : (Jvm.Cond.instanceMethod ({ cls := "OverFirst", name := "waves", desc := "(IIJJZI)V" } : Jvm.MethodName)) ∈ lw_all := lw_g (lw_at lw_m6 226 rfl) rfl
theorem q1562 : (Jvm.Cond.code ({ cls := "OverFirst", name := "waves", desc := "(IIJJZI)V" } : Jvm.MethodName) prog_1_method_65_code (11 : Nat) (Option.none : Option Jvm.ClassFile.FieldType)) ∈ lw_all := lw_g (lw_at lw_m6 227 rfl) rfl
theorem q1563 : (Jvm.Cond.methodLink "OverFirst" (390 : Nat) ({ cls := "java/lang/Long", name := "bitCount", desc := "(J)I" } : Jvm.MethodName)) ∈ lw_all := lw_g (lw_at lw_m6 228 rfl) rfl
theorem q1570 : (Jvm.Cond.instanceMethod ({ cls := "OverFirst", name := "was", desc := "(III)Z" } : Jvm.MethodName)) ∈ lw_all := lw_g (lw_at lw_m6 235 rfl) rfl
theorem q1571 : (Jvm.Cond.selects "OverFirst" ({ cls := "OverFirst", name := "was", desc := "(III)Z" } : Jvm.MethodName) ({ cls := "OverFirst", name := "was", desc := "(III)Z" } : Jvm.MethodName)) ∈ lw_all := lw_g (lw_at lw_m6 236 rfl) rfl
theorem q1572 : (Jvm.Cond.code ({ cls := "OverFirst", name := "was", desc := "(III)Z" } : Jvm.MethodName) prog_1_method_67_code (4 : Nat) (Option.some Jvm.ClassFile.FieldType.boolean)) ∈ lw_all := lw_g (lw_at lw_m6 237 rfl) rfl
theorem q1574 : (Jvm.Cond.instanceMethod ({ cls := "OverFirst", name := "fits", desc := "(I)J" } : Jvm.MethodName)) ∈ lw_all := lw_g (lw_at lw_m6 239 rfl) rfl
theorem q1575 : (Jvm.Cond.selects "OverFirst" ({ cls := "OverFirst", name := "fits", desc := "(I)J" } : Jvm.MethodName) ({ cls := "OverFirst", name := "fits", desc := "(I)J" } : Jvm.MethodName)) ∈ lw_all := lw_g (lw_at lw_m7 0 rfl) rfl
theorem q1576 : (Jvm.Cond.code ({ cls := "OverFirst", name := "fits", desc := "(I)J" } : Jvm.MethodName) prog_1_method_70_code (2 : Nat) (Option.some Jvm.ClassFile.FieldType.long)) ∈ lw_all := lw_g (lw_at lw_m7 1 rfl) rfl
theorem q1577 : (Jvm.Cond.methodLink "OverFirst" (435 : Nat) ({ cls := "OverFirst", name := "ways", desc := "(IIIIIJJI)V" } : Jvm.MethodName)) ∈ lw_all := lw_g (lw_at lw_m7 2 rfl) rfl
theorem q1578 : (Jvm.Cond.privateMethod ({ cls := "OverFirst", name := "ways", desc := "(IIIIIJJI)V" } : Jvm.MethodName)) ∈ lw_tbl := lw_at lw_m7 3 rfl
theorem q1579 : (Jvm.Cond.instanceMethod ({ cls := "OverFirst", name := "ways", desc := "(IIIIIJJI)V" } : Jvm.MethodName)) ∈ lw_all := lw_g (lw_at lw_m7 4 rfl) rfl
theorem q1580 : (Jvm.Cond.code ({ cls := "OverFirst", name := "ways", desc := "(IIIIIJJI)V" } : Jvm.MethodName) prog_1_method_69_code (18 : Nat) (Option.none : Option Jvm.ClassFile.FieldType)) ∈ lw_all := lw_g (lw_at lw_m7 5 rfl) rfl
theorem q1581 : (Jvm.Cond.methodLink "OverFirst" (419 : Nat) ({ cls := "OverFirst", name := "toldAt", desc := "(IIII)I" } : Jvm.MethodName)) ∈ lw_all := lw_g (lw_at lw_m7 6 rfl) rfl
theorem q1582 : (Jvm.Cond.privateMethod ({ cls := "OverFirst", name := "toldAt", desc := "(IIII)I" } : Jvm.MethodName)) ∈ lw_tbl := lw_at lw_m7 7 rfl
theorem q1583 : (Jvm.Cond.instanceMethod ({ cls := "OverFirst", name := "toldAt", desc := "(IIII)I" } : Jvm.MethodName)) ∈ lw_all := lw_g (lw_at lw_m7 8 rfl) rfl
theorem q1584 : (Jvm.Cond.code ({ cls := "OverFirst", name := "toldAt", desc := "(IIII)I" } : Jvm.MethodName) prog_1_method_68_code (7 : Nat) (Option.some Jvm.ClassFile.FieldType.int)) ∈ lw_all := lw_g (lw_at lw_m7 9 rfl) rfl
theorem q1586 : (Jvm.Cond.instanceMethod ({ cls := "OverFirst", name := "nights", desc := "(IIII)I" } : Jvm.MethodName)) ∈ lw_all := lw_g (lw_at lw_m7 11 rfl) rfl
theorem q1587 : (Jvm.Cond.selects "OverFirst" ({ cls := "OverFirst", name := "nights", desc := "(IIII)I" } : Jvm.MethodName) ({ cls := "OverFirst", name := "nights", desc := "(IIII)I" } : Jvm.MethodName)) ∈ lw_all := lw_g (lw_at lw_m7 12 rfl) rfl
theorem q1588 : (Jvm.Cond.code ({ cls := "OverFirst", name := "nights", desc := "(IIII)I" } : Jvm.MethodName) prog_1_method_73_code (9 : Nat) (Option.some Jvm.ClassFile.FieldType.int)) ∈ lw_all := lw_g (lw_at lw_m7 13 rfl) rfl
theorem q1589 : (Jvm.Cond.methodLink "OverFirst" (453 : Nat) ({ cls := "OverFirst", name := "lives", desc := "(LOverFirst$Goer;)I" } : Jvm.MethodName)) ∈ lw_all := lw_g (lw_at lw_m7 14 rfl) rfl
theorem q1590 : (Jvm.Cond.privateMethod ({ cls := "OverFirst", name := "lives", desc := "(LOverFirst$Goer;)I" } : Jvm.MethodName)) ∈ lw_tbl := lw_at lw_m7 15 rfl
theorem q1591 : (Jvm.Cond.instanceMethod ({ cls := "OverFirst", name := "lives", desc := "(LOverFirst$Goer;)I" } : Jvm.MethodName)) ∈ lw_all := lw_g (lw_at lw_m7 16 rfl) rfl
theorem q1592 : (Jvm.Cond.code ({ cls := "OverFirst", name := "lives", desc := "(LOverFirst$Goer;)I" } : Jvm.MethodName) prog_1_method_72_code (9 : Nat) (Option.some Jvm.ClassFile.FieldType.int)) ∈ lw_all := lw_g (lw_at lw_m7 17 rfl) rfl
theorem q1593 : (Jvm.Cond.methodLink "OverFirst" (450 : Nat) ({ cls := "OverFirst", name := "draws", desc := "(I)I" } : Jvm.MethodName)) ∈ lw_all := lw_g (lw_at lw_m7 18 rfl) rfl
theorem q1594 : (Jvm.Cond.privateMethod ({ cls := "OverFirst", name := "draws", desc := "(I)I" } : Jvm.MethodName)) ∈ lw_tbl := lw_at lw_m7 19 rfl
theorem q1595 : (Jvm.Cond.instanceMethod ({ cls := "OverFirst", name := "draws", desc := "(I)I" } : Jvm.MethodName)) ∈ lw_all := lw_g (lw_at lw_m7 20 rfl) rfl
theorem q1596 : (Jvm.Cond.code ({ cls := "OverFirst", name := "draws", desc := "(I)I" } : Jvm.MethodName) prog_1_method_71_code (2 : Nat) (Option.some Jvm.ClassFile.FieldType.int)) ∈ lw_all := lw_g (lw_at lw_m7 21 rfl) rfl
theorem q1597 : (Jvm.Cond.constantLong "OverFirst" (442 : Nat) (1103515245 : Int64)) ∈ lw_all := lw_g (lw_at lw_m7 22 rfl) rfl
theorem q1598 : (Jvm.Cond.constantLong "OverFirst" (444 : Nat) (12345 : Int64)) ∈ lw_all := lw_g (lw_at lw_m7 23 rfl) rfl
theorem q1599 : (Jvm.Cond.constantLong "OverFirst" (446 : Nat) (2147483648 : Int64)) ∈ lw_all := lw_g (lw_at lw_m7 24 rfl) rfl
theorem q1600 : (Jvm.Cond.constantLong "OverFirst" (448 : Nat) (65536 : Int64)) ∈ lw_all := lw_g (lw_at lw_m7 25 rfl) rfl
theorem q1602 : (Jvm.Cond.instanceMethod ({ cls := "OverFirst", name := "mark", desc := "(IZ)Z" } : Jvm.MethodName)) ∈ lw_all := lw_g (lw_at lw_m7 27 rfl) rfl
theorem q1603 : (Jvm.Cond.selects "OverFirst" ({ cls := "OverFirst", name := "mark", desc := "(IZ)Z" } : Jvm.MethodName) ({ cls := "OverFirst", name := "mark", desc := "(IZ)Z" } : Jvm.MethodName)) ∈ lw_all := lw_g (lw_at lw_m7 28 rfl) rfl
theorem q1604 : (Jvm.Cond.code ({ cls := "OverFirst", name := "mark", desc := "(IZ)Z" } : Jvm.MethodName) prog_1_method_74_code (3 : Nat) (Option.some Jvm.ClassFile.FieldType.boolean)) ∈ lw_all := lw_g (lw_at lw_m7 29 rfl) rfl
theorem q1605 : (Jvm.Cond.methodLink "OverFirst" (457 : Nat) ({ cls := "OverFirst$State", name := "be", desc := "(LOverFirst$State;)V" } : Jvm.MethodName)) ∈ lw_all := lw_g (lw_at lw_m7 30 rfl) rfl
theorem q1611 : (Jvm.Cond.instanceMethod ({ cls := "OverFirst", name := "count", desc := "(I)I" } : Jvm.MethodName)) ∈ lw_all := lw_g (lw_at lw_m7 36 rfl) rfl
theorem q1612 : (Jvm.Cond.selects "OverFirst" ({ cls := "OverFirst", name := "count", desc := "(I)I" } : Jvm.MethodName) ({ cls := "OverFirst", name := "count", desc := "(I)I" } : Jvm.MethodName)) ∈ lw_all := lw_g (lw_at lw_m7 37 rfl) rfl
theorem q1613 : (Jvm.Cond.code ({ cls := "OverFirst", name := "count", desc := "(I)I" } : Jvm.MethodName) prog_1_method_77_code (2 : Nat) (Option.some Jvm.ClassFile.FieldType.int)) ∈ lw_all := lw_g (lw_at lw_m7 38 rfl) rfl
theorem q1614 : (Jvm.Cond.methodLink "OverFirst" (460 : Nat) ({ cls := "OverFirst", name := "lights", desc := "()I" } : Jvm.MethodName)) ∈ lw_all := lw_g (lw_at lw_m7 39 rfl) rfl
theorem q1615 : (Jvm.Cond.privateMethod ({ cls := "OverFirst", name := "lights", desc := "()I" } : Jvm.MethodName)) ∈ lw_tbl := lw_at lw_m7 40 rfl
theorem q1616 : (Jvm.Cond.instanceMethod ({ cls := "OverFirst", name := "lights", desc := "()I" } : Jvm.MethodName)) ∈ lw_all := lw_g (lw_at lw_m7 41 rfl) rfl
theorem q1617 : (Jvm.Cond.code ({ cls := "OverFirst", name := "lights", desc := "()I" } : Jvm.MethodName) prog_1_method_75_code (3 : Nat) (Option.some Jvm.ClassFile.FieldType.int)) ∈ lw_all := lw_g (lw_at lw_m7 42 rfl) rfl
theorem q1618 : (Jvm.Cond.methodLink "OverFirst" (463 : Nat) ({ cls := "OverFirst", name := "unknown", desc := "()I" } : Jvm.MethodName)) ∈ lw_all := lw_g (lw_at lw_m7 43 rfl) rfl
theorem q1619 : (Jvm.Cond.privateMethod ({ cls := "OverFirst", name := "unknown", desc := "()I" } : Jvm.MethodName)) ∈ lw_tbl := lw_at lw_m7 44 rfl
theorem q1620 : (Jvm.Cond.instanceMethod ({ cls := "OverFirst", name := "unknown", desc := "()I" } : Jvm.MethodName)) ∈ lw_all := lw_g (lw_at lw_m7 45 rfl) rfl
theorem q1621 : (Jvm.Cond.code ({ cls := "OverFirst", name := "unknown", desc := "()I" } : Jvm.MethodName) prog_1_method_76_code (3 : Nat) (Option.some Jvm.ClassFile.FieldType.int)) ∈ lw_all := lw_g (lw_at lw_m7 46 rfl) rfl
theorem q2261 : (Jvm.Cond.castable "OverFirst" "java/lang/Object") ∈ lw_tbl := lw_at lw_m9 206 rfl
theorem in_X0 : ∀ w ∈ wsX00, w ∈ lw_all := lw_in wsX00 [518, 520, 522, 524, 526, 528, 530, 532, 534, 536, 538, 540, 542, 544, 546, 548, 550, 552, 554, 556, 558, 560, 562, 564, 566, 568, 570, 572] (by decide +kernel) (by decide +kernel)
