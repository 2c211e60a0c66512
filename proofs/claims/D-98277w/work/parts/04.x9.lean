/-! OverFirstModel -/
set_option maxRecDepth 100000
def RX9 : String := "OverFirstModel"
def TX9 : u_T := fun k => match k with
  | 0 => ("OverFirstModel", "thrown", "I", false)
  | 1 => ("OverFirstModel", "tape", "[I", true)
  | 2 => ("OverFirstModel", "taped", "I", false)
  | 3 => ("OverFirstModel", "size", "I", false)
  | 4 => ("OverFirstModel", "sort", "[I", true)
  | 5 => ("OverFirstModel", "place", "[I", true)
  | 6 => ("OverFirstModel", "value", "[J", true)
  | 7 => ("OverFirstModel", "at", "I", false)
  | 8 => ("OverFirstModel", "fault", "I", false)
  | 9 => ("OverFirstModel", "words", "[J", true)
  | 10 => ("OverFirstModel", "towns", "[I", true)
  | 11 => ("OverFirstModel", "op", "[I", true)
  | 12 => ("OverFirstModel", "arg", "[I", true)
  | 13 => ("OverFirstModel", "codes", "I", false)
  | 14 => ("OverFirstModel", "names", "[J", true)
  | 15 => ("OverFirstModel", "told", "I", false)
  | 16 => ("OverFirstModel", "walks", "[I", true)
  | 17 => ("OverFirstModel", "facts", "[I", true)
  | 18 => ("OverFirstModel", "pile", "[I", true)
  | 19 => ("OverFirstModel", "state", "[I", true)
  | 20 => ("OverFirstModel", "undos", "I", false)
  | 21 => ("OverFirstModel", "isMarked", "[Z", true)
  | 22 => ("OverFirstModel", "version", "I", false)
  | 23 => ("OverFirstModel", "worth", "[I", true)
  | 24 => ("OverFirstModel", "stamp", "[I", true)
  | 25 => ("OverFirstModel", "stamped", "I", false)
  | 26 => ("OverFirstModel", "goerKept", "I", false)
  | 27 => ("OverFirstModel", "worstKept", "Z", false)
  | 28 => ("OverFirstModel", "versionKept", "I", false)
  | 29 => ("OverFirstModel", "watched", "I", false)
  | 30 => ("OverFirstModel", "shift", "I", false)
  | 31 => ("OverFirstModel", "chances", "[I", true)
  | 32 => ("OverFirstModel", "chanceStamp", "[I", true)
  | 33 => ("OverFirstModel", "chanceStamped", "I", false)
  | 34 => ("OverFirstModel", "leaves", "I", false)
  | 35 => ("OverFirstModel", "due", "I", false)
  | 36 => ("OverFirstModel", "paces", "[I", true)
  | 37 => ("OverFirstModel", "setsOut", "I", false)
  | 38 => ("OverFirstModel", "onward", "[J", true)
  | 39 => ("OverFirstModel", "back", "[J", true)
  | 40 => ("OverFirstModel", "begins0", "[I", true)
  | 41 => ("OverFirstModel", "bestBegins", "[I", true)
  | 42 => ("OverFirstModel", "bestWave", "I", false)
  | 43 => ("OverFirstModel", "fitMany", "J", false)
  | 44 => ("OverFirstModel", "fitFirst", "I", false)
  | 45 => ("OverFirstModel", "fitCorners", "J", false)
  | 46 => ("OverFirstModel", "g", "J", false)
  | _ => ("OverFirstModel", "standsAt", "[I", true)
def tyX9 : Nat → FieldType := fun k => match k with
  | 0 => .int
  | 1 => .array .int
  | 2 => .int
  | 3 => .int
  | 4 => .array .int
  | 5 => .array .int
  | 6 => .array .long
  | 7 => .int
  | 8 => .int
  | 9 => .array .long
  | 10 => .array .int
  | 11 => .array .int
  | 12 => .array .int
  | 13 => .int
  | 14 => .array .long
  | 15 => .int
  | 16 => .array .int
  | 17 => .array .int
  | 18 => .array .int
  | 19 => .array .int
  | 20 => .int
  | 21 => .array .boolean
  | 22 => .int
  | 23 => .array .int
  | 24 => .array .int
  | 25 => .int
  | 26 => .int
  | 27 => .boolean
  | 28 => .int
  | 29 => .int
  | 30 => .int
  | 31 => .array .int
  | 32 => .array .int
  | 33 => .int
  | 34 => .int
  | 35 => .int
  | 36 => .array .int
  | 37 => .int
  | 38 => .array .long
  | 39 => .array .long
  | 40 => .array .int
  | 41 => .array .int
  | 42 => .int
  | 43 => .long
  | 44 => .int
  | 45 => .long
  | 46 => .long
  | _ => .array .int
abbrev wsX90 : List Cond := u_ws RX9 TX9 48
set_option maxRecDepth 100000 in
theorem nmX9 : ∀ a, a < 48 → ∀ b, b < 48 → a ≠ b → (TX9 a).2.1 ≠ (TX9 b).2.1 := by decide +kernel
set_option maxRecDepth 100000 in
theorem tyX9_ok : ∀ k, k < 48 → parseFieldDescriptor (TX9 k).2.2.1 = some (tyX9 k) := by decide +kernel
abbrev cX9_feed : ByteArray := prog_23_method_2_code
def yX9_feed : MethodName := ⟨RX9, "feed", "(JJJ)I"⟩
def dkwX9_feed_1 : List UInt8 := [180, 0, 11, 172]
abbrev dktX9_feed_1 : List UInt8 := dkwX9_feed_1 ++ []
def dkwX9_feed_0 : List UInt8 := [42, 3, 181, 0, 1, 42, 31, 182, 0, 7, 42, 33, 182, 0, 7, 42, 22, 5, 182, 0, 7, 42]
abbrev dktX9_feed_0 : List UInt8 := dkwX9_feed_0 ++ dktX9_feed_1
theorem dksX9_feed_0 : cX9_feed.data.toList.drop 0 = dktX9_feed_0 := by decide +kernel
theorem dksX9_feed_1 : cX9_feed.data.toList.drop 22 = dktX9_feed_1 := dk_seg dksX9_feed_0 22 rfl rfl
theorem dX9_feed_0 : decode cX9_feed 0 = .ok (.aload_n 0, 1) := dk_42 (dk_at dksX9_feed_0 0 rfl rfl)
theorem dX9_feed_1 : decode cX9_feed 1 = .ok (.iconst 0, 1) := dk_3 (dk_at dksX9_feed_0 1 rfl rfl)
theorem dX9_feed_2 : decode cX9_feed 2 = .ok (.putfield 1, 3) := dk_181 0 1 (dk_at dksX9_feed_0 2 rfl rfl)
theorem dX9_feed_5 : decode cX9_feed 5 = .ok (.aload_n 0, 1) := dk_42 (dk_at dksX9_feed_0 5 rfl rfl)
theorem dX9_feed_6 : decode cX9_feed 6 = .ok (.lload_n 1, 1) := dk_31 (dk_at dksX9_feed_0 6 rfl rfl)
theorem dX9_feed_7 : decode cX9_feed 7 = .ok (.invokevirtual 7, 3) := dk_182 0 7 (dk_at dksX9_feed_0 7 rfl rfl)
theorem dX9_feed_10 : decode cX9_feed 10 = .ok (.aload_n 0, 1) := dk_42 (dk_at dksX9_feed_0 10 rfl rfl)
theorem dX9_feed_11 : decode cX9_feed 11 = .ok (.lload_n 3, 1) := dk_33 (dk_at dksX9_feed_0 11 rfl rfl)
theorem dX9_feed_12 : decode cX9_feed 12 = .ok (.invokevirtual 7, 3) := dk_182 0 7 (dk_at dksX9_feed_0 12 rfl rfl)
theorem dX9_feed_15 : decode cX9_feed 15 = .ok (.aload_n 0, 1) := dk_42 (dk_at dksX9_feed_0 15 rfl rfl)
theorem dX9_feed_16 : decode cX9_feed 16 = .ok (.lload 5, 2) := dk_22 5 (dk_at dksX9_feed_0 16 rfl rfl)
theorem dX9_feed_18 : decode cX9_feed 18 = .ok (.invokevirtual 7, 3) := dk_182 0 7 (dk_at dksX9_feed_0 18 rfl rfl)
theorem dX9_feed_21 : decode cX9_feed 21 = .ok (.aload_n 0, 1) := dk_42 (dk_at dksX9_feed_0 21 rfl rfl)
theorem dX9_feed_22 : decode cX9_feed 22 = .ok (.getfield 11, 3) := dk_180 0 11 (dk_at dksX9_feed_1 0 rfl rfl)
theorem dX9_feed_25 : decode cX9_feed 25 = .ok (.ireturn, 1) := dk_172 (dk_at dksX9_feed_1 3 rfl rfl)
abbrev cX9_lay : ByteArray := prog_23_method_3_code
def yX9_lay : MethodName := ⟨RX9, "lay", "(J)V"⟩
def dkwX9_lay_3 : List UInt8 := [167, 255, 187, 177]
abbrev dktX9_lay_3 : List UInt8 := dkwX9_lay_3 ++ []
def dkwX9_lay_2 : List UInt8 := [42, 180, 0, 14, 42, 180, 0, 11, 21, 4, 79, 42, 89, 180, 0, 11, 4, 96, 181, 0, 11, 132, 3, 248]
abbrev dktX9_lay_2 : List UInt8 := dkwX9_lay_2 ++ dktX9_lay_3
def dkwX9_lay_1 : List UInt8 := [21, 4, 16, 32, 161, 0, 41, 21, 4, 16, 126, 163, 0, 34, 42, 180, 0, 11, 17, 3, 232, 162, 0, 24]
abbrev dktX9_lay_1 : List UInt8 := dkwX9_lay_1 ++ dktX9_lay_2
def dkwX9_lay_0 : List UInt8 := [16, 56, 62, 29, 155, 0, 71, 31, 29, 123, 136, 17, 0, 255, 126, 54, 4, 21, 4, 16, 10, 159, 0, 17]
abbrev dktX9_lay_0 : List UInt8 := dkwX9_lay_0 ++ dktX9_lay_1
theorem dksX9_lay_0 : cX9_lay.data.toList.drop 0 = dktX9_lay_0 := by decide +kernel
theorem dksX9_lay_1 : cX9_lay.data.toList.drop 24 = dktX9_lay_1 := dk_seg dksX9_lay_0 24 rfl rfl
theorem dksX9_lay_2 : cX9_lay.data.toList.drop 48 = dktX9_lay_2 := dk_seg dksX9_lay_1 24 rfl rfl
theorem dksX9_lay_3 : cX9_lay.data.toList.drop 72 = dktX9_lay_3 := dk_seg dksX9_lay_2 24 rfl rfl
theorem dX9_lay_0 : decode cX9_lay 0 = .ok (.bipush 56, 2) := dk_16 56 (dk_at dksX9_lay_0 0 rfl rfl)
theorem dX9_lay_2 : decode cX9_lay 2 = .ok (.istore_n 3, 1) := dk_62 (dk_at dksX9_lay_0 2 rfl rfl)
theorem dX9_lay_3 : decode cX9_lay 3 = .ok (.iload_n 3, 1) := dk_29 (dk_at dksX9_lay_0 3 rfl rfl)
theorem dX9_lay_4 : decode cX9_lay 4 = .ok (.ifCond .lt 71, 3) := dk_155 0 71 (dk_at dksX9_lay_0 4 rfl rfl)
theorem dX9_lay_7 : decode cX9_lay 7 = .ok (.lload_n 1, 1) := dk_31 (dk_at dksX9_lay_0 7 rfl rfl)
theorem dX9_lay_8 : decode cX9_lay 8 = .ok (.iload_n 3, 1) := dk_29 (dk_at dksX9_lay_0 8 rfl rfl)
theorem dX9_lay_9 : decode cX9_lay 9 = .ok (.lshr, 1) := dk_123 (dk_at dksX9_lay_0 9 rfl rfl)
theorem dX9_lay_10 : decode cX9_lay 10 = .ok (.l2i, 1) := dk_136 (dk_at dksX9_lay_0 10 rfl rfl)
theorem dX9_lay_11 : decode cX9_lay 11 = .ok (.sipush 255, 3) := dk_17 0 255 (dk_at dksX9_lay_0 11 rfl rfl)
theorem dX9_lay_14 : decode cX9_lay 14 = .ok (.iand, 1) := dk_126 (dk_at dksX9_lay_0 14 rfl rfl)
theorem dX9_lay_15 : decode cX9_lay 15 = .ok (.istore 4, 2) := dk_54 4 (dk_at dksX9_lay_0 15 rfl rfl)
theorem dX9_lay_17 : decode cX9_lay 17 = .ok (.iload 4, 2) := dk_21 4 (dk_at dksX9_lay_0 17 rfl rfl)
theorem dX9_lay_19 : decode cX9_lay 19 = .ok (.bipush 10, 2) := dk_16 10 (dk_at dksX9_lay_0 19 rfl rfl)
theorem dX9_lay_21 : decode cX9_lay 21 = .ok (.if_icmp .eq 17, 3) := dk_159 0 17 (dk_at dksX9_lay_0 21 rfl rfl)
theorem dX9_lay_24 : decode cX9_lay 24 = .ok (.iload 4, 2) := dk_21 4 (dk_at dksX9_lay_1 0 rfl rfl)
theorem dX9_lay_26 : decode cX9_lay 26 = .ok (.bipush 32, 2) := dk_16 32 (dk_at dksX9_lay_1 2 rfl rfl)
theorem dX9_lay_28 : decode cX9_lay 28 = .ok (.if_icmp .lt 41, 3) := dk_161 0 41 (dk_at dksX9_lay_1 4 rfl rfl)
theorem dX9_lay_31 : decode cX9_lay 31 = .ok (.iload 4, 2) := dk_21 4 (dk_at dksX9_lay_1 7 rfl rfl)
theorem dX9_lay_33 : decode cX9_lay 33 = .ok (.bipush 126, 2) := dk_16 126 (dk_at dksX9_lay_1 9 rfl rfl)
theorem dX9_lay_35 : decode cX9_lay 35 = .ok (.if_icmp .gt 34, 3) := dk_163 0 34 (dk_at dksX9_lay_1 11 rfl rfl)
theorem dX9_lay_38 : decode cX9_lay 38 = .ok (.aload_n 0, 1) := dk_42 (dk_at dksX9_lay_1 14 rfl rfl)
theorem dX9_lay_39 : decode cX9_lay 39 = .ok (.getfield 11, 3) := dk_180 0 11 (dk_at dksX9_lay_1 15 rfl rfl)
theorem dX9_lay_42 : decode cX9_lay 42 = .ok (.sipush 1000, 3) := dk_17 3 232 (dk_at dksX9_lay_1 18 rfl rfl)
theorem dX9_lay_45 : decode cX9_lay 45 = .ok (.if_icmp .ge 24, 3) := dk_162 0 24 (dk_at dksX9_lay_1 21 rfl rfl)
theorem dX9_lay_48 : decode cX9_lay 48 = .ok (.aload_n 0, 1) := dk_42 (dk_at dksX9_lay_2 0 rfl rfl)
theorem dX9_lay_49 : decode cX9_lay 49 = .ok (.getfield 14, 3) := dk_180 0 14 (dk_at dksX9_lay_2 1 rfl rfl)
theorem dX9_lay_52 : decode cX9_lay 52 = .ok (.aload_n 0, 1) := dk_42 (dk_at dksX9_lay_2 4 rfl rfl)
theorem dX9_lay_53 : decode cX9_lay 53 = .ok (.getfield 11, 3) := dk_180 0 11 (dk_at dksX9_lay_2 5 rfl rfl)
theorem dX9_lay_56 : decode cX9_lay 56 = .ok (.iload 4, 2) := dk_21 4 (dk_at dksX9_lay_2 8 rfl rfl)
theorem dX9_lay_58 : decode cX9_lay 58 = .ok (.iastore, 1) := dk_79 (dk_at dksX9_lay_2 10 rfl rfl)
theorem dX9_lay_59 : decode cX9_lay 59 = .ok (.aload_n 0, 1) := dk_42 (dk_at dksX9_lay_2 11 rfl rfl)
theorem dX9_lay_60 : decode cX9_lay 60 = .ok (.dup, 1) := dk_89 (dk_at dksX9_lay_2 12 rfl rfl)
theorem dX9_lay_61 : decode cX9_lay 61 = .ok (.getfield 11, 3) := dk_180 0 11 (dk_at dksX9_lay_2 13 rfl rfl)
theorem dX9_lay_64 : decode cX9_lay 64 = .ok (.iconst 1, 1) := dk_4 (dk_at dksX9_lay_2 16 rfl rfl)
theorem dX9_lay_65 : decode cX9_lay 65 = .ok (.iadd, 1) := dk_96 (dk_at dksX9_lay_2 17 rfl rfl)
theorem dX9_lay_66 : decode cX9_lay 66 = .ok (.putfield 11, 3) := dk_181 0 11 (dk_at dksX9_lay_2 18 rfl rfl)
theorem dX9_lay_69 : decode cX9_lay 69 = .ok (.iinc 3 (-8), 3) := dk_132 3 248 (dk_at dksX9_lay_2 21 rfl rfl)
theorem dX9_lay_72 : decode cX9_lay 72 = .ok (.goto (-69), 3) := dk_167 255 187 (dk_at dksX9_lay_3 0 rfl rfl)
theorem dX9_lay_75 : decode cX9_lay 75 = .ok (.return_, 1) := dk_177 (dk_at dksX9_lay_3 3 rfl rfl)
abbrev cX9_init : ByteArray := prog_23_method_4_code
def yX9_init : MethodName := ⟨RX9, "<init>", "()V"⟩
def dkwX9_init_16 : List UInt8 := [4, 79, 42, 182, 0, 151, 177]
abbrev dktX9_init_16 : List UInt8 := dkwX9_init_16 ++ []
def dkwX9_init_15 : List UInt8 := [16, 54, 188, 10, 181, 0, 144, 42, 3, 182, 0, 147, 42, 180, 0, 81, 3, 4, 79, 42, 180, 0, 81, 4]
abbrev dktX9_init_15 : List UInt8 := dkwX9_init_15 ++ dktX9_init_16
def dkwX9_init_14 : List UInt8 := [42, 17, 0, 240, 188, 11, 181, 0, 135, 42, 7, 188, 10, 181, 0, 138, 42, 7, 188, 10, 181, 0, 141, 42]
abbrev dktX9_init_14 : List UInt8 := dkwX9_init_14 ++ dktX9_init_15
def dkwX9_init_13 : List UInt8 := [18, 109, 188, 10, 181, 0, 125, 42, 18, 128, 188, 10, 181, 0, 129, 42, 17, 0, 240, 188, 11, 181, 0, 132]
abbrev dktX9_init_13 : List UInt8 := dkwX9_init_13 ++ dktX9_init_14
def dkwX9_init_12 : List UInt8 := [188, 10, 181, 0, 113, 42, 2, 181, 0, 116, 42, 2, 181, 0, 119, 42, 18, 109, 188, 10, 181, 0, 122, 42]
abbrev dktX9_init_12 : List UInt8 := dkwX9_init_12 ++ dktX9_init_13
def dkwX9_init_11 : List UInt8 := [188, 10, 181, 0, 102, 42, 7, 188, 4, 181, 0, 105, 42, 18, 109, 188, 10, 181, 0, 110, 42, 18, 109]
abbrev dktX9_init_11 : List UInt8 := dkwX9_init_11 ++ dktX9_init_12
def dkwX9_init_10 : List UInt8 := [181, 0, 93, 42, 7, 188, 10, 181, 0, 96, 42, 17, 4, 76, 188, 10, 181, 0, 99, 42, 17, 9, 216]
abbrev dktX9_init_10 : List UInt8 := dkwX9_init_10 ++ dktX9_init_11
def dkwX9_init_9 : List UInt8 := [181, 0, 84, 42, 17, 8, 152, 188, 10, 181, 0, 87, 42, 7, 188, 11, 181, 0, 90, 42, 16, 60, 188, 10]
abbrev dktX9_init_9 : List UInt8 := dkwX9_init_9 ++ dktX9_init_10
def dkwX9_init_8 : List UInt8 := [20, 0, 76, 80, 181, 0, 78, 42, 17, 2, 168, 188, 10, 181, 0, 81, 42, 17, 8, 152, 188, 10]
abbrev dktX9_init_8 : List UInt8 := dkwX9_init_8 ++ dktX9_init_9
def dkwX9_init_7 : List UInt8 := [16, 18, 20, 0, 70, 80, 89, 16, 19, 20, 0, 72, 80, 89, 16, 20, 20, 0, 74, 80, 89, 16, 21]
abbrev dktX9_init_7 : List UInt8 := dkwX9_init_7 ++ dktX9_init_8
def dkwX9_init_6 : List UInt8 := [80, 89, 16, 15, 20, 0, 64, 80, 89, 16, 16, 20, 0, 66, 80, 89, 16, 17, 20, 0, 68, 80, 89]
abbrev dktX9_init_6 : List UInt8 := dkwX9_init_6 ++ dktX9_init_7
def dkwX9_init_5 : List UInt8 := [20, 0, 56, 80, 89, 16, 12, 20, 0, 58, 80, 89, 16, 13, 20, 0, 60, 80, 89, 16, 14, 20, 0, 62]
abbrev dktX9_init_5 : List UInt8 := dkwX9_init_5 ++ dktX9_init_6
def dkwX9_init_4 : List UInt8 := [89, 16, 8, 20, 0, 50, 80, 89, 16, 9, 20, 0, 52, 80, 89, 16, 10, 20, 0, 54, 80, 89, 16, 11]
abbrev dktX9_init_4 : List UInt8 := dkwX9_init_4 ++ dktX9_init_5
def dkwX9_init_3 : List UInt8 := [20, 0, 42, 80, 89, 8, 20, 0, 44, 80, 89, 16, 6, 20, 0, 46, 80, 89, 16, 7, 20, 0, 48, 80]
abbrev dktX9_init_3 : List UInt8 := dkwX9_init_3 ++ dktX9_init_4
def dkwX9_init_2 : List UInt8 := [20, 0, 34, 80, 89, 4, 20, 0, 36, 80, 89, 5, 20, 0, 38, 80, 89, 6, 20, 0, 40, 80, 89, 7]
abbrev dktX9_init_2 : List UInt8 := dkwX9_init_2 ++ dktX9_init_3
def dkwX9_init_1 : List UInt8 := [17, 3, 234, 188, 10, 181, 0, 27, 42, 17, 3, 234, 188, 11, 181, 0, 30, 42, 16, 22, 188, 11, 89, 3]
abbrev dktX9_init_1 : List UInt8 := dkwX9_init_1 ++ dktX9_init_2
def dkwX9_init_0 : List UInt8 := [42, 183, 0, 18, 42, 17, 3, 232, 188, 10, 181, 0, 14, 42, 17, 3, 234, 188, 10, 181, 0, 24, 42]
abbrev dktX9_init_0 : List UInt8 := dkwX9_init_0 ++ dktX9_init_1
theorem dksX9_init_0 : cX9_init.data.toList.drop 0 = dktX9_init_0 := by decide +kernel
theorem dksX9_init_1 : cX9_init.data.toList.drop 23 = dktX9_init_1 := dk_seg dksX9_init_0 23 rfl rfl
theorem dksX9_init_2 : cX9_init.data.toList.drop 47 = dktX9_init_2 := dk_seg dksX9_init_1 24 rfl rfl
theorem dksX9_init_3 : cX9_init.data.toList.drop 71 = dktX9_init_3 := dk_seg dksX9_init_2 24 rfl rfl
theorem dksX9_init_4 : cX9_init.data.toList.drop 95 = dktX9_init_4 := dk_seg dksX9_init_3 24 rfl rfl
theorem dksX9_init_5 : cX9_init.data.toList.drop 119 = dktX9_init_5 := dk_seg dksX9_init_4 24 rfl rfl
theorem dksX9_init_6 : cX9_init.data.toList.drop 143 = dktX9_init_6 := dk_seg dksX9_init_5 24 rfl rfl
theorem dksX9_init_7 : cX9_init.data.toList.drop 166 = dktX9_init_7 := dk_seg dksX9_init_6 23 rfl rfl
theorem dksX9_init_8 : cX9_init.data.toList.drop 189 = dktX9_init_8 := dk_seg dksX9_init_7 23 rfl rfl
theorem dksX9_init_9 : cX9_init.data.toList.drop 211 = dktX9_init_9 := dk_seg dksX9_init_8 22 rfl rfl
theorem dksX9_init_10 : cX9_init.data.toList.drop 235 = dktX9_init_10 := dk_seg dksX9_init_9 24 rfl rfl
theorem dksX9_init_11 : cX9_init.data.toList.drop 258 = dktX9_init_11 := dk_seg dksX9_init_10 23 rfl rfl
theorem dksX9_init_12 : cX9_init.data.toList.drop 281 = dktX9_init_12 := dk_seg dksX9_init_11 23 rfl rfl
theorem dksX9_init_13 : cX9_init.data.toList.drop 305 = dktX9_init_13 := dk_seg dksX9_init_12 24 rfl rfl
theorem dksX9_init_14 : cX9_init.data.toList.drop 329 = dktX9_init_14 := dk_seg dksX9_init_13 24 rfl rfl
theorem dksX9_init_15 : cX9_init.data.toList.drop 353 = dktX9_init_15 := dk_seg dksX9_init_14 24 rfl rfl
theorem dksX9_init_16 : cX9_init.data.toList.drop 377 = dktX9_init_16 := dk_seg dksX9_init_15 24 rfl rfl
theorem dX9_init_0 : decode cX9_init 0 = .ok (.aload_n 0, 1) := dk_42 (dk_at dksX9_init_0 0 rfl rfl)
theorem dX9_init_1 : decode cX9_init 1 = .ok (.invokespecial 18, 3) := dk_183 0 18 (dk_at dksX9_init_0 1 rfl rfl)
theorem dX9_init_4 : decode cX9_init 4 = .ok (.aload_n 0, 1) := dk_42 (dk_at dksX9_init_0 4 rfl rfl)
theorem dX9_init_5 : decode cX9_init 5 = .ok (.sipush 1000, 3) := dk_17 3 232 (dk_at dksX9_init_0 5 rfl rfl)
theorem dX9_init_8 : decode cX9_init 8 = .ok (.newarray .int, 2) := dk_188_10 (dk_at dksX9_init_0 8 rfl rfl)
theorem dX9_init_10 : decode cX9_init 10 = .ok (.putfield 14, 3) := dk_181 0 14 (dk_at dksX9_init_0 10 rfl rfl)
theorem dX9_init_13 : decode cX9_init 13 = .ok (.aload_n 0, 1) := dk_42 (dk_at dksX9_init_0 13 rfl rfl)
theorem dX9_init_14 : decode cX9_init 14 = .ok (.sipush 1002, 3) := dk_17 3 234 (dk_at dksX9_init_0 14 rfl rfl)
theorem dX9_init_17 : decode cX9_init 17 = .ok (.newarray .int, 2) := dk_188_10 (dk_at dksX9_init_0 17 rfl rfl)
theorem dX9_init_19 : decode cX9_init 19 = .ok (.putfield 24, 3) := dk_181 0 24 (dk_at dksX9_init_0 19 rfl rfl)
theorem dX9_init_22 : decode cX9_init 22 = .ok (.aload_n 0, 1) := dk_42 (dk_at dksX9_init_0 22 rfl rfl)
theorem dX9_init_23 : decode cX9_init 23 = .ok (.sipush 1002, 3) := dk_17 3 234 (dk_at dksX9_init_1 0 rfl rfl)
theorem dX9_init_26 : decode cX9_init 26 = .ok (.newarray .int, 2) := dk_188_10 (dk_at dksX9_init_1 3 rfl rfl)
theorem dX9_init_28 : decode cX9_init 28 = .ok (.putfield 27, 3) := dk_181 0 27 (dk_at dksX9_init_1 5 rfl rfl)
theorem dX9_init_31 : decode cX9_init 31 = .ok (.aload_n 0, 1) := dk_42 (dk_at dksX9_init_1 8 rfl rfl)
theorem dX9_init_32 : decode cX9_init 32 = .ok (.sipush 1002, 3) := dk_17 3 234 (dk_at dksX9_init_1 9 rfl rfl)
theorem dX9_init_35 : decode cX9_init 35 = .ok (.newarray .long, 2) := dk_188_11 (dk_at dksX9_init_1 12 rfl rfl)
theorem dX9_init_37 : decode cX9_init 37 = .ok (.putfield 30, 3) := dk_181 0 30 (dk_at dksX9_init_1 14 rfl rfl)
theorem dX9_init_40 : decode cX9_init 40 = .ok (.aload_n 0, 1) := dk_42 (dk_at dksX9_init_1 17 rfl rfl)
theorem dX9_init_41 : decode cX9_init 41 = .ok (.bipush 22, 2) := dk_16 22 (dk_at dksX9_init_1 18 rfl rfl)
theorem dX9_init_43 : decode cX9_init 43 = .ok (.newarray .long, 2) := dk_188_11 (dk_at dksX9_init_1 20 rfl rfl)
theorem dX9_init_45 : decode cX9_init 45 = .ok (.dup, 1) := dk_89 (dk_at dksX9_init_1 22 rfl rfl)
theorem dX9_init_46 : decode cX9_init 46 = .ok (.iconst 0, 1) := dk_3 (dk_at dksX9_init_1 23 rfl rfl)
theorem dX9_init_47 : decode cX9_init 47 = .ok (.ldc2_w 34, 3) := dk_20 0 34 (dk_at dksX9_init_2 0 rfl rfl)
theorem dX9_init_50 : decode cX9_init 50 = .ok (.lastore, 1) := dk_80 (dk_at dksX9_init_2 3 rfl rfl)
theorem dX9_init_51 : decode cX9_init 51 = .ok (.dup, 1) := dk_89 (dk_at dksX9_init_2 4 rfl rfl)
theorem dX9_init_52 : decode cX9_init 52 = .ok (.iconst 1, 1) := dk_4 (dk_at dksX9_init_2 5 rfl rfl)
theorem dX9_init_53 : decode cX9_init 53 = .ok (.ldc2_w 36, 3) := dk_20 0 36 (dk_at dksX9_init_2 6 rfl rfl)
theorem dX9_init_56 : decode cX9_init 56 = .ok (.lastore, 1) := dk_80 (dk_at dksX9_init_2 9 rfl rfl)
theorem dX9_init_57 : decode cX9_init 57 = .ok (.dup, 1) := dk_89 (dk_at dksX9_init_2 10 rfl rfl)
theorem dX9_init_58 : decode cX9_init 58 = .ok (.iconst 2, 1) := dk_5 (dk_at dksX9_init_2 11 rfl rfl)
theorem dX9_init_59 : decode cX9_init 59 = .ok (.ldc2_w 38, 3) := dk_20 0 38 (dk_at dksX9_init_2 12 rfl rfl)
theorem dX9_init_62 : decode cX9_init 62 = .ok (.lastore, 1) := dk_80 (dk_at dksX9_init_2 15 rfl rfl)
theorem dX9_init_63 : decode cX9_init 63 = .ok (.dup, 1) := dk_89 (dk_at dksX9_init_2 16 rfl rfl)
theorem dX9_init_64 : decode cX9_init 64 = .ok (.iconst 3, 1) := dk_6 (dk_at dksX9_init_2 17 rfl rfl)
theorem dX9_init_65 : decode cX9_init 65 = .ok (.ldc2_w 40, 3) := dk_20 0 40 (dk_at dksX9_init_2 18 rfl rfl)
theorem dX9_init_68 : decode cX9_init 68 = .ok (.lastore, 1) := dk_80 (dk_at dksX9_init_2 21 rfl rfl)
theorem dX9_init_69 : decode cX9_init 69 = .ok (.dup, 1) := dk_89 (dk_at dksX9_init_2 22 rfl rfl)
theorem dX9_init_70 : decode cX9_init 70 = .ok (.iconst 4, 1) := dk_7 (dk_at dksX9_init_2 23 rfl rfl)
theorem dX9_init_71 : decode cX9_init 71 = .ok (.ldc2_w 42, 3) := dk_20 0 42 (dk_at dksX9_init_3 0 rfl rfl)
theorem dX9_init_74 : decode cX9_init 74 = .ok (.lastore, 1) := dk_80 (dk_at dksX9_init_3 3 rfl rfl)
theorem dX9_init_75 : decode cX9_init 75 = .ok (.dup, 1) := dk_89 (dk_at dksX9_init_3 4 rfl rfl)
theorem dX9_init_76 : decode cX9_init 76 = .ok (.iconst 5, 1) := dk_8 (dk_at dksX9_init_3 5 rfl rfl)
theorem dX9_init_77 : decode cX9_init 77 = .ok (.ldc2_w 44, 3) := dk_20 0 44 (dk_at dksX9_init_3 6 rfl rfl)
theorem dX9_init_80 : decode cX9_init 80 = .ok (.lastore, 1) := dk_80 (dk_at dksX9_init_3 9 rfl rfl)
theorem dX9_init_81 : decode cX9_init 81 = .ok (.dup, 1) := dk_89 (dk_at dksX9_init_3 10 rfl rfl)
theorem dX9_init_82 : decode cX9_init 82 = .ok (.bipush 6, 2) := dk_16 6 (dk_at dksX9_init_3 11 rfl rfl)
theorem dX9_init_84 : decode cX9_init 84 = .ok (.ldc2_w 46, 3) := dk_20 0 46 (dk_at dksX9_init_3 13 rfl rfl)
theorem dX9_init_87 : decode cX9_init 87 = .ok (.lastore, 1) := dk_80 (dk_at dksX9_init_3 16 rfl rfl)
theorem dX9_init_88 : decode cX9_init 88 = .ok (.dup, 1) := dk_89 (dk_at dksX9_init_3 17 rfl rfl)
theorem dX9_init_89 : decode cX9_init 89 = .ok (.bipush 7, 2) := dk_16 7 (dk_at dksX9_init_3 18 rfl rfl)
theorem dX9_init_91 : decode cX9_init 91 = .ok (.ldc2_w 48, 3) := dk_20 0 48 (dk_at dksX9_init_3 20 rfl rfl)
theorem dX9_init_94 : decode cX9_init 94 = .ok (.lastore, 1) := dk_80 (dk_at dksX9_init_3 23 rfl rfl)
theorem dX9_init_95 : decode cX9_init 95 = .ok (.dup, 1) := dk_89 (dk_at dksX9_init_4 0 rfl rfl)
theorem dX9_init_96 : decode cX9_init 96 = .ok (.bipush 8, 2) := dk_16 8 (dk_at dksX9_init_4 1 rfl rfl)
theorem dX9_init_98 : decode cX9_init 98 = .ok (.ldc2_w 50, 3) := dk_20 0 50 (dk_at dksX9_init_4 3 rfl rfl)
theorem dX9_init_101 : decode cX9_init 101 = .ok (.lastore, 1) := dk_80 (dk_at dksX9_init_4 6 rfl rfl)
theorem dX9_init_102 : decode cX9_init 102 = .ok (.dup, 1) := dk_89 (dk_at dksX9_init_4 7 rfl rfl)
theorem dX9_init_103 : decode cX9_init 103 = .ok (.bipush 9, 2) := dk_16 9 (dk_at dksX9_init_4 8 rfl rfl)
theorem dX9_init_105 : decode cX9_init 105 = .ok (.ldc2_w 52, 3) := dk_20 0 52 (dk_at dksX9_init_4 10 rfl rfl)
theorem dX9_init_108 : decode cX9_init 108 = .ok (.lastore, 1) := dk_80 (dk_at dksX9_init_4 13 rfl rfl)
theorem dX9_init_109 : decode cX9_init 109 = .ok (.dup, 1) := dk_89 (dk_at dksX9_init_4 14 rfl rfl)
theorem dX9_init_110 : decode cX9_init 110 = .ok (.bipush 10, 2) := dk_16 10 (dk_at dksX9_init_4 15 rfl rfl)
theorem dX9_init_112 : decode cX9_init 112 = .ok (.ldc2_w 54, 3) := dk_20 0 54 (dk_at dksX9_init_4 17 rfl rfl)
theorem dX9_init_115 : decode cX9_init 115 = .ok (.lastore, 1) := dk_80 (dk_at dksX9_init_4 20 rfl rfl)
theorem dX9_init_116 : decode cX9_init 116 = .ok (.dup, 1) := dk_89 (dk_at dksX9_init_4 21 rfl rfl)
theorem dX9_init_117 : decode cX9_init 117 = .ok (.bipush 11, 2) := dk_16 11 (dk_at dksX9_init_4 22 rfl rfl)
theorem dX9_init_119 : decode cX9_init 119 = .ok (.ldc2_w 56, 3) := dk_20 0 56 (dk_at dksX9_init_5 0 rfl rfl)
theorem dX9_init_122 : decode cX9_init 122 = .ok (.lastore, 1) := dk_80 (dk_at dksX9_init_5 3 rfl rfl)
theorem dX9_init_123 : decode cX9_init 123 = .ok (.dup, 1) := dk_89 (dk_at dksX9_init_5 4 rfl rfl)
theorem dX9_init_124 : decode cX9_init 124 = .ok (.bipush 12, 2) := dk_16 12 (dk_at dksX9_init_5 5 rfl rfl)
theorem dX9_init_126 : decode cX9_init 126 = .ok (.ldc2_w 58, 3) := dk_20 0 58 (dk_at dksX9_init_5 7 rfl rfl)
theorem dX9_init_129 : decode cX9_init 129 = .ok (.lastore, 1) := dk_80 (dk_at dksX9_init_5 10 rfl rfl)
theorem dX9_init_130 : decode cX9_init 130 = .ok (.dup, 1) := dk_89 (dk_at dksX9_init_5 11 rfl rfl)
theorem dX9_init_131 : decode cX9_init 131 = .ok (.bipush 13, 2) := dk_16 13 (dk_at dksX9_init_5 12 rfl rfl)
theorem dX9_init_133 : decode cX9_init 133 = .ok (.ldc2_w 60, 3) := dk_20 0 60 (dk_at dksX9_init_5 14 rfl rfl)
theorem dX9_init_136 : decode cX9_init 136 = .ok (.lastore, 1) := dk_80 (dk_at dksX9_init_5 17 rfl rfl)
theorem dX9_init_137 : decode cX9_init 137 = .ok (.dup, 1) := dk_89 (dk_at dksX9_init_5 18 rfl rfl)
theorem dX9_init_138 : decode cX9_init 138 = .ok (.bipush 14, 2) := dk_16 14 (dk_at dksX9_init_5 19 rfl rfl)
theorem dX9_init_140 : decode cX9_init 140 = .ok (.ldc2_w 62, 3) := dk_20 0 62 (dk_at dksX9_init_5 21 rfl rfl)
theorem dX9_init_143 : decode cX9_init 143 = .ok (.lastore, 1) := dk_80 (dk_at dksX9_init_6 0 rfl rfl)
theorem dX9_init_144 : decode cX9_init 144 = .ok (.dup, 1) := dk_89 (dk_at dksX9_init_6 1 rfl rfl)
theorem dX9_init_145 : decode cX9_init 145 = .ok (.bipush 15, 2) := dk_16 15 (dk_at dksX9_init_6 2 rfl rfl)
theorem dX9_init_147 : decode cX9_init 147 = .ok (.ldc2_w 64, 3) := dk_20 0 64 (dk_at dksX9_init_6 4 rfl rfl)
theorem dX9_init_150 : decode cX9_init 150 = .ok (.lastore, 1) := dk_80 (dk_at dksX9_init_6 7 rfl rfl)
theorem dX9_init_151 : decode cX9_init 151 = .ok (.dup, 1) := dk_89 (dk_at dksX9_init_6 8 rfl rfl)
theorem dX9_init_152 : decode cX9_init 152 = .ok (.bipush 16, 2) := dk_16 16 (dk_at dksX9_init_6 9 rfl rfl)
theorem dX9_init_154 : decode cX9_init 154 = .ok (.ldc2_w 66, 3) := dk_20 0 66 (dk_at dksX9_init_6 11 rfl rfl)
theorem dX9_init_157 : decode cX9_init 157 = .ok (.lastore, 1) := dk_80 (dk_at dksX9_init_6 14 rfl rfl)
theorem dX9_init_158 : decode cX9_init 158 = .ok (.dup, 1) := dk_89 (dk_at dksX9_init_6 15 rfl rfl)
theorem dX9_init_159 : decode cX9_init 159 = .ok (.bipush 17, 2) := dk_16 17 (dk_at dksX9_init_6 16 rfl rfl)
theorem dX9_init_161 : decode cX9_init 161 = .ok (.ldc2_w 68, 3) := dk_20 0 68 (dk_at dksX9_init_6 18 rfl rfl)
theorem dX9_init_164 : decode cX9_init 164 = .ok (.lastore, 1) := dk_80 (dk_at dksX9_init_6 21 rfl rfl)
theorem dX9_init_165 : decode cX9_init 165 = .ok (.dup, 1) := dk_89 (dk_at dksX9_init_6 22 rfl rfl)
theorem dX9_init_166 : decode cX9_init 166 = .ok (.bipush 18, 2) := dk_16 18 (dk_at dksX9_init_7 0 rfl rfl)
theorem dX9_init_168 : decode cX9_init 168 = .ok (.ldc2_w 70, 3) := dk_20 0 70 (dk_at dksX9_init_7 2 rfl rfl)
theorem dX9_init_171 : decode cX9_init 171 = .ok (.lastore, 1) := dk_80 (dk_at dksX9_init_7 5 rfl rfl)
theorem dX9_init_172 : decode cX9_init 172 = .ok (.dup, 1) := dk_89 (dk_at dksX9_init_7 6 rfl rfl)
theorem dX9_init_173 : decode cX9_init 173 = .ok (.bipush 19, 2) := dk_16 19 (dk_at dksX9_init_7 7 rfl rfl)
theorem dX9_init_175 : decode cX9_init 175 = .ok (.ldc2_w 72, 3) := dk_20 0 72 (dk_at dksX9_init_7 9 rfl rfl)
theorem dX9_init_178 : decode cX9_init 178 = .ok (.lastore, 1) := dk_80 (dk_at dksX9_init_7 12 rfl rfl)
theorem dX9_init_179 : decode cX9_init 179 = .ok (.dup, 1) := dk_89 (dk_at dksX9_init_7 13 rfl rfl)
theorem dX9_init_180 : decode cX9_init 180 = .ok (.bipush 20, 2) := dk_16 20 (dk_at dksX9_init_7 14 rfl rfl)
theorem dX9_init_182 : decode cX9_init 182 = .ok (.ldc2_w 74, 3) := dk_20 0 74 (dk_at dksX9_init_7 16 rfl rfl)
theorem dX9_init_185 : decode cX9_init 185 = .ok (.lastore, 1) := dk_80 (dk_at dksX9_init_7 19 rfl rfl)
theorem dX9_init_186 : decode cX9_init 186 = .ok (.dup, 1) := dk_89 (dk_at dksX9_init_7 20 rfl rfl)
theorem dX9_init_187 : decode cX9_init 187 = .ok (.bipush 21, 2) := dk_16 21 (dk_at dksX9_init_7 21 rfl rfl)
theorem dX9_init_189 : decode cX9_init 189 = .ok (.ldc2_w 76, 3) := dk_20 0 76 (dk_at dksX9_init_8 0 rfl rfl)
theorem dX9_init_192 : decode cX9_init 192 = .ok (.lastore, 1) := dk_80 (dk_at dksX9_init_8 3 rfl rfl)
theorem dX9_init_193 : decode cX9_init 193 = .ok (.putfield 78, 3) := dk_181 0 78 (dk_at dksX9_init_8 4 rfl rfl)
theorem dX9_init_196 : decode cX9_init 196 = .ok (.aload_n 0, 1) := dk_42 (dk_at dksX9_init_8 7 rfl rfl)
theorem dX9_init_197 : decode cX9_init 197 = .ok (.sipush 680, 3) := dk_17 2 168 (dk_at dksX9_init_8 8 rfl rfl)
theorem dX9_init_200 : decode cX9_init 200 = .ok (.newarray .int, 2) := dk_188_10 (dk_at dksX9_init_8 11 rfl rfl)
theorem dX9_init_202 : decode cX9_init 202 = .ok (.putfield 81, 3) := dk_181 0 81 (dk_at dksX9_init_8 13 rfl rfl)
theorem dX9_init_205 : decode cX9_init 205 = .ok (.aload_n 0, 1) := dk_42 (dk_at dksX9_init_8 16 rfl rfl)
theorem dX9_init_206 : decode cX9_init 206 = .ok (.sipush 2200, 3) := dk_17 8 152 (dk_at dksX9_init_8 17 rfl rfl)
theorem dX9_init_209 : decode cX9_init 209 = .ok (.newarray .int, 2) := dk_188_10 (dk_at dksX9_init_8 20 rfl rfl)
theorem dX9_init_211 : decode cX9_init 211 = .ok (.putfield 84, 3) := dk_181 0 84 (dk_at dksX9_init_9 0 rfl rfl)
theorem dX9_init_214 : decode cX9_init 214 = .ok (.aload_n 0, 1) := dk_42 (dk_at dksX9_init_9 3 rfl rfl)
theorem dX9_init_215 : decode cX9_init 215 = .ok (.sipush 2200, 3) := dk_17 8 152 (dk_at dksX9_init_9 4 rfl rfl)
theorem dX9_init_218 : decode cX9_init 218 = .ok (.newarray .int, 2) := dk_188_10 (dk_at dksX9_init_9 7 rfl rfl)
theorem dX9_init_220 : decode cX9_init 220 = .ok (.putfield 87, 3) := dk_181 0 87 (dk_at dksX9_init_9 9 rfl rfl)
theorem dX9_init_223 : decode cX9_init 223 = .ok (.aload_n 0, 1) := dk_42 (dk_at dksX9_init_9 12 rfl rfl)
theorem dX9_init_224 : decode cX9_init 224 = .ok (.iconst 4, 1) := dk_7 (dk_at dksX9_init_9 13 rfl rfl)
theorem dX9_init_225 : decode cX9_init 225 = .ok (.newarray .long, 2) := dk_188_11 (dk_at dksX9_init_9 14 rfl rfl)
theorem dX9_init_227 : decode cX9_init 227 = .ok (.putfield 90, 3) := dk_181 0 90 (dk_at dksX9_init_9 16 rfl rfl)
theorem dX9_init_230 : decode cX9_init 230 = .ok (.aload_n 0, 1) := dk_42 (dk_at dksX9_init_9 19 rfl rfl)
theorem dX9_init_231 : decode cX9_init 231 = .ok (.bipush 60, 2) := dk_16 60 (dk_at dksX9_init_9 20 rfl rfl)
theorem dX9_init_233 : decode cX9_init 233 = .ok (.newarray .int, 2) := dk_188_10 (dk_at dksX9_init_9 22 rfl rfl)
theorem dX9_init_235 : decode cX9_init 235 = .ok (.putfield 93, 3) := dk_181 0 93 (dk_at dksX9_init_10 0 rfl rfl)
theorem dX9_init_238 : decode cX9_init 238 = .ok (.aload_n 0, 1) := dk_42 (dk_at dksX9_init_10 3 rfl rfl)
theorem dX9_init_239 : decode cX9_init 239 = .ok (.iconst 4, 1) := dk_7 (dk_at dksX9_init_10 4 rfl rfl)
theorem dX9_init_240 : decode cX9_init 240 = .ok (.newarray .int, 2) := dk_188_10 (dk_at dksX9_init_10 5 rfl rfl)
theorem dX9_init_242 : decode cX9_init 242 = .ok (.putfield 96, 3) := dk_181 0 96 (dk_at dksX9_init_10 7 rfl rfl)
theorem dX9_init_245 : decode cX9_init 245 = .ok (.aload_n 0, 1) := dk_42 (dk_at dksX9_init_10 10 rfl rfl)
theorem dX9_init_246 : decode cX9_init 246 = .ok (.sipush 1100, 3) := dk_17 4 76 (dk_at dksX9_init_10 11 rfl rfl)
theorem dX9_init_249 : decode cX9_init 249 = .ok (.newarray .int, 2) := dk_188_10 (dk_at dksX9_init_10 14 rfl rfl)
theorem dX9_init_251 : decode cX9_init 251 = .ok (.putfield 99, 3) := dk_181 0 99 (dk_at dksX9_init_10 16 rfl rfl)
theorem dX9_init_254 : decode cX9_init 254 = .ok (.aload_n 0, 1) := dk_42 (dk_at dksX9_init_10 19 rfl rfl)
theorem dX9_init_255 : decode cX9_init 255 = .ok (.sipush 2520, 3) := dk_17 9 216 (dk_at dksX9_init_10 20 rfl rfl)
theorem dX9_init_258 : decode cX9_init 258 = .ok (.newarray .int, 2) := dk_188_10 (dk_at dksX9_init_11 0 rfl rfl)
theorem dX9_init_260 : decode cX9_init 260 = .ok (.putfield 102, 3) := dk_181 0 102 (dk_at dksX9_init_11 2 rfl rfl)
theorem dX9_init_263 : decode cX9_init 263 = .ok (.aload_n 0, 1) := dk_42 (dk_at dksX9_init_11 5 rfl rfl)
theorem dX9_init_264 : decode cX9_init 264 = .ok (.iconst 4, 1) := dk_7 (dk_at dksX9_init_11 6 rfl rfl)
theorem dX9_init_265 : decode cX9_init 265 = .ok (.newarray .boolean, 2) := dk_188_4 (dk_at dksX9_init_11 7 rfl rfl)
theorem dX9_init_267 : decode cX9_init 267 = .ok (.putfield 105, 3) := dk_181 0 105 (dk_at dksX9_init_11 9 rfl rfl)
theorem dX9_init_270 : decode cX9_init 270 = .ok (.aload_n 0, 1) := dk_42 (dk_at dksX9_init_11 12 rfl rfl)
theorem dX9_init_271 : decode cX9_init 271 = .ok (.ldc 109, 2) := dk_18 109 (dk_at dksX9_init_11 13 rfl rfl)
theorem dX9_init_273 : decode cX9_init 273 = .ok (.newarray .int, 2) := dk_188_10 (dk_at dksX9_init_11 15 rfl rfl)
theorem dX9_init_275 : decode cX9_init 275 = .ok (.putfield 110, 3) := dk_181 0 110 (dk_at dksX9_init_11 17 rfl rfl)
theorem dX9_init_278 : decode cX9_init 278 = .ok (.aload_n 0, 1) := dk_42 (dk_at dksX9_init_11 20 rfl rfl)
theorem dX9_init_279 : decode cX9_init 279 = .ok (.ldc 109, 2) := dk_18 109 (dk_at dksX9_init_11 21 rfl rfl)
theorem dX9_init_281 : decode cX9_init 281 = .ok (.newarray .int, 2) := dk_188_10 (dk_at dksX9_init_12 0 rfl rfl)
theorem dX9_init_283 : decode cX9_init 283 = .ok (.putfield 113, 3) := dk_181 0 113 (dk_at dksX9_init_12 2 rfl rfl)
theorem dX9_init_286 : decode cX9_init 286 = .ok (.aload_n 0, 1) := dk_42 (dk_at dksX9_init_12 5 rfl rfl)
theorem dX9_init_287 : decode cX9_init 287 = .ok (.iconst (-1), 1) := dk_2 (dk_at dksX9_init_12 6 rfl rfl)
theorem dX9_init_288 : decode cX9_init 288 = .ok (.putfield 116, 3) := dk_181 0 116 (dk_at dksX9_init_12 7 rfl rfl)
theorem dX9_init_291 : decode cX9_init 291 = .ok (.aload_n 0, 1) := dk_42 (dk_at dksX9_init_12 10 rfl rfl)
theorem dX9_init_292 : decode cX9_init 292 = .ok (.iconst (-1), 1) := dk_2 (dk_at dksX9_init_12 11 rfl rfl)
theorem dX9_init_293 : decode cX9_init 293 = .ok (.putfield 119, 3) := dk_181 0 119 (dk_at dksX9_init_12 12 rfl rfl)
theorem dX9_init_296 : decode cX9_init 296 = .ok (.aload_n 0, 1) := dk_42 (dk_at dksX9_init_12 15 rfl rfl)
theorem dX9_init_297 : decode cX9_init 297 = .ok (.ldc 109, 2) := dk_18 109 (dk_at dksX9_init_12 16 rfl rfl)
theorem dX9_init_299 : decode cX9_init 299 = .ok (.newarray .int, 2) := dk_188_10 (dk_at dksX9_init_12 18 rfl rfl)
theorem dX9_init_301 : decode cX9_init 301 = .ok (.putfield 122, 3) := dk_181 0 122 (dk_at dksX9_init_12 20 rfl rfl)
theorem dX9_init_304 : decode cX9_init 304 = .ok (.aload_n 0, 1) := dk_42 (dk_at dksX9_init_12 23 rfl rfl)
theorem dX9_init_305 : decode cX9_init 305 = .ok (.ldc 109, 2) := dk_18 109 (dk_at dksX9_init_13 0 rfl rfl)
theorem dX9_init_307 : decode cX9_init 307 = .ok (.newarray .int, 2) := dk_188_10 (dk_at dksX9_init_13 2 rfl rfl)
theorem dX9_init_309 : decode cX9_init 309 = .ok (.putfield 125, 3) := dk_181 0 125 (dk_at dksX9_init_13 4 rfl rfl)
theorem dX9_init_312 : decode cX9_init 312 = .ok (.aload_n 0, 1) := dk_42 (dk_at dksX9_init_13 7 rfl rfl)
theorem dX9_init_313 : decode cX9_init 313 = .ok (.ldc 128, 2) := dk_18 128 (dk_at dksX9_init_13 8 rfl rfl)
theorem dX9_init_315 : decode cX9_init 315 = .ok (.newarray .int, 2) := dk_188_10 (dk_at dksX9_init_13 10 rfl rfl)
theorem dX9_init_317 : decode cX9_init 317 = .ok (.putfield 129, 3) := dk_181 0 129 (dk_at dksX9_init_13 12 rfl rfl)
theorem dX9_init_320 : decode cX9_init 320 = .ok (.aload_n 0, 1) := dk_42 (dk_at dksX9_init_13 15 rfl rfl)
theorem dX9_init_321 : decode cX9_init 321 = .ok (.sipush 240, 3) := dk_17 0 240 (dk_at dksX9_init_13 16 rfl rfl)
theorem dX9_init_324 : decode cX9_init 324 = .ok (.newarray .long, 2) := dk_188_11 (dk_at dksX9_init_13 19 rfl rfl)
theorem dX9_init_326 : decode cX9_init 326 = .ok (.putfield 132, 3) := dk_181 0 132 (dk_at dksX9_init_13 21 rfl rfl)
theorem dX9_init_329 : decode cX9_init 329 = .ok (.aload_n 0, 1) := dk_42 (dk_at dksX9_init_14 0 rfl rfl)
theorem dX9_init_330 : decode cX9_init 330 = .ok (.sipush 240, 3) := dk_17 0 240 (dk_at dksX9_init_14 1 rfl rfl)
theorem dX9_init_333 : decode cX9_init 333 = .ok (.newarray .long, 2) := dk_188_11 (dk_at dksX9_init_14 4 rfl rfl)
theorem dX9_init_335 : decode cX9_init 335 = .ok (.putfield 135, 3) := dk_181 0 135 (dk_at dksX9_init_14 6 rfl rfl)
theorem dX9_init_338 : decode cX9_init 338 = .ok (.aload_n 0, 1) := dk_42 (dk_at dksX9_init_14 9 rfl rfl)
theorem dX9_init_339 : decode cX9_init 339 = .ok (.iconst 4, 1) := dk_7 (dk_at dksX9_init_14 10 rfl rfl)
theorem dX9_init_340 : decode cX9_init 340 = .ok (.newarray .int, 2) := dk_188_10 (dk_at dksX9_init_14 11 rfl rfl)
theorem dX9_init_342 : decode cX9_init 342 = .ok (.putfield 138, 3) := dk_181 0 138 (dk_at dksX9_init_14 13 rfl rfl)
theorem dX9_init_345 : decode cX9_init 345 = .ok (.aload_n 0, 1) := dk_42 (dk_at dksX9_init_14 16 rfl rfl)
theorem dX9_init_346 : decode cX9_init 346 = .ok (.iconst 4, 1) := dk_7 (dk_at dksX9_init_14 17 rfl rfl)
theorem dX9_init_347 : decode cX9_init 347 = .ok (.newarray .int, 2) := dk_188_10 (dk_at dksX9_init_14 18 rfl rfl)
theorem dX9_init_349 : decode cX9_init 349 = .ok (.putfield 141, 3) := dk_181 0 141 (dk_at dksX9_init_14 20 rfl rfl)
theorem dX9_init_352 : decode cX9_init 352 = .ok (.aload_n 0, 1) := dk_42 (dk_at dksX9_init_14 23 rfl rfl)
theorem dX9_init_353 : decode cX9_init 353 = .ok (.bipush 54, 2) := dk_16 54 (dk_at dksX9_init_15 0 rfl rfl)
theorem dX9_init_355 : decode cX9_init 355 = .ok (.newarray .int, 2) := dk_188_10 (dk_at dksX9_init_15 2 rfl rfl)
theorem dX9_init_357 : decode cX9_init 357 = .ok (.putfield 144, 3) := dk_181 0 144 (dk_at dksX9_init_15 4 rfl rfl)
theorem dX9_init_360 : decode cX9_init 360 = .ok (.aload_n 0, 1) := dk_42 (dk_at dksX9_init_15 7 rfl rfl)
theorem dX9_init_361 : decode cX9_init 361 = .ok (.iconst 0, 1) := dk_3 (dk_at dksX9_init_15 8 rfl rfl)
theorem dX9_init_362 : decode cX9_init 362 = .ok (.invokevirtual 147, 3) := dk_182 0 147 (dk_at dksX9_init_15 9 rfl rfl)
theorem dX9_init_365 : decode cX9_init 365 = .ok (.aload_n 0, 1) := dk_42 (dk_at dksX9_init_15 12 rfl rfl)
theorem dX9_init_366 : decode cX9_init 366 = .ok (.getfield 81, 3) := dk_180 0 81 (dk_at dksX9_init_15 13 rfl rfl)
theorem dX9_init_369 : decode cX9_init 369 = .ok (.iconst 0, 1) := dk_3 (dk_at dksX9_init_15 16 rfl rfl)
theorem dX9_init_370 : decode cX9_init 370 = .ok (.iconst 1, 1) := dk_4 (dk_at dksX9_init_15 17 rfl rfl)
theorem dX9_init_371 : decode cX9_init 371 = .ok (.iastore, 1) := dk_79 (dk_at dksX9_init_15 18 rfl rfl)
theorem dX9_init_372 : decode cX9_init 372 = .ok (.aload_n 0, 1) := dk_42 (dk_at dksX9_init_15 19 rfl rfl)
theorem dX9_init_373 : decode cX9_init 373 = .ok (.getfield 81, 3) := dk_180 0 81 (dk_at dksX9_init_15 20 rfl rfl)
theorem dX9_init_376 : decode cX9_init 376 = .ok (.iconst 1, 1) := dk_4 (dk_at dksX9_init_15 23 rfl rfl)
theorem dX9_init_377 : decode cX9_init 377 = .ok (.iconst 1, 1) := dk_4 (dk_at dksX9_init_16 0 rfl rfl)
theorem dX9_init_378 : decode cX9_init 378 = .ok (.iastore, 1) := dk_79 (dk_at dksX9_init_16 1 rfl rfl)
theorem dX9_init_379 : decode cX9_init 379 = .ok (.aload_n 0, 1) := dk_42 (dk_at dksX9_init_16 2 rfl rfl)
theorem dX9_init_380 : decode cX9_init 380 = .ok (.invokevirtual 151, 3) := dk_182 0 151 (dk_at dksX9_init_16 3 rfl rfl)
theorem dX9_init_383 : decode cX9_init 383 = .ok (.return_, 1) := dk_177 (dk_at dksX9_init_16 6 rfl rfl)
abbrev cX9_standsAsAlways : ByteArray := prog_23_method_18_code
def yX9_standsAsAlways : MethodName := ⟨RX9, "standsAsAlways", "(I)V"⟩
def dkwX9_standsAsAlways_2 : List UInt8 := [7, 96, 2, 79, 42, 180, 0, 81, 27, 16, 9, 96, 4, 79, 177]
abbrev dktX9_standsAsAlways_2 : List UInt8 := dkwX9_standsAsAlways_2 ++ []
def dkwX9_standsAsAlways_1 : List UInt8 := [42, 180, 0, 81, 27, 5, 96, 16, 10, 79, 42, 180, 0, 81, 27, 6, 96, 2, 79, 42, 180, 0, 81, 27]
abbrev dktX9_standsAsAlways_1 : List UInt8 := dkwX9_standsAsAlways_1 ++ dktX9_standsAsAlways_2
def dkwX9_standsAsAlways_0 : List UInt8 := [3, 61, 28, 17, 1, 84, 162, 0, 18, 42, 180, 0, 81, 27, 28, 96, 3, 79, 132, 2, 1, 167, 255, 237]
abbrev dktX9_standsAsAlways_0 : List UInt8 := dkwX9_standsAsAlways_0 ++ dktX9_standsAsAlways_1
theorem dksX9_standsAsAlways_0 : cX9_standsAsAlways.data.toList.drop 0 = dktX9_standsAsAlways_0 := by decide +kernel
theorem dksX9_standsAsAlways_1 : cX9_standsAsAlways.data.toList.drop 24 = dktX9_standsAsAlways_1 := dk_seg dksX9_standsAsAlways_0 24 rfl rfl
theorem dksX9_standsAsAlways_2 : cX9_standsAsAlways.data.toList.drop 48 = dktX9_standsAsAlways_2 := dk_seg dksX9_standsAsAlways_1 24 rfl rfl
theorem dX9_standsAsAlways_0 : decode cX9_standsAsAlways 0 = .ok (.iconst 0, 1) := dk_3 (dk_at dksX9_standsAsAlways_0 0 rfl rfl)
theorem dX9_standsAsAlways_1 : decode cX9_standsAsAlways 1 = .ok (.istore_n 2, 1) := dk_61 (dk_at dksX9_standsAsAlways_0 1 rfl rfl)
theorem dX9_standsAsAlways_2 : decode cX9_standsAsAlways 2 = .ok (.iload_n 2, 1) := dk_28 (dk_at dksX9_standsAsAlways_0 2 rfl rfl)
theorem dX9_standsAsAlways_3 : decode cX9_standsAsAlways 3 = .ok (.sipush 340, 3) := dk_17 1 84 (dk_at dksX9_standsAsAlways_0 3 rfl rfl)
theorem dX9_standsAsAlways_6 : decode cX9_standsAsAlways 6 = .ok (.if_icmp .ge 18, 3) := dk_162 0 18 (dk_at dksX9_standsAsAlways_0 6 rfl rfl)
theorem dX9_standsAsAlways_9 : decode cX9_standsAsAlways 9 = .ok (.aload_n 0, 1) := dk_42 (dk_at dksX9_standsAsAlways_0 9 rfl rfl)
theorem dX9_standsAsAlways_10 : decode cX9_standsAsAlways 10 = .ok (.getfield 81, 3) := dk_180 0 81 (dk_at dksX9_standsAsAlways_0 10 rfl rfl)
theorem dX9_standsAsAlways_13 : decode cX9_standsAsAlways 13 = .ok (.iload_n 1, 1) := dk_27 (dk_at dksX9_standsAsAlways_0 13 rfl rfl)
theorem dX9_standsAsAlways_14 : decode cX9_standsAsAlways 14 = .ok (.iload_n 2, 1) := dk_28 (dk_at dksX9_standsAsAlways_0 14 rfl rfl)
theorem dX9_standsAsAlways_15 : decode cX9_standsAsAlways 15 = .ok (.iadd, 1) := dk_96 (dk_at dksX9_standsAsAlways_0 15 rfl rfl)
theorem dX9_standsAsAlways_16 : decode cX9_standsAsAlways 16 = .ok (.iconst 0, 1) := dk_3 (dk_at dksX9_standsAsAlways_0 16 rfl rfl)
theorem dX9_standsAsAlways_17 : decode cX9_standsAsAlways 17 = .ok (.iastore, 1) := dk_79 (dk_at dksX9_standsAsAlways_0 17 rfl rfl)
theorem dX9_standsAsAlways_18 : decode cX9_standsAsAlways 18 = .ok (.iinc 2 1, 3) := dk_132 2 1 (dk_at dksX9_standsAsAlways_0 18 rfl rfl)
theorem dX9_standsAsAlways_21 : decode cX9_standsAsAlways 21 = .ok (.goto (-19), 3) := dk_167 255 237 (dk_at dksX9_standsAsAlways_0 21 rfl rfl)
theorem dX9_standsAsAlways_24 : decode cX9_standsAsAlways 24 = .ok (.aload_n 0, 1) := dk_42 (dk_at dksX9_standsAsAlways_1 0 rfl rfl)
theorem dX9_standsAsAlways_25 : decode cX9_standsAsAlways 25 = .ok (.getfield 81, 3) := dk_180 0 81 (dk_at dksX9_standsAsAlways_1 1 rfl rfl)
theorem dX9_standsAsAlways_28 : decode cX9_standsAsAlways 28 = .ok (.iload_n 1, 1) := dk_27 (dk_at dksX9_standsAsAlways_1 4 rfl rfl)
theorem dX9_standsAsAlways_29 : decode cX9_standsAsAlways 29 = .ok (.iconst 2, 1) := dk_5 (dk_at dksX9_standsAsAlways_1 5 rfl rfl)
theorem dX9_standsAsAlways_30 : decode cX9_standsAsAlways 30 = .ok (.iadd, 1) := dk_96 (dk_at dksX9_standsAsAlways_1 6 rfl rfl)
theorem dX9_standsAsAlways_31 : decode cX9_standsAsAlways 31 = .ok (.bipush 10, 2) := dk_16 10 (dk_at dksX9_standsAsAlways_1 7 rfl rfl)
theorem dX9_standsAsAlways_33 : decode cX9_standsAsAlways 33 = .ok (.iastore, 1) := dk_79 (dk_at dksX9_standsAsAlways_1 9 rfl rfl)
theorem dX9_standsAsAlways_34 : decode cX9_standsAsAlways 34 = .ok (.aload_n 0, 1) := dk_42 (dk_at dksX9_standsAsAlways_1 10 rfl rfl)
theorem dX9_standsAsAlways_35 : decode cX9_standsAsAlways 35 = .ok (.getfield 81, 3) := dk_180 0 81 (dk_at dksX9_standsAsAlways_1 11 rfl rfl)
theorem dX9_standsAsAlways_38 : decode cX9_standsAsAlways 38 = .ok (.iload_n 1, 1) := dk_27 (dk_at dksX9_standsAsAlways_1 14 rfl rfl)
theorem dX9_standsAsAlways_39 : decode cX9_standsAsAlways 39 = .ok (.iconst 3, 1) := dk_6 (dk_at dksX9_standsAsAlways_1 15 rfl rfl)
theorem dX9_standsAsAlways_40 : decode cX9_standsAsAlways 40 = .ok (.iadd, 1) := dk_96 (dk_at dksX9_standsAsAlways_1 16 rfl rfl)
theorem dX9_standsAsAlways_41 : decode cX9_standsAsAlways 41 = .ok (.iconst (-1), 1) := dk_2 (dk_at dksX9_standsAsAlways_1 17 rfl rfl)
theorem dX9_standsAsAlways_42 : decode cX9_standsAsAlways 42 = .ok (.iastore, 1) := dk_79 (dk_at dksX9_standsAsAlways_1 18 rfl rfl)
theorem dX9_standsAsAlways_43 : decode cX9_standsAsAlways 43 = .ok (.aload_n 0, 1) := dk_42 (dk_at dksX9_standsAsAlways_1 19 rfl rfl)
theorem dX9_standsAsAlways_44 : decode cX9_standsAsAlways 44 = .ok (.getfield 81, 3) := dk_180 0 81 (dk_at dksX9_standsAsAlways_1 20 rfl rfl)
theorem dX9_standsAsAlways_47 : decode cX9_standsAsAlways 47 = .ok (.iload_n 1, 1) := dk_27 (dk_at dksX9_standsAsAlways_1 23 rfl rfl)
theorem dX9_standsAsAlways_48 : decode cX9_standsAsAlways 48 = .ok (.iconst 4, 1) := dk_7 (dk_at dksX9_standsAsAlways_2 0 rfl rfl)
theorem dX9_standsAsAlways_49 : decode cX9_standsAsAlways 49 = .ok (.iadd, 1) := dk_96 (dk_at dksX9_standsAsAlways_2 1 rfl rfl)
theorem dX9_standsAsAlways_50 : decode cX9_standsAsAlways 50 = .ok (.iconst (-1), 1) := dk_2 (dk_at dksX9_standsAsAlways_2 2 rfl rfl)
theorem dX9_standsAsAlways_51 : decode cX9_standsAsAlways 51 = .ok (.iastore, 1) := dk_79 (dk_at dksX9_standsAsAlways_2 3 rfl rfl)
theorem dX9_standsAsAlways_52 : decode cX9_standsAsAlways 52 = .ok (.aload_n 0, 1) := dk_42 (dk_at dksX9_standsAsAlways_2 4 rfl rfl)
theorem dX9_standsAsAlways_53 : decode cX9_standsAsAlways 53 = .ok (.getfield 81, 3) := dk_180 0 81 (dk_at dksX9_standsAsAlways_2 5 rfl rfl)
theorem dX9_standsAsAlways_56 : decode cX9_standsAsAlways 56 = .ok (.iload_n 1, 1) := dk_27 (dk_at dksX9_standsAsAlways_2 8 rfl rfl)
theorem dX9_standsAsAlways_57 : decode cX9_standsAsAlways 57 = .ok (.bipush 9, 2) := dk_16 9 (dk_at dksX9_standsAsAlways_2 9 rfl rfl)
theorem dX9_standsAsAlways_59 : decode cX9_standsAsAlways 59 = .ok (.iadd, 1) := dk_96 (dk_at dksX9_standsAsAlways_2 11 rfl rfl)
theorem dX9_standsAsAlways_60 : decode cX9_standsAsAlways 60 = .ok (.iconst 1, 1) := dk_4 (dk_at dksX9_standsAsAlways_2 12 rfl rfl)
theorem dX9_standsAsAlways_61 : decode cX9_standsAsAlways 61 = .ok (.iastore, 1) := dk_79 (dk_at dksX9_standsAsAlways_2 13 rfl rfl)
theorem dX9_standsAsAlways_62 : decode cX9_standsAsAlways 62 = .ok (.return_, 1) := dk_177 (dk_at dksX9_standsAsAlways_2 14 rfl rfl)
abbrev cX9_begins : ByteArray := prog_23_method_57_code
def yX9_begins : MethodName := ⟨RX9, "begins", "()V"⟩
def dkwX9_begins_2 : List UInt8 := [7, 162, 0, 16, 42, 180, 0, 105, 27, 3, 84, 132, 1, 1, 167, 255, 241, 177]
abbrev dktX9_begins_2 : List UInt8 := dkwX9_begins_2 ++ []
def dkwX9_begins_1 : List UInt8 := [180, 0, 93, 3, 3, 79, 42, 3, 181, 1, 63, 42, 89, 180, 1, 66, 4, 96, 181, 1, 66, 3, 60, 27]
abbrev dktX9_begins_1 : List UInt8 := dkwX9_begins_1 ++ dktX9_begins_2
def dkwX9_begins_0 : List UInt8 := [3, 60, 27, 16, 120, 162, 0, 16, 42, 180, 0, 102, 27, 3, 79, 132, 1, 1, 167, 255, 240, 42]
abbrev dktX9_begins_0 : List UInt8 := dkwX9_begins_0 ++ dktX9_begins_1
theorem dksX9_begins_0 : cX9_begins.data.toList.drop 0 = dktX9_begins_0 := by decide +kernel
theorem dksX9_begins_1 : cX9_begins.data.toList.drop 22 = dktX9_begins_1 := dk_seg dksX9_begins_0 22 rfl rfl
theorem dksX9_begins_2 : cX9_begins.data.toList.drop 46 = dktX9_begins_2 := dk_seg dksX9_begins_1 24 rfl rfl
theorem dX9_begins_0 : decode cX9_begins 0 = .ok (.iconst 0, 1) := dk_3 (dk_at dksX9_begins_0 0 rfl rfl)
theorem dX9_begins_1 : decode cX9_begins 1 = .ok (.istore_n 1, 1) := dk_60 (dk_at dksX9_begins_0 1 rfl rfl)
theorem dX9_begins_2 : decode cX9_begins 2 = .ok (.iload_n 1, 1) := dk_27 (dk_at dksX9_begins_0 2 rfl rfl)
theorem dX9_begins_3 : decode cX9_begins 3 = .ok (.bipush 120, 2) := dk_16 120 (dk_at dksX9_begins_0 3 rfl rfl)
theorem dX9_begins_5 : decode cX9_begins 5 = .ok (.if_icmp .ge 16, 3) := dk_162 0 16 (dk_at dksX9_begins_0 5 rfl rfl)
theorem dX9_begins_8 : decode cX9_begins 8 = .ok (.aload_n 0, 1) := dk_42 (dk_at dksX9_begins_0 8 rfl rfl)
theorem dX9_begins_9 : decode cX9_begins 9 = .ok (.getfield 102, 3) := dk_180 0 102 (dk_at dksX9_begins_0 9 rfl rfl)
theorem dX9_begins_12 : decode cX9_begins 12 = .ok (.iload_n 1, 1) := dk_27 (dk_at dksX9_begins_0 12 rfl rfl)
theorem dX9_begins_13 : decode cX9_begins 13 = .ok (.iconst 0, 1) := dk_3 (dk_at dksX9_begins_0 13 rfl rfl)
theorem dX9_begins_14 : decode cX9_begins 14 = .ok (.iastore, 1) := dk_79 (dk_at dksX9_begins_0 14 rfl rfl)
theorem dX9_begins_15 : decode cX9_begins 15 = .ok (.iinc 1 1, 3) := dk_132 1 1 (dk_at dksX9_begins_0 15 rfl rfl)
theorem dX9_begins_18 : decode cX9_begins 18 = .ok (.goto (-16), 3) := dk_167 255 240 (dk_at dksX9_begins_0 18 rfl rfl)
theorem dX9_begins_21 : decode cX9_begins 21 = .ok (.aload_n 0, 1) := dk_42 (dk_at dksX9_begins_0 21 rfl rfl)
theorem dX9_begins_22 : decode cX9_begins 22 = .ok (.getfield 93, 3) := dk_180 0 93 (dk_at dksX9_begins_1 0 rfl rfl)
theorem dX9_begins_25 : decode cX9_begins 25 = .ok (.iconst 0, 1) := dk_3 (dk_at dksX9_begins_1 3 rfl rfl)
theorem dX9_begins_26 : decode cX9_begins 26 = .ok (.iconst 0, 1) := dk_3 (dk_at dksX9_begins_1 4 rfl rfl)
theorem dX9_begins_27 : decode cX9_begins 27 = .ok (.iastore, 1) := dk_79 (dk_at dksX9_begins_1 5 rfl rfl)
theorem dX9_begins_28 : decode cX9_begins 28 = .ok (.aload_n 0, 1) := dk_42 (dk_at dksX9_begins_1 6 rfl rfl)
theorem dX9_begins_29 : decode cX9_begins 29 = .ok (.iconst 0, 1) := dk_3 (dk_at dksX9_begins_1 7 rfl rfl)
theorem dX9_begins_30 : decode cX9_begins 30 = .ok (.putfield 319, 3) := dk_181 1 63 (dk_at dksX9_begins_1 8 rfl rfl)
theorem dX9_begins_33 : decode cX9_begins 33 = .ok (.aload_n 0, 1) := dk_42 (dk_at dksX9_begins_1 11 rfl rfl)
theorem dX9_begins_34 : decode cX9_begins 34 = .ok (.dup, 1) := dk_89 (dk_at dksX9_begins_1 12 rfl rfl)
theorem dX9_begins_35 : decode cX9_begins 35 = .ok (.getfield 322, 3) := dk_180 1 66 (dk_at dksX9_begins_1 13 rfl rfl)
theorem dX9_begins_38 : decode cX9_begins 38 = .ok (.iconst 1, 1) := dk_4 (dk_at dksX9_begins_1 16 rfl rfl)
theorem dX9_begins_39 : decode cX9_begins 39 = .ok (.iadd, 1) := dk_96 (dk_at dksX9_begins_1 17 rfl rfl)
theorem dX9_begins_40 : decode cX9_begins 40 = .ok (.putfield 322, 3) := dk_181 1 66 (dk_at dksX9_begins_1 18 rfl rfl)
theorem dX9_begins_43 : decode cX9_begins 43 = .ok (.iconst 0, 1) := dk_3 (dk_at dksX9_begins_1 21 rfl rfl)
theorem dX9_begins_44 : decode cX9_begins 44 = .ok (.istore_n 1, 1) := dk_60 (dk_at dksX9_begins_1 22 rfl rfl)
theorem dX9_begins_45 : decode cX9_begins 45 = .ok (.iload_n 1, 1) := dk_27 (dk_at dksX9_begins_1 23 rfl rfl)
theorem dX9_begins_46 : decode cX9_begins 46 = .ok (.iconst 4, 1) := dk_7 (dk_at dksX9_begins_2 0 rfl rfl)
theorem dX9_begins_47 : decode cX9_begins 47 = .ok (.if_icmp .ge 16, 3) := dk_162 0 16 (dk_at dksX9_begins_2 1 rfl rfl)
theorem dX9_begins_50 : decode cX9_begins 50 = .ok (.aload_n 0, 1) := dk_42 (dk_at dksX9_begins_2 4 rfl rfl)
theorem dX9_begins_51 : decode cX9_begins 51 = .ok (.getfield 105, 3) := dk_180 0 105 (dk_at dksX9_begins_2 5 rfl rfl)
theorem dX9_begins_54 : decode cX9_begins 54 = .ok (.iload_n 1, 1) := dk_27 (dk_at dksX9_begins_2 8 rfl rfl)
theorem dX9_begins_55 : decode cX9_begins 55 = .ok (.iconst 0, 1) := dk_3 (dk_at dksX9_begins_2 9 rfl rfl)
theorem dX9_begins_56 : decode cX9_begins 56 = .ok (.bastore, 1) := dk_84 (dk_at dksX9_begins_2 10 rfl rfl)
theorem dX9_begins_57 : decode cX9_begins 57 = .ok (.iinc 1 1, 3) := dk_132 1 1 (dk_at dksX9_begins_2 11 rfl rfl)
theorem dX9_begins_60 : decode cX9_begins 60 = .ok (.goto (-15), 3) := dk_167 255 241 (dk_at dksX9_begins_2 14 rfl rfl)
theorem dX9_begins_63 : decode cX9_begins 63 = .ok (.return_, 1) := dk_177 (dk_at dksX9_begins_2 17 rfl rfl)
abbrev cX9_town : ByteArray := prog_23_method_23_code
def yX9_town : MethodName := ⟨RX9, "town", "()I"⟩
def dkwX9_town_8 : List UInt8 := [132, 1, 1, 167, 255, 213, 42, 182, 0, 151, 3, 172]
abbrev dktX9_town_8 : List UInt8 := dkwX9_town_8 ++ []
def dkwX9_town_7 : List UInt8 := [17, 4, 76, 27, 96, 46, 79, 42, 180, 0, 87, 27, 42, 180, 0, 87, 17, 4, 76, 27, 96, 46, 79]
abbrev dktX9_town_7 : List UInt8 := dkwX9_town_7 ++ dktX9_town_8
def dkwX9_town_6 : List UInt8 := [167, 255, 230, 3, 60, 27, 42, 180, 0, 208, 162, 0, 41, 42, 180, 0, 84, 27, 42, 180, 0, 84]
abbrev dktX9_town_6 : List UInt8 := dkwX9_town_6 ++ dktX9_town_7
def dkwX9_town_5 : List UInt8 := [162, 0, 25, 42, 180, 0, 81, 27, 42, 180, 0, 81, 17, 1, 84, 27, 96, 46, 79, 132, 1, 1]
abbrev dktX9_town_5 : List UInt8 := dkwX9_town_5 ++ dktX9_town_6
def dkwX9_town_4 : List UInt8 := [182, 0, 214, 167, 255, 227, 42, 180, 0, 180, 158, 0, 8, 42, 180, 0, 180, 172, 3, 60, 27, 17, 1, 84]
abbrev dktX9_town_4 : List UInt8 := dkwX9_town_4 ++ dktX9_town_5
def dkwX9_town_3 : List UInt8 := [154, 0, 28, 42, 180, 0, 24, 42, 180, 0, 177, 46, 153, 0, 16, 42, 182, 0, 217, 42, 16, 59]
abbrev dktX9_town_3 : List UInt8 := dkwX9_town_3 ++ dktX9_town_4
def dkwX9_town_2 : List UInt8 := [180, 0, 81, 17, 1, 85, 42, 4, 16, 9, 182, 0, 198, 79, 42, 16, 59, 182, 0, 214, 42, 180, 0, 180]
abbrev dktX9_town_2 : List UInt8 := dkwX9_town_2 ++ dktX9_town_3
def dkwX9_town_1 : List UInt8 := [182, 0, 147, 42, 3, 182, 0, 195, 42, 180, 0, 81, 17, 1, 84, 42, 4, 16, 6, 182, 0, 198, 79, 42]
abbrev dktX9_town_1 : List UInt8 := dkwX9_town_1 ++ dktX9_town_2
def dkwX9_town_0 : List UInt8 := [42, 3, 181, 0, 1, 42, 182, 0, 205, 42, 3, 181, 0, 208, 42, 3, 181, 0, 211, 42, 17, 1, 84]
abbrev dktX9_town_0 : List UInt8 := dkwX9_town_0 ++ dktX9_town_1
theorem dksX9_town_0 : cX9_town.data.toList.drop 0 = dktX9_town_0 := by decide +kernel
theorem dksX9_town_1 : cX9_town.data.toList.drop 23 = dktX9_town_1 := dk_seg dksX9_town_0 23 rfl rfl
theorem dksX9_town_2 : cX9_town.data.toList.drop 47 = dktX9_town_2 := dk_seg dksX9_town_1 24 rfl rfl
theorem dksX9_town_3 : cX9_town.data.toList.drop 71 = dktX9_town_3 := dk_seg dksX9_town_2 24 rfl rfl
theorem dksX9_town_4 : cX9_town.data.toList.drop 93 = dktX9_town_4 := dk_seg dksX9_town_3 22 rfl rfl
theorem dksX9_town_5 : cX9_town.data.toList.drop 117 = dktX9_town_5 := dk_seg dksX9_town_4 24 rfl rfl
theorem dksX9_town_6 : cX9_town.data.toList.drop 139 = dktX9_town_6 := dk_seg dksX9_town_5 22 rfl rfl
theorem dksX9_town_7 : cX9_town.data.toList.drop 161 = dktX9_town_7 := dk_seg dksX9_town_6 22 rfl rfl
theorem dksX9_town_8 : cX9_town.data.toList.drop 184 = dktX9_town_8 := dk_seg dksX9_town_7 23 rfl rfl
theorem dX9_town_0 : decode cX9_town 0 = .ok (.aload_n 0, 1) := dk_42 (dk_at dksX9_town_0 0 rfl rfl)
theorem dX9_town_1 : decode cX9_town 1 = .ok (.iconst 0, 1) := dk_3 (dk_at dksX9_town_0 1 rfl rfl)
theorem dX9_town_2 : decode cX9_town 2 = .ok (.putfield 1, 3) := dk_181 0 1 (dk_at dksX9_town_0 2 rfl rfl)
theorem dX9_town_5 : decode cX9_town 5 = .ok (.aload_n 0, 1) := dk_42 (dk_at dksX9_town_0 5 rfl rfl)
theorem dX9_town_6 : decode cX9_town 6 = .ok (.invokevirtual 205, 3) := dk_182 0 205 (dk_at dksX9_town_0 6 rfl rfl)
theorem dX9_town_9 : decode cX9_town 9 = .ok (.aload_n 0, 1) := dk_42 (dk_at dksX9_town_0 9 rfl rfl)
theorem dX9_town_10 : decode cX9_town 10 = .ok (.iconst 0, 1) := dk_3 (dk_at dksX9_town_0 10 rfl rfl)
theorem dX9_town_11 : decode cX9_town 11 = .ok (.putfield 208, 3) := dk_181 0 208 (dk_at dksX9_town_0 11 rfl rfl)
theorem dX9_town_14 : decode cX9_town 14 = .ok (.aload_n 0, 1) := dk_42 (dk_at dksX9_town_0 14 rfl rfl)
theorem dX9_town_15 : decode cX9_town 15 = .ok (.iconst 0, 1) := dk_3 (dk_at dksX9_town_0 15 rfl rfl)
theorem dX9_town_16 : decode cX9_town 16 = .ok (.putfield 211, 3) := dk_181 0 211 (dk_at dksX9_town_0 16 rfl rfl)
theorem dX9_town_19 : decode cX9_town 19 = .ok (.aload_n 0, 1) := dk_42 (dk_at dksX9_town_0 19 rfl rfl)
theorem dX9_town_20 : decode cX9_town 20 = .ok (.sipush 340, 3) := dk_17 1 84 (dk_at dksX9_town_0 20 rfl rfl)
theorem dX9_town_23 : decode cX9_town 23 = .ok (.invokevirtual 147, 3) := dk_182 0 147 (dk_at dksX9_town_1 0 rfl rfl)
theorem dX9_town_26 : decode cX9_town 26 = .ok (.aload_n 0, 1) := dk_42 (dk_at dksX9_town_1 3 rfl rfl)
theorem dX9_town_27 : decode cX9_town 27 = .ok (.iconst 0, 1) := dk_3 (dk_at dksX9_town_1 4 rfl rfl)
theorem dX9_town_28 : decode cX9_town 28 = .ok (.invokevirtual 195, 3) := dk_182 0 195 (dk_at dksX9_town_1 5 rfl rfl)
theorem dX9_town_31 : decode cX9_town 31 = .ok (.aload_n 0, 1) := dk_42 (dk_at dksX9_town_1 8 rfl rfl)
theorem dX9_town_32 : decode cX9_town 32 = .ok (.getfield 81, 3) := dk_180 0 81 (dk_at dksX9_town_1 9 rfl rfl)
theorem dX9_town_35 : decode cX9_town 35 = .ok (.sipush 340, 3) := dk_17 1 84 (dk_at dksX9_town_1 12 rfl rfl)
theorem dX9_town_38 : decode cX9_town 38 = .ok (.aload_n 0, 1) := dk_42 (dk_at dksX9_town_1 15 rfl rfl)
theorem dX9_town_39 : decode cX9_town 39 = .ok (.iconst 1, 1) := dk_4 (dk_at dksX9_town_1 16 rfl rfl)
theorem dX9_town_40 : decode cX9_town 40 = .ok (.bipush 6, 2) := dk_16 6 (dk_at dksX9_town_1 17 rfl rfl)
theorem dX9_town_42 : decode cX9_town 42 = .ok (.invokevirtual 198, 3) := dk_182 0 198 (dk_at dksX9_town_1 19 rfl rfl)
theorem dX9_town_45 : decode cX9_town 45 = .ok (.iastore, 1) := dk_79 (dk_at dksX9_town_1 22 rfl rfl)
theorem dX9_town_46 : decode cX9_town 46 = .ok (.aload_n 0, 1) := dk_42 (dk_at dksX9_town_1 23 rfl rfl)
theorem dX9_town_47 : decode cX9_town 47 = .ok (.getfield 81, 3) := dk_180 0 81 (dk_at dksX9_town_2 0 rfl rfl)
theorem dX9_town_50 : decode cX9_town 50 = .ok (.sipush 341, 3) := dk_17 1 85 (dk_at dksX9_town_2 3 rfl rfl)
theorem dX9_town_53 : decode cX9_town 53 = .ok (.aload_n 0, 1) := dk_42 (dk_at dksX9_town_2 6 rfl rfl)
theorem dX9_town_54 : decode cX9_town 54 = .ok (.iconst 1, 1) := dk_4 (dk_at dksX9_town_2 7 rfl rfl)
theorem dX9_town_55 : decode cX9_town 55 = .ok (.bipush 9, 2) := dk_16 9 (dk_at dksX9_town_2 8 rfl rfl)
theorem dX9_town_57 : decode cX9_town 57 = .ok (.invokevirtual 198, 3) := dk_182 0 198 (dk_at dksX9_town_2 10 rfl rfl)
theorem dX9_town_60 : decode cX9_town 60 = .ok (.iastore, 1) := dk_79 (dk_at dksX9_town_2 13 rfl rfl)
theorem dX9_town_61 : decode cX9_town 61 = .ok (.aload_n 0, 1) := dk_42 (dk_at dksX9_town_2 14 rfl rfl)
theorem dX9_town_62 : decode cX9_town 62 = .ok (.bipush 59, 2) := dk_16 59 (dk_at dksX9_town_2 15 rfl rfl)
theorem dX9_town_64 : decode cX9_town 64 = .ok (.invokevirtual 214, 3) := dk_182 0 214 (dk_at dksX9_town_2 17 rfl rfl)
theorem dX9_town_67 : decode cX9_town 67 = .ok (.aload_n 0, 1) := dk_42 (dk_at dksX9_town_2 20 rfl rfl)
theorem dX9_town_68 : decode cX9_town 68 = .ok (.getfield 180, 3) := dk_180 0 180 (dk_at dksX9_town_2 21 rfl rfl)
theorem dX9_town_71 : decode cX9_town 71 = .ok (.ifCond .ne 28, 3) := dk_154 0 28 (dk_at dksX9_town_3 0 rfl rfl)
theorem dX9_town_74 : decode cX9_town 74 = .ok (.aload_n 0, 1) := dk_42 (dk_at dksX9_town_3 3 rfl rfl)
theorem dX9_town_75 : decode cX9_town 75 = .ok (.getfield 24, 3) := dk_180 0 24 (dk_at dksX9_town_3 4 rfl rfl)
theorem dX9_town_78 : decode cX9_town 78 = .ok (.aload_n 0, 1) := dk_42 (dk_at dksX9_town_3 7 rfl rfl)
theorem dX9_town_79 : decode cX9_town 79 = .ok (.getfield 177, 3) := dk_180 0 177 (dk_at dksX9_town_3 8 rfl rfl)
theorem dX9_town_82 : decode cX9_town 82 = .ok (.iaload, 1) := dk_46 (dk_at dksX9_town_3 11 rfl rfl)
theorem dX9_town_83 : decode cX9_town 83 = .ok (.ifCond .eq 16, 3) := dk_153 0 16 (dk_at dksX9_town_3 12 rfl rfl)
theorem dX9_town_86 : decode cX9_town 86 = .ok (.aload_n 0, 1) := dk_42 (dk_at dksX9_town_3 15 rfl rfl)
theorem dX9_town_87 : decode cX9_town 87 = .ok (.invokevirtual 217, 3) := dk_182 0 217 (dk_at dksX9_town_3 16 rfl rfl)
theorem dX9_town_90 : decode cX9_town 90 = .ok (.aload_n 0, 1) := dk_42 (dk_at dksX9_town_3 19 rfl rfl)
theorem dX9_town_91 : decode cX9_town 91 = .ok (.bipush 59, 2) := dk_16 59 (dk_at dksX9_town_3 20 rfl rfl)
theorem dX9_town_93 : decode cX9_town 93 = .ok (.invokevirtual 214, 3) := dk_182 0 214 (dk_at dksX9_town_4 0 rfl rfl)
theorem dX9_town_96 : decode cX9_town 96 = .ok (.goto (-29), 3) := dk_167 255 227 (dk_at dksX9_town_4 3 rfl rfl)
theorem dX9_town_99 : decode cX9_town 99 = .ok (.aload_n 0, 1) := dk_42 (dk_at dksX9_town_4 6 rfl rfl)
theorem dX9_town_100 : decode cX9_town 100 = .ok (.getfield 180, 3) := dk_180 0 180 (dk_at dksX9_town_4 7 rfl rfl)
theorem dX9_town_103 : decode cX9_town 103 = .ok (.ifCond .le 8, 3) := dk_158 0 8 (dk_at dksX9_town_4 10 rfl rfl)
theorem dX9_town_106 : decode cX9_town 106 = .ok (.aload_n 0, 1) := dk_42 (dk_at dksX9_town_4 13 rfl rfl)
theorem dX9_town_107 : decode cX9_town 107 = .ok (.getfield 180, 3) := dk_180 0 180 (dk_at dksX9_town_4 14 rfl rfl)
theorem dX9_town_110 : decode cX9_town 110 = .ok (.ireturn, 1) := dk_172 (dk_at dksX9_town_4 17 rfl rfl)
theorem dX9_town_111 : decode cX9_town 111 = .ok (.iconst 0, 1) := dk_3 (dk_at dksX9_town_4 18 rfl rfl)
theorem dX9_town_112 : decode cX9_town 112 = .ok (.istore_n 1, 1) := dk_60 (dk_at dksX9_town_4 19 rfl rfl)
theorem dX9_town_113 : decode cX9_town 113 = .ok (.iload_n 1, 1) := dk_27 (dk_at dksX9_town_4 20 rfl rfl)
theorem dX9_town_114 : decode cX9_town 114 = .ok (.sipush 340, 3) := dk_17 1 84 (dk_at dksX9_town_4 21 rfl rfl)
theorem dX9_town_117 : decode cX9_town 117 = .ok (.if_icmp .ge 25, 3) := dk_162 0 25 (dk_at dksX9_town_5 0 rfl rfl)
theorem dX9_town_120 : decode cX9_town 120 = .ok (.aload_n 0, 1) := dk_42 (dk_at dksX9_town_5 3 rfl rfl)
theorem dX9_town_121 : decode cX9_town 121 = .ok (.getfield 81, 3) := dk_180 0 81 (dk_at dksX9_town_5 4 rfl rfl)
theorem dX9_town_124 : decode cX9_town 124 = .ok (.iload_n 1, 1) := dk_27 (dk_at dksX9_town_5 7 rfl rfl)
theorem dX9_town_125 : decode cX9_town 125 = .ok (.aload_n 0, 1) := dk_42 (dk_at dksX9_town_5 8 rfl rfl)
theorem dX9_town_126 : decode cX9_town 126 = .ok (.getfield 81, 3) := dk_180 0 81 (dk_at dksX9_town_5 9 rfl rfl)
theorem dX9_town_129 : decode cX9_town 129 = .ok (.sipush 340, 3) := dk_17 1 84 (dk_at dksX9_town_5 12 rfl rfl)
theorem dX9_town_132 : decode cX9_town 132 = .ok (.iload_n 1, 1) := dk_27 (dk_at dksX9_town_5 15 rfl rfl)
theorem dX9_town_133 : decode cX9_town 133 = .ok (.iadd, 1) := dk_96 (dk_at dksX9_town_5 16 rfl rfl)
theorem dX9_town_134 : decode cX9_town 134 = .ok (.iaload, 1) := dk_46 (dk_at dksX9_town_5 17 rfl rfl)
theorem dX9_town_135 : decode cX9_town 135 = .ok (.iastore, 1) := dk_79 (dk_at dksX9_town_5 18 rfl rfl)
theorem dX9_town_136 : decode cX9_town 136 = .ok (.iinc 1 1, 3) := dk_132 1 1 (dk_at dksX9_town_5 19 rfl rfl)
theorem dX9_town_139 : decode cX9_town 139 = .ok (.goto (-26), 3) := dk_167 255 230 (dk_at dksX9_town_6 0 rfl rfl)
theorem dX9_town_142 : decode cX9_town 142 = .ok (.iconst 0, 1) := dk_3 (dk_at dksX9_town_6 3 rfl rfl)
theorem dX9_town_143 : decode cX9_town 143 = .ok (.istore_n 1, 1) := dk_60 (dk_at dksX9_town_6 4 rfl rfl)
theorem dX9_town_144 : decode cX9_town 144 = .ok (.iload_n 1, 1) := dk_27 (dk_at dksX9_town_6 5 rfl rfl)
theorem dX9_town_145 : decode cX9_town 145 = .ok (.aload_n 0, 1) := dk_42 (dk_at dksX9_town_6 6 rfl rfl)
theorem dX9_town_146 : decode cX9_town 146 = .ok (.getfield 208, 3) := dk_180 0 208 (dk_at dksX9_town_6 7 rfl rfl)
theorem dX9_town_149 : decode cX9_town 149 = .ok (.if_icmp .ge 41, 3) := dk_162 0 41 (dk_at dksX9_town_6 10 rfl rfl)
theorem dX9_town_152 : decode cX9_town 152 = .ok (.aload_n 0, 1) := dk_42 (dk_at dksX9_town_6 13 rfl rfl)
theorem dX9_town_153 : decode cX9_town 153 = .ok (.getfield 84, 3) := dk_180 0 84 (dk_at dksX9_town_6 14 rfl rfl)
theorem dX9_town_156 : decode cX9_town 156 = .ok (.iload_n 1, 1) := dk_27 (dk_at dksX9_town_6 17 rfl rfl)
theorem dX9_town_157 : decode cX9_town 157 = .ok (.aload_n 0, 1) := dk_42 (dk_at dksX9_town_6 18 rfl rfl)
theorem dX9_town_158 : decode cX9_town 158 = .ok (.getfield 84, 3) := dk_180 0 84 (dk_at dksX9_town_6 19 rfl rfl)
theorem dX9_town_161 : decode cX9_town 161 = .ok (.sipush 1100, 3) := dk_17 4 76 (dk_at dksX9_town_7 0 rfl rfl)
theorem dX9_town_164 : decode cX9_town 164 = .ok (.iload_n 1, 1) := dk_27 (dk_at dksX9_town_7 3 rfl rfl)
theorem dX9_town_165 : decode cX9_town 165 = .ok (.iadd, 1) := dk_96 (dk_at dksX9_town_7 4 rfl rfl)
theorem dX9_town_166 : decode cX9_town 166 = .ok (.iaload, 1) := dk_46 (dk_at dksX9_town_7 5 rfl rfl)
theorem dX9_town_167 : decode cX9_town 167 = .ok (.iastore, 1) := dk_79 (dk_at dksX9_town_7 6 rfl rfl)
theorem dX9_town_168 : decode cX9_town 168 = .ok (.aload_n 0, 1) := dk_42 (dk_at dksX9_town_7 7 rfl rfl)
theorem dX9_town_169 : decode cX9_town 169 = .ok (.getfield 87, 3) := dk_180 0 87 (dk_at dksX9_town_7 8 rfl rfl)
theorem dX9_town_172 : decode cX9_town 172 = .ok (.iload_n 1, 1) := dk_27 (dk_at dksX9_town_7 11 rfl rfl)
theorem dX9_town_173 : decode cX9_town 173 = .ok (.aload_n 0, 1) := dk_42 (dk_at dksX9_town_7 12 rfl rfl)
theorem dX9_town_174 : decode cX9_town 174 = .ok (.getfield 87, 3) := dk_180 0 87 (dk_at dksX9_town_7 13 rfl rfl)
theorem dX9_town_177 : decode cX9_town 177 = .ok (.sipush 1100, 3) := dk_17 4 76 (dk_at dksX9_town_7 16 rfl rfl)
theorem dX9_town_180 : decode cX9_town 180 = .ok (.iload_n 1, 1) := dk_27 (dk_at dksX9_town_7 19 rfl rfl)
theorem dX9_town_181 : decode cX9_town 181 = .ok (.iadd, 1) := dk_96 (dk_at dksX9_town_7 20 rfl rfl)
theorem dX9_town_182 : decode cX9_town 182 = .ok (.iaload, 1) := dk_46 (dk_at dksX9_town_7 21 rfl rfl)
theorem dX9_town_183 : decode cX9_town 183 = .ok (.iastore, 1) := dk_79 (dk_at dksX9_town_7 22 rfl rfl)
theorem dX9_town_184 : decode cX9_town 184 = .ok (.iinc 1 1, 3) := dk_132 1 1 (dk_at dksX9_town_8 0 rfl rfl)
theorem dX9_town_187 : decode cX9_town 187 = .ok (.goto (-43), 3) := dk_167 255 213 (dk_at dksX9_town_8 3 rfl rfl)
theorem dX9_town_190 : decode cX9_town 190 = .ok (.aload_n 0, 1) := dk_42 (dk_at dksX9_town_8 6 rfl rfl)
theorem dX9_town_191 : decode cX9_town 191 = .ok (.invokevirtual 151, 3) := dk_182 0 151 (dk_at dksX9_town_8 7 rfl rfl)
theorem dX9_town_194 : decode cX9_town 194 = .ok (.iconst 0, 1) := dk_3 (dk_at dksX9_town_8 10 rfl rfl)
theorem dX9_town_195 : decode cX9_town 195 = .ok (.ireturn, 1) := dk_172 (dk_at dksX9_town_8 11 rfl rfl)
abbrev cX9_cutAll : ByteArray := prog_23_method_9_code
def yX9_cutAll : MethodName := ⟨RX9, "cutAll", "()V"⟩
def dkwX9_cutAll_13 : List UInt8 := [181, 0, 180, 177]
abbrev dktX9_cutAll_13 : List UInt8 := dkwX9_cutAll_13 ++ []
def dkwX9_cutAll_12 : List UInt8 := [180, 0, 24, 27, 3, 79, 42, 180, 0, 27, 27, 42, 180, 0, 158, 79, 42, 3, 181, 0, 177, 42, 3]
abbrev dktX9_cutAll_12 : List UInt8 := dkwX9_cutAll_12 ++ dktX9_cutAll_13
def dkwX9_cutAll_11 : List UInt8 := [6, 167, 0, 4, 7, 79, 132, 2, 1, 42, 180, 0, 30, 27, 22, 5, 80, 132, 1, 1, 167, 254, 253, 42]
abbrev dktX9_cutAll_11 : List UInt8 := dkwX9_cutAll_11 ++ dktX9_cutAll_12
def dkwX9_cutAll_10 : List UInt8 := [167, 0, 4, 5, 79, 167, 0, 28, 29, 133, 55, 5, 42, 180, 0, 24, 27, 29, 184, 0, 174, 153, 0, 7]
abbrev dktX9_cutAll_10 : List UInt8 := dkwX9_cutAll_10 ++ dktX9_cutAll_11
def dkwX9_cutAll_9 : List UInt8 := [22, 5, 55, 5, 132, 2, 1, 167, 255, 200, 42, 180, 0, 24, 27, 28, 21, 4, 100, 7, 164, 0, 7, 7]
abbrev dktX9_cutAll_9 : List UInt8 := dkwX9_cutAll_9 ++ dktX9_cutAll_10
def dkwX9_cutAll_8 : List UInt8 := [162, 0, 24, 20, 0, 170, 22, 5, 105, 42, 180, 0, 14, 28, 46, 133, 97, 20, 0, 172, 101, 167, 0, 5]
abbrev dktX9_cutAll_8 : List UInt8 := dkwX9_cutAll_8 ++ dktX9_cutAll_9
def dkwX9_cutAll_7 : List UInt8 := [180, 0, 158, 162, 0, 54, 42, 180, 0, 14, 28, 46, 184, 0, 167, 153, 0, 42, 28, 21, 4, 100, 7]
abbrev dktX9_cutAll_7 : List UInt8 := dkwX9_cutAll_7 ++ dktX9_cutAll_8
def dkwX9_cutAll_6 : List UInt8 := [16, 8, 164, 0, 7, 7, 167, 0, 4, 4, 79, 167, 0, 116, 29, 184, 0, 167, 153, 0, 84, 28, 42]
abbrev dktX9_cutAll_6 : List UInt8 := dkwX9_cutAll_6 ++ dktX9_cutAll_7
def dkwX9_cutAll_5 : List UInt8 := [97, 167, 0, 5, 22, 5, 55, 5, 132, 2, 1, 167, 255, 200, 42, 180, 0, 24, 27, 28, 21, 4, 100]
abbrev dktX9_cutAll_5 : List UInt8 := dkwX9_cutAll_5 ++ dktX9_cutAll_6
def dkwX9_cutAll_4 : List UInt8 := [21, 4, 100, 16, 8, 162, 0, 23, 20, 0, 161, 22, 5, 105, 42, 180, 0, 14, 28, 46, 184, 0, 163, 133]
abbrev dktX9_cutAll_4 : List UInt8 := dkwX9_cutAll_4 ++ dktX9_cutAll_5
def dkwX9_cutAll_3 : List UInt8 := [153, 0, 85, 28, 42, 180, 0, 158, 162, 0, 54, 42, 180, 0, 14, 28, 46, 184, 0, 154, 153, 0, 42, 28]
abbrev dktX9_cutAll_3 : List UInt8 := dkwX9_cutAll_3 ++ dktX9_cutAll_4
def dkwX9_cutAll_2 : List UInt8 := [132, 2, 1, 167, 255, 226, 28, 54, 4, 9, 55, 5, 42, 180, 0, 27, 27, 28, 79, 29, 184, 0, 154]
abbrev dktX9_cutAll_2 : List UInt8 := dkwX9_cutAll_2 ++ dktX9_cutAll_3
def dkwX9_cutAll_1 : List UInt8 := [162, 1, 1, 42, 180, 0, 14, 28, 46, 62, 29, 16, 10, 159, 0, 9, 29, 16, 32, 160, 0, 9]
abbrev dktX9_cutAll_1 : List UInt8 := dkwX9_cutAll_1 ++ dktX9_cutAll_2
def dkwX9_cutAll_0 : List UInt8 := [42, 42, 180, 0, 11, 181, 0, 158, 42, 3, 181, 0, 11, 3, 60, 3, 61, 28, 42, 180, 0, 158]
abbrev dktX9_cutAll_0 : List UInt8 := dkwX9_cutAll_0 ++ dktX9_cutAll_1
theorem dksX9_cutAll_0 : cX9_cutAll.data.toList.drop 0 = dktX9_cutAll_0 := by decide +kernel
theorem dksX9_cutAll_1 : cX9_cutAll.data.toList.drop 22 = dktX9_cutAll_1 := dk_seg dksX9_cutAll_0 22 rfl rfl
theorem dksX9_cutAll_2 : cX9_cutAll.data.toList.drop 44 = dktX9_cutAll_2 := dk_seg dksX9_cutAll_1 22 rfl rfl
theorem dksX9_cutAll_3 : cX9_cutAll.data.toList.drop 67 = dktX9_cutAll_3 := dk_seg dksX9_cutAll_2 23 rfl rfl
theorem dksX9_cutAll_4 : cX9_cutAll.data.toList.drop 91 = dktX9_cutAll_4 := dk_seg dksX9_cutAll_3 24 rfl rfl
theorem dksX9_cutAll_5 : cX9_cutAll.data.toList.drop 115 = dktX9_cutAll_5 := dk_seg dksX9_cutAll_4 24 rfl rfl
theorem dksX9_cutAll_6 : cX9_cutAll.data.toList.drop 138 = dktX9_cutAll_6 := dk_seg dksX9_cutAll_5 23 rfl rfl
theorem dksX9_cutAll_7 : cX9_cutAll.data.toList.drop 161 = dktX9_cutAll_7 := dk_seg dksX9_cutAll_6 23 rfl rfl
theorem dksX9_cutAll_8 : cX9_cutAll.data.toList.drop 184 = dktX9_cutAll_8 := dk_seg dksX9_cutAll_7 23 rfl rfl
theorem dksX9_cutAll_9 : cX9_cutAll.data.toList.drop 208 = dktX9_cutAll_9 := dk_seg dksX9_cutAll_8 24 rfl rfl
theorem dksX9_cutAll_10 : cX9_cutAll.data.toList.drop 232 = dktX9_cutAll_10 := dk_seg dksX9_cutAll_9 24 rfl rfl
theorem dksX9_cutAll_11 : cX9_cutAll.data.toList.drop 256 = dktX9_cutAll_11 := dk_seg dksX9_cutAll_10 24 rfl rfl
theorem dksX9_cutAll_12 : cX9_cutAll.data.toList.drop 280 = dktX9_cutAll_12 := dk_seg dksX9_cutAll_11 24 rfl rfl
theorem dksX9_cutAll_13 : cX9_cutAll.data.toList.drop 303 = dktX9_cutAll_13 := dk_seg dksX9_cutAll_12 23 rfl rfl
theorem dX9_cutAll_0 : decode cX9_cutAll 0 = .ok (.aload_n 0, 1) := dk_42 (dk_at dksX9_cutAll_0 0 rfl rfl)
theorem dX9_cutAll_1 : decode cX9_cutAll 1 = .ok (.aload_n 0, 1) := dk_42 (dk_at dksX9_cutAll_0 1 rfl rfl)
theorem dX9_cutAll_2 : decode cX9_cutAll 2 = .ok (.getfield 11, 3) := dk_180 0 11 (dk_at dksX9_cutAll_0 2 rfl rfl)
theorem dX9_cutAll_5 : decode cX9_cutAll 5 = .ok (.putfield 158, 3) := dk_181 0 158 (dk_at dksX9_cutAll_0 5 rfl rfl)
theorem dX9_cutAll_8 : decode cX9_cutAll 8 = .ok (.aload_n 0, 1) := dk_42 (dk_at dksX9_cutAll_0 8 rfl rfl)
theorem dX9_cutAll_9 : decode cX9_cutAll 9 = .ok (.iconst 0, 1) := dk_3 (dk_at dksX9_cutAll_0 9 rfl rfl)
theorem dX9_cutAll_10 : decode cX9_cutAll 10 = .ok (.putfield 11, 3) := dk_181 0 11 (dk_at dksX9_cutAll_0 10 rfl rfl)
theorem dX9_cutAll_13 : decode cX9_cutAll 13 = .ok (.iconst 0, 1) := dk_3 (dk_at dksX9_cutAll_0 13 rfl rfl)
theorem dX9_cutAll_14 : decode cX9_cutAll 14 = .ok (.istore_n 1, 1) := dk_60 (dk_at dksX9_cutAll_0 14 rfl rfl)
theorem dX9_cutAll_15 : decode cX9_cutAll 15 = .ok (.iconst 0, 1) := dk_3 (dk_at dksX9_cutAll_0 15 rfl rfl)
theorem dX9_cutAll_16 : decode cX9_cutAll 16 = .ok (.istore_n 2, 1) := dk_61 (dk_at dksX9_cutAll_0 16 rfl rfl)
theorem dX9_cutAll_17 : decode cX9_cutAll 17 = .ok (.iload_n 2, 1) := dk_28 (dk_at dksX9_cutAll_0 17 rfl rfl)
theorem dX9_cutAll_18 : decode cX9_cutAll 18 = .ok (.aload_n 0, 1) := dk_42 (dk_at dksX9_cutAll_0 18 rfl rfl)
theorem dX9_cutAll_19 : decode cX9_cutAll 19 = .ok (.getfield 158, 3) := dk_180 0 158 (dk_at dksX9_cutAll_0 19 rfl rfl)
theorem dX9_cutAll_22 : decode cX9_cutAll 22 = .ok (.if_icmp .ge 257, 3) := dk_162 1 1 (dk_at dksX9_cutAll_1 0 rfl rfl)
theorem dX9_cutAll_25 : decode cX9_cutAll 25 = .ok (.aload_n 0, 1) := dk_42 (dk_at dksX9_cutAll_1 3 rfl rfl)
theorem dX9_cutAll_26 : decode cX9_cutAll 26 = .ok (.getfield 14, 3) := dk_180 0 14 (dk_at dksX9_cutAll_1 4 rfl rfl)
theorem dX9_cutAll_29 : decode cX9_cutAll 29 = .ok (.iload_n 2, 1) := dk_28 (dk_at dksX9_cutAll_1 7 rfl rfl)
theorem dX9_cutAll_30 : decode cX9_cutAll 30 = .ok (.iaload, 1) := dk_46 (dk_at dksX9_cutAll_1 8 rfl rfl)
theorem dX9_cutAll_31 : decode cX9_cutAll 31 = .ok (.istore_n 3, 1) := dk_62 (dk_at dksX9_cutAll_1 9 rfl rfl)
theorem dX9_cutAll_32 : decode cX9_cutAll 32 = .ok (.iload_n 3, 1) := dk_29 (dk_at dksX9_cutAll_1 10 rfl rfl)
theorem dX9_cutAll_33 : decode cX9_cutAll 33 = .ok (.bipush 10, 2) := dk_16 10 (dk_at dksX9_cutAll_1 11 rfl rfl)
theorem dX9_cutAll_35 : decode cX9_cutAll 35 = .ok (.if_icmp .eq 9, 3) := dk_159 0 9 (dk_at dksX9_cutAll_1 13 rfl rfl)
theorem dX9_cutAll_38 : decode cX9_cutAll 38 = .ok (.iload_n 3, 1) := dk_29 (dk_at dksX9_cutAll_1 16 rfl rfl)
theorem dX9_cutAll_39 : decode cX9_cutAll 39 = .ok (.bipush 32, 2) := dk_16 32 (dk_at dksX9_cutAll_1 17 rfl rfl)
theorem dX9_cutAll_41 : decode cX9_cutAll 41 = .ok (.if_icmp .ne 9, 3) := dk_160 0 9 (dk_at dksX9_cutAll_1 19 rfl rfl)
theorem dX9_cutAll_44 : decode cX9_cutAll 44 = .ok (.iinc 2 1, 3) := dk_132 2 1 (dk_at dksX9_cutAll_2 0 rfl rfl)
theorem dX9_cutAll_47 : decode cX9_cutAll 47 = .ok (.goto (-30), 3) := dk_167 255 226 (dk_at dksX9_cutAll_2 3 rfl rfl)
theorem dX9_cutAll_50 : decode cX9_cutAll 50 = .ok (.iload_n 2, 1) := dk_28 (dk_at dksX9_cutAll_2 6 rfl rfl)
theorem dX9_cutAll_51 : decode cX9_cutAll 51 = .ok (.istore 4, 2) := dk_54 4 (dk_at dksX9_cutAll_2 7 rfl rfl)
theorem dX9_cutAll_53 : decode cX9_cutAll 53 = .ok (.lconst 0, 1) := dk_9 (dk_at dksX9_cutAll_2 9 rfl rfl)
theorem dX9_cutAll_54 : decode cX9_cutAll 54 = .ok (.lstore 5, 2) := dk_55 5 (dk_at dksX9_cutAll_2 10 rfl rfl)
theorem dX9_cutAll_56 : decode cX9_cutAll 56 = .ok (.aload_n 0, 1) := dk_42 (dk_at dksX9_cutAll_2 12 rfl rfl)
theorem dX9_cutAll_57 : decode cX9_cutAll 57 = .ok (.getfield 27, 3) := dk_180 0 27 (dk_at dksX9_cutAll_2 13 rfl rfl)
theorem dX9_cutAll_60 : decode cX9_cutAll 60 = .ok (.iload_n 1, 1) := dk_27 (dk_at dksX9_cutAll_2 16 rfl rfl)
theorem dX9_cutAll_61 : decode cX9_cutAll 61 = .ok (.iload_n 2, 1) := dk_28 (dk_at dksX9_cutAll_2 17 rfl rfl)
theorem dX9_cutAll_62 : decode cX9_cutAll 62 = .ok (.iastore, 1) := dk_79 (dk_at dksX9_cutAll_2 18 rfl rfl)
theorem dX9_cutAll_63 : decode cX9_cutAll 63 = .ok (.iload_n 3, 1) := dk_29 (dk_at dksX9_cutAll_2 19 rfl rfl)
theorem dX9_cutAll_64 : decode cX9_cutAll 64 = .ok (.invokestatic 154, 3) := dk_184 0 154 (dk_at dksX9_cutAll_2 20 rfl rfl)
theorem dX9_cutAll_67 : decode cX9_cutAll 67 = .ok (.ifCond .eq 85, 3) := dk_153 0 85 (dk_at dksX9_cutAll_3 0 rfl rfl)
theorem dX9_cutAll_70 : decode cX9_cutAll 70 = .ok (.iload_n 2, 1) := dk_28 (dk_at dksX9_cutAll_3 3 rfl rfl)
theorem dX9_cutAll_71 : decode cX9_cutAll 71 = .ok (.aload_n 0, 1) := dk_42 (dk_at dksX9_cutAll_3 4 rfl rfl)
theorem dX9_cutAll_72 : decode cX9_cutAll 72 = .ok (.getfield 158, 3) := dk_180 0 158 (dk_at dksX9_cutAll_3 5 rfl rfl)
theorem dX9_cutAll_75 : decode cX9_cutAll 75 = .ok (.if_icmp .ge 54, 3) := dk_162 0 54 (dk_at dksX9_cutAll_3 8 rfl rfl)
theorem dX9_cutAll_78 : decode cX9_cutAll 78 = .ok (.aload_n 0, 1) := dk_42 (dk_at dksX9_cutAll_3 11 rfl rfl)
theorem dX9_cutAll_79 : decode cX9_cutAll 79 = .ok (.getfield 14, 3) := dk_180 0 14 (dk_at dksX9_cutAll_3 12 rfl rfl)
theorem dX9_cutAll_82 : decode cX9_cutAll 82 = .ok (.iload_n 2, 1) := dk_28 (dk_at dksX9_cutAll_3 15 rfl rfl)
theorem dX9_cutAll_83 : decode cX9_cutAll 83 = .ok (.iaload, 1) := dk_46 (dk_at dksX9_cutAll_3 16 rfl rfl)
theorem dX9_cutAll_84 : decode cX9_cutAll 84 = .ok (.invokestatic 154, 3) := dk_184 0 154 (dk_at dksX9_cutAll_3 17 rfl rfl)
theorem dX9_cutAll_87 : decode cX9_cutAll 87 = .ok (.ifCond .eq 42, 3) := dk_153 0 42 (dk_at dksX9_cutAll_3 20 rfl rfl)
theorem dX9_cutAll_90 : decode cX9_cutAll 90 = .ok (.iload_n 2, 1) := dk_28 (dk_at dksX9_cutAll_3 23 rfl rfl)
theorem dX9_cutAll_91 : decode cX9_cutAll 91 = .ok (.iload 4, 2) := dk_21 4 (dk_at dksX9_cutAll_4 0 rfl rfl)
theorem dX9_cutAll_93 : decode cX9_cutAll 93 = .ok (.isub, 1) := dk_100 (dk_at dksX9_cutAll_4 2 rfl rfl)
theorem dX9_cutAll_94 : decode cX9_cutAll 94 = .ok (.bipush 8, 2) := dk_16 8 (dk_at dksX9_cutAll_4 3 rfl rfl)
theorem dX9_cutAll_96 : decode cX9_cutAll 96 = .ok (.if_icmp .ge 23, 3) := dk_162 0 23 (dk_at dksX9_cutAll_4 5 rfl rfl)
theorem dX9_cutAll_99 : decode cX9_cutAll 99 = .ok (.ldc2_w 161, 3) := dk_20 0 161 (dk_at dksX9_cutAll_4 8 rfl rfl)
theorem dX9_cutAll_102 : decode cX9_cutAll 102 = .ok (.lload 5, 2) := dk_22 5 (dk_at dksX9_cutAll_4 11 rfl rfl)
theorem dX9_cutAll_104 : decode cX9_cutAll 104 = .ok (.lmul, 1) := dk_105 (dk_at dksX9_cutAll_4 13 rfl rfl)
theorem dX9_cutAll_105 : decode cX9_cutAll 105 = .ok (.aload_n 0, 1) := dk_42 (dk_at dksX9_cutAll_4 14 rfl rfl)
theorem dX9_cutAll_106 : decode cX9_cutAll 106 = .ok (.getfield 14, 3) := dk_180 0 14 (dk_at dksX9_cutAll_4 15 rfl rfl)
theorem dX9_cutAll_109 : decode cX9_cutAll 109 = .ok (.iload_n 2, 1) := dk_28 (dk_at dksX9_cutAll_4 18 rfl rfl)
theorem dX9_cutAll_110 : decode cX9_cutAll 110 = .ok (.iaload, 1) := dk_46 (dk_at dksX9_cutAll_4 19 rfl rfl)
theorem dX9_cutAll_111 : decode cX9_cutAll 111 = .ok (.invokestatic 163, 3) := dk_184 0 163 (dk_at dksX9_cutAll_4 20 rfl rfl)
theorem dX9_cutAll_114 : decode cX9_cutAll 114 = .ok (.i2l, 1) := dk_133 (dk_at dksX9_cutAll_4 23 rfl rfl)
theorem dX9_cutAll_115 : decode cX9_cutAll 115 = .ok (.ladd, 1) := dk_97 (dk_at dksX9_cutAll_5 0 rfl rfl)
theorem dX9_cutAll_116 : decode cX9_cutAll 116 = .ok (.goto 5, 3) := dk_167 0 5 (dk_at dksX9_cutAll_5 1 rfl rfl)
theorem dX9_cutAll_119 : decode cX9_cutAll 119 = .ok (.lload 5, 2) := dk_22 5 (dk_at dksX9_cutAll_5 4 rfl rfl)
theorem dX9_cutAll_121 : decode cX9_cutAll 121 = .ok (.lstore 5, 2) := dk_55 5 (dk_at dksX9_cutAll_5 6 rfl rfl)
theorem dX9_cutAll_123 : decode cX9_cutAll 123 = .ok (.iinc 2 1, 3) := dk_132 2 1 (dk_at dksX9_cutAll_5 8 rfl rfl)
theorem dX9_cutAll_126 : decode cX9_cutAll 126 = .ok (.goto (-56), 3) := dk_167 255 200 (dk_at dksX9_cutAll_5 11 rfl rfl)
theorem dX9_cutAll_129 : decode cX9_cutAll 129 = .ok (.aload_n 0, 1) := dk_42 (dk_at dksX9_cutAll_5 14 rfl rfl)
theorem dX9_cutAll_130 : decode cX9_cutAll 130 = .ok (.getfield 24, 3) := dk_180 0 24 (dk_at dksX9_cutAll_5 15 rfl rfl)
theorem dX9_cutAll_133 : decode cX9_cutAll 133 = .ok (.iload_n 1, 1) := dk_27 (dk_at dksX9_cutAll_5 18 rfl rfl)
theorem dX9_cutAll_134 : decode cX9_cutAll 134 = .ok (.iload_n 2, 1) := dk_28 (dk_at dksX9_cutAll_5 19 rfl rfl)
theorem dX9_cutAll_135 : decode cX9_cutAll 135 = .ok (.iload 4, 2) := dk_21 4 (dk_at dksX9_cutAll_5 20 rfl rfl)
theorem dX9_cutAll_137 : decode cX9_cutAll 137 = .ok (.isub, 1) := dk_100 (dk_at dksX9_cutAll_5 22 rfl rfl)
theorem dX9_cutAll_138 : decode cX9_cutAll 138 = .ok (.bipush 8, 2) := dk_16 8 (dk_at dksX9_cutAll_6 0 rfl rfl)
theorem dX9_cutAll_140 : decode cX9_cutAll 140 = .ok (.if_icmp .le 7, 3) := dk_164 0 7 (dk_at dksX9_cutAll_6 2 rfl rfl)
theorem dX9_cutAll_143 : decode cX9_cutAll 143 = .ok (.iconst 4, 1) := dk_7 (dk_at dksX9_cutAll_6 5 rfl rfl)
theorem dX9_cutAll_144 : decode cX9_cutAll 144 = .ok (.goto 4, 3) := dk_167 0 4 (dk_at dksX9_cutAll_6 6 rfl rfl)
theorem dX9_cutAll_147 : decode cX9_cutAll 147 = .ok (.iconst 1, 1) := dk_4 (dk_at dksX9_cutAll_6 9 rfl rfl)
theorem dX9_cutAll_148 : decode cX9_cutAll 148 = .ok (.iastore, 1) := dk_79 (dk_at dksX9_cutAll_6 10 rfl rfl)
theorem dX9_cutAll_149 : decode cX9_cutAll 149 = .ok (.goto 116, 3) := dk_167 0 116 (dk_at dksX9_cutAll_6 11 rfl rfl)
theorem dX9_cutAll_152 : decode cX9_cutAll 152 = .ok (.iload_n 3, 1) := dk_29 (dk_at dksX9_cutAll_6 14 rfl rfl)
theorem dX9_cutAll_153 : decode cX9_cutAll 153 = .ok (.invokestatic 167, 3) := dk_184 0 167 (dk_at dksX9_cutAll_6 15 rfl rfl)
theorem dX9_cutAll_156 : decode cX9_cutAll 156 = .ok (.ifCond .eq 84, 3) := dk_153 0 84 (dk_at dksX9_cutAll_6 18 rfl rfl)
theorem dX9_cutAll_159 : decode cX9_cutAll 159 = .ok (.iload_n 2, 1) := dk_28 (dk_at dksX9_cutAll_6 21 rfl rfl)
theorem dX9_cutAll_160 : decode cX9_cutAll 160 = .ok (.aload_n 0, 1) := dk_42 (dk_at dksX9_cutAll_6 22 rfl rfl)
theorem dX9_cutAll_161 : decode cX9_cutAll 161 = .ok (.getfield 158, 3) := dk_180 0 158 (dk_at dksX9_cutAll_7 0 rfl rfl)
theorem dX9_cutAll_164 : decode cX9_cutAll 164 = .ok (.if_icmp .ge 54, 3) := dk_162 0 54 (dk_at dksX9_cutAll_7 3 rfl rfl)
theorem dX9_cutAll_167 : decode cX9_cutAll 167 = .ok (.aload_n 0, 1) := dk_42 (dk_at dksX9_cutAll_7 6 rfl rfl)
theorem dX9_cutAll_168 : decode cX9_cutAll 168 = .ok (.getfield 14, 3) := dk_180 0 14 (dk_at dksX9_cutAll_7 7 rfl rfl)
theorem dX9_cutAll_171 : decode cX9_cutAll 171 = .ok (.iload_n 2, 1) := dk_28 (dk_at dksX9_cutAll_7 10 rfl rfl)
theorem dX9_cutAll_172 : decode cX9_cutAll 172 = .ok (.iaload, 1) := dk_46 (dk_at dksX9_cutAll_7 11 rfl rfl)
theorem dX9_cutAll_173 : decode cX9_cutAll 173 = .ok (.invokestatic 167, 3) := dk_184 0 167 (dk_at dksX9_cutAll_7 12 rfl rfl)
theorem dX9_cutAll_176 : decode cX9_cutAll 176 = .ok (.ifCond .eq 42, 3) := dk_153 0 42 (dk_at dksX9_cutAll_7 15 rfl rfl)
theorem dX9_cutAll_179 : decode cX9_cutAll 179 = .ok (.iload_n 2, 1) := dk_28 (dk_at dksX9_cutAll_7 18 rfl rfl)
theorem dX9_cutAll_180 : decode cX9_cutAll 180 = .ok (.iload 4, 2) := dk_21 4 (dk_at dksX9_cutAll_7 19 rfl rfl)
theorem dX9_cutAll_182 : decode cX9_cutAll 182 = .ok (.isub, 1) := dk_100 (dk_at dksX9_cutAll_7 21 rfl rfl)
theorem dX9_cutAll_183 : decode cX9_cutAll 183 = .ok (.iconst 4, 1) := dk_7 (dk_at dksX9_cutAll_7 22 rfl rfl)
theorem dX9_cutAll_184 : decode cX9_cutAll 184 = .ok (.if_icmp .ge 24, 3) := dk_162 0 24 (dk_at dksX9_cutAll_8 0 rfl rfl)
theorem dX9_cutAll_187 : decode cX9_cutAll 187 = .ok (.ldc2_w 170, 3) := dk_20 0 170 (dk_at dksX9_cutAll_8 3 rfl rfl)
theorem dX9_cutAll_190 : decode cX9_cutAll 190 = .ok (.lload 5, 2) := dk_22 5 (dk_at dksX9_cutAll_8 6 rfl rfl)
theorem dX9_cutAll_192 : decode cX9_cutAll 192 = .ok (.lmul, 1) := dk_105 (dk_at dksX9_cutAll_8 8 rfl rfl)
theorem dX9_cutAll_193 : decode cX9_cutAll 193 = .ok (.aload_n 0, 1) := dk_42 (dk_at dksX9_cutAll_8 9 rfl rfl)
theorem dX9_cutAll_194 : decode cX9_cutAll 194 = .ok (.getfield 14, 3) := dk_180 0 14 (dk_at dksX9_cutAll_8 10 rfl rfl)
theorem dX9_cutAll_197 : decode cX9_cutAll 197 = .ok (.iload_n 2, 1) := dk_28 (dk_at dksX9_cutAll_8 13 rfl rfl)
theorem dX9_cutAll_198 : decode cX9_cutAll 198 = .ok (.iaload, 1) := dk_46 (dk_at dksX9_cutAll_8 14 rfl rfl)
theorem dX9_cutAll_199 : decode cX9_cutAll 199 = .ok (.i2l, 1) := dk_133 (dk_at dksX9_cutAll_8 15 rfl rfl)
theorem dX9_cutAll_200 : decode cX9_cutAll 200 = .ok (.ladd, 1) := dk_97 (dk_at dksX9_cutAll_8 16 rfl rfl)
theorem dX9_cutAll_201 : decode cX9_cutAll 201 = .ok (.ldc2_w 172, 3) := dk_20 0 172 (dk_at dksX9_cutAll_8 17 rfl rfl)
theorem dX9_cutAll_204 : decode cX9_cutAll 204 = .ok (.lsub, 1) := dk_101 (dk_at dksX9_cutAll_8 20 rfl rfl)
theorem dX9_cutAll_205 : decode cX9_cutAll 205 = .ok (.goto 5, 3) := dk_167 0 5 (dk_at dksX9_cutAll_8 21 rfl rfl)
theorem dX9_cutAll_208 : decode cX9_cutAll 208 = .ok (.lload 5, 2) := dk_22 5 (dk_at dksX9_cutAll_9 0 rfl rfl)
theorem dX9_cutAll_210 : decode cX9_cutAll 210 = .ok (.lstore 5, 2) := dk_55 5 (dk_at dksX9_cutAll_9 2 rfl rfl)
theorem dX9_cutAll_212 : decode cX9_cutAll 212 = .ok (.iinc 2 1, 3) := dk_132 2 1 (dk_at dksX9_cutAll_9 4 rfl rfl)
theorem dX9_cutAll_215 : decode cX9_cutAll 215 = .ok (.goto (-56), 3) := dk_167 255 200 (dk_at dksX9_cutAll_9 7 rfl rfl)
theorem dX9_cutAll_218 : decode cX9_cutAll 218 = .ok (.aload_n 0, 1) := dk_42 (dk_at dksX9_cutAll_9 10 rfl rfl)
theorem dX9_cutAll_219 : decode cX9_cutAll 219 = .ok (.getfield 24, 3) := dk_180 0 24 (dk_at dksX9_cutAll_9 11 rfl rfl)
theorem dX9_cutAll_222 : decode cX9_cutAll 222 = .ok (.iload_n 1, 1) := dk_27 (dk_at dksX9_cutAll_9 14 rfl rfl)
theorem dX9_cutAll_223 : decode cX9_cutAll 223 = .ok (.iload_n 2, 1) := dk_28 (dk_at dksX9_cutAll_9 15 rfl rfl)
theorem dX9_cutAll_224 : decode cX9_cutAll 224 = .ok (.iload 4, 2) := dk_21 4 (dk_at dksX9_cutAll_9 16 rfl rfl)
theorem dX9_cutAll_226 : decode cX9_cutAll 226 = .ok (.isub, 1) := dk_100 (dk_at dksX9_cutAll_9 18 rfl rfl)
theorem dX9_cutAll_227 : decode cX9_cutAll 227 = .ok (.iconst 4, 1) := dk_7 (dk_at dksX9_cutAll_9 19 rfl rfl)
theorem dX9_cutAll_228 : decode cX9_cutAll 228 = .ok (.if_icmp .le 7, 3) := dk_164 0 7 (dk_at dksX9_cutAll_9 20 rfl rfl)
theorem dX9_cutAll_231 : decode cX9_cutAll 231 = .ok (.iconst 4, 1) := dk_7 (dk_at dksX9_cutAll_9 23 rfl rfl)
theorem dX9_cutAll_232 : decode cX9_cutAll 232 = .ok (.goto 4, 3) := dk_167 0 4 (dk_at dksX9_cutAll_10 0 rfl rfl)
theorem dX9_cutAll_235 : decode cX9_cutAll 235 = .ok (.iconst 2, 1) := dk_5 (dk_at dksX9_cutAll_10 3 rfl rfl)
theorem dX9_cutAll_236 : decode cX9_cutAll 236 = .ok (.iastore, 1) := dk_79 (dk_at dksX9_cutAll_10 4 rfl rfl)
theorem dX9_cutAll_237 : decode cX9_cutAll 237 = .ok (.goto 28, 3) := dk_167 0 28 (dk_at dksX9_cutAll_10 5 rfl rfl)
theorem dX9_cutAll_240 : decode cX9_cutAll 240 = .ok (.iload_n 3, 1) := dk_29 (dk_at dksX9_cutAll_10 8 rfl rfl)
theorem dX9_cutAll_241 : decode cX9_cutAll 241 = .ok (.i2l, 1) := dk_133 (dk_at dksX9_cutAll_10 9 rfl rfl)
theorem dX9_cutAll_242 : decode cX9_cutAll 242 = .ok (.lstore 5, 2) := dk_55 5 (dk_at dksX9_cutAll_10 10 rfl rfl)
theorem dX9_cutAll_244 : decode cX9_cutAll 244 = .ok (.aload_n 0, 1) := dk_42 (dk_at dksX9_cutAll_10 12 rfl rfl)
theorem dX9_cutAll_245 : decode cX9_cutAll 245 = .ok (.getfield 24, 3) := dk_180 0 24 (dk_at dksX9_cutAll_10 13 rfl rfl)
theorem dX9_cutAll_248 : decode cX9_cutAll 248 = .ok (.iload_n 1, 1) := dk_27 (dk_at dksX9_cutAll_10 16 rfl rfl)
theorem dX9_cutAll_249 : decode cX9_cutAll 249 = .ok (.iload_n 3, 1) := dk_29 (dk_at dksX9_cutAll_10 17 rfl rfl)
theorem dX9_cutAll_250 : decode cX9_cutAll 250 = .ok (.invokestatic 174, 3) := dk_184 0 174 (dk_at dksX9_cutAll_10 18 rfl rfl)
theorem dX9_cutAll_253 : decode cX9_cutAll 253 = .ok (.ifCond .eq 7, 3) := dk_153 0 7 (dk_at dksX9_cutAll_10 21 rfl rfl)
theorem dX9_cutAll_256 : decode cX9_cutAll 256 = .ok (.iconst 3, 1) := dk_6 (dk_at dksX9_cutAll_11 0 rfl rfl)
theorem dX9_cutAll_257 : decode cX9_cutAll 257 = .ok (.goto 4, 3) := dk_167 0 4 (dk_at dksX9_cutAll_11 1 rfl rfl)
theorem dX9_cutAll_260 : decode cX9_cutAll 260 = .ok (.iconst 4, 1) := dk_7 (dk_at dksX9_cutAll_11 4 rfl rfl)
theorem dX9_cutAll_261 : decode cX9_cutAll 261 = .ok (.iastore, 1) := dk_79 (dk_at dksX9_cutAll_11 5 rfl rfl)
theorem dX9_cutAll_262 : decode cX9_cutAll 262 = .ok (.iinc 2 1, 3) := dk_132 2 1 (dk_at dksX9_cutAll_11 6 rfl rfl)
theorem dX9_cutAll_265 : decode cX9_cutAll 265 = .ok (.aload_n 0, 1) := dk_42 (dk_at dksX9_cutAll_11 9 rfl rfl)
theorem dX9_cutAll_266 : decode cX9_cutAll 266 = .ok (.getfield 30, 3) := dk_180 0 30 (dk_at dksX9_cutAll_11 10 rfl rfl)
theorem dX9_cutAll_269 : decode cX9_cutAll 269 = .ok (.iload_n 1, 1) := dk_27 (dk_at dksX9_cutAll_11 13 rfl rfl)
theorem dX9_cutAll_270 : decode cX9_cutAll 270 = .ok (.lload 5, 2) := dk_22 5 (dk_at dksX9_cutAll_11 14 rfl rfl)
theorem dX9_cutAll_272 : decode cX9_cutAll 272 = .ok (.lastore, 1) := dk_80 (dk_at dksX9_cutAll_11 16 rfl rfl)
theorem dX9_cutAll_273 : decode cX9_cutAll 273 = .ok (.iinc 1 1, 3) := dk_132 1 1 (dk_at dksX9_cutAll_11 17 rfl rfl)
theorem dX9_cutAll_276 : decode cX9_cutAll 276 = .ok (.goto (-259), 3) := dk_167 254 253 (dk_at dksX9_cutAll_11 20 rfl rfl)
theorem dX9_cutAll_279 : decode cX9_cutAll 279 = .ok (.aload_n 0, 1) := dk_42 (dk_at dksX9_cutAll_11 23 rfl rfl)
theorem dX9_cutAll_280 : decode cX9_cutAll 280 = .ok (.getfield 24, 3) := dk_180 0 24 (dk_at dksX9_cutAll_12 0 rfl rfl)
theorem dX9_cutAll_283 : decode cX9_cutAll 283 = .ok (.iload_n 1, 1) := dk_27 (dk_at dksX9_cutAll_12 3 rfl rfl)
theorem dX9_cutAll_284 : decode cX9_cutAll 284 = .ok (.iconst 0, 1) := dk_3 (dk_at dksX9_cutAll_12 4 rfl rfl)
theorem dX9_cutAll_285 : decode cX9_cutAll 285 = .ok (.iastore, 1) := dk_79 (dk_at dksX9_cutAll_12 5 rfl rfl)
theorem dX9_cutAll_286 : decode cX9_cutAll 286 = .ok (.aload_n 0, 1) := dk_42 (dk_at dksX9_cutAll_12 6 rfl rfl)
theorem dX9_cutAll_287 : decode cX9_cutAll 287 = .ok (.getfield 27, 3) := dk_180 0 27 (dk_at dksX9_cutAll_12 7 rfl rfl)
theorem dX9_cutAll_290 : decode cX9_cutAll 290 = .ok (.iload_n 1, 1) := dk_27 (dk_at dksX9_cutAll_12 10 rfl rfl)
theorem dX9_cutAll_291 : decode cX9_cutAll 291 = .ok (.aload_n 0, 1) := dk_42 (dk_at dksX9_cutAll_12 11 rfl rfl)
theorem dX9_cutAll_292 : decode cX9_cutAll 292 = .ok (.getfield 158, 3) := dk_180 0 158 (dk_at dksX9_cutAll_12 12 rfl rfl)
theorem dX9_cutAll_295 : decode cX9_cutAll 295 = .ok (.iastore, 1) := dk_79 (dk_at dksX9_cutAll_12 15 rfl rfl)
theorem dX9_cutAll_296 : decode cX9_cutAll 296 = .ok (.aload_n 0, 1) := dk_42 (dk_at dksX9_cutAll_12 16 rfl rfl)
theorem dX9_cutAll_297 : decode cX9_cutAll 297 = .ok (.iconst 0, 1) := dk_3 (dk_at dksX9_cutAll_12 17 rfl rfl)
theorem dX9_cutAll_298 : decode cX9_cutAll 298 = .ok (.putfield 177, 3) := dk_181 0 177 (dk_at dksX9_cutAll_12 18 rfl rfl)
theorem dX9_cutAll_301 : decode cX9_cutAll 301 = .ok (.aload_n 0, 1) := dk_42 (dk_at dksX9_cutAll_12 21 rfl rfl)
theorem dX9_cutAll_302 : decode cX9_cutAll 302 = .ok (.iconst 0, 1) := dk_3 (dk_at dksX9_cutAll_12 22 rfl rfl)
theorem dX9_cutAll_303 : decode cX9_cutAll 303 = .ok (.putfield 180, 3) := dk_181 0 180 (dk_at dksX9_cutAll_13 0 rfl rfl)
theorem dX9_cutAll_306 : decode cX9_cutAll 306 = .ok (.return_, 1) := dk_177 (dk_at dksX9_cutAll_13 3 rfl rfl)
abbrev cX9_isLetter : ByteArray := prog_23_method_5_code
def yX9_isLetter : MethodName := ⟨RX9, "isLetter", "(I)Z"⟩
def dkwX9_isLetter_0 : List UInt8 := [26, 16, 97, 161, 0, 13, 26, 16, 122, 163, 0, 7, 4, 167, 0, 4, 3, 172]
abbrev dktX9_isLetter_0 : List UInt8 := dkwX9_isLetter_0 ++ []
theorem dksX9_isLetter_0 : cX9_isLetter.data.toList.drop 0 = dktX9_isLetter_0 := by decide +kernel
theorem dX9_isLetter_0 : decode cX9_isLetter 0 = .ok (.iload_n 0, 1) := dk_26 (dk_at dksX9_isLetter_0 0 rfl rfl)
theorem dX9_isLetter_1 : decode cX9_isLetter 1 = .ok (.bipush 97, 2) := dk_16 97 (dk_at dksX9_isLetter_0 1 rfl rfl)
theorem dX9_isLetter_3 : decode cX9_isLetter 3 = .ok (.if_icmp .lt 13, 3) := dk_161 0 13 (dk_at dksX9_isLetter_0 3 rfl rfl)
theorem dX9_isLetter_6 : decode cX9_isLetter 6 = .ok (.iload_n 0, 1) := dk_26 (dk_at dksX9_isLetter_0 6 rfl rfl)
theorem dX9_isLetter_7 : decode cX9_isLetter 7 = .ok (.bipush 122, 2) := dk_16 122 (dk_at dksX9_isLetter_0 7 rfl rfl)
theorem dX9_isLetter_9 : decode cX9_isLetter 9 = .ok (.if_icmp .gt 7, 3) := dk_163 0 7 (dk_at dksX9_isLetter_0 9 rfl rfl)
theorem dX9_isLetter_12 : decode cX9_isLetter 12 = .ok (.iconst 1, 1) := dk_4 (dk_at dksX9_isLetter_0 12 rfl rfl)
theorem dX9_isLetter_13 : decode cX9_isLetter 13 = .ok (.goto 4, 3) := dk_167 0 4 (dk_at dksX9_isLetter_0 13 rfl rfl)
theorem dX9_isLetter_16 : decode cX9_isLetter 16 = .ok (.iconst 0, 1) := dk_3 (dk_at dksX9_isLetter_0 16 rfl rfl)
theorem dX9_isLetter_17 : decode cX9_isLetter 17 = .ok (.ireturn, 1) := dk_172 (dk_at dksX9_isLetter_0 17 rfl rfl)
abbrev cX9_rank : ByteArray := prog_23_method_7_code
def yX9_rank : MethodName := ⟨RX9, "rank", "(I)I"⟩
def dkwX9_rank_0 : List UInt8 := [26, 184, 0, 154, 153, 0, 10, 26, 16, 96, 100, 167, 0, 7, 26, 16, 21, 100, 172]
abbrev dktX9_rank_0 : List UInt8 := dkwX9_rank_0 ++ []
theorem dksX9_rank_0 : cX9_rank.data.toList.drop 0 = dktX9_rank_0 := by decide +kernel
theorem dX9_rank_0 : decode cX9_rank 0 = .ok (.iload_n 0, 1) := dk_26 (dk_at dksX9_rank_0 0 rfl rfl)
theorem dX9_rank_1 : decode cX9_rank 1 = .ok (.invokestatic 154, 3) := dk_184 0 154 (dk_at dksX9_rank_0 1 rfl rfl)
theorem dX9_rank_4 : decode cX9_rank 4 = .ok (.ifCond .eq 10, 3) := dk_153 0 10 (dk_at dksX9_rank_0 4 rfl rfl)
theorem dX9_rank_7 : decode cX9_rank 7 = .ok (.iload_n 0, 1) := dk_26 (dk_at dksX9_rank_0 7 rfl rfl)
theorem dX9_rank_8 : decode cX9_rank 8 = .ok (.bipush 96, 2) := dk_16 96 (dk_at dksX9_rank_0 8 rfl rfl)
theorem dX9_rank_10 : decode cX9_rank 10 = .ok (.isub, 1) := dk_100 (dk_at dksX9_rank_0 10 rfl rfl)
theorem dX9_rank_11 : decode cX9_rank 11 = .ok (.goto 7, 3) := dk_167 0 7 (dk_at dksX9_rank_0 11 rfl rfl)
theorem dX9_rank_14 : decode cX9_rank 14 = .ok (.iload_n 0, 1) := dk_26 (dk_at dksX9_rank_0 14 rfl rfl)
theorem dX9_rank_15 : decode cX9_rank 15 = .ok (.bipush 21, 2) := dk_16 21 (dk_at dksX9_rank_0 15 rfl rfl)
theorem dX9_rank_17 : decode cX9_rank 17 = .ok (.isub, 1) := dk_100 (dk_at dksX9_rank_0 17 rfl rfl)
theorem dX9_rank_18 : decode cX9_rank 18 = .ok (.ireturn, 1) := dk_172 (dk_at dksX9_rank_0 18 rfl rfl)
abbrev cX9_isDigit : ByteArray := prog_23_method_6_code
def yX9_isDigit : MethodName := ⟨RX9, "isDigit", "(I)Z"⟩
def dkwX9_isDigit_0 : List UInt8 := [26, 16, 48, 161, 0, 13, 26, 16, 57, 163, 0, 7, 4, 167, 0, 4, 3, 172]
abbrev dktX9_isDigit_0 : List UInt8 := dkwX9_isDigit_0 ++ []
theorem dksX9_isDigit_0 : cX9_isDigit.data.toList.drop 0 = dktX9_isDigit_0 := by decide +kernel
theorem dX9_isDigit_0 : decode cX9_isDigit 0 = .ok (.iload_n 0, 1) := dk_26 (dk_at dksX9_isDigit_0 0 rfl rfl)
theorem dX9_isDigit_1 : decode cX9_isDigit 1 = .ok (.bipush 48, 2) := dk_16 48 (dk_at dksX9_isDigit_0 1 rfl rfl)
theorem dX9_isDigit_3 : decode cX9_isDigit 3 = .ok (.if_icmp .lt 13, 3) := dk_161 0 13 (dk_at dksX9_isDigit_0 3 rfl rfl)
theorem dX9_isDigit_6 : decode cX9_isDigit 6 = .ok (.iload_n 0, 1) := dk_26 (dk_at dksX9_isDigit_0 6 rfl rfl)
theorem dX9_isDigit_7 : decode cX9_isDigit 7 = .ok (.bipush 57, 2) := dk_16 57 (dk_at dksX9_isDigit_0 7 rfl rfl)
theorem dX9_isDigit_9 : decode cX9_isDigit 9 = .ok (.if_icmp .gt 7, 3) := dk_163 0 7 (dk_at dksX9_isDigit_0 9 rfl rfl)
theorem dX9_isDigit_12 : decode cX9_isDigit 12 = .ok (.iconst 1, 1) := dk_4 (dk_at dksX9_isDigit_0 12 rfl rfl)
theorem dX9_isDigit_13 : decode cX9_isDigit 13 = .ok (.goto 4, 3) := dk_167 0 4 (dk_at dksX9_isDigit_0 13 rfl rfl)
theorem dX9_isDigit_16 : decode cX9_isDigit 16 = .ok (.iconst 0, 1) := dk_3 (dk_at dksX9_isDigit_0 16 rfl rfl)
theorem dX9_isDigit_17 : decode cX9_isDigit 17 = .ok (.ireturn, 1) := dk_172 (dk_at dksX9_isDigit_0 17 rfl rfl)
abbrev cX9_isSignOf : ByteArray := prog_23_method_8_code
def yX9_isSignOf : MethodName := ⟨RX9, "isSignOf", "(I)Z"⟩
def dkwX9_isSignOf_2 : List UInt8 := [4, 167, 0, 4, 3, 172]
abbrev dktX9_isSignOf_2 : List UInt8 := dkwX9_isSignOf_2 ++ []
def dkwX9_isSignOf_1 : List UInt8 := [26, 16, 60, 159, 0, 21, 26, 16, 43, 159, 0, 15, 26, 16, 45, 159, 0, 9, 26, 16, 42, 160, 0, 7]
abbrev dktX9_isSignOf_1 : List UInt8 := dkwX9_isSignOf_1 ++ dktX9_isSignOf_2
def dkwX9_isSignOf_0 : List UInt8 := [26, 16, 40, 159, 0, 45, 26, 16, 41, 159, 0, 39, 26, 16, 59, 159, 0, 33, 26, 16, 61, 159, 0, 27]
abbrev dktX9_isSignOf_0 : List UInt8 := dkwX9_isSignOf_0 ++ dktX9_isSignOf_1
theorem dksX9_isSignOf_0 : cX9_isSignOf.data.toList.drop 0 = dktX9_isSignOf_0 := by decide +kernel
theorem dksX9_isSignOf_1 : cX9_isSignOf.data.toList.drop 24 = dktX9_isSignOf_1 := dk_seg dksX9_isSignOf_0 24 rfl rfl
theorem dksX9_isSignOf_2 : cX9_isSignOf.data.toList.drop 48 = dktX9_isSignOf_2 := dk_seg dksX9_isSignOf_1 24 rfl rfl
theorem dX9_isSignOf_0 : decode cX9_isSignOf 0 = .ok (.iload_n 0, 1) := dk_26 (dk_at dksX9_isSignOf_0 0 rfl rfl)
theorem dX9_isSignOf_1 : decode cX9_isSignOf 1 = .ok (.bipush 40, 2) := dk_16 40 (dk_at dksX9_isSignOf_0 1 rfl rfl)
theorem dX9_isSignOf_3 : decode cX9_isSignOf 3 = .ok (.if_icmp .eq 45, 3) := dk_159 0 45 (dk_at dksX9_isSignOf_0 3 rfl rfl)
theorem dX9_isSignOf_6 : decode cX9_isSignOf 6 = .ok (.iload_n 0, 1) := dk_26 (dk_at dksX9_isSignOf_0 6 rfl rfl)
theorem dX9_isSignOf_7 : decode cX9_isSignOf 7 = .ok (.bipush 41, 2) := dk_16 41 (dk_at dksX9_isSignOf_0 7 rfl rfl)
theorem dX9_isSignOf_9 : decode cX9_isSignOf 9 = .ok (.if_icmp .eq 39, 3) := dk_159 0 39 (dk_at dksX9_isSignOf_0 9 rfl rfl)
theorem dX9_isSignOf_12 : decode cX9_isSignOf 12 = .ok (.iload_n 0, 1) := dk_26 (dk_at dksX9_isSignOf_0 12 rfl rfl)
theorem dX9_isSignOf_13 : decode cX9_isSignOf 13 = .ok (.bipush 59, 2) := dk_16 59 (dk_at dksX9_isSignOf_0 13 rfl rfl)
theorem dX9_isSignOf_15 : decode cX9_isSignOf 15 = .ok (.if_icmp .eq 33, 3) := dk_159 0 33 (dk_at dksX9_isSignOf_0 15 rfl rfl)
theorem dX9_isSignOf_18 : decode cX9_isSignOf 18 = .ok (.iload_n 0, 1) := dk_26 (dk_at dksX9_isSignOf_0 18 rfl rfl)
theorem dX9_isSignOf_19 : decode cX9_isSignOf 19 = .ok (.bipush 61, 2) := dk_16 61 (dk_at dksX9_isSignOf_0 19 rfl rfl)
theorem dX9_isSignOf_21 : decode cX9_isSignOf 21 = .ok (.if_icmp .eq 27, 3) := dk_159 0 27 (dk_at dksX9_isSignOf_0 21 rfl rfl)
theorem dX9_isSignOf_24 : decode cX9_isSignOf 24 = .ok (.iload_n 0, 1) := dk_26 (dk_at dksX9_isSignOf_1 0 rfl rfl)
theorem dX9_isSignOf_25 : decode cX9_isSignOf 25 = .ok (.bipush 60, 2) := dk_16 60 (dk_at dksX9_isSignOf_1 1 rfl rfl)
theorem dX9_isSignOf_27 : decode cX9_isSignOf 27 = .ok (.if_icmp .eq 21, 3) := dk_159 0 21 (dk_at dksX9_isSignOf_1 3 rfl rfl)
theorem dX9_isSignOf_30 : decode cX9_isSignOf 30 = .ok (.iload_n 0, 1) := dk_26 (dk_at dksX9_isSignOf_1 6 rfl rfl)
theorem dX9_isSignOf_31 : decode cX9_isSignOf 31 = .ok (.bipush 43, 2) := dk_16 43 (dk_at dksX9_isSignOf_1 7 rfl rfl)
theorem dX9_isSignOf_33 : decode cX9_isSignOf 33 = .ok (.if_icmp .eq 15, 3) := dk_159 0 15 (dk_at dksX9_isSignOf_1 9 rfl rfl)
theorem dX9_isSignOf_36 : decode cX9_isSignOf 36 = .ok (.iload_n 0, 1) := dk_26 (dk_at dksX9_isSignOf_1 12 rfl rfl)
theorem dX9_isSignOf_37 : decode cX9_isSignOf 37 = .ok (.bipush 45, 2) := dk_16 45 (dk_at dksX9_isSignOf_1 13 rfl rfl)
theorem dX9_isSignOf_39 : decode cX9_isSignOf 39 = .ok (.if_icmp .eq 9, 3) := dk_159 0 9 (dk_at dksX9_isSignOf_1 15 rfl rfl)
theorem dX9_isSignOf_42 : decode cX9_isSignOf 42 = .ok (.iload_n 0, 1) := dk_26 (dk_at dksX9_isSignOf_1 18 rfl rfl)
theorem dX9_isSignOf_43 : decode cX9_isSignOf 43 = .ok (.bipush 42, 2) := dk_16 42 (dk_at dksX9_isSignOf_1 19 rfl rfl)
theorem dX9_isSignOf_45 : decode cX9_isSignOf 45 = .ok (.if_icmp .ne 7, 3) := dk_160 0 7 (dk_at dksX9_isSignOf_1 21 rfl rfl)
theorem dX9_isSignOf_48 : decode cX9_isSignOf 48 = .ok (.iconst 1, 1) := dk_4 (dk_at dksX9_isSignOf_2 0 rfl rfl)
theorem dX9_isSignOf_49 : decode cX9_isSignOf 49 = .ok (.goto 4, 3) := dk_167 0 4 (dk_at dksX9_isSignOf_2 1 rfl rfl)
theorem dX9_isSignOf_52 : decode cX9_isSignOf 52 = .ok (.iconst 0, 1) := dk_3 (dk_at dksX9_isSignOf_2 4 rfl rfl)
theorem dX9_isSignOf_53 : decode cX9_isSignOf 53 = .ok (.ireturn, 1) := dk_172 (dk_at dksX9_isSignOf_2 5 rfl rfl)
abbrev cX9_takeWord : ByteArray := prog_23_method_16_code
def yX9_takeWord : MethodName := ⟨RX9, "takeWord", "(I)V"⟩
def dkwX9_takeWord_0 : List UInt8 := [42, 27, 182, 0, 192, 154, 0, 8, 42, 4, 182, 0, 186, 177]
abbrev dktX9_takeWord_0 : List UInt8 := dkwX9_takeWord_0 ++ []
theorem dksX9_takeWord_0 : cX9_takeWord.data.toList.drop 0 = dktX9_takeWord_0 := by decide +kernel
theorem dX9_takeWord_0 : decode cX9_takeWord 0 = .ok (.aload_n 0, 1) := dk_42 (dk_at dksX9_takeWord_0 0 rfl rfl)
theorem dX9_takeWord_1 : decode cX9_takeWord 1 = .ok (.iload_n 1, 1) := dk_27 (dk_at dksX9_takeWord_0 1 rfl rfl)
theorem dX9_takeWord_2 : decode cX9_takeWord 2 = .ok (.invokevirtual 192, 3) := dk_182 0 192 (dk_at dksX9_takeWord_0 2 rfl rfl)
theorem dX9_takeWord_5 : decode cX9_takeWord 5 = .ok (.ifCond .ne 8, 3) := dk_154 0 8 (dk_at dksX9_takeWord_0 5 rfl rfl)
theorem dX9_takeWord_8 : decode cX9_takeWord 8 = .ok (.aload_n 0, 1) := dk_42 (dk_at dksX9_takeWord_0 8 rfl rfl)
theorem dX9_takeWord_9 : decode cX9_takeWord 9 = .ok (.iconst 1, 1) := dk_4 (dk_at dksX9_takeWord_0 9 rfl rfl)
theorem dX9_takeWord_10 : decode cX9_takeWord 10 = .ok (.invokevirtual 186, 3) := dk_182 0 186 (dk_at dksX9_takeWord_0 10 rfl rfl)
theorem dX9_takeWord_13 : decode cX9_takeWord 13 = .ok (.return_, 1) := dk_177 (dk_at dksX9_takeWord_0 13 rfl rfl)
abbrev cX9_hasWord : ByteArray := prog_23_method_15_code
def yX9_hasWord : MethodName := ⟨RX9, "hasWord", "(I)Z"⟩
def dkwX9_hasWord_1 : List UInt8 := [28, 172]
abbrev dktX9_hasWord_1 : List UInt8 := dkwX9_hasWord_1 ++ []
def dkwX9_hasWord_0 : List UInt8 := [42, 27, 182, 0, 189, 61, 42, 89, 180, 0, 177, 28, 153, 0, 7, 4, 167, 0, 4, 3, 96, 181, 0, 177]
abbrev dktX9_hasWord_0 : List UInt8 := dkwX9_hasWord_0 ++ dktX9_hasWord_1
theorem dksX9_hasWord_0 : cX9_hasWord.data.toList.drop 0 = dktX9_hasWord_0 := by decide +kernel
theorem dksX9_hasWord_1 : cX9_hasWord.data.toList.drop 24 = dktX9_hasWord_1 := dk_seg dksX9_hasWord_0 24 rfl rfl
theorem dX9_hasWord_0 : decode cX9_hasWord 0 = .ok (.aload_n 0, 1) := dk_42 (dk_at dksX9_hasWord_0 0 rfl rfl)
theorem dX9_hasWord_1 : decode cX9_hasWord 1 = .ok (.iload_n 1, 1) := dk_27 (dk_at dksX9_hasWord_0 1 rfl rfl)
theorem dX9_hasWord_2 : decode cX9_hasWord 2 = .ok (.invokevirtual 189, 3) := dk_182 0 189 (dk_at dksX9_hasWord_0 2 rfl rfl)
theorem dX9_hasWord_5 : decode cX9_hasWord 5 = .ok (.istore_n 2, 1) := dk_61 (dk_at dksX9_hasWord_0 5 rfl rfl)
theorem dX9_hasWord_6 : decode cX9_hasWord 6 = .ok (.aload_n 0, 1) := dk_42 (dk_at dksX9_hasWord_0 6 rfl rfl)
theorem dX9_hasWord_7 : decode cX9_hasWord 7 = .ok (.dup, 1) := dk_89 (dk_at dksX9_hasWord_0 7 rfl rfl)
theorem dX9_hasWord_8 : decode cX9_hasWord 8 = .ok (.getfield 177, 3) := dk_180 0 177 (dk_at dksX9_hasWord_0 8 rfl rfl)
theorem dX9_hasWord_11 : decode cX9_hasWord 11 = .ok (.iload_n 2, 1) := dk_28 (dk_at dksX9_hasWord_0 11 rfl rfl)
theorem dX9_hasWord_12 : decode cX9_hasWord 12 = .ok (.ifCond .eq 7, 3) := dk_153 0 7 (dk_at dksX9_hasWord_0 12 rfl rfl)
theorem dX9_hasWord_15 : decode cX9_hasWord 15 = .ok (.iconst 1, 1) := dk_4 (dk_at dksX9_hasWord_0 15 rfl rfl)
theorem dX9_hasWord_16 : decode cX9_hasWord 16 = .ok (.goto 4, 3) := dk_167 0 4 (dk_at dksX9_hasWord_0 16 rfl rfl)
theorem dX9_hasWord_19 : decode cX9_hasWord 19 = .ok (.iconst 0, 1) := dk_3 (dk_at dksX9_hasWord_0 19 rfl rfl)
theorem dX9_hasWord_20 : decode cX9_hasWord 20 = .ok (.iadd, 1) := dk_96 (dk_at dksX9_hasWord_0 20 rfl rfl)
theorem dX9_hasWord_21 : decode cX9_hasWord 21 = .ok (.putfield 177, 3) := dk_181 0 177 (dk_at dksX9_hasWord_0 21 rfl rfl)
theorem dX9_hasWord_24 : decode cX9_hasWord 24 = .ok (.iload_n 2, 1) := dk_28 (dk_at dksX9_hasWord_1 0 rfl rfl)
theorem dX9_hasWord_25 : decode cX9_hasWord 25 = .ok (.ireturn, 1) := dk_172 (dk_at dksX9_hasWord_1 1 rfl rfl)
abbrev cX9_isWord : ByteArray := prog_23_method_12_code
def yX9_isWord : MethodName := ⟨RX9, "isWord", "(I)Z"⟩
def dkwX9_isWord_1 : List UInt8 := [42, 180, 0, 177, 47, 42, 180, 0, 78, 27, 47, 148, 154, 0, 7, 4, 167, 0, 4, 3, 172]
abbrev dktX9_isWord_1 : List UInt8 := dkwX9_isWord_1 ++ []
def dkwX9_isWord_0 : List UInt8 := [42, 180, 0, 180, 154, 0, 39, 42, 180, 0, 24, 42, 180, 0, 177, 46, 4, 160, 0, 26, 42, 180, 0, 30]
abbrev dktX9_isWord_0 : List UInt8 := dkwX9_isWord_0 ++ dktX9_isWord_1
theorem dksX9_isWord_0 : cX9_isWord.data.toList.drop 0 = dktX9_isWord_0 := by decide +kernel
theorem dksX9_isWord_1 : cX9_isWord.data.toList.drop 24 = dktX9_isWord_1 := dk_seg dksX9_isWord_0 24 rfl rfl
theorem dX9_isWord_0 : decode cX9_isWord 0 = .ok (.aload_n 0, 1) := dk_42 (dk_at dksX9_isWord_0 0 rfl rfl)
theorem dX9_isWord_1 : decode cX9_isWord 1 = .ok (.getfield 180, 3) := dk_180 0 180 (dk_at dksX9_isWord_0 1 rfl rfl)
theorem dX9_isWord_4 : decode cX9_isWord 4 = .ok (.ifCond .ne 39, 3) := dk_154 0 39 (dk_at dksX9_isWord_0 4 rfl rfl)
theorem dX9_isWord_7 : decode cX9_isWord 7 = .ok (.aload_n 0, 1) := dk_42 (dk_at dksX9_isWord_0 7 rfl rfl)
theorem dX9_isWord_8 : decode cX9_isWord 8 = .ok (.getfield 24, 3) := dk_180 0 24 (dk_at dksX9_isWord_0 8 rfl rfl)
theorem dX9_isWord_11 : decode cX9_isWord 11 = .ok (.aload_n 0, 1) := dk_42 (dk_at dksX9_isWord_0 11 rfl rfl)
theorem dX9_isWord_12 : decode cX9_isWord 12 = .ok (.getfield 177, 3) := dk_180 0 177 (dk_at dksX9_isWord_0 12 rfl rfl)
theorem dX9_isWord_15 : decode cX9_isWord 15 = .ok (.iaload, 1) := dk_46 (dk_at dksX9_isWord_0 15 rfl rfl)
theorem dX9_isWord_16 : decode cX9_isWord 16 = .ok (.iconst 1, 1) := dk_4 (dk_at dksX9_isWord_0 16 rfl rfl)
theorem dX9_isWord_17 : decode cX9_isWord 17 = .ok (.if_icmp .ne 26, 3) := dk_160 0 26 (dk_at dksX9_isWord_0 17 rfl rfl)
theorem dX9_isWord_20 : decode cX9_isWord 20 = .ok (.aload_n 0, 1) := dk_42 (dk_at dksX9_isWord_0 20 rfl rfl)
theorem dX9_isWord_21 : decode cX9_isWord 21 = .ok (.getfield 30, 3) := dk_180 0 30 (dk_at dksX9_isWord_0 21 rfl rfl)
theorem dX9_isWord_24 : decode cX9_isWord 24 = .ok (.aload_n 0, 1) := dk_42 (dk_at dksX9_isWord_1 0 rfl rfl)
theorem dX9_isWord_25 : decode cX9_isWord 25 = .ok (.getfield 177, 3) := dk_180 0 177 (dk_at dksX9_isWord_1 1 rfl rfl)
theorem dX9_isWord_28 : decode cX9_isWord 28 = .ok (.laload, 1) := dk_47 (dk_at dksX9_isWord_1 4 rfl rfl)
theorem dX9_isWord_29 : decode cX9_isWord 29 = .ok (.aload_n 0, 1) := dk_42 (dk_at dksX9_isWord_1 5 rfl rfl)
theorem dX9_isWord_30 : decode cX9_isWord 30 = .ok (.getfield 78, 3) := dk_180 0 78 (dk_at dksX9_isWord_1 6 rfl rfl)
theorem dX9_isWord_33 : decode cX9_isWord 33 = .ok (.iload_n 1, 1) := dk_27 (dk_at dksX9_isWord_1 9 rfl rfl)
theorem dX9_isWord_34 : decode cX9_isWord 34 = .ok (.laload, 1) := dk_47 (dk_at dksX9_isWord_1 10 rfl rfl)
theorem dX9_isWord_35 : decode cX9_isWord 35 = .ok (.lcmp, 1) := dk_148 (dk_at dksX9_isWord_1 11 rfl rfl)
theorem dX9_isWord_36 : decode cX9_isWord 36 = .ok (.ifCond .ne 7, 3) := dk_154 0 7 (dk_at dksX9_isWord_1 12 rfl rfl)
theorem dX9_isWord_39 : decode cX9_isWord 39 = .ok (.iconst 1, 1) := dk_4 (dk_at dksX9_isWord_1 15 rfl rfl)
theorem dX9_isWord_40 : decode cX9_isWord 40 = .ok (.goto 4, 3) := dk_167 0 4 (dk_at dksX9_isWord_1 16 rfl rfl)
theorem dX9_isWord_43 : decode cX9_isWord 43 = .ok (.iconst 0, 1) := dk_3 (dk_at dksX9_isWord_1 19 rfl rfl)
theorem dX9_isWord_44 : decode cX9_isWord 44 = .ok (.ireturn, 1) := dk_172 (dk_at dksX9_isWord_1 20 rfl rfl)
abbrev cX9_wrong : ByteArray := prog_23_method_10_code
def yX9_wrong : MethodName := ⟨RX9, "wrong", "(I)V"⟩
def dkwX9_wrong_1 : List UInt8 := [181, 0, 180, 177]
abbrev dktX9_wrong_1 : List UInt8 := dkwX9_wrong_1 ++ []
def dkwX9_wrong_0 : List UInt8 := [42, 180, 0, 180, 154, 0, 21, 42, 27, 16, 16, 42, 180, 0, 27, 42, 180, 0, 177, 46, 104, 96]
abbrev dktX9_wrong_0 : List UInt8 := dkwX9_wrong_0 ++ dktX9_wrong_1
theorem dksX9_wrong_0 : cX9_wrong.data.toList.drop 0 = dktX9_wrong_0 := by decide +kernel
theorem dksX9_wrong_1 : cX9_wrong.data.toList.drop 22 = dktX9_wrong_1 := dk_seg dksX9_wrong_0 22 rfl rfl
theorem dX9_wrong_0 : decode cX9_wrong 0 = .ok (.aload_n 0, 1) := dk_42 (dk_at dksX9_wrong_0 0 rfl rfl)
theorem dX9_wrong_1 : decode cX9_wrong 1 = .ok (.getfield 180, 3) := dk_180 0 180 (dk_at dksX9_wrong_0 1 rfl rfl)
theorem dX9_wrong_4 : decode cX9_wrong 4 = .ok (.ifCond .ne 21, 3) := dk_154 0 21 (dk_at dksX9_wrong_0 4 rfl rfl)
theorem dX9_wrong_7 : decode cX9_wrong 7 = .ok (.aload_n 0, 1) := dk_42 (dk_at dksX9_wrong_0 7 rfl rfl)
theorem dX9_wrong_8 : decode cX9_wrong 8 = .ok (.iload_n 1, 1) := dk_27 (dk_at dksX9_wrong_0 8 rfl rfl)
theorem dX9_wrong_9 : decode cX9_wrong 9 = .ok (.bipush 16, 2) := dk_16 16 (dk_at dksX9_wrong_0 9 rfl rfl)
theorem dX9_wrong_11 : decode cX9_wrong 11 = .ok (.aload_n 0, 1) := dk_42 (dk_at dksX9_wrong_0 11 rfl rfl)
theorem dX9_wrong_12 : decode cX9_wrong 12 = .ok (.getfield 27, 3) := dk_180 0 27 (dk_at dksX9_wrong_0 12 rfl rfl)
theorem dX9_wrong_15 : decode cX9_wrong 15 = .ok (.aload_n 0, 1) := dk_42 (dk_at dksX9_wrong_0 15 rfl rfl)
theorem dX9_wrong_16 : decode cX9_wrong 16 = .ok (.getfield 177, 3) := dk_180 0 177 (dk_at dksX9_wrong_0 16 rfl rfl)
theorem dX9_wrong_19 : decode cX9_wrong 19 = .ok (.iaload, 1) := dk_46 (dk_at dksX9_wrong_0 19 rfl rfl)
theorem dX9_wrong_20 : decode cX9_wrong 20 = .ok (.imul, 1) := dk_104 (dk_at dksX9_wrong_0 20 rfl rfl)
theorem dX9_wrong_21 : decode cX9_wrong 21 = .ok (.iadd, 1) := dk_96 (dk_at dksX9_wrong_0 21 rfl rfl)
theorem dX9_wrong_22 : decode cX9_wrong 22 = .ok (.putfield 180, 3) := dk_181 0 180 (dk_at dksX9_wrong_1 0 rfl rfl)
theorem dX9_wrong_25 : decode cX9_wrong 25 = .ok (.return_, 1) := dk_177 (dk_at dksX9_wrong_1 3 rfl rfl)
abbrev cX9_takeNumber : ByteArray := prog_23_method_19_code
def yX9_takeNumber : MethodName := ⟨RX9, "takeNumber", "(II)I"⟩
def dkwX9_takeNumber_4 : List UInt8 := [180, 0, 177, 4, 100, 47, 136, 172]
abbrev dktX9_takeNumber_4 : List UInt8 := dkwX9_takeNumber_4 ++ []
def dkwX9_takeNumber_3 : List UInt8 := [42, 180, 0, 180, 158, 0, 5, 3, 172, 42, 89, 180, 0, 177, 4, 96, 181, 0, 177, 42, 180, 0, 30, 42]
abbrev dktX9_takeNumber_3 : List UInt8 := dkwX9_takeNumber_3 ++ dktX9_takeNumber_4
def dkwX9_takeNumber_2 : List UInt8 := [148, 155, 0, 18, 42, 180, 0, 30, 42, 180, 0, 177, 47, 28, 133, 148, 158, 0, 8, 42, 7, 182, 0, 186]
abbrev dktX9_takeNumber_2 : List UInt8 := dkwX9_takeNumber_2 ++ dktX9_takeNumber_3
def dkwX9_takeNumber_1 : List UInt8 := [182, 0, 186, 167, 0, 45, 42, 180, 0, 180, 154, 0, 38, 42, 180, 0, 30, 42, 180, 0, 177, 47, 27, 133]
abbrev dktX9_takeNumber_1 : List UInt8 := dkwX9_takeNumber_1 ++ dktX9_takeNumber_2
def dkwX9_takeNumber_0 : List UInt8 := [42, 180, 0, 180, 154, 0, 24, 42, 180, 0, 24, 42, 180, 0, 177, 46, 5, 159, 0, 11, 42, 4]
abbrev dktX9_takeNumber_0 : List UInt8 := dkwX9_takeNumber_0 ++ dktX9_takeNumber_1
theorem dksX9_takeNumber_0 : cX9_takeNumber.data.toList.drop 0 = dktX9_takeNumber_0 := by decide +kernel
theorem dksX9_takeNumber_1 : cX9_takeNumber.data.toList.drop 22 = dktX9_takeNumber_1 := dk_seg dksX9_takeNumber_0 22 rfl rfl
theorem dksX9_takeNumber_2 : cX9_takeNumber.data.toList.drop 46 = dktX9_takeNumber_2 := dk_seg dksX9_takeNumber_1 24 rfl rfl
theorem dksX9_takeNumber_3 : cX9_takeNumber.data.toList.drop 70 = dktX9_takeNumber_3 := dk_seg dksX9_takeNumber_2 24 rfl rfl
theorem dksX9_takeNumber_4 : cX9_takeNumber.data.toList.drop 94 = dktX9_takeNumber_4 := dk_seg dksX9_takeNumber_3 24 rfl rfl
theorem dX9_takeNumber_0 : decode cX9_takeNumber 0 = .ok (.aload_n 0, 1) := dk_42 (dk_at dksX9_takeNumber_0 0 rfl rfl)
theorem dX9_takeNumber_1 : decode cX9_takeNumber 1 = .ok (.getfield 180, 3) := dk_180 0 180 (dk_at dksX9_takeNumber_0 1 rfl rfl)
theorem dX9_takeNumber_4 : decode cX9_takeNumber 4 = .ok (.ifCond .ne 24, 3) := dk_154 0 24 (dk_at dksX9_takeNumber_0 4 rfl rfl)
theorem dX9_takeNumber_7 : decode cX9_takeNumber 7 = .ok (.aload_n 0, 1) := dk_42 (dk_at dksX9_takeNumber_0 7 rfl rfl)
theorem dX9_takeNumber_8 : decode cX9_takeNumber 8 = .ok (.getfield 24, 3) := dk_180 0 24 (dk_at dksX9_takeNumber_0 8 rfl rfl)
theorem dX9_takeNumber_11 : decode cX9_takeNumber 11 = .ok (.aload_n 0, 1) := dk_42 (dk_at dksX9_takeNumber_0 11 rfl rfl)
theorem dX9_takeNumber_12 : decode cX9_takeNumber 12 = .ok (.getfield 177, 3) := dk_180 0 177 (dk_at dksX9_takeNumber_0 12 rfl rfl)
theorem dX9_takeNumber_15 : decode cX9_takeNumber 15 = .ok (.iaload, 1) := dk_46 (dk_at dksX9_takeNumber_0 15 rfl rfl)
theorem dX9_takeNumber_16 : decode cX9_takeNumber 16 = .ok (.iconst 2, 1) := dk_5 (dk_at dksX9_takeNumber_0 16 rfl rfl)
theorem dX9_takeNumber_17 : decode cX9_takeNumber 17 = .ok (.if_icmp .eq 11, 3) := dk_159 0 11 (dk_at dksX9_takeNumber_0 17 rfl rfl)
theorem dX9_takeNumber_20 : decode cX9_takeNumber 20 = .ok (.aload_n 0, 1) := dk_42 (dk_at dksX9_takeNumber_0 20 rfl rfl)
theorem dX9_takeNumber_21 : decode cX9_takeNumber 21 = .ok (.iconst 1, 1) := dk_4 (dk_at dksX9_takeNumber_0 21 rfl rfl)
theorem dX9_takeNumber_22 : decode cX9_takeNumber 22 = .ok (.invokevirtual 186, 3) := dk_182 0 186 (dk_at dksX9_takeNumber_1 0 rfl rfl)
theorem dX9_takeNumber_25 : decode cX9_takeNumber 25 = .ok (.goto 45, 3) := dk_167 0 45 (dk_at dksX9_takeNumber_1 3 rfl rfl)
theorem dX9_takeNumber_28 : decode cX9_takeNumber 28 = .ok (.aload_n 0, 1) := dk_42 (dk_at dksX9_takeNumber_1 6 rfl rfl)
theorem dX9_takeNumber_29 : decode cX9_takeNumber 29 = .ok (.getfield 180, 3) := dk_180 0 180 (dk_at dksX9_takeNumber_1 7 rfl rfl)
theorem dX9_takeNumber_32 : decode cX9_takeNumber 32 = .ok (.ifCond .ne 38, 3) := dk_154 0 38 (dk_at dksX9_takeNumber_1 10 rfl rfl)
theorem dX9_takeNumber_35 : decode cX9_takeNumber 35 = .ok (.aload_n 0, 1) := dk_42 (dk_at dksX9_takeNumber_1 13 rfl rfl)
theorem dX9_takeNumber_36 : decode cX9_takeNumber 36 = .ok (.getfield 30, 3) := dk_180 0 30 (dk_at dksX9_takeNumber_1 14 rfl rfl)
theorem dX9_takeNumber_39 : decode cX9_takeNumber 39 = .ok (.aload_n 0, 1) := dk_42 (dk_at dksX9_takeNumber_1 17 rfl rfl)
theorem dX9_takeNumber_40 : decode cX9_takeNumber 40 = .ok (.getfield 177, 3) := dk_180 0 177 (dk_at dksX9_takeNumber_1 18 rfl rfl)
theorem dX9_takeNumber_43 : decode cX9_takeNumber 43 = .ok (.laload, 1) := dk_47 (dk_at dksX9_takeNumber_1 21 rfl rfl)
theorem dX9_takeNumber_44 : decode cX9_takeNumber 44 = .ok (.iload_n 1, 1) := dk_27 (dk_at dksX9_takeNumber_1 22 rfl rfl)
theorem dX9_takeNumber_45 : decode cX9_takeNumber 45 = .ok (.i2l, 1) := dk_133 (dk_at dksX9_takeNumber_1 23 rfl rfl)
theorem dX9_takeNumber_46 : decode cX9_takeNumber 46 = .ok (.lcmp, 1) := dk_148 (dk_at dksX9_takeNumber_2 0 rfl rfl)
theorem dX9_takeNumber_47 : decode cX9_takeNumber 47 = .ok (.ifCond .lt 18, 3) := dk_155 0 18 (dk_at dksX9_takeNumber_2 1 rfl rfl)
theorem dX9_takeNumber_50 : decode cX9_takeNumber 50 = .ok (.aload_n 0, 1) := dk_42 (dk_at dksX9_takeNumber_2 4 rfl rfl)
theorem dX9_takeNumber_51 : decode cX9_takeNumber 51 = .ok (.getfield 30, 3) := dk_180 0 30 (dk_at dksX9_takeNumber_2 5 rfl rfl)
theorem dX9_takeNumber_54 : decode cX9_takeNumber 54 = .ok (.aload_n 0, 1) := dk_42 (dk_at dksX9_takeNumber_2 8 rfl rfl)
theorem dX9_takeNumber_55 : decode cX9_takeNumber 55 = .ok (.getfield 177, 3) := dk_180 0 177 (dk_at dksX9_takeNumber_2 9 rfl rfl)
theorem dX9_takeNumber_58 : decode cX9_takeNumber 58 = .ok (.laload, 1) := dk_47 (dk_at dksX9_takeNumber_2 12 rfl rfl)
theorem dX9_takeNumber_59 : decode cX9_takeNumber 59 = .ok (.iload_n 2, 1) := dk_28 (dk_at dksX9_takeNumber_2 13 rfl rfl)
theorem dX9_takeNumber_60 : decode cX9_takeNumber 60 = .ok (.i2l, 1) := dk_133 (dk_at dksX9_takeNumber_2 14 rfl rfl)
theorem dX9_takeNumber_61 : decode cX9_takeNumber 61 = .ok (.lcmp, 1) := dk_148 (dk_at dksX9_takeNumber_2 15 rfl rfl)
theorem dX9_takeNumber_62 : decode cX9_takeNumber 62 = .ok (.ifCond .le 8, 3) := dk_158 0 8 (dk_at dksX9_takeNumber_2 16 rfl rfl)
theorem dX9_takeNumber_65 : decode cX9_takeNumber 65 = .ok (.aload_n 0, 1) := dk_42 (dk_at dksX9_takeNumber_2 19 rfl rfl)
theorem dX9_takeNumber_66 : decode cX9_takeNumber 66 = .ok (.iconst 4, 1) := dk_7 (dk_at dksX9_takeNumber_2 20 rfl rfl)
theorem dX9_takeNumber_67 : decode cX9_takeNumber 67 = .ok (.invokevirtual 186, 3) := dk_182 0 186 (dk_at dksX9_takeNumber_2 21 rfl rfl)
theorem dX9_takeNumber_70 : decode cX9_takeNumber 70 = .ok (.aload_n 0, 1) := dk_42 (dk_at dksX9_takeNumber_3 0 rfl rfl)
theorem dX9_takeNumber_71 : decode cX9_takeNumber 71 = .ok (.getfield 180, 3) := dk_180 0 180 (dk_at dksX9_takeNumber_3 1 rfl rfl)
theorem dX9_takeNumber_74 : decode cX9_takeNumber 74 = .ok (.ifCond .le 5, 3) := dk_158 0 5 (dk_at dksX9_takeNumber_3 4 rfl rfl)
theorem dX9_takeNumber_77 : decode cX9_takeNumber 77 = .ok (.iconst 0, 1) := dk_3 (dk_at dksX9_takeNumber_3 7 rfl rfl)
theorem dX9_takeNumber_78 : decode cX9_takeNumber 78 = .ok (.ireturn, 1) := dk_172 (dk_at dksX9_takeNumber_3 8 rfl rfl)
theorem dX9_takeNumber_79 : decode cX9_takeNumber 79 = .ok (.aload_n 0, 1) := dk_42 (dk_at dksX9_takeNumber_3 9 rfl rfl)
theorem dX9_takeNumber_80 : decode cX9_takeNumber 80 = .ok (.dup, 1) := dk_89 (dk_at dksX9_takeNumber_3 10 rfl rfl)
theorem dX9_takeNumber_81 : decode cX9_takeNumber 81 = .ok (.getfield 177, 3) := dk_180 0 177 (dk_at dksX9_takeNumber_3 11 rfl rfl)
theorem dX9_takeNumber_84 : decode cX9_takeNumber 84 = .ok (.iconst 1, 1) := dk_4 (dk_at dksX9_takeNumber_3 14 rfl rfl)
theorem dX9_takeNumber_85 : decode cX9_takeNumber 85 = .ok (.iadd, 1) := dk_96 (dk_at dksX9_takeNumber_3 15 rfl rfl)
theorem dX9_takeNumber_86 : decode cX9_takeNumber 86 = .ok (.putfield 177, 3) := dk_181 0 177 (dk_at dksX9_takeNumber_3 16 rfl rfl)
theorem dX9_takeNumber_89 : decode cX9_takeNumber 89 = .ok (.aload_n 0, 1) := dk_42 (dk_at dksX9_takeNumber_3 19 rfl rfl)
theorem dX9_takeNumber_90 : decode cX9_takeNumber 90 = .ok (.getfield 30, 3) := dk_180 0 30 (dk_at dksX9_takeNumber_3 20 rfl rfl)
theorem dX9_takeNumber_93 : decode cX9_takeNumber 93 = .ok (.aload_n 0, 1) := dk_42 (dk_at dksX9_takeNumber_3 23 rfl rfl)
theorem dX9_takeNumber_94 : decode cX9_takeNumber 94 = .ok (.getfield 177, 3) := dk_180 0 177 (dk_at dksX9_takeNumber_4 0 rfl rfl)
theorem dX9_takeNumber_97 : decode cX9_takeNumber 97 = .ok (.iconst 1, 1) := dk_4 (dk_at dksX9_takeNumber_4 3 rfl rfl)
theorem dX9_takeNumber_98 : decode cX9_takeNumber 98 = .ok (.isub, 1) := dk_100 (dk_at dksX9_takeNumber_4 4 rfl rfl)
theorem dX9_takeNumber_99 : decode cX9_takeNumber 99 = .ok (.laload, 1) := dk_47 (dk_at dksX9_takeNumber_4 5 rfl rfl)
theorem dX9_takeNumber_100 : decode cX9_takeNumber 100 = .ok (.l2i, 1) := dk_136 (dk_at dksX9_takeNumber_4 6 rfl rfl)
theorem dX9_takeNumber_101 : decode cX9_takeNumber 101 = .ok (.ireturn, 1) := dk_172 (dk_at dksX9_takeNumber_4 7 rfl rfl)
abbrev cX9_takeSign : ByteArray := prog_23_method_13_code
def yX9_takeSign : MethodName := ⟨RX9, "takeSign", "(I)V"⟩
def dkwX9_takeSign_1 : List UInt8 := [182, 0, 186, 177]
abbrev dktX9_takeSign_1 : List UInt8 := dkwX9_takeSign_1 ++ []
def dkwX9_takeSign_0 : List UInt8 := [42, 27, 182, 0, 183, 153, 0, 16, 42, 89, 180, 0, 177, 4, 96, 181, 0, 177, 167, 0, 8, 42, 4]
abbrev dktX9_takeSign_0 : List UInt8 := dkwX9_takeSign_0 ++ dktX9_takeSign_1
theorem dksX9_takeSign_0 : cX9_takeSign.data.toList.drop 0 = dktX9_takeSign_0 := by decide +kernel
theorem dksX9_takeSign_1 : cX9_takeSign.data.toList.drop 23 = dktX9_takeSign_1 := dk_seg dksX9_takeSign_0 23 rfl rfl
theorem dX9_takeSign_0 : decode cX9_takeSign 0 = .ok (.aload_n 0, 1) := dk_42 (dk_at dksX9_takeSign_0 0 rfl rfl)
theorem dX9_takeSign_1 : decode cX9_takeSign 1 = .ok (.iload_n 1, 1) := dk_27 (dk_at dksX9_takeSign_0 1 rfl rfl)
theorem dX9_takeSign_2 : decode cX9_takeSign 2 = .ok (.invokevirtual 183, 3) := dk_182 0 183 (dk_at dksX9_takeSign_0 2 rfl rfl)
theorem dX9_takeSign_5 : decode cX9_takeSign 5 = .ok (.ifCond .eq 16, 3) := dk_153 0 16 (dk_at dksX9_takeSign_0 5 rfl rfl)
theorem dX9_takeSign_8 : decode cX9_takeSign 8 = .ok (.aload_n 0, 1) := dk_42 (dk_at dksX9_takeSign_0 8 rfl rfl)
theorem dX9_takeSign_9 : decode cX9_takeSign 9 = .ok (.dup, 1) := dk_89 (dk_at dksX9_takeSign_0 9 rfl rfl)
theorem dX9_takeSign_10 : decode cX9_takeSign 10 = .ok (.getfield 177, 3) := dk_180 0 177 (dk_at dksX9_takeSign_0 10 rfl rfl)
theorem dX9_takeSign_13 : decode cX9_takeSign 13 = .ok (.iconst 1, 1) := dk_4 (dk_at dksX9_takeSign_0 13 rfl rfl)
theorem dX9_takeSign_14 : decode cX9_takeSign 14 = .ok (.iadd, 1) := dk_96 (dk_at dksX9_takeSign_0 14 rfl rfl)
theorem dX9_takeSign_15 : decode cX9_takeSign 15 = .ok (.putfield 177, 3) := dk_181 0 177 (dk_at dksX9_takeSign_0 15 rfl rfl)
theorem dX9_takeSign_18 : decode cX9_takeSign 18 = .ok (.goto 8, 3) := dk_167 0 8 (dk_at dksX9_takeSign_0 18 rfl rfl)
theorem dX9_takeSign_21 : decode cX9_takeSign 21 = .ok (.aload_n 0, 1) := dk_42 (dk_at dksX9_takeSign_0 21 rfl rfl)
theorem dX9_takeSign_22 : decode cX9_takeSign 22 = .ok (.iconst 1, 1) := dk_4 (dk_at dksX9_takeSign_0 22 rfl rfl)
theorem dX9_takeSign_23 : decode cX9_takeSign 23 = .ok (.invokevirtual 186, 3) := dk_182 0 186 (dk_at dksX9_takeSign_1 0 rfl rfl)
theorem dX9_takeSign_26 : decode cX9_takeSign 26 = .ok (.return_, 1) := dk_177 (dk_at dksX9_takeSign_1 3 rfl rfl)
abbrev cX9_isSign : ByteArray := prog_23_method_11_code
def yX9_isSign : MethodName := ⟨RX9, "isSign", "(I)Z"⟩
def dkwX9_isSign_1 : List UInt8 := [42, 180, 0, 177, 47, 27, 133, 148, 154, 0, 7, 4, 167, 0, 4, 3, 172]
abbrev dktX9_isSign_1 : List UInt8 := dkwX9_isSign_1 ++ []
def dkwX9_isSign_0 : List UInt8 := [42, 180, 0, 180, 154, 0, 35, 42, 180, 0, 24, 42, 180, 0, 177, 46, 6, 160, 0, 22, 42, 180, 0, 30]
abbrev dktX9_isSign_0 : List UInt8 := dkwX9_isSign_0 ++ dktX9_isSign_1
theorem dksX9_isSign_0 : cX9_isSign.data.toList.drop 0 = dktX9_isSign_0 := by decide +kernel
theorem dksX9_isSign_1 : cX9_isSign.data.toList.drop 24 = dktX9_isSign_1 := dk_seg dksX9_isSign_0 24 rfl rfl
theorem dX9_isSign_0 : decode cX9_isSign 0 = .ok (.aload_n 0, 1) := dk_42 (dk_at dksX9_isSign_0 0 rfl rfl)
theorem dX9_isSign_1 : decode cX9_isSign 1 = .ok (.getfield 180, 3) := dk_180 0 180 (dk_at dksX9_isSign_0 1 rfl rfl)
theorem dX9_isSign_4 : decode cX9_isSign 4 = .ok (.ifCond .ne 35, 3) := dk_154 0 35 (dk_at dksX9_isSign_0 4 rfl rfl)
theorem dX9_isSign_7 : decode cX9_isSign 7 = .ok (.aload_n 0, 1) := dk_42 (dk_at dksX9_isSign_0 7 rfl rfl)
theorem dX9_isSign_8 : decode cX9_isSign 8 = .ok (.getfield 24, 3) := dk_180 0 24 (dk_at dksX9_isSign_0 8 rfl rfl)
theorem dX9_isSign_11 : decode cX9_isSign 11 = .ok (.aload_n 0, 1) := dk_42 (dk_at dksX9_isSign_0 11 rfl rfl)
theorem dX9_isSign_12 : decode cX9_isSign 12 = .ok (.getfield 177, 3) := dk_180 0 177 (dk_at dksX9_isSign_0 12 rfl rfl)
theorem dX9_isSign_15 : decode cX9_isSign 15 = .ok (.iaload, 1) := dk_46 (dk_at dksX9_isSign_0 15 rfl rfl)
theorem dX9_isSign_16 : decode cX9_isSign 16 = .ok (.iconst 3, 1) := dk_6 (dk_at dksX9_isSign_0 16 rfl rfl)
theorem dX9_isSign_17 : decode cX9_isSign 17 = .ok (.if_icmp .ne 22, 3) := dk_160 0 22 (dk_at dksX9_isSign_0 17 rfl rfl)
theorem dX9_isSign_20 : decode cX9_isSign 20 = .ok (.aload_n 0, 1) := dk_42 (dk_at dksX9_isSign_0 20 rfl rfl)
theorem dX9_isSign_21 : decode cX9_isSign 21 = .ok (.getfield 30, 3) := dk_180 0 30 (dk_at dksX9_isSign_0 21 rfl rfl)
theorem dX9_isSign_24 : decode cX9_isSign 24 = .ok (.aload_n 0, 1) := dk_42 (dk_at dksX9_isSign_1 0 rfl rfl)
theorem dX9_isSign_25 : decode cX9_isSign 25 = .ok (.getfield 177, 3) := dk_180 0 177 (dk_at dksX9_isSign_1 1 rfl rfl)
theorem dX9_isSign_28 : decode cX9_isSign 28 = .ok (.laload, 1) := dk_47 (dk_at dksX9_isSign_1 4 rfl rfl)
theorem dX9_isSign_29 : decode cX9_isSign 29 = .ok (.iload_n 1, 1) := dk_27 (dk_at dksX9_isSign_1 5 rfl rfl)
theorem dX9_isSign_30 : decode cX9_isSign 30 = .ok (.i2l, 1) := dk_133 (dk_at dksX9_isSign_1 6 rfl rfl)
theorem dX9_isSign_31 : decode cX9_isSign 31 = .ok (.lcmp, 1) := dk_148 (dk_at dksX9_isSign_1 7 rfl rfl)
theorem dX9_isSign_32 : decode cX9_isSign 32 = .ok (.ifCond .ne 7, 3) := dk_154 0 7 (dk_at dksX9_isSign_1 8 rfl rfl)
theorem dX9_isSign_35 : decode cX9_isSign 35 = .ok (.iconst 1, 1) := dk_4 (dk_at dksX9_isSign_1 11 rfl rfl)
theorem dX9_isSign_36 : decode cX9_isSign 36 = .ok (.goto 4, 3) := dk_167 0 4 (dk_at dksX9_isSign_1 12 rfl rfl)
theorem dX9_isSign_39 : decode cX9_isSign 39 = .ok (.iconst 0, 1) := dk_3 (dk_at dksX9_isSign_1 15 rfl rfl)
theorem dX9_isSign_40 : decode cX9_isSign 40 = .ok (.ireturn, 1) := dk_172 (dk_at dksX9_isSign_1 16 rfl rfl)
abbrev cX9_readLine : ByteArray := prog_23_method_24_code
def yX9_readLine : MethodName := ⟨RX9, "readLine", "()V"⟩
def dkwX9_readLine_2 : List UInt8 := [182, 0, 229, 177]
abbrev dktX9_readLine_2 : List UInt8 := dkwX9_readLine_2 ++ []
def dkwX9_readLine_1 : List UInt8 := [182, 0, 223, 167, 0, 22, 42, 6, 182, 0, 189, 153, 0, 10, 42, 182, 0, 226, 167, 0, 7, 42]
abbrev dktX9_readLine_1 : List UInt8 := dkwX9_readLine_1 ++ dktX9_readLine_2
def dkwX9_readLine_0 : List UInt8 := [42, 4, 182, 0, 189, 153, 0, 10, 42, 182, 0, 220, 167, 0, 37, 42, 5, 182, 0, 189, 153, 0, 10, 42]
abbrev dktX9_readLine_0 : List UInt8 := dkwX9_readLine_0 ++ dktX9_readLine_1
theorem dksX9_readLine_0 : cX9_readLine.data.toList.drop 0 = dktX9_readLine_0 := by decide +kernel
theorem dksX9_readLine_1 : cX9_readLine.data.toList.drop 24 = dktX9_readLine_1 := dk_seg dksX9_readLine_0 24 rfl rfl
theorem dksX9_readLine_2 : cX9_readLine.data.toList.drop 46 = dktX9_readLine_2 := dk_seg dksX9_readLine_1 22 rfl rfl
theorem dX9_readLine_0 : decode cX9_readLine 0 = .ok (.aload_n 0, 1) := dk_42 (dk_at dksX9_readLine_0 0 rfl rfl)
theorem dX9_readLine_1 : decode cX9_readLine 1 = .ok (.iconst 1, 1) := dk_4 (dk_at dksX9_readLine_0 1 rfl rfl)
theorem dX9_readLine_2 : decode cX9_readLine 2 = .ok (.invokevirtual 189, 3) := dk_182 0 189 (dk_at dksX9_readLine_0 2 rfl rfl)
theorem dX9_readLine_5 : decode cX9_readLine 5 = .ok (.ifCond .eq 10, 3) := dk_153 0 10 (dk_at dksX9_readLine_0 5 rfl rfl)
theorem dX9_readLine_8 : decode cX9_readLine 8 = .ok (.aload_n 0, 1) := dk_42 (dk_at dksX9_readLine_0 8 rfl rfl)
theorem dX9_readLine_9 : decode cX9_readLine 9 = .ok (.invokevirtual 220, 3) := dk_182 0 220 (dk_at dksX9_readLine_0 9 rfl rfl)
theorem dX9_readLine_12 : decode cX9_readLine 12 = .ok (.goto 37, 3) := dk_167 0 37 (dk_at dksX9_readLine_0 12 rfl rfl)
theorem dX9_readLine_15 : decode cX9_readLine 15 = .ok (.aload_n 0, 1) := dk_42 (dk_at dksX9_readLine_0 15 rfl rfl)
theorem dX9_readLine_16 : decode cX9_readLine 16 = .ok (.iconst 2, 1) := dk_5 (dk_at dksX9_readLine_0 16 rfl rfl)
theorem dX9_readLine_17 : decode cX9_readLine 17 = .ok (.invokevirtual 189, 3) := dk_182 0 189 (dk_at dksX9_readLine_0 17 rfl rfl)
theorem dX9_readLine_20 : decode cX9_readLine 20 = .ok (.ifCond .eq 10, 3) := dk_153 0 10 (dk_at dksX9_readLine_0 20 rfl rfl)
theorem dX9_readLine_23 : decode cX9_readLine 23 = .ok (.aload_n 0, 1) := dk_42 (dk_at dksX9_readLine_0 23 rfl rfl)
theorem dX9_readLine_24 : decode cX9_readLine 24 = .ok (.invokevirtual 223, 3) := dk_182 0 223 (dk_at dksX9_readLine_1 0 rfl rfl)
theorem dX9_readLine_27 : decode cX9_readLine 27 = .ok (.goto 22, 3) := dk_167 0 22 (dk_at dksX9_readLine_1 3 rfl rfl)
theorem dX9_readLine_30 : decode cX9_readLine 30 = .ok (.aload_n 0, 1) := dk_42 (dk_at dksX9_readLine_1 6 rfl rfl)
theorem dX9_readLine_31 : decode cX9_readLine 31 = .ok (.iconst 3, 1) := dk_6 (dk_at dksX9_readLine_1 7 rfl rfl)
theorem dX9_readLine_32 : decode cX9_readLine 32 = .ok (.invokevirtual 189, 3) := dk_182 0 189 (dk_at dksX9_readLine_1 8 rfl rfl)
theorem dX9_readLine_35 : decode cX9_readLine 35 = .ok (.ifCond .eq 10, 3) := dk_153 0 10 (dk_at dksX9_readLine_1 11 rfl rfl)
theorem dX9_readLine_38 : decode cX9_readLine 38 = .ok (.aload_n 0, 1) := dk_42 (dk_at dksX9_readLine_1 14 rfl rfl)
theorem dX9_readLine_39 : decode cX9_readLine 39 = .ok (.invokevirtual 226, 3) := dk_182 0 226 (dk_at dksX9_readLine_1 15 rfl rfl)
theorem dX9_readLine_42 : decode cX9_readLine 42 = .ok (.goto 7, 3) := dk_167 0 7 (dk_at dksX9_readLine_1 18 rfl rfl)
theorem dX9_readLine_45 : decode cX9_readLine 45 = .ok (.aload_n 0, 1) := dk_42 (dk_at dksX9_readLine_1 21 rfl rfl)
theorem dX9_readLine_46 : decode cX9_readLine 46 = .ok (.invokevirtual 229, 3) := dk_182 0 229 (dk_at dksX9_readLine_2 0 rfl rfl)
theorem dX9_readLine_49 : decode cX9_readLine 49 = .ok (.return_, 1) := dk_177 (dk_at dksX9_readLine_2 3 rfl rfl)
abbrev cX9_readLight : ByteArray := prog_23_method_27_code
def yX9_readLight : MethodName := ⟨RX9, "readLight", "()V"⟩
def dkwX9_readLight_13 : List UInt8 := [92, 46, 4, 96, 79, 177]
abbrev dktX9_readLight_13 : List UInt8 := dkwX9_readLight_13 ++ []
def dkwX9_readLight_12 : List UInt8 := [42, 180, 0, 81, 29, 6, 96, 42, 16, 12, 3, 21, 5, 182, 0, 232, 79, 42, 180, 0, 81, 17, 1, 91]
abbrev dktX9_readLight_12 : List UInt8 := dkwX9_readLight_12 ++ dktX9_readLight_13
def dkwX9_readLight_11 : List UInt8 := [4, 96, 21, 5, 79, 42, 180, 0, 81, 29, 5, 96, 42, 16, 10, 3, 21, 5, 4, 100, 182, 0, 232, 79]
abbrev dktX9_readLight_11 : List UInt8 := dkwX9_readLight_11 ++ dktX9_readLight_12
def dkwX9_readLight_10 : List UInt8 := [180, 0, 81, 17, 1, 93, 21, 6, 79, 42, 180, 0, 81, 29, 4, 21, 4, 96, 79, 42, 180, 0, 81, 29]
abbrev dktX9_readLight_10 : List UInt8 := dkwX9_readLight_10 ++ dktX9_readLight_11
def dkwX9_readLight_9 : List UInt8 := [180, 0, 177, 4, 100, 181, 0, 177, 42, 7, 182, 0, 186, 42, 180, 0, 180, 158, 0, 4, 177, 42]
abbrev dktX9_readLight_9 : List UInt8 := dkwX9_readLight_9 ++ dktX9_readLight_10
def dkwX9_readLight_8 : List UInt8 := [108, 21, 5, 104, 54, 6, 42, 180, 0, 180, 154, 0, 26, 21, 6, 17, 4, 176, 164, 0, 18, 42, 89]
abbrev dktX9_readLight_8 : List UInt8 := dkwX9_readLight_8 ++ dktX9_readLight_9
def dkwX9_readLight_7 : List UInt8 := [167, 0, 28, 42, 180, 0, 81, 17, 1, 93, 46, 42, 180, 0, 81, 17, 1, 93, 46, 21, 5, 184, 0, 236]
abbrev dktX9_readLight_7 : List UInt8 := dkwX9_readLight_7 ++ dktX9_readLight_8
def dkwX9_readLight_6 : List UInt8 := [54, 5, 42, 180, 0, 180, 157, 0, 9, 21, 4, 5, 161, 0, 14, 42, 180, 0, 81, 17, 1, 93, 46]
abbrev dktX9_readLight_6 : List UInt8 := dkwX9_readLight_6 ++ dktX9_readLight_7
def dkwX9_readLight_5 : List UInt8 := [182, 0, 186, 177, 42, 89, 180, 0, 177, 4, 96, 181, 0, 177, 42, 16, 9, 4, 16, 60, 182, 0, 232]
abbrev dktX9_readLight_5 : List UInt8 := dkwX9_readLight_5 ++ dktX9_readLight_6
def dkwX9_readLight_4 : List UInt8 := [158, 0, 7, 2, 167, 0, 10, 42, 16, 13, 7, 182, 0, 202, 54, 4, 21, 4, 156, 0, 9, 42, 4]
abbrev dktX9_readLight_4 : List UInt8 := dkwX9_readLight_4 ++ dktX9_readLight_5
def dkwX9_readLight_3 : List UInt8 := [158, 0, 18, 42, 89, 180, 0, 177, 4, 100, 181, 0, 177, 42, 6, 182, 0, 186, 42, 180, 0, 180]
abbrev dktX9_readLight_3 : List UInt8 := dkwX9_readLight_3 ++ dktX9_readLight_4
def dkwX9_readLight_2 : List UInt8 := [16, 6, 28, 104, 27, 96, 104, 96, 62, 42, 180, 0, 180, 154, 0, 27, 42, 180, 0, 81, 29, 46]
abbrev dktX9_readLight_2 : List UInt8 := dkwX9_readLight_2 ++ dktX9_readLight_3
def dkwX9_readLight_1 : List UInt8 := [182, 0, 198, 60, 42, 3, 42, 180, 0, 81, 17, 1, 85, 46, 4, 100, 182, 0, 198, 61, 17, 1, 94, 7]
abbrev dktX9_readLight_1 : List UInt8 := dkwX9_readLight_1 ++ dktX9_readLight_2
def dkwX9_readLight_0 : List UInt8 := [42, 89, 180, 0, 177, 4, 96, 181, 0, 177, 42, 3, 42, 180, 0, 81, 17, 1, 84, 46, 4, 100]
abbrev dktX9_readLight_0 : List UInt8 := dkwX9_readLight_0 ++ dktX9_readLight_1
theorem dksX9_readLight_0 : cX9_readLight.data.toList.drop 0 = dktX9_readLight_0 := by decide +kernel
theorem dksX9_readLight_1 : cX9_readLight.data.toList.drop 22 = dktX9_readLight_1 := dk_seg dksX9_readLight_0 22 rfl rfl
theorem dksX9_readLight_2 : cX9_readLight.data.toList.drop 46 = dktX9_readLight_2 := dk_seg dksX9_readLight_1 24 rfl rfl
theorem dksX9_readLight_3 : cX9_readLight.data.toList.drop 68 = dktX9_readLight_3 := dk_seg dksX9_readLight_2 22 rfl rfl
theorem dksX9_readLight_4 : cX9_readLight.data.toList.drop 90 = dktX9_readLight_4 := dk_seg dksX9_readLight_3 22 rfl rfl
theorem dksX9_readLight_5 : cX9_readLight.data.toList.drop 113 = dktX9_readLight_5 := dk_seg dksX9_readLight_4 23 rfl rfl
theorem dksX9_readLight_6 : cX9_readLight.data.toList.drop 136 = dktX9_readLight_6 := dk_seg dksX9_readLight_5 23 rfl rfl
theorem dksX9_readLight_7 : cX9_readLight.data.toList.drop 159 = dktX9_readLight_7 := dk_seg dksX9_readLight_6 23 rfl rfl
theorem dksX9_readLight_8 : cX9_readLight.data.toList.drop 183 = dktX9_readLight_8 := dk_seg dksX9_readLight_7 24 rfl rfl
theorem dksX9_readLight_9 : cX9_readLight.data.toList.drop 206 = dktX9_readLight_9 := dk_seg dksX9_readLight_8 23 rfl rfl
theorem dksX9_readLight_10 : cX9_readLight.data.toList.drop 228 = dktX9_readLight_10 := dk_seg dksX9_readLight_9 22 rfl rfl
theorem dksX9_readLight_11 : cX9_readLight.data.toList.drop 252 = dktX9_readLight_11 := dk_seg dksX9_readLight_10 24 rfl rfl
theorem dksX9_readLight_12 : cX9_readLight.data.toList.drop 276 = dktX9_readLight_12 := dk_seg dksX9_readLight_11 24 rfl rfl
theorem dksX9_readLight_13 : cX9_readLight.data.toList.drop 300 = dktX9_readLight_13 := dk_seg dksX9_readLight_12 24 rfl rfl
theorem dX9_readLight_0 : decode cX9_readLight 0 = .ok (.aload_n 0, 1) := dk_42 (dk_at dksX9_readLight_0 0 rfl rfl)
theorem dX9_readLight_1 : decode cX9_readLight 1 = .ok (.dup, 1) := dk_89 (dk_at dksX9_readLight_0 1 rfl rfl)
theorem dX9_readLight_2 : decode cX9_readLight 2 = .ok (.getfield 177, 3) := dk_180 0 177 (dk_at dksX9_readLight_0 2 rfl rfl)
theorem dX9_readLight_5 : decode cX9_readLight 5 = .ok (.iconst 1, 1) := dk_4 (dk_at dksX9_readLight_0 5 rfl rfl)
theorem dX9_readLight_6 : decode cX9_readLight 6 = .ok (.iadd, 1) := dk_96 (dk_at dksX9_readLight_0 6 rfl rfl)
theorem dX9_readLight_7 : decode cX9_readLight 7 = .ok (.putfield 177, 3) := dk_181 0 177 (dk_at dksX9_readLight_0 7 rfl rfl)
theorem dX9_readLight_10 : decode cX9_readLight 10 = .ok (.aload_n 0, 1) := dk_42 (dk_at dksX9_readLight_0 10 rfl rfl)
theorem dX9_readLight_11 : decode cX9_readLight 11 = .ok (.iconst 0, 1) := dk_3 (dk_at dksX9_readLight_0 11 rfl rfl)
theorem dX9_readLight_12 : decode cX9_readLight 12 = .ok (.aload_n 0, 1) := dk_42 (dk_at dksX9_readLight_0 12 rfl rfl)
theorem dX9_readLight_13 : decode cX9_readLight 13 = .ok (.getfield 81, 3) := dk_180 0 81 (dk_at dksX9_readLight_0 13 rfl rfl)
theorem dX9_readLight_16 : decode cX9_readLight 16 = .ok (.sipush 340, 3) := dk_17 1 84 (dk_at dksX9_readLight_0 16 rfl rfl)
theorem dX9_readLight_19 : decode cX9_readLight 19 = .ok (.iaload, 1) := dk_46 (dk_at dksX9_readLight_0 19 rfl rfl)
theorem dX9_readLight_20 : decode cX9_readLight 20 = .ok (.iconst 1, 1) := dk_4 (dk_at dksX9_readLight_0 20 rfl rfl)
theorem dX9_readLight_21 : decode cX9_readLight 21 = .ok (.isub, 1) := dk_100 (dk_at dksX9_readLight_0 21 rfl rfl)
theorem dX9_readLight_22 : decode cX9_readLight 22 = .ok (.invokevirtual 198, 3) := dk_182 0 198 (dk_at dksX9_readLight_1 0 rfl rfl)
theorem dX9_readLight_25 : decode cX9_readLight 25 = .ok (.istore_n 1, 1) := dk_60 (dk_at dksX9_readLight_1 3 rfl rfl)
theorem dX9_readLight_26 : decode cX9_readLight 26 = .ok (.aload_n 0, 1) := dk_42 (dk_at dksX9_readLight_1 4 rfl rfl)
theorem dX9_readLight_27 : decode cX9_readLight 27 = .ok (.iconst 0, 1) := dk_3 (dk_at dksX9_readLight_1 5 rfl rfl)
theorem dX9_readLight_28 : decode cX9_readLight 28 = .ok (.aload_n 0, 1) := dk_42 (dk_at dksX9_readLight_1 6 rfl rfl)
theorem dX9_readLight_29 : decode cX9_readLight 29 = .ok (.getfield 81, 3) := dk_180 0 81 (dk_at dksX9_readLight_1 7 rfl rfl)
theorem dX9_readLight_32 : decode cX9_readLight 32 = .ok (.sipush 341, 3) := dk_17 1 85 (dk_at dksX9_readLight_1 10 rfl rfl)
theorem dX9_readLight_35 : decode cX9_readLight 35 = .ok (.iaload, 1) := dk_46 (dk_at dksX9_readLight_1 13 rfl rfl)
theorem dX9_readLight_36 : decode cX9_readLight 36 = .ok (.iconst 1, 1) := dk_4 (dk_at dksX9_readLight_1 14 rfl rfl)
theorem dX9_readLight_37 : decode cX9_readLight 37 = .ok (.isub, 1) := dk_100 (dk_at dksX9_readLight_1 15 rfl rfl)
theorem dX9_readLight_38 : decode cX9_readLight 38 = .ok (.invokevirtual 198, 3) := dk_182 0 198 (dk_at dksX9_readLight_1 16 rfl rfl)
theorem dX9_readLight_41 : decode cX9_readLight 41 = .ok (.istore_n 2, 1) := dk_61 (dk_at dksX9_readLight_1 19 rfl rfl)
theorem dX9_readLight_42 : decode cX9_readLight 42 = .ok (.sipush 350, 3) := dk_17 1 94 (dk_at dksX9_readLight_1 20 rfl rfl)
theorem dX9_readLight_45 : decode cX9_readLight 45 = .ok (.iconst 4, 1) := dk_7 (dk_at dksX9_readLight_1 23 rfl rfl)
theorem dX9_readLight_46 : decode cX9_readLight 46 = .ok (.bipush 6, 2) := dk_16 6 (dk_at dksX9_readLight_2 0 rfl rfl)
theorem dX9_readLight_48 : decode cX9_readLight 48 = .ok (.iload_n 2, 1) := dk_28 (dk_at dksX9_readLight_2 2 rfl rfl)
theorem dX9_readLight_49 : decode cX9_readLight 49 = .ok (.imul, 1) := dk_104 (dk_at dksX9_readLight_2 3 rfl rfl)
theorem dX9_readLight_50 : decode cX9_readLight 50 = .ok (.iload_n 1, 1) := dk_27 (dk_at dksX9_readLight_2 4 rfl rfl)
theorem dX9_readLight_51 : decode cX9_readLight 51 = .ok (.iadd, 1) := dk_96 (dk_at dksX9_readLight_2 5 rfl rfl)
theorem dX9_readLight_52 : decode cX9_readLight 52 = .ok (.imul, 1) := dk_104 (dk_at dksX9_readLight_2 6 rfl rfl)
theorem dX9_readLight_53 : decode cX9_readLight 53 = .ok (.iadd, 1) := dk_96 (dk_at dksX9_readLight_2 7 rfl rfl)
theorem dX9_readLight_54 : decode cX9_readLight 54 = .ok (.istore_n 3, 1) := dk_62 (dk_at dksX9_readLight_2 8 rfl rfl)
theorem dX9_readLight_55 : decode cX9_readLight 55 = .ok (.aload_n 0, 1) := dk_42 (dk_at dksX9_readLight_2 9 rfl rfl)
theorem dX9_readLight_56 : decode cX9_readLight 56 = .ok (.getfield 180, 3) := dk_180 0 180 (dk_at dksX9_readLight_2 10 rfl rfl)
theorem dX9_readLight_59 : decode cX9_readLight 59 = .ok (.ifCond .ne 27, 3) := dk_154 0 27 (dk_at dksX9_readLight_2 13 rfl rfl)
theorem dX9_readLight_62 : decode cX9_readLight 62 = .ok (.aload_n 0, 1) := dk_42 (dk_at dksX9_readLight_2 16 rfl rfl)
theorem dX9_readLight_63 : decode cX9_readLight 63 = .ok (.getfield 81, 3) := dk_180 0 81 (dk_at dksX9_readLight_2 17 rfl rfl)
theorem dX9_readLight_66 : decode cX9_readLight 66 = .ok (.iload_n 3, 1) := dk_29 (dk_at dksX9_readLight_2 20 rfl rfl)
theorem dX9_readLight_67 : decode cX9_readLight 67 = .ok (.iaload, 1) := dk_46 (dk_at dksX9_readLight_2 21 rfl rfl)
theorem dX9_readLight_68 : decode cX9_readLight 68 = .ok (.ifCond .le 18, 3) := dk_158 0 18 (dk_at dksX9_readLight_3 0 rfl rfl)
theorem dX9_readLight_71 : decode cX9_readLight 71 = .ok (.aload_n 0, 1) := dk_42 (dk_at dksX9_readLight_3 3 rfl rfl)
theorem dX9_readLight_72 : decode cX9_readLight 72 = .ok (.dup, 1) := dk_89 (dk_at dksX9_readLight_3 4 rfl rfl)
theorem dX9_readLight_73 : decode cX9_readLight 73 = .ok (.getfield 177, 3) := dk_180 0 177 (dk_at dksX9_readLight_3 5 rfl rfl)
theorem dX9_readLight_76 : decode cX9_readLight 76 = .ok (.iconst 1, 1) := dk_4 (dk_at dksX9_readLight_3 8 rfl rfl)
theorem dX9_readLight_77 : decode cX9_readLight 77 = .ok (.isub, 1) := dk_100 (dk_at dksX9_readLight_3 9 rfl rfl)
theorem dX9_readLight_78 : decode cX9_readLight 78 = .ok (.putfield 177, 3) := dk_181 0 177 (dk_at dksX9_readLight_3 10 rfl rfl)
theorem dX9_readLight_81 : decode cX9_readLight 81 = .ok (.aload_n 0, 1) := dk_42 (dk_at dksX9_readLight_3 13 rfl rfl)
theorem dX9_readLight_82 : decode cX9_readLight 82 = .ok (.iconst 3, 1) := dk_6 (dk_at dksX9_readLight_3 14 rfl rfl)
theorem dX9_readLight_83 : decode cX9_readLight 83 = .ok (.invokevirtual 186, 3) := dk_182 0 186 (dk_at dksX9_readLight_3 15 rfl rfl)
theorem dX9_readLight_86 : decode cX9_readLight 86 = .ok (.aload_n 0, 1) := dk_42 (dk_at dksX9_readLight_3 18 rfl rfl)
theorem dX9_readLight_87 : decode cX9_readLight 87 = .ok (.getfield 180, 3) := dk_180 0 180 (dk_at dksX9_readLight_3 19 rfl rfl)
theorem dX9_readLight_90 : decode cX9_readLight 90 = .ok (.ifCond .le 7, 3) := dk_158 0 7 (dk_at dksX9_readLight_4 0 rfl rfl)
theorem dX9_readLight_93 : decode cX9_readLight 93 = .ok (.iconst (-1), 1) := dk_2 (dk_at dksX9_readLight_4 3 rfl rfl)
theorem dX9_readLight_94 : decode cX9_readLight 94 = .ok (.goto 10, 3) := dk_167 0 10 (dk_at dksX9_readLight_4 4 rfl rfl)
theorem dX9_readLight_97 : decode cX9_readLight 97 = .ok (.aload_n 0, 1) := dk_42 (dk_at dksX9_readLight_4 7 rfl rfl)
theorem dX9_readLight_98 : decode cX9_readLight 98 = .ok (.bipush 13, 2) := dk_16 13 (dk_at dksX9_readLight_4 8 rfl rfl)
theorem dX9_readLight_100 : decode cX9_readLight 100 = .ok (.iconst 4, 1) := dk_7 (dk_at dksX9_readLight_4 10 rfl rfl)
theorem dX9_readLight_101 : decode cX9_readLight 101 = .ok (.invokevirtual 202, 3) := dk_182 0 202 (dk_at dksX9_readLight_4 11 rfl rfl)
theorem dX9_readLight_104 : decode cX9_readLight 104 = .ok (.istore 4, 2) := dk_54 4 (dk_at dksX9_readLight_4 14 rfl rfl)
theorem dX9_readLight_106 : decode cX9_readLight 106 = .ok (.iload 4, 2) := dk_21 4 (dk_at dksX9_readLight_4 16 rfl rfl)
theorem dX9_readLight_108 : decode cX9_readLight 108 = .ok (.ifCond .ge 9, 3) := dk_156 0 9 (dk_at dksX9_readLight_4 18 rfl rfl)
theorem dX9_readLight_111 : decode cX9_readLight 111 = .ok (.aload_n 0, 1) := dk_42 (dk_at dksX9_readLight_4 21 rfl rfl)
theorem dX9_readLight_112 : decode cX9_readLight 112 = .ok (.iconst 1, 1) := dk_4 (dk_at dksX9_readLight_4 22 rfl rfl)
theorem dX9_readLight_113 : decode cX9_readLight 113 = .ok (.invokevirtual 186, 3) := dk_182 0 186 (dk_at dksX9_readLight_5 0 rfl rfl)
theorem dX9_readLight_116 : decode cX9_readLight 116 = .ok (.return_, 1) := dk_177 (dk_at dksX9_readLight_5 3 rfl rfl)
theorem dX9_readLight_117 : decode cX9_readLight 117 = .ok (.aload_n 0, 1) := dk_42 (dk_at dksX9_readLight_5 4 rfl rfl)
theorem dX9_readLight_118 : decode cX9_readLight 118 = .ok (.dup, 1) := dk_89 (dk_at dksX9_readLight_5 5 rfl rfl)
theorem dX9_readLight_119 : decode cX9_readLight 119 = .ok (.getfield 177, 3) := dk_180 0 177 (dk_at dksX9_readLight_5 6 rfl rfl)
theorem dX9_readLight_122 : decode cX9_readLight 122 = .ok (.iconst 1, 1) := dk_4 (dk_at dksX9_readLight_5 9 rfl rfl)
theorem dX9_readLight_123 : decode cX9_readLight 123 = .ok (.iadd, 1) := dk_96 (dk_at dksX9_readLight_5 10 rfl rfl)
theorem dX9_readLight_124 : decode cX9_readLight 124 = .ok (.putfield 177, 3) := dk_181 0 177 (dk_at dksX9_readLight_5 11 rfl rfl)
theorem dX9_readLight_127 : decode cX9_readLight 127 = .ok (.aload_n 0, 1) := dk_42 (dk_at dksX9_readLight_5 14 rfl rfl)
theorem dX9_readLight_128 : decode cX9_readLight 128 = .ok (.bipush 9, 2) := dk_16 9 (dk_at dksX9_readLight_5 15 rfl rfl)
theorem dX9_readLight_130 : decode cX9_readLight 130 = .ok (.iconst 1, 1) := dk_4 (dk_at dksX9_readLight_5 17 rfl rfl)
theorem dX9_readLight_131 : decode cX9_readLight 131 = .ok (.bipush 60, 2) := dk_16 60 (dk_at dksX9_readLight_5 18 rfl rfl)
theorem dX9_readLight_133 : decode cX9_readLight 133 = .ok (.invokevirtual 232, 3) := dk_182 0 232 (dk_at dksX9_readLight_5 20 rfl rfl)
theorem dX9_readLight_136 : decode cX9_readLight 136 = .ok (.istore 5, 2) := dk_54 5 (dk_at dksX9_readLight_6 0 rfl rfl)
theorem dX9_readLight_138 : decode cX9_readLight 138 = .ok (.aload_n 0, 1) := dk_42 (dk_at dksX9_readLight_6 2 rfl rfl)
theorem dX9_readLight_139 : decode cX9_readLight 139 = .ok (.getfield 180, 3) := dk_180 0 180 (dk_at dksX9_readLight_6 3 rfl rfl)
theorem dX9_readLight_142 : decode cX9_readLight 142 = .ok (.ifCond .gt 9, 3) := dk_157 0 9 (dk_at dksX9_readLight_6 6 rfl rfl)
theorem dX9_readLight_145 : decode cX9_readLight 145 = .ok (.iload 4, 2) := dk_21 4 (dk_at dksX9_readLight_6 9 rfl rfl)
theorem dX9_readLight_147 : decode cX9_readLight 147 = .ok (.iconst 2, 1) := dk_5 (dk_at dksX9_readLight_6 11 rfl rfl)
theorem dX9_readLight_148 : decode cX9_readLight 148 = .ok (.if_icmp .lt 14, 3) := dk_161 0 14 (dk_at dksX9_readLight_6 12 rfl rfl)
theorem dX9_readLight_151 : decode cX9_readLight 151 = .ok (.aload_n 0, 1) := dk_42 (dk_at dksX9_readLight_6 15 rfl rfl)
theorem dX9_readLight_152 : decode cX9_readLight 152 = .ok (.getfield 81, 3) := dk_180 0 81 (dk_at dksX9_readLight_6 16 rfl rfl)
theorem dX9_readLight_155 : decode cX9_readLight 155 = .ok (.sipush 349, 3) := dk_17 1 93 (dk_at dksX9_readLight_6 19 rfl rfl)
theorem dX9_readLight_158 : decode cX9_readLight 158 = .ok (.iaload, 1) := dk_46 (dk_at dksX9_readLight_6 22 rfl rfl)
theorem dX9_readLight_159 : decode cX9_readLight 159 = .ok (.goto 28, 3) := dk_167 0 28 (dk_at dksX9_readLight_7 0 rfl rfl)
theorem dX9_readLight_162 : decode cX9_readLight 162 = .ok (.aload_n 0, 1) := dk_42 (dk_at dksX9_readLight_7 3 rfl rfl)
theorem dX9_readLight_163 : decode cX9_readLight 163 = .ok (.getfield 81, 3) := dk_180 0 81 (dk_at dksX9_readLight_7 4 rfl rfl)
theorem dX9_readLight_166 : decode cX9_readLight 166 = .ok (.sipush 349, 3) := dk_17 1 93 (dk_at dksX9_readLight_7 7 rfl rfl)
theorem dX9_readLight_169 : decode cX9_readLight 169 = .ok (.iaload, 1) := dk_46 (dk_at dksX9_readLight_7 10 rfl rfl)
theorem dX9_readLight_170 : decode cX9_readLight 170 = .ok (.aload_n 0, 1) := dk_42 (dk_at dksX9_readLight_7 11 rfl rfl)
theorem dX9_readLight_171 : decode cX9_readLight 171 = .ok (.getfield 81, 3) := dk_180 0 81 (dk_at dksX9_readLight_7 12 rfl rfl)
theorem dX9_readLight_174 : decode cX9_readLight 174 = .ok (.sipush 349, 3) := dk_17 1 93 (dk_at dksX9_readLight_7 15 rfl rfl)
theorem dX9_readLight_177 : decode cX9_readLight 177 = .ok (.iaload, 1) := dk_46 (dk_at dksX9_readLight_7 18 rfl rfl)
theorem dX9_readLight_178 : decode cX9_readLight 178 = .ok (.iload 5, 2) := dk_21 5 (dk_at dksX9_readLight_7 19 rfl rfl)
theorem dX9_readLight_180 : decode cX9_readLight 180 = .ok (.invokestatic 236, 3) := dk_184 0 236 (dk_at dksX9_readLight_7 21 rfl rfl)
theorem dX9_readLight_183 : decode cX9_readLight 183 = .ok (.idiv, 1) := dk_108 (dk_at dksX9_readLight_8 0 rfl rfl)
theorem dX9_readLight_184 : decode cX9_readLight 184 = .ok (.iload 5, 2) := dk_21 5 (dk_at dksX9_readLight_8 1 rfl rfl)
theorem dX9_readLight_186 : decode cX9_readLight 186 = .ok (.imul, 1) := dk_104 (dk_at dksX9_readLight_8 3 rfl rfl)
theorem dX9_readLight_187 : decode cX9_readLight 187 = .ok (.istore 6, 2) := dk_54 6 (dk_at dksX9_readLight_8 4 rfl rfl)
theorem dX9_readLight_189 : decode cX9_readLight 189 = .ok (.aload_n 0, 1) := dk_42 (dk_at dksX9_readLight_8 6 rfl rfl)
theorem dX9_readLight_190 : decode cX9_readLight 190 = .ok (.getfield 180, 3) := dk_180 0 180 (dk_at dksX9_readLight_8 7 rfl rfl)
theorem dX9_readLight_193 : decode cX9_readLight 193 = .ok (.ifCond .ne 26, 3) := dk_154 0 26 (dk_at dksX9_readLight_8 10 rfl rfl)
theorem dX9_readLight_196 : decode cX9_readLight 196 = .ok (.iload 6, 2) := dk_21 6 (dk_at dksX9_readLight_8 13 rfl rfl)
theorem dX9_readLight_198 : decode cX9_readLight 198 = .ok (.sipush 1200, 3) := dk_17 4 176 (dk_at dksX9_readLight_8 15 rfl rfl)
theorem dX9_readLight_201 : decode cX9_readLight 201 = .ok (.if_icmp .le 18, 3) := dk_164 0 18 (dk_at dksX9_readLight_8 18 rfl rfl)
theorem dX9_readLight_204 : decode cX9_readLight 204 = .ok (.aload_n 0, 1) := dk_42 (dk_at dksX9_readLight_8 21 rfl rfl)
theorem dX9_readLight_205 : decode cX9_readLight 205 = .ok (.dup, 1) := dk_89 (dk_at dksX9_readLight_8 22 rfl rfl)
theorem dX9_readLight_206 : decode cX9_readLight 206 = .ok (.getfield 177, 3) := dk_180 0 177 (dk_at dksX9_readLight_9 0 rfl rfl)
theorem dX9_readLight_209 : decode cX9_readLight 209 = .ok (.iconst 1, 1) := dk_4 (dk_at dksX9_readLight_9 3 rfl rfl)
theorem dX9_readLight_210 : decode cX9_readLight 210 = .ok (.isub, 1) := dk_100 (dk_at dksX9_readLight_9 4 rfl rfl)
theorem dX9_readLight_211 : decode cX9_readLight 211 = .ok (.putfield 177, 3) := dk_181 0 177 (dk_at dksX9_readLight_9 5 rfl rfl)
theorem dX9_readLight_214 : decode cX9_readLight 214 = .ok (.aload_n 0, 1) := dk_42 (dk_at dksX9_readLight_9 8 rfl rfl)
theorem dX9_readLight_215 : decode cX9_readLight 215 = .ok (.iconst 4, 1) := dk_7 (dk_at dksX9_readLight_9 9 rfl rfl)
theorem dX9_readLight_216 : decode cX9_readLight 216 = .ok (.invokevirtual 186, 3) := dk_182 0 186 (dk_at dksX9_readLight_9 10 rfl rfl)
theorem dX9_readLight_219 : decode cX9_readLight 219 = .ok (.aload_n 0, 1) := dk_42 (dk_at dksX9_readLight_9 13 rfl rfl)
theorem dX9_readLight_220 : decode cX9_readLight 220 = .ok (.getfield 180, 3) := dk_180 0 180 (dk_at dksX9_readLight_9 14 rfl rfl)
theorem dX9_readLight_223 : decode cX9_readLight 223 = .ok (.ifCond .le 4, 3) := dk_158 0 4 (dk_at dksX9_readLight_9 17 rfl rfl)
theorem dX9_readLight_226 : decode cX9_readLight 226 = .ok (.return_, 1) := dk_177 (dk_at dksX9_readLight_9 20 rfl rfl)
theorem dX9_readLight_227 : decode cX9_readLight 227 = .ok (.aload_n 0, 1) := dk_42 (dk_at dksX9_readLight_9 21 rfl rfl)
theorem dX9_readLight_228 : decode cX9_readLight 228 = .ok (.getfield 81, 3) := dk_180 0 81 (dk_at dksX9_readLight_10 0 rfl rfl)
theorem dX9_readLight_231 : decode cX9_readLight 231 = .ok (.sipush 349, 3) := dk_17 1 93 (dk_at dksX9_readLight_10 3 rfl rfl)
theorem dX9_readLight_234 : decode cX9_readLight 234 = .ok (.iload 6, 2) := dk_21 6 (dk_at dksX9_readLight_10 6 rfl rfl)
theorem dX9_readLight_236 : decode cX9_readLight 236 = .ok (.iastore, 1) := dk_79 (dk_at dksX9_readLight_10 8 rfl rfl)
theorem dX9_readLight_237 : decode cX9_readLight 237 = .ok (.aload_n 0, 1) := dk_42 (dk_at dksX9_readLight_10 9 rfl rfl)
theorem dX9_readLight_238 : decode cX9_readLight 238 = .ok (.getfield 81, 3) := dk_180 0 81 (dk_at dksX9_readLight_10 10 rfl rfl)
theorem dX9_readLight_241 : decode cX9_readLight 241 = .ok (.iload_n 3, 1) := dk_29 (dk_at dksX9_readLight_10 13 rfl rfl)
theorem dX9_readLight_242 : decode cX9_readLight 242 = .ok (.iconst 1, 1) := dk_4 (dk_at dksX9_readLight_10 14 rfl rfl)
theorem dX9_readLight_243 : decode cX9_readLight 243 = .ok (.iload 4, 2) := dk_21 4 (dk_at dksX9_readLight_10 15 rfl rfl)
theorem dX9_readLight_245 : decode cX9_readLight 245 = .ok (.iadd, 1) := dk_96 (dk_at dksX9_readLight_10 17 rfl rfl)
theorem dX9_readLight_246 : decode cX9_readLight 246 = .ok (.iastore, 1) := dk_79 (dk_at dksX9_readLight_10 18 rfl rfl)
theorem dX9_readLight_247 : decode cX9_readLight 247 = .ok (.aload_n 0, 1) := dk_42 (dk_at dksX9_readLight_10 19 rfl rfl)
theorem dX9_readLight_248 : decode cX9_readLight 248 = .ok (.getfield 81, 3) := dk_180 0 81 (dk_at dksX9_readLight_10 20 rfl rfl)
theorem dX9_readLight_251 : decode cX9_readLight 251 = .ok (.iload_n 3, 1) := dk_29 (dk_at dksX9_readLight_10 23 rfl rfl)
theorem dX9_readLight_252 : decode cX9_readLight 252 = .ok (.iconst 1, 1) := dk_4 (dk_at dksX9_readLight_11 0 rfl rfl)
theorem dX9_readLight_253 : decode cX9_readLight 253 = .ok (.iadd, 1) := dk_96 (dk_at dksX9_readLight_11 1 rfl rfl)
theorem dX9_readLight_254 : decode cX9_readLight 254 = .ok (.iload 5, 2) := dk_21 5 (dk_at dksX9_readLight_11 2 rfl rfl)
theorem dX9_readLight_256 : decode cX9_readLight 256 = .ok (.iastore, 1) := dk_79 (dk_at dksX9_readLight_11 4 rfl rfl)
theorem dX9_readLight_257 : decode cX9_readLight 257 = .ok (.aload_n 0, 1) := dk_42 (dk_at dksX9_readLight_11 5 rfl rfl)
theorem dX9_readLight_258 : decode cX9_readLight 258 = .ok (.getfield 81, 3) := dk_180 0 81 (dk_at dksX9_readLight_11 6 rfl rfl)
theorem dX9_readLight_261 : decode cX9_readLight 261 = .ok (.iload_n 3, 1) := dk_29 (dk_at dksX9_readLight_11 9 rfl rfl)
theorem dX9_readLight_262 : decode cX9_readLight 262 = .ok (.iconst 2, 1) := dk_5 (dk_at dksX9_readLight_11 10 rfl rfl)
theorem dX9_readLight_263 : decode cX9_readLight 263 = .ok (.iadd, 1) := dk_96 (dk_at dksX9_readLight_11 11 rfl rfl)
theorem dX9_readLight_264 : decode cX9_readLight 264 = .ok (.aload_n 0, 1) := dk_42 (dk_at dksX9_readLight_11 12 rfl rfl)
theorem dX9_readLight_265 : decode cX9_readLight 265 = .ok (.bipush 10, 2) := dk_16 10 (dk_at dksX9_readLight_11 13 rfl rfl)
theorem dX9_readLight_267 : decode cX9_readLight 267 = .ok (.iconst 0, 1) := dk_3 (dk_at dksX9_readLight_11 15 rfl rfl)
theorem dX9_readLight_268 : decode cX9_readLight 268 = .ok (.iload 5, 2) := dk_21 5 (dk_at dksX9_readLight_11 16 rfl rfl)
theorem dX9_readLight_270 : decode cX9_readLight 270 = .ok (.iconst 1, 1) := dk_4 (dk_at dksX9_readLight_11 18 rfl rfl)
theorem dX9_readLight_271 : decode cX9_readLight 271 = .ok (.isub, 1) := dk_100 (dk_at dksX9_readLight_11 19 rfl rfl)
theorem dX9_readLight_272 : decode cX9_readLight 272 = .ok (.invokevirtual 232, 3) := dk_182 0 232 (dk_at dksX9_readLight_11 20 rfl rfl)
theorem dX9_readLight_275 : decode cX9_readLight 275 = .ok (.iastore, 1) := dk_79 (dk_at dksX9_readLight_11 23 rfl rfl)
theorem dX9_readLight_276 : decode cX9_readLight 276 = .ok (.aload_n 0, 1) := dk_42 (dk_at dksX9_readLight_12 0 rfl rfl)
theorem dX9_readLight_277 : decode cX9_readLight 277 = .ok (.getfield 81, 3) := dk_180 0 81 (dk_at dksX9_readLight_12 1 rfl rfl)
theorem dX9_readLight_280 : decode cX9_readLight 280 = .ok (.iload_n 3, 1) := dk_29 (dk_at dksX9_readLight_12 4 rfl rfl)
theorem dX9_readLight_281 : decode cX9_readLight 281 = .ok (.iconst 3, 1) := dk_6 (dk_at dksX9_readLight_12 5 rfl rfl)
theorem dX9_readLight_282 : decode cX9_readLight 282 = .ok (.iadd, 1) := dk_96 (dk_at dksX9_readLight_12 6 rfl rfl)
theorem dX9_readLight_283 : decode cX9_readLight 283 = .ok (.aload_n 0, 1) := dk_42 (dk_at dksX9_readLight_12 7 rfl rfl)
theorem dX9_readLight_284 : decode cX9_readLight 284 = .ok (.bipush 12, 2) := dk_16 12 (dk_at dksX9_readLight_12 8 rfl rfl)
theorem dX9_readLight_286 : decode cX9_readLight 286 = .ok (.iconst 0, 1) := dk_3 (dk_at dksX9_readLight_12 10 rfl rfl)
theorem dX9_readLight_287 : decode cX9_readLight 287 = .ok (.iload 5, 2) := dk_21 5 (dk_at dksX9_readLight_12 11 rfl rfl)
theorem dX9_readLight_289 : decode cX9_readLight 289 = .ok (.invokevirtual 232, 3) := dk_182 0 232 (dk_at dksX9_readLight_12 13 rfl rfl)
theorem dX9_readLight_292 : decode cX9_readLight 292 = .ok (.iastore, 1) := dk_79 (dk_at dksX9_readLight_12 16 rfl rfl)
theorem dX9_readLight_293 : decode cX9_readLight 293 = .ok (.aload_n 0, 1) := dk_42 (dk_at dksX9_readLight_12 17 rfl rfl)
theorem dX9_readLight_294 : decode cX9_readLight 294 = .ok (.getfield 81, 3) := dk_180 0 81 (dk_at dksX9_readLight_12 18 rfl rfl)
theorem dX9_readLight_297 : decode cX9_readLight 297 = .ok (.sipush 347, 3) := dk_17 1 91 (dk_at dksX9_readLight_12 21 rfl rfl)
theorem dX9_readLight_300 : decode cX9_readLight 300 = .ok (.dup2, 1) := dk_92 (dk_at dksX9_readLight_13 0 rfl rfl)
theorem dX9_readLight_301 : decode cX9_readLight 301 = .ok (.iaload, 1) := dk_46 (dk_at dksX9_readLight_13 1 rfl rfl)
theorem dX9_readLight_302 : decode cX9_readLight 302 = .ok (.iconst 1, 1) := dk_4 (dk_at dksX9_readLight_13 2 rfl rfl)
theorem dX9_readLight_303 : decode cX9_readLight 303 = .ok (.iadd, 1) := dk_96 (dk_at dksX9_readLight_13 3 rfl rfl)
theorem dX9_readLight_304 : decode cX9_readLight 304 = .ok (.iastore, 1) := dk_79 (dk_at dksX9_readLight_13 4 rfl rfl)
theorem dX9_readLight_305 : decode cX9_readLight 305 = .ok (.return_, 1) := dk_177 (dk_at dksX9_readLight_13 5 rfl rfl)
abbrev cX9_wordHere : ByteArray := prog_23_method_21_code
def yX9_wordHere : MethodName := ⟨RX9, "wordHere", "(II)I"⟩
def dkwX9_wordHere_1 : List UInt8 := [167, 0, 4, 29, 62, 132, 4, 1, 167, 255, 229, 29, 172]
abbrev dktX9_wordHere_1 : List UInt8 := dkwX9_wordHere_1 ++ []
def dkwX9_wordHere_0 : List UInt8 := [2, 62, 3, 54, 4, 21, 4, 28, 162, 0, 27, 42, 27, 21, 4, 96, 182, 0, 189, 153, 0, 8, 21, 4]
abbrev dktX9_wordHere_0 : List UInt8 := dkwX9_wordHere_0 ++ dktX9_wordHere_1
theorem dksX9_wordHere_0 : cX9_wordHere.data.toList.drop 0 = dktX9_wordHere_0 := by decide +kernel
theorem dksX9_wordHere_1 : cX9_wordHere.data.toList.drop 24 = dktX9_wordHere_1 := dk_seg dksX9_wordHere_0 24 rfl rfl
theorem dX9_wordHere_0 : decode cX9_wordHere 0 = .ok (.iconst (-1), 1) := dk_2 (dk_at dksX9_wordHere_0 0 rfl rfl)
theorem dX9_wordHere_1 : decode cX9_wordHere 1 = .ok (.istore_n 3, 1) := dk_62 (dk_at dksX9_wordHere_0 1 rfl rfl)
theorem dX9_wordHere_2 : decode cX9_wordHere 2 = .ok (.iconst 0, 1) := dk_3 (dk_at dksX9_wordHere_0 2 rfl rfl)
theorem dX9_wordHere_3 : decode cX9_wordHere 3 = .ok (.istore 4, 2) := dk_54 4 (dk_at dksX9_wordHere_0 3 rfl rfl)
theorem dX9_wordHere_5 : decode cX9_wordHere 5 = .ok (.iload 4, 2) := dk_21 4 (dk_at dksX9_wordHere_0 5 rfl rfl)
theorem dX9_wordHere_7 : decode cX9_wordHere 7 = .ok (.iload_n 2, 1) := dk_28 (dk_at dksX9_wordHere_0 7 rfl rfl)
theorem dX9_wordHere_8 : decode cX9_wordHere 8 = .ok (.if_icmp .ge 27, 3) := dk_162 0 27 (dk_at dksX9_wordHere_0 8 rfl rfl)
theorem dX9_wordHere_11 : decode cX9_wordHere 11 = .ok (.aload_n 0, 1) := dk_42 (dk_at dksX9_wordHere_0 11 rfl rfl)
theorem dX9_wordHere_12 : decode cX9_wordHere 12 = .ok (.iload_n 1, 1) := dk_27 (dk_at dksX9_wordHere_0 12 rfl rfl)
theorem dX9_wordHere_13 : decode cX9_wordHere 13 = .ok (.iload 4, 2) := dk_21 4 (dk_at dksX9_wordHere_0 13 rfl rfl)
theorem dX9_wordHere_15 : decode cX9_wordHere 15 = .ok (.iadd, 1) := dk_96 (dk_at dksX9_wordHere_0 15 rfl rfl)
theorem dX9_wordHere_16 : decode cX9_wordHere 16 = .ok (.invokevirtual 189, 3) := dk_182 0 189 (dk_at dksX9_wordHere_0 16 rfl rfl)
theorem dX9_wordHere_19 : decode cX9_wordHere 19 = .ok (.ifCond .eq 8, 3) := dk_153 0 8 (dk_at dksX9_wordHere_0 19 rfl rfl)
theorem dX9_wordHere_22 : decode cX9_wordHere 22 = .ok (.iload 4, 2) := dk_21 4 (dk_at dksX9_wordHere_0 22 rfl rfl)
theorem dX9_wordHere_24 : decode cX9_wordHere 24 = .ok (.goto 4, 3) := dk_167 0 4 (dk_at dksX9_wordHere_1 0 rfl rfl)
theorem dX9_wordHere_27 : decode cX9_wordHere 27 = .ok (.iload_n 3, 1) := dk_29 (dk_at dksX9_wordHere_1 3 rfl rfl)
theorem dX9_wordHere_28 : decode cX9_wordHere 28 = .ok (.istore_n 3, 1) := dk_62 (dk_at dksX9_wordHere_1 4 rfl rfl)
theorem dX9_wordHere_29 : decode cX9_wordHere 29 = .ok (.iinc 4 1, 3) := dk_132 4 1 (dk_at dksX9_wordHere_1 5 rfl rfl)
theorem dX9_wordHere_32 : decode cX9_wordHere 32 = .ok (.goto (-27), 3) := dk_167 255 229 (dk_at dksX9_wordHere_1 8 rfl rfl)
theorem dX9_wordHere_35 : decode cX9_wordHere 35 = .ok (.iload_n 3, 1) := dk_29 (dk_at dksX9_wordHere_1 11 rfl rfl)
theorem dX9_wordHere_36 : decode cX9_wordHere 36 = .ok (.ireturn, 1) := dk_172 (dk_at dksX9_wordHere_1 12 rfl rfl)
abbrev cX9_takeAfter : ByteArray := prog_23_method_20_code
def yX9_takeAfter : MethodName := ⟨RX9, "takeAfter", "(III)I"⟩
def dkwX9_takeAfter_0 : List UInt8 := [42, 27, 182, 0, 195, 42, 28, 29, 182, 0, 198, 172]
abbrev dktX9_takeAfter_0 : List UInt8 := dkwX9_takeAfter_0 ++ []
theorem dksX9_takeAfter_0 : cX9_takeAfter.data.toList.drop 0 = dktX9_takeAfter_0 := by decide +kernel
theorem dX9_takeAfter_0 : decode cX9_takeAfter 0 = .ok (.aload_n 0, 1) := dk_42 (dk_at dksX9_takeAfter_0 0 rfl rfl)
theorem dX9_takeAfter_1 : decode cX9_takeAfter 1 = .ok (.iload_n 1, 1) := dk_27 (dk_at dksX9_takeAfter_0 1 rfl rfl)
theorem dX9_takeAfter_2 : decode cX9_takeAfter 2 = .ok (.invokevirtual 195, 3) := dk_182 0 195 (dk_at dksX9_takeAfter_0 2 rfl rfl)
theorem dX9_takeAfter_5 : decode cX9_takeAfter 5 = .ok (.aload_n 0, 1) := dk_42 (dk_at dksX9_takeAfter_0 5 rfl rfl)
theorem dX9_takeAfter_6 : decode cX9_takeAfter 6 = .ok (.iload_n 2, 1) := dk_28 (dk_at dksX9_takeAfter_0 6 rfl rfl)
theorem dX9_takeAfter_7 : decode cX9_takeAfter 7 = .ok (.iload_n 3, 1) := dk_29 (dk_at dksX9_takeAfter_0 7 rfl rfl)
theorem dX9_takeAfter_8 : decode cX9_takeAfter 8 = .ok (.invokevirtual 198, 3) := dk_182 0 198 (dk_at dksX9_takeAfter_0 8 rfl rfl)
theorem dX9_takeAfter_11 : decode cX9_takeAfter 11 = .ok (.ireturn, 1) := dk_172 (dk_at dksX9_takeAfter_0 11 rfl rfl)
abbrev cX9_common : ByteArray := prog_23_method_26_code
def yX9_common : MethodName := ⟨RX9, "common", "(II)I"⟩
def dkwX9_common_0 : List UInt8 := [26, 61, 27, 62, 29, 153, 0, 16, 28, 29, 112, 54, 4, 29, 61, 21, 4, 62, 167, 255, 242, 28, 172]
abbrev dktX9_common_0 : List UInt8 := dkwX9_common_0 ++ []
theorem dksX9_common_0 : cX9_common.data.toList.drop 0 = dktX9_common_0 := by decide +kernel
theorem dX9_common_0 : decode cX9_common 0 = .ok (.iload_n 0, 1) := dk_26 (dk_at dksX9_common_0 0 rfl rfl)
theorem dX9_common_1 : decode cX9_common 1 = .ok (.istore_n 2, 1) := dk_61 (dk_at dksX9_common_0 1 rfl rfl)
theorem dX9_common_2 : decode cX9_common 2 = .ok (.iload_n 1, 1) := dk_27 (dk_at dksX9_common_0 2 rfl rfl)
theorem dX9_common_3 : decode cX9_common 3 = .ok (.istore_n 3, 1) := dk_62 (dk_at dksX9_common_0 3 rfl rfl)
theorem dX9_common_4 : decode cX9_common 4 = .ok (.iload_n 3, 1) := dk_29 (dk_at dksX9_common_0 4 rfl rfl)
theorem dX9_common_5 : decode cX9_common 5 = .ok (.ifCond .eq 16, 3) := dk_153 0 16 (dk_at dksX9_common_0 5 rfl rfl)
theorem dX9_common_8 : decode cX9_common 8 = .ok (.iload_n 2, 1) := dk_28 (dk_at dksX9_common_0 8 rfl rfl)
theorem dX9_common_9 : decode cX9_common 9 = .ok (.iload_n 3, 1) := dk_29 (dk_at dksX9_common_0 9 rfl rfl)
theorem dX9_common_10 : decode cX9_common 10 = .ok (.irem, 1) := dk_112 (dk_at dksX9_common_0 10 rfl rfl)
theorem dX9_common_11 : decode cX9_common 11 = .ok (.istore 4, 2) := dk_54 4 (dk_at dksX9_common_0 11 rfl rfl)
theorem dX9_common_13 : decode cX9_common 13 = .ok (.iload_n 3, 1) := dk_29 (dk_at dksX9_common_0 13 rfl rfl)
theorem dX9_common_14 : decode cX9_common 14 = .ok (.istore_n 2, 1) := dk_61 (dk_at dksX9_common_0 14 rfl rfl)
theorem dX9_common_15 : decode cX9_common 15 = .ok (.iload 4, 2) := dk_21 4 (dk_at dksX9_common_0 15 rfl rfl)
theorem dX9_common_17 : decode cX9_common 17 = .ok (.istore_n 3, 1) := dk_62 (dk_at dksX9_common_0 17 rfl rfl)
theorem dX9_common_18 : decode cX9_common 18 = .ok (.goto (-14), 3) := dk_167 255 242 (dk_at dksX9_common_0 18 rfl rfl)
theorem dX9_common_21 : decode cX9_common 21 = .ok (.iload_n 2, 1) := dk_28 (dk_at dksX9_common_0 21 rfl rfl)
theorem dX9_common_22 : decode cX9_common 22 = .ok (.ireturn, 1) := dk_172 (dk_at dksX9_common_0 22 rfl rfl)
abbrev cX9_readBar : ByteArray := prog_23_method_28_code
def yX9_readBar : MethodName := ⟨RX9, "readBar", "()V"⟩
def dkwX9_readBar_5 : List UInt8 := [21, 4, 92, 46, 4, 29, 120, 128, 79, 177]
abbrev dktX9_readBar_5 : List UInt8 := dkwX9_readBar_5 ++ []
def dkwX9_readBar_4 : List UInt8 := [4, 160, 0, 9, 42, 6, 182, 0, 186, 177, 42, 89, 180, 0, 177, 4, 96, 181, 0, 177, 42, 180, 0, 81]
abbrev dktX9_readBar_4 : List UInt8 := dkwX9_readBar_4 ++ dktX9_readBar_5
def dkwX9_readBar_3 : List UInt8 := [177, 17, 2, 54, 16, 6, 28, 104, 96, 27, 96, 54, 4, 42, 180, 0, 81, 21, 4, 46, 29, 122, 4, 126]
abbrev dktX9_readBar_3 : List UInt8 := dkwX9_readBar_3 ++ dktX9_readBar_4
def dkwX9_readBar_2 : List UInt8 := [158, 0, 7, 2, 167, 0, 10, 42, 16, 10, 5, 182, 0, 202, 62, 29, 156, 0, 9, 42, 4, 182, 0, 186]
abbrev dktX9_readBar_2 : List UInt8 := dkwX9_readBar_2 ++ dktX9_readBar_3
def dkwX9_readBar_1 : List UInt8 := [182, 0, 198, 60, 42, 3, 42, 180, 0, 81, 17, 1, 85, 46, 4, 100, 182, 0, 198, 61, 42, 180, 0, 180]
abbrev dktX9_readBar_1 : List UInt8 := dkwX9_readBar_1 ++ dktX9_readBar_2
def dkwX9_readBar_0 : List UInt8 := [42, 89, 180, 0, 177, 4, 96, 181, 0, 177, 42, 3, 42, 180, 0, 81, 17, 1, 84, 46, 4, 100]
abbrev dktX9_readBar_0 : List UInt8 := dkwX9_readBar_0 ++ dktX9_readBar_1
theorem dksX9_readBar_0 : cX9_readBar.data.toList.drop 0 = dktX9_readBar_0 := by decide +kernel
theorem dksX9_readBar_1 : cX9_readBar.data.toList.drop 22 = dktX9_readBar_1 := dk_seg dksX9_readBar_0 22 rfl rfl
theorem dksX9_readBar_2 : cX9_readBar.data.toList.drop 46 = dktX9_readBar_2 := dk_seg dksX9_readBar_1 24 rfl rfl
theorem dksX9_readBar_3 : cX9_readBar.data.toList.drop 70 = dktX9_readBar_3 := dk_seg dksX9_readBar_2 24 rfl rfl
theorem dksX9_readBar_4 : cX9_readBar.data.toList.drop 94 = dktX9_readBar_4 := dk_seg dksX9_readBar_3 24 rfl rfl
theorem dksX9_readBar_5 : cX9_readBar.data.toList.drop 118 = dktX9_readBar_5 := dk_seg dksX9_readBar_4 24 rfl rfl
theorem dX9_readBar_0 : decode cX9_readBar 0 = .ok (.aload_n 0, 1) := dk_42 (dk_at dksX9_readBar_0 0 rfl rfl)
theorem dX9_readBar_1 : decode cX9_readBar 1 = .ok (.dup, 1) := dk_89 (dk_at dksX9_readBar_0 1 rfl rfl)
theorem dX9_readBar_2 : decode cX9_readBar 2 = .ok (.getfield 177, 3) := dk_180 0 177 (dk_at dksX9_readBar_0 2 rfl rfl)
theorem dX9_readBar_5 : decode cX9_readBar 5 = .ok (.iconst 1, 1) := dk_4 (dk_at dksX9_readBar_0 5 rfl rfl)
theorem dX9_readBar_6 : decode cX9_readBar 6 = .ok (.iadd, 1) := dk_96 (dk_at dksX9_readBar_0 6 rfl rfl)
theorem dX9_readBar_7 : decode cX9_readBar 7 = .ok (.putfield 177, 3) := dk_181 0 177 (dk_at dksX9_readBar_0 7 rfl rfl)
theorem dX9_readBar_10 : decode cX9_readBar 10 = .ok (.aload_n 0, 1) := dk_42 (dk_at dksX9_readBar_0 10 rfl rfl)
theorem dX9_readBar_11 : decode cX9_readBar 11 = .ok (.iconst 0, 1) := dk_3 (dk_at dksX9_readBar_0 11 rfl rfl)
theorem dX9_readBar_12 : decode cX9_readBar 12 = .ok (.aload_n 0, 1) := dk_42 (dk_at dksX9_readBar_0 12 rfl rfl)
theorem dX9_readBar_13 : decode cX9_readBar 13 = .ok (.getfield 81, 3) := dk_180 0 81 (dk_at dksX9_readBar_0 13 rfl rfl)
theorem dX9_readBar_16 : decode cX9_readBar 16 = .ok (.sipush 340, 3) := dk_17 1 84 (dk_at dksX9_readBar_0 16 rfl rfl)
theorem dX9_readBar_19 : decode cX9_readBar 19 = .ok (.iaload, 1) := dk_46 (dk_at dksX9_readBar_0 19 rfl rfl)
theorem dX9_readBar_20 : decode cX9_readBar 20 = .ok (.iconst 1, 1) := dk_4 (dk_at dksX9_readBar_0 20 rfl rfl)
theorem dX9_readBar_21 : decode cX9_readBar 21 = .ok (.isub, 1) := dk_100 (dk_at dksX9_readBar_0 21 rfl rfl)
theorem dX9_readBar_22 : decode cX9_readBar 22 = .ok (.invokevirtual 198, 3) := dk_182 0 198 (dk_at dksX9_readBar_1 0 rfl rfl)
theorem dX9_readBar_25 : decode cX9_readBar 25 = .ok (.istore_n 1, 1) := dk_60 (dk_at dksX9_readBar_1 3 rfl rfl)
theorem dX9_readBar_26 : decode cX9_readBar 26 = .ok (.aload_n 0, 1) := dk_42 (dk_at dksX9_readBar_1 4 rfl rfl)
theorem dX9_readBar_27 : decode cX9_readBar 27 = .ok (.iconst 0, 1) := dk_3 (dk_at dksX9_readBar_1 5 rfl rfl)
theorem dX9_readBar_28 : decode cX9_readBar 28 = .ok (.aload_n 0, 1) := dk_42 (dk_at dksX9_readBar_1 6 rfl rfl)
theorem dX9_readBar_29 : decode cX9_readBar 29 = .ok (.getfield 81, 3) := dk_180 0 81 (dk_at dksX9_readBar_1 7 rfl rfl)
theorem dX9_readBar_32 : decode cX9_readBar 32 = .ok (.sipush 341, 3) := dk_17 1 85 (dk_at dksX9_readBar_1 10 rfl rfl)
theorem dX9_readBar_35 : decode cX9_readBar 35 = .ok (.iaload, 1) := dk_46 (dk_at dksX9_readBar_1 13 rfl rfl)
theorem dX9_readBar_36 : decode cX9_readBar 36 = .ok (.iconst 1, 1) := dk_4 (dk_at dksX9_readBar_1 14 rfl rfl)
theorem dX9_readBar_37 : decode cX9_readBar 37 = .ok (.isub, 1) := dk_100 (dk_at dksX9_readBar_1 15 rfl rfl)
theorem dX9_readBar_38 : decode cX9_readBar 38 = .ok (.invokevirtual 198, 3) := dk_182 0 198 (dk_at dksX9_readBar_1 16 rfl rfl)
theorem dX9_readBar_41 : decode cX9_readBar 41 = .ok (.istore_n 2, 1) := dk_61 (dk_at dksX9_readBar_1 19 rfl rfl)
theorem dX9_readBar_42 : decode cX9_readBar 42 = .ok (.aload_n 0, 1) := dk_42 (dk_at dksX9_readBar_1 20 rfl rfl)
theorem dX9_readBar_43 : decode cX9_readBar 43 = .ok (.getfield 180, 3) := dk_180 0 180 (dk_at dksX9_readBar_1 21 rfl rfl)
theorem dX9_readBar_46 : decode cX9_readBar 46 = .ok (.ifCond .le 7, 3) := dk_158 0 7 (dk_at dksX9_readBar_2 0 rfl rfl)
theorem dX9_readBar_49 : decode cX9_readBar 49 = .ok (.iconst (-1), 1) := dk_2 (dk_at dksX9_readBar_2 3 rfl rfl)
theorem dX9_readBar_50 : decode cX9_readBar 50 = .ok (.goto 10, 3) := dk_167 0 10 (dk_at dksX9_readBar_2 4 rfl rfl)
theorem dX9_readBar_53 : decode cX9_readBar 53 = .ok (.aload_n 0, 1) := dk_42 (dk_at dksX9_readBar_2 7 rfl rfl)
theorem dX9_readBar_54 : decode cX9_readBar 54 = .ok (.bipush 10, 2) := dk_16 10 (dk_at dksX9_readBar_2 8 rfl rfl)
theorem dX9_readBar_56 : decode cX9_readBar 56 = .ok (.iconst 2, 1) := dk_5 (dk_at dksX9_readBar_2 10 rfl rfl)
theorem dX9_readBar_57 : decode cX9_readBar 57 = .ok (.invokevirtual 202, 3) := dk_182 0 202 (dk_at dksX9_readBar_2 11 rfl rfl)
theorem dX9_readBar_60 : decode cX9_readBar 60 = .ok (.istore_n 3, 1) := dk_62 (dk_at dksX9_readBar_2 14 rfl rfl)
theorem dX9_readBar_61 : decode cX9_readBar 61 = .ok (.iload_n 3, 1) := dk_29 (dk_at dksX9_readBar_2 15 rfl rfl)
theorem dX9_readBar_62 : decode cX9_readBar 62 = .ok (.ifCond .ge 9, 3) := dk_156 0 9 (dk_at dksX9_readBar_2 16 rfl rfl)
theorem dX9_readBar_65 : decode cX9_readBar 65 = .ok (.aload_n 0, 1) := dk_42 (dk_at dksX9_readBar_2 19 rfl rfl)
theorem dX9_readBar_66 : decode cX9_readBar 66 = .ok (.iconst 1, 1) := dk_4 (dk_at dksX9_readBar_2 20 rfl rfl)
theorem dX9_readBar_67 : decode cX9_readBar 67 = .ok (.invokevirtual 186, 3) := dk_182 0 186 (dk_at dksX9_readBar_2 21 rfl rfl)
theorem dX9_readBar_70 : decode cX9_readBar 70 = .ok (.return_, 1) := dk_177 (dk_at dksX9_readBar_3 0 rfl rfl)
theorem dX9_readBar_71 : decode cX9_readBar 71 = .ok (.sipush 566, 3) := dk_17 2 54 (dk_at dksX9_readBar_3 1 rfl rfl)
theorem dX9_readBar_74 : decode cX9_readBar 74 = .ok (.bipush 6, 2) := dk_16 6 (dk_at dksX9_readBar_3 4 rfl rfl)
theorem dX9_readBar_76 : decode cX9_readBar 76 = .ok (.iload_n 2, 1) := dk_28 (dk_at dksX9_readBar_3 6 rfl rfl)
theorem dX9_readBar_77 : decode cX9_readBar 77 = .ok (.imul, 1) := dk_104 (dk_at dksX9_readBar_3 7 rfl rfl)
theorem dX9_readBar_78 : decode cX9_readBar 78 = .ok (.iadd, 1) := dk_96 (dk_at dksX9_readBar_3 8 rfl rfl)
theorem dX9_readBar_79 : decode cX9_readBar 79 = .ok (.iload_n 1, 1) := dk_27 (dk_at dksX9_readBar_3 9 rfl rfl)
theorem dX9_readBar_80 : decode cX9_readBar 80 = .ok (.iadd, 1) := dk_96 (dk_at dksX9_readBar_3 10 rfl rfl)
theorem dX9_readBar_81 : decode cX9_readBar 81 = .ok (.istore 4, 2) := dk_54 4 (dk_at dksX9_readBar_3 11 rfl rfl)
theorem dX9_readBar_83 : decode cX9_readBar 83 = .ok (.aload_n 0, 1) := dk_42 (dk_at dksX9_readBar_3 13 rfl rfl)
theorem dX9_readBar_84 : decode cX9_readBar 84 = .ok (.getfield 81, 3) := dk_180 0 81 (dk_at dksX9_readBar_3 14 rfl rfl)
theorem dX9_readBar_87 : decode cX9_readBar 87 = .ok (.iload 4, 2) := dk_21 4 (dk_at dksX9_readBar_3 17 rfl rfl)
theorem dX9_readBar_89 : decode cX9_readBar 89 = .ok (.iaload, 1) := dk_46 (dk_at dksX9_readBar_3 19 rfl rfl)
theorem dX9_readBar_90 : decode cX9_readBar 90 = .ok (.iload_n 3, 1) := dk_29 (dk_at dksX9_readBar_3 20 rfl rfl)
theorem dX9_readBar_91 : decode cX9_readBar 91 = .ok (.ishr, 1) := dk_122 (dk_at dksX9_readBar_3 21 rfl rfl)
theorem dX9_readBar_92 : decode cX9_readBar 92 = .ok (.iconst 1, 1) := dk_4 (dk_at dksX9_readBar_3 22 rfl rfl)
theorem dX9_readBar_93 : decode cX9_readBar 93 = .ok (.iand, 1) := dk_126 (dk_at dksX9_readBar_3 23 rfl rfl)
theorem dX9_readBar_94 : decode cX9_readBar 94 = .ok (.iconst 1, 1) := dk_4 (dk_at dksX9_readBar_4 0 rfl rfl)
theorem dX9_readBar_95 : decode cX9_readBar 95 = .ok (.if_icmp .ne 9, 3) := dk_160 0 9 (dk_at dksX9_readBar_4 1 rfl rfl)
theorem dX9_readBar_98 : decode cX9_readBar 98 = .ok (.aload_n 0, 1) := dk_42 (dk_at dksX9_readBar_4 4 rfl rfl)
theorem dX9_readBar_99 : decode cX9_readBar 99 = .ok (.iconst 3, 1) := dk_6 (dk_at dksX9_readBar_4 5 rfl rfl)
theorem dX9_readBar_100 : decode cX9_readBar 100 = .ok (.invokevirtual 186, 3) := dk_182 0 186 (dk_at dksX9_readBar_4 6 rfl rfl)
theorem dX9_readBar_103 : decode cX9_readBar 103 = .ok (.return_, 1) := dk_177 (dk_at dksX9_readBar_4 9 rfl rfl)
theorem dX9_readBar_104 : decode cX9_readBar 104 = .ok (.aload_n 0, 1) := dk_42 (dk_at dksX9_readBar_4 10 rfl rfl)
theorem dX9_readBar_105 : decode cX9_readBar 105 = .ok (.dup, 1) := dk_89 (dk_at dksX9_readBar_4 11 rfl rfl)
theorem dX9_readBar_106 : decode cX9_readBar 106 = .ok (.getfield 177, 3) := dk_180 0 177 (dk_at dksX9_readBar_4 12 rfl rfl)
theorem dX9_readBar_109 : decode cX9_readBar 109 = .ok (.iconst 1, 1) := dk_4 (dk_at dksX9_readBar_4 15 rfl rfl)
theorem dX9_readBar_110 : decode cX9_readBar 110 = .ok (.iadd, 1) := dk_96 (dk_at dksX9_readBar_4 16 rfl rfl)
theorem dX9_readBar_111 : decode cX9_readBar 111 = .ok (.putfield 177, 3) := dk_181 0 177 (dk_at dksX9_readBar_4 17 rfl rfl)
theorem dX9_readBar_114 : decode cX9_readBar 114 = .ok (.aload_n 0, 1) := dk_42 (dk_at dksX9_readBar_4 20 rfl rfl)
theorem dX9_readBar_115 : decode cX9_readBar 115 = .ok (.getfield 81, 3) := dk_180 0 81 (dk_at dksX9_readBar_4 21 rfl rfl)
theorem dX9_readBar_118 : decode cX9_readBar 118 = .ok (.iload 4, 2) := dk_21 4 (dk_at dksX9_readBar_5 0 rfl rfl)
theorem dX9_readBar_120 : decode cX9_readBar 120 = .ok (.dup2, 1) := dk_92 (dk_at dksX9_readBar_5 2 rfl rfl)
theorem dX9_readBar_121 : decode cX9_readBar 121 = .ok (.iaload, 1) := dk_46 (dk_at dksX9_readBar_5 3 rfl rfl)
theorem dX9_readBar_122 : decode cX9_readBar 122 = .ok (.iconst 1, 1) := dk_4 (dk_at dksX9_readBar_5 4 rfl rfl)
theorem dX9_readBar_123 : decode cX9_readBar 123 = .ok (.iload_n 3, 1) := dk_29 (dk_at dksX9_readBar_5 5 rfl rfl)
theorem dX9_readBar_124 : decode cX9_readBar 124 = .ok (.ishl, 1) := dk_120 (dk_at dksX9_readBar_5 6 rfl rfl)
theorem dX9_readBar_125 : decode cX9_readBar 125 = .ok (.ior, 1) := dk_128 (dk_at dksX9_readBar_5 7 rfl rfl)
theorem dX9_readBar_126 : decode cX9_readBar 126 = .ok (.iastore, 1) := dk_79 (dk_at dksX9_readBar_5 8 rfl rfl)
theorem dX9_readBar_127 : decode cX9_readBar 127 = .ok (.return_, 1) := dk_177 (dk_at dksX9_readBar_5 9 rfl rfl)
abbrev cX9_readRule : ByteArray := prog_23_method_29_code
def yX9_readRule : MethodName := ⟨RX9, "readRule", "()V"⟩
def dkwX9_readRule_7 : List UInt8 := [42, 180, 0, 81, 17, 1, 92, 92, 46, 4, 96, 79, 177]
abbrev dktX9_readRule_7 : List UInt8 := dkwX9_readRule_7 ++ []
def dkwX9_readRule_6 : List UInt8 := [180, 0, 81, 17, 2, 108, 27, 96, 42, 180, 0, 208, 79, 42, 3, 182, 0, 243, 42, 3, 3, 182, 0, 246]
abbrev dktX9_readRule_6 : List UInt8 := dkwX9_readRule_6 ++ dktX9_readRule_7
def dkwX9_readRule_5 : List UInt8 := [27, 42, 180, 0, 30, 42, 180, 0, 177, 47, 80, 42, 89, 180, 0, 177, 4, 96, 181, 0, 177, 42]
abbrev dktX9_readRule_5 : List UInt8 := dkwX9_readRule_5 ++ dktX9_readRule_6
def dkwX9_readRule_4 : List UInt8 := [167, 0, 12, 28, 153, 0, 8, 42, 6, 182, 0, 186, 42, 180, 0, 180, 158, 0, 4, 177, 42, 180, 0, 90]
abbrev dktX9_readRule_4 : List UInt8 := dkwX9_readRule_4 ++ dktX9_readRule_5
def dkwX9_readRule_3 : List UInt8 := [167, 0, 4, 3, 61, 132, 3, 1, 167, 255, 212, 42, 182, 0, 239, 154, 0, 11, 42, 4, 182, 0, 186]
abbrev dktX9_readRule_3 : List UInt8 := dkwX9_readRule_3 ++ dktX9_readRule_4
def dkwX9_readRule_2 : List UInt8 := [28, 154, 0, 22, 42, 180, 0, 90, 29, 47, 42, 180, 0, 30, 42, 180, 0, 177, 47, 148, 154, 0, 7, 4]
abbrev dktX9_readRule_2 : List UInt8 := dkwX9_readRule_2 ++ dktX9_readRule_3
def dkwX9_readRule_1 : List UInt8 := [180, 0, 177, 4, 96, 181, 0, 177, 3, 61, 3, 62, 29, 27, 162, 0, 45, 42, 180, 0, 180, 154, 0, 38]
abbrev dktX9_readRule_1 : List UInt8 := dkwX9_readRule_1 ++ dktX9_readRule_2
def dkwX9_readRule_0 : List UInt8 := [42, 180, 0, 81, 17, 1, 92, 46, 60, 27, 7, 160, 0, 9, 42, 8, 182, 0, 186, 177, 42, 89]
abbrev dktX9_readRule_0 : List UInt8 := dkwX9_readRule_0 ++ dktX9_readRule_1
theorem dksX9_readRule_0 : cX9_readRule.data.toList.drop 0 = dktX9_readRule_0 := by decide +kernel
theorem dksX9_readRule_1 : cX9_readRule.data.toList.drop 22 = dktX9_readRule_1 := dk_seg dksX9_readRule_0 22 rfl rfl
theorem dksX9_readRule_2 : cX9_readRule.data.toList.drop 46 = dktX9_readRule_2 := dk_seg dksX9_readRule_1 24 rfl rfl
theorem dksX9_readRule_3 : cX9_readRule.data.toList.drop 70 = dktX9_readRule_3 := dk_seg dksX9_readRule_2 24 rfl rfl
theorem dksX9_readRule_4 : cX9_readRule.data.toList.drop 93 = dktX9_readRule_4 := dk_seg dksX9_readRule_3 23 rfl rfl
theorem dksX9_readRule_5 : cX9_readRule.data.toList.drop 117 = dktX9_readRule_5 := dk_seg dksX9_readRule_4 24 rfl rfl
theorem dksX9_readRule_6 : cX9_readRule.data.toList.drop 139 = dktX9_readRule_6 := dk_seg dksX9_readRule_5 22 rfl rfl
theorem dksX9_readRule_7 : cX9_readRule.data.toList.drop 163 = dktX9_readRule_7 := dk_seg dksX9_readRule_6 24 rfl rfl
theorem dX9_readRule_0 : decode cX9_readRule 0 = .ok (.aload_n 0, 1) := dk_42 (dk_at dksX9_readRule_0 0 rfl rfl)
theorem dX9_readRule_1 : decode cX9_readRule 1 = .ok (.getfield 81, 3) := dk_180 0 81 (dk_at dksX9_readRule_0 1 rfl rfl)
theorem dX9_readRule_4 : decode cX9_readRule 4 = .ok (.sipush 348, 3) := dk_17 1 92 (dk_at dksX9_readRule_0 4 rfl rfl)
theorem dX9_readRule_7 : decode cX9_readRule 7 = .ok (.iaload, 1) := dk_46 (dk_at dksX9_readRule_0 7 rfl rfl)
theorem dX9_readRule_8 : decode cX9_readRule 8 = .ok (.istore_n 1, 1) := dk_60 (dk_at dksX9_readRule_0 8 rfl rfl)
theorem dX9_readRule_9 : decode cX9_readRule 9 = .ok (.iload_n 1, 1) := dk_27 (dk_at dksX9_readRule_0 9 rfl rfl)
theorem dX9_readRule_10 : decode cX9_readRule 10 = .ok (.iconst 4, 1) := dk_7 (dk_at dksX9_readRule_0 10 rfl rfl)
theorem dX9_readRule_11 : decode cX9_readRule 11 = .ok (.if_icmp .ne 9, 3) := dk_160 0 9 (dk_at dksX9_readRule_0 11 rfl rfl)
theorem dX9_readRule_14 : decode cX9_readRule 14 = .ok (.aload_n 0, 1) := dk_42 (dk_at dksX9_readRule_0 14 rfl rfl)
theorem dX9_readRule_15 : decode cX9_readRule 15 = .ok (.iconst 5, 1) := dk_8 (dk_at dksX9_readRule_0 15 rfl rfl)
theorem dX9_readRule_16 : decode cX9_readRule 16 = .ok (.invokevirtual 186, 3) := dk_182 0 186 (dk_at dksX9_readRule_0 16 rfl rfl)
theorem dX9_readRule_19 : decode cX9_readRule 19 = .ok (.return_, 1) := dk_177 (dk_at dksX9_readRule_0 19 rfl rfl)
theorem dX9_readRule_20 : decode cX9_readRule 20 = .ok (.aload_n 0, 1) := dk_42 (dk_at dksX9_readRule_0 20 rfl rfl)
theorem dX9_readRule_21 : decode cX9_readRule 21 = .ok (.dup, 1) := dk_89 (dk_at dksX9_readRule_0 21 rfl rfl)
theorem dX9_readRule_22 : decode cX9_readRule 22 = .ok (.getfield 177, 3) := dk_180 0 177 (dk_at dksX9_readRule_1 0 rfl rfl)
theorem dX9_readRule_25 : decode cX9_readRule 25 = .ok (.iconst 1, 1) := dk_4 (dk_at dksX9_readRule_1 3 rfl rfl)
theorem dX9_readRule_26 : decode cX9_readRule 26 = .ok (.iadd, 1) := dk_96 (dk_at dksX9_readRule_1 4 rfl rfl)
theorem dX9_readRule_27 : decode cX9_readRule 27 = .ok (.putfield 177, 3) := dk_181 0 177 (dk_at dksX9_readRule_1 5 rfl rfl)
theorem dX9_readRule_30 : decode cX9_readRule 30 = .ok (.iconst 0, 1) := dk_3 (dk_at dksX9_readRule_1 8 rfl rfl)
theorem dX9_readRule_31 : decode cX9_readRule 31 = .ok (.istore_n 2, 1) := dk_61 (dk_at dksX9_readRule_1 9 rfl rfl)
theorem dX9_readRule_32 : decode cX9_readRule 32 = .ok (.iconst 0, 1) := dk_3 (dk_at dksX9_readRule_1 10 rfl rfl)
theorem dX9_readRule_33 : decode cX9_readRule 33 = .ok (.istore_n 3, 1) := dk_62 (dk_at dksX9_readRule_1 11 rfl rfl)
theorem dX9_readRule_34 : decode cX9_readRule 34 = .ok (.iload_n 3, 1) := dk_29 (dk_at dksX9_readRule_1 12 rfl rfl)
theorem dX9_readRule_35 : decode cX9_readRule 35 = .ok (.iload_n 1, 1) := dk_27 (dk_at dksX9_readRule_1 13 rfl rfl)
theorem dX9_readRule_36 : decode cX9_readRule 36 = .ok (.if_icmp .ge 45, 3) := dk_162 0 45 (dk_at dksX9_readRule_1 14 rfl rfl)
theorem dX9_readRule_39 : decode cX9_readRule 39 = .ok (.aload_n 0, 1) := dk_42 (dk_at dksX9_readRule_1 17 rfl rfl)
theorem dX9_readRule_40 : decode cX9_readRule 40 = .ok (.getfield 180, 3) := dk_180 0 180 (dk_at dksX9_readRule_1 18 rfl rfl)
theorem dX9_readRule_43 : decode cX9_readRule 43 = .ok (.ifCond .ne 38, 3) := dk_154 0 38 (dk_at dksX9_readRule_1 21 rfl rfl)
theorem dX9_readRule_46 : decode cX9_readRule 46 = .ok (.iload_n 2, 1) := dk_28 (dk_at dksX9_readRule_2 0 rfl rfl)
theorem dX9_readRule_47 : decode cX9_readRule 47 = .ok (.ifCond .ne 22, 3) := dk_154 0 22 (dk_at dksX9_readRule_2 1 rfl rfl)
theorem dX9_readRule_50 : decode cX9_readRule 50 = .ok (.aload_n 0, 1) := dk_42 (dk_at dksX9_readRule_2 4 rfl rfl)
theorem dX9_readRule_51 : decode cX9_readRule 51 = .ok (.getfield 90, 3) := dk_180 0 90 (dk_at dksX9_readRule_2 5 rfl rfl)
theorem dX9_readRule_54 : decode cX9_readRule 54 = .ok (.iload_n 3, 1) := dk_29 (dk_at dksX9_readRule_2 8 rfl rfl)
theorem dX9_readRule_55 : decode cX9_readRule 55 = .ok (.laload, 1) := dk_47 (dk_at dksX9_readRule_2 9 rfl rfl)
theorem dX9_readRule_56 : decode cX9_readRule 56 = .ok (.aload_n 0, 1) := dk_42 (dk_at dksX9_readRule_2 10 rfl rfl)
theorem dX9_readRule_57 : decode cX9_readRule 57 = .ok (.getfield 30, 3) := dk_180 0 30 (dk_at dksX9_readRule_2 11 rfl rfl)
theorem dX9_readRule_60 : decode cX9_readRule 60 = .ok (.aload_n 0, 1) := dk_42 (dk_at dksX9_readRule_2 14 rfl rfl)
theorem dX9_readRule_61 : decode cX9_readRule 61 = .ok (.getfield 177, 3) := dk_180 0 177 (dk_at dksX9_readRule_2 15 rfl rfl)
theorem dX9_readRule_64 : decode cX9_readRule 64 = .ok (.laload, 1) := dk_47 (dk_at dksX9_readRule_2 18 rfl rfl)
theorem dX9_readRule_65 : decode cX9_readRule 65 = .ok (.lcmp, 1) := dk_148 (dk_at dksX9_readRule_2 19 rfl rfl)
theorem dX9_readRule_66 : decode cX9_readRule 66 = .ok (.ifCond .ne 7, 3) := dk_154 0 7 (dk_at dksX9_readRule_2 20 rfl rfl)
theorem dX9_readRule_69 : decode cX9_readRule 69 = .ok (.iconst 1, 1) := dk_4 (dk_at dksX9_readRule_2 23 rfl rfl)
theorem dX9_readRule_70 : decode cX9_readRule 70 = .ok (.goto 4, 3) := dk_167 0 4 (dk_at dksX9_readRule_3 0 rfl rfl)
theorem dX9_readRule_73 : decode cX9_readRule 73 = .ok (.iconst 0, 1) := dk_3 (dk_at dksX9_readRule_3 3 rfl rfl)
theorem dX9_readRule_74 : decode cX9_readRule 74 = .ok (.istore_n 2, 1) := dk_61 (dk_at dksX9_readRule_3 4 rfl rfl)
theorem dX9_readRule_75 : decode cX9_readRule 75 = .ok (.iinc 3 1, 3) := dk_132 3 1 (dk_at dksX9_readRule_3 5 rfl rfl)
theorem dX9_readRule_78 : decode cX9_readRule 78 = .ok (.goto (-44), 3) := dk_167 255 212 (dk_at dksX9_readRule_3 8 rfl rfl)
theorem dX9_readRule_81 : decode cX9_readRule 81 = .ok (.aload_n 0, 1) := dk_42 (dk_at dksX9_readRule_3 11 rfl rfl)
theorem dX9_readRule_82 : decode cX9_readRule 82 = .ok (.invokevirtual 239, 3) := dk_182 0 239 (dk_at dksX9_readRule_3 12 rfl rfl)
theorem dX9_readRule_85 : decode cX9_readRule 85 = .ok (.ifCond .ne 11, 3) := dk_154 0 11 (dk_at dksX9_readRule_3 15 rfl rfl)
theorem dX9_readRule_88 : decode cX9_readRule 88 = .ok (.aload_n 0, 1) := dk_42 (dk_at dksX9_readRule_3 18 rfl rfl)
theorem dX9_readRule_89 : decode cX9_readRule 89 = .ok (.iconst 1, 1) := dk_4 (dk_at dksX9_readRule_3 19 rfl rfl)
theorem dX9_readRule_90 : decode cX9_readRule 90 = .ok (.invokevirtual 186, 3) := dk_182 0 186 (dk_at dksX9_readRule_3 20 rfl rfl)
theorem dX9_readRule_93 : decode cX9_readRule 93 = .ok (.goto 12, 3) := dk_167 0 12 (dk_at dksX9_readRule_4 0 rfl rfl)
theorem dX9_readRule_96 : decode cX9_readRule 96 = .ok (.iload_n 2, 1) := dk_28 (dk_at dksX9_readRule_4 3 rfl rfl)
theorem dX9_readRule_97 : decode cX9_readRule 97 = .ok (.ifCond .eq 8, 3) := dk_153 0 8 (dk_at dksX9_readRule_4 4 rfl rfl)
theorem dX9_readRule_100 : decode cX9_readRule 100 = .ok (.aload_n 0, 1) := dk_42 (dk_at dksX9_readRule_4 7 rfl rfl)
theorem dX9_readRule_101 : decode cX9_readRule 101 = .ok (.iconst 3, 1) := dk_6 (dk_at dksX9_readRule_4 8 rfl rfl)
theorem dX9_readRule_102 : decode cX9_readRule 102 = .ok (.invokevirtual 186, 3) := dk_182 0 186 (dk_at dksX9_readRule_4 9 rfl rfl)
theorem dX9_readRule_105 : decode cX9_readRule 105 = .ok (.aload_n 0, 1) := dk_42 (dk_at dksX9_readRule_4 12 rfl rfl)
theorem dX9_readRule_106 : decode cX9_readRule 106 = .ok (.getfield 180, 3) := dk_180 0 180 (dk_at dksX9_readRule_4 13 rfl rfl)
theorem dX9_readRule_109 : decode cX9_readRule 109 = .ok (.ifCond .le 4, 3) := dk_158 0 4 (dk_at dksX9_readRule_4 16 rfl rfl)
theorem dX9_readRule_112 : decode cX9_readRule 112 = .ok (.return_, 1) := dk_177 (dk_at dksX9_readRule_4 19 rfl rfl)
theorem dX9_readRule_113 : decode cX9_readRule 113 = .ok (.aload_n 0, 1) := dk_42 (dk_at dksX9_readRule_4 20 rfl rfl)
theorem dX9_readRule_114 : decode cX9_readRule 114 = .ok (.getfield 90, 3) := dk_180 0 90 (dk_at dksX9_readRule_4 21 rfl rfl)
theorem dX9_readRule_117 : decode cX9_readRule 117 = .ok (.iload_n 1, 1) := dk_27 (dk_at dksX9_readRule_5 0 rfl rfl)
theorem dX9_readRule_118 : decode cX9_readRule 118 = .ok (.aload_n 0, 1) := dk_42 (dk_at dksX9_readRule_5 1 rfl rfl)
theorem dX9_readRule_119 : decode cX9_readRule 119 = .ok (.getfield 30, 3) := dk_180 0 30 (dk_at dksX9_readRule_5 2 rfl rfl)
theorem dX9_readRule_122 : decode cX9_readRule 122 = .ok (.aload_n 0, 1) := dk_42 (dk_at dksX9_readRule_5 5 rfl rfl)
theorem dX9_readRule_123 : decode cX9_readRule 123 = .ok (.getfield 177, 3) := dk_180 0 177 (dk_at dksX9_readRule_5 6 rfl rfl)
theorem dX9_readRule_126 : decode cX9_readRule 126 = .ok (.laload, 1) := dk_47 (dk_at dksX9_readRule_5 9 rfl rfl)
theorem dX9_readRule_127 : decode cX9_readRule 127 = .ok (.lastore, 1) := dk_80 (dk_at dksX9_readRule_5 10 rfl rfl)
theorem dX9_readRule_128 : decode cX9_readRule 128 = .ok (.aload_n 0, 1) := dk_42 (dk_at dksX9_readRule_5 11 rfl rfl)
theorem dX9_readRule_129 : decode cX9_readRule 129 = .ok (.dup, 1) := dk_89 (dk_at dksX9_readRule_5 12 rfl rfl)
theorem dX9_readRule_130 : decode cX9_readRule 130 = .ok (.getfield 177, 3) := dk_180 0 177 (dk_at dksX9_readRule_5 13 rfl rfl)
theorem dX9_readRule_133 : decode cX9_readRule 133 = .ok (.iconst 1, 1) := dk_4 (dk_at dksX9_readRule_5 16 rfl rfl)
theorem dX9_readRule_134 : decode cX9_readRule 134 = .ok (.iadd, 1) := dk_96 (dk_at dksX9_readRule_5 17 rfl rfl)
theorem dX9_readRule_135 : decode cX9_readRule 135 = .ok (.putfield 177, 3) := dk_181 0 177 (dk_at dksX9_readRule_5 18 rfl rfl)
theorem dX9_readRule_138 : decode cX9_readRule 138 = .ok (.aload_n 0, 1) := dk_42 (dk_at dksX9_readRule_5 21 rfl rfl)
theorem dX9_readRule_139 : decode cX9_readRule 139 = .ok (.getfield 81, 3) := dk_180 0 81 (dk_at dksX9_readRule_6 0 rfl rfl)
theorem dX9_readRule_142 : decode cX9_readRule 142 = .ok (.sipush 620, 3) := dk_17 2 108 (dk_at dksX9_readRule_6 3 rfl rfl)
theorem dX9_readRule_145 : decode cX9_readRule 145 = .ok (.iload_n 1, 1) := dk_27 (dk_at dksX9_readRule_6 6 rfl rfl)
theorem dX9_readRule_146 : decode cX9_readRule 146 = .ok (.iadd, 1) := dk_96 (dk_at dksX9_readRule_6 7 rfl rfl)
theorem dX9_readRule_147 : decode cX9_readRule 147 = .ok (.aload_n 0, 1) := dk_42 (dk_at dksX9_readRule_6 8 rfl rfl)
theorem dX9_readRule_148 : decode cX9_readRule 148 = .ok (.getfield 208, 3) := dk_180 0 208 (dk_at dksX9_readRule_6 9 rfl rfl)
theorem dX9_readRule_151 : decode cX9_readRule 151 = .ok (.iastore, 1) := dk_79 (dk_at dksX9_readRule_6 12 rfl rfl)
theorem dX9_readRule_152 : decode cX9_readRule 152 = .ok (.aload_n 0, 1) := dk_42 (dk_at dksX9_readRule_6 13 rfl rfl)
theorem dX9_readRule_153 : decode cX9_readRule 153 = .ok (.iconst 0, 1) := dk_3 (dk_at dksX9_readRule_6 14 rfl rfl)
theorem dX9_readRule_154 : decode cX9_readRule 154 = .ok (.invokevirtual 243, 3) := dk_182 0 243 (dk_at dksX9_readRule_6 15 rfl rfl)
theorem dX9_readRule_157 : decode cX9_readRule 157 = .ok (.aload_n 0, 1) := dk_42 (dk_at dksX9_readRule_6 18 rfl rfl)
theorem dX9_readRule_158 : decode cX9_readRule 158 = .ok (.iconst 0, 1) := dk_3 (dk_at dksX9_readRule_6 19 rfl rfl)
theorem dX9_readRule_159 : decode cX9_readRule 159 = .ok (.iconst 0, 1) := dk_3 (dk_at dksX9_readRule_6 20 rfl rfl)
theorem dX9_readRule_160 : decode cX9_readRule 160 = .ok (.invokevirtual 246, 3) := dk_182 0 246 (dk_at dksX9_readRule_6 21 rfl rfl)
theorem dX9_readRule_163 : decode cX9_readRule 163 = .ok (.aload_n 0, 1) := dk_42 (dk_at dksX9_readRule_7 0 rfl rfl)
theorem dX9_readRule_164 : decode cX9_readRule 164 = .ok (.getfield 81, 3) := dk_180 0 81 (dk_at dksX9_readRule_7 1 rfl rfl)
theorem dX9_readRule_167 : decode cX9_readRule 167 = .ok (.sipush 348, 3) := dk_17 1 92 (dk_at dksX9_readRule_7 4 rfl rfl)
theorem dX9_readRule_170 : decode cX9_readRule 170 = .ok (.dup2, 1) := dk_92 (dk_at dksX9_readRule_7 7 rfl rfl)
theorem dX9_readRule_171 : decode cX9_readRule 171 = .ok (.iaload, 1) := dk_46 (dk_at dksX9_readRule_7 8 rfl rfl)
theorem dX9_readRule_172 : decode cX9_readRule 172 = .ok (.iconst 1, 1) := dk_4 (dk_at dksX9_readRule_7 9 rfl rfl)
theorem dX9_readRule_173 : decode cX9_readRule 173 = .ok (.iadd, 1) := dk_96 (dk_at dksX9_readRule_7 10 rfl rfl)
theorem dX9_readRule_174 : decode cX9_readRule 174 = .ok (.iastore, 1) := dk_79 (dk_at dksX9_readRule_7 11 rfl rfl)
theorem dX9_readRule_175 : decode cX9_readRule 175 = .ok (.return_, 1) := dk_177 (dk_at dksX9_readRule_7 12 rfl rfl)
abbrev cX9_isName : ByteArray := prog_23_method_22_code
def yX9_isName : MethodName := ⟨RX9, "isName", "()Z"⟩
def dkwX9_isName_1 : List UInt8 := [182, 0, 202, 156, 0, 7, 4, 167, 0, 4, 3, 172]
abbrev dktX9_isName_1 : List UInt8 := dkwX9_isName_1 ++ []
def dkwX9_isName_0 : List UInt8 := [42, 180, 0, 180, 154, 0, 30, 42, 180, 0, 24, 42, 180, 0, 177, 46, 4, 160, 0, 17, 42, 3, 16, 20]
abbrev dktX9_isName_0 : List UInt8 := dkwX9_isName_0 ++ dktX9_isName_1
theorem dksX9_isName_0 : cX9_isName.data.toList.drop 0 = dktX9_isName_0 := by decide +kernel
theorem dksX9_isName_1 : cX9_isName.data.toList.drop 24 = dktX9_isName_1 := dk_seg dksX9_isName_0 24 rfl rfl
theorem dX9_isName_0 : decode cX9_isName 0 = .ok (.aload_n 0, 1) := dk_42 (dk_at dksX9_isName_0 0 rfl rfl)
theorem dX9_isName_1 : decode cX9_isName 1 = .ok (.getfield 180, 3) := dk_180 0 180 (dk_at dksX9_isName_0 1 rfl rfl)
theorem dX9_isName_4 : decode cX9_isName 4 = .ok (.ifCond .ne 30, 3) := dk_154 0 30 (dk_at dksX9_isName_0 4 rfl rfl)
theorem dX9_isName_7 : decode cX9_isName 7 = .ok (.aload_n 0, 1) := dk_42 (dk_at dksX9_isName_0 7 rfl rfl)
theorem dX9_isName_8 : decode cX9_isName 8 = .ok (.getfield 24, 3) := dk_180 0 24 (dk_at dksX9_isName_0 8 rfl rfl)
theorem dX9_isName_11 : decode cX9_isName 11 = .ok (.aload_n 0, 1) := dk_42 (dk_at dksX9_isName_0 11 rfl rfl)
theorem dX9_isName_12 : decode cX9_isName 12 = .ok (.getfield 177, 3) := dk_180 0 177 (dk_at dksX9_isName_0 12 rfl rfl)
theorem dX9_isName_15 : decode cX9_isName 15 = .ok (.iaload, 1) := dk_46 (dk_at dksX9_isName_0 15 rfl rfl)
theorem dX9_isName_16 : decode cX9_isName 16 = .ok (.iconst 1, 1) := dk_4 (dk_at dksX9_isName_0 16 rfl rfl)
theorem dX9_isName_17 : decode cX9_isName 17 = .ok (.if_icmp .ne 17, 3) := dk_160 0 17 (dk_at dksX9_isName_0 17 rfl rfl)
theorem dX9_isName_20 : decode cX9_isName 20 = .ok (.aload_n 0, 1) := dk_42 (dk_at dksX9_isName_0 20 rfl rfl)
theorem dX9_isName_21 : decode cX9_isName 21 = .ok (.iconst 0, 1) := dk_3 (dk_at dksX9_isName_0 21 rfl rfl)
theorem dX9_isName_22 : decode cX9_isName 22 = .ok (.bipush 20, 2) := dk_16 20 (dk_at dksX9_isName_0 22 rfl rfl)
theorem dX9_isName_24 : decode cX9_isName 24 = .ok (.invokevirtual 202, 3) := dk_182 0 202 (dk_at dksX9_isName_1 0 rfl rfl)
theorem dX9_isName_27 : decode cX9_isName 27 = .ok (.ifCond .ge 7, 3) := dk_156 0 7 (dk_at dksX9_isName_1 3 rfl rfl)
theorem dX9_isName_30 : decode cX9_isName 30 = .ok (.iconst 1, 1) := dk_4 (dk_at dksX9_isName_1 6 rfl rfl)
theorem dX9_isName_31 : decode cX9_isName 31 = .ok (.goto 4, 3) := dk_167 0 4 (dk_at dksX9_isName_1 7 rfl rfl)
theorem dX9_isName_34 : decode cX9_isName 34 = .ok (.iconst 0, 1) := dk_3 (dk_at dksX9_isName_1 10 rfl rfl)
theorem dX9_isName_35 : decode cX9_isName 35 = .ok (.ireturn, 1) := dk_172 (dk_at dksX9_isName_1 11 rfl rfl)
abbrev cX9_all : ByteArray := prog_23_method_32_code
def yX9_all : MethodName := ⟨RX9, "all", "(I)V"⟩
def dkwX9_all_2 : List UInt8 := [153, 0, 8, 16, 9, 167, 0, 5, 16, 10, 3, 182, 0, 246, 167, 255, 200, 177]
abbrev dktX9_all_2 : List UInt8 := dkwX9_all_2 ++ []
def dkwX9_all_1 : List UInt8 := [16, 18, 182, 0, 189, 61, 42, 89, 180, 0, 177, 4, 96, 181, 0, 177, 42, 27, 182, 1, 1, 42, 28]
abbrev dktX9_all_1 : List UInt8 := dkwX9_all_1 ++ dktX9_all_2
def dkwX9_all_0 : List UInt8 := [42, 27, 182, 1, 1, 42, 16, 18, 182, 0, 189, 154, 0, 12, 42, 16, 19, 182, 0, 189, 153, 0, 44, 42]
abbrev dktX9_all_0 : List UInt8 := dkwX9_all_0 ++ dktX9_all_1
theorem dksX9_all_0 : cX9_all.data.toList.drop 0 = dktX9_all_0 := by decide +kernel
theorem dksX9_all_1 : cX9_all.data.toList.drop 24 = dktX9_all_1 := dk_seg dksX9_all_0 24 rfl rfl
theorem dksX9_all_2 : cX9_all.data.toList.drop 47 = dktX9_all_2 := dk_seg dksX9_all_1 23 rfl rfl
theorem dX9_all_0 : decode cX9_all 0 = .ok (.aload_n 0, 1) := dk_42 (dk_at dksX9_all_0 0 rfl rfl)
theorem dX9_all_1 : decode cX9_all 1 = .ok (.iload_n 1, 1) := dk_27 (dk_at dksX9_all_0 1 rfl rfl)
theorem dX9_all_2 : decode cX9_all 2 = .ok (.invokevirtual 257, 3) := dk_182 1 1 (dk_at dksX9_all_0 2 rfl rfl)
theorem dX9_all_5 : decode cX9_all 5 = .ok (.aload_n 0, 1) := dk_42 (dk_at dksX9_all_0 5 rfl rfl)
theorem dX9_all_6 : decode cX9_all 6 = .ok (.bipush 18, 2) := dk_16 18 (dk_at dksX9_all_0 6 rfl rfl)
theorem dX9_all_8 : decode cX9_all 8 = .ok (.invokevirtual 189, 3) := dk_182 0 189 (dk_at dksX9_all_0 8 rfl rfl)
theorem dX9_all_11 : decode cX9_all 11 = .ok (.ifCond .ne 12, 3) := dk_154 0 12 (dk_at dksX9_all_0 11 rfl rfl)
theorem dX9_all_14 : decode cX9_all 14 = .ok (.aload_n 0, 1) := dk_42 (dk_at dksX9_all_0 14 rfl rfl)
theorem dX9_all_15 : decode cX9_all 15 = .ok (.bipush 19, 2) := dk_16 19 (dk_at dksX9_all_0 15 rfl rfl)
theorem dX9_all_17 : decode cX9_all 17 = .ok (.invokevirtual 189, 3) := dk_182 0 189 (dk_at dksX9_all_0 17 rfl rfl)
theorem dX9_all_20 : decode cX9_all 20 = .ok (.ifCond .eq 44, 3) := dk_153 0 44 (dk_at dksX9_all_0 20 rfl rfl)
theorem dX9_all_23 : decode cX9_all 23 = .ok (.aload_n 0, 1) := dk_42 (dk_at dksX9_all_0 23 rfl rfl)
theorem dX9_all_24 : decode cX9_all 24 = .ok (.bipush 18, 2) := dk_16 18 (dk_at dksX9_all_1 0 rfl rfl)
theorem dX9_all_26 : decode cX9_all 26 = .ok (.invokevirtual 189, 3) := dk_182 0 189 (dk_at dksX9_all_1 2 rfl rfl)
theorem dX9_all_29 : decode cX9_all 29 = .ok (.istore_n 2, 1) := dk_61 (dk_at dksX9_all_1 5 rfl rfl)
theorem dX9_all_30 : decode cX9_all 30 = .ok (.aload_n 0, 1) := dk_42 (dk_at dksX9_all_1 6 rfl rfl)
theorem dX9_all_31 : decode cX9_all 31 = .ok (.dup, 1) := dk_89 (dk_at dksX9_all_1 7 rfl rfl)
theorem dX9_all_32 : decode cX9_all 32 = .ok (.getfield 177, 3) := dk_180 0 177 (dk_at dksX9_all_1 8 rfl rfl)
theorem dX9_all_35 : decode cX9_all 35 = .ok (.iconst 1, 1) := dk_4 (dk_at dksX9_all_1 11 rfl rfl)
theorem dX9_all_36 : decode cX9_all 36 = .ok (.iadd, 1) := dk_96 (dk_at dksX9_all_1 12 rfl rfl)
theorem dX9_all_37 : decode cX9_all 37 = .ok (.putfield 177, 3) := dk_181 0 177 (dk_at dksX9_all_1 13 rfl rfl)
theorem dX9_all_40 : decode cX9_all 40 = .ok (.aload_n 0, 1) := dk_42 (dk_at dksX9_all_1 16 rfl rfl)
theorem dX9_all_41 : decode cX9_all 41 = .ok (.iload_n 1, 1) := dk_27 (dk_at dksX9_all_1 17 rfl rfl)
theorem dX9_all_42 : decode cX9_all 42 = .ok (.invokevirtual 257, 3) := dk_182 1 1 (dk_at dksX9_all_1 18 rfl rfl)
theorem dX9_all_45 : decode cX9_all 45 = .ok (.aload_n 0, 1) := dk_42 (dk_at dksX9_all_1 21 rfl rfl)
theorem dX9_all_46 : decode cX9_all 46 = .ok (.iload_n 2, 1) := dk_28 (dk_at dksX9_all_1 22 rfl rfl)
theorem dX9_all_47 : decode cX9_all 47 = .ok (.ifCond .eq 8, 3) := dk_153 0 8 (dk_at dksX9_all_2 0 rfl rfl)
theorem dX9_all_50 : decode cX9_all 50 = .ok (.bipush 9, 2) := dk_16 9 (dk_at dksX9_all_2 3 rfl rfl)
theorem dX9_all_52 : decode cX9_all 52 = .ok (.goto 5, 3) := dk_167 0 5 (dk_at dksX9_all_2 5 rfl rfl)
theorem dX9_all_55 : decode cX9_all 55 = .ok (.bipush 10, 2) := dk_16 10 (dk_at dksX9_all_2 8 rfl rfl)
theorem dX9_all_57 : decode cX9_all 57 = .ok (.iconst 0, 1) := dk_3 (dk_at dksX9_all_2 10 rfl rfl)
theorem dX9_all_58 : decode cX9_all 58 = .ok (.invokevirtual 246, 3) := dk_182 0 246 (dk_at dksX9_all_2 11 rfl rfl)
theorem dX9_all_61 : decode cX9_all 61 = .ok (.goto (-56), 3) := dk_167 255 200 (dk_at dksX9_all_2 14 rfl rfl)
theorem dX9_all_64 : decode cX9_all 64 = .ok (.return_, 1) := dk_177 (dk_at dksX9_all_2 17 rfl rfl)
abbrev cX9_test : ByteArray := prog_23_method_33_code
def yX9_test : MethodName := ⟨RX9, "test", "(I)V"⟩
def dkwX9_test_2 : List UInt8 := [182, 0, 246, 177]
abbrev dktX9_test_2 : List UInt8 := dkwX9_test_2 ++ []
def dkwX9_test_1 : List UInt8 := [182, 1, 7, 153, 0, 24, 42, 27, 182, 1, 4, 42, 28, 153, 0, 8, 16, 7, 167, 0, 5, 16, 8, 3]
abbrev dktX9_test_1 : List UInt8 := dkwX9_test_1 ++ dktX9_test_2
def dkwX9_test_0 : List UInt8 := [42, 27, 182, 1, 4, 42, 16, 60, 182, 0, 183, 61, 42, 16, 60, 182, 1, 7, 154, 0, 12, 42, 16, 61]
abbrev dktX9_test_0 : List UInt8 := dkwX9_test_0 ++ dktX9_test_1
theorem dksX9_test_0 : cX9_test.data.toList.drop 0 = dktX9_test_0 := by decide +kernel
theorem dksX9_test_1 : cX9_test.data.toList.drop 24 = dktX9_test_1 := dk_seg dksX9_test_0 24 rfl rfl
theorem dksX9_test_2 : cX9_test.data.toList.drop 48 = dktX9_test_2 := dk_seg dksX9_test_1 24 rfl rfl
theorem dX9_test_0 : decode cX9_test 0 = .ok (.aload_n 0, 1) := dk_42 (dk_at dksX9_test_0 0 rfl rfl)
theorem dX9_test_1 : decode cX9_test 1 = .ok (.iload_n 1, 1) := dk_27 (dk_at dksX9_test_0 1 rfl rfl)
theorem dX9_test_2 : decode cX9_test 2 = .ok (.invokevirtual 260, 3) := dk_182 1 4 (dk_at dksX9_test_0 2 rfl rfl)
theorem dX9_test_5 : decode cX9_test 5 = .ok (.aload_n 0, 1) := dk_42 (dk_at dksX9_test_0 5 rfl rfl)
theorem dX9_test_6 : decode cX9_test 6 = .ok (.bipush 60, 2) := dk_16 60 (dk_at dksX9_test_0 6 rfl rfl)
theorem dX9_test_8 : decode cX9_test 8 = .ok (.invokevirtual 183, 3) := dk_182 0 183 (dk_at dksX9_test_0 8 rfl rfl)
theorem dX9_test_11 : decode cX9_test 11 = .ok (.istore_n 2, 1) := dk_61 (dk_at dksX9_test_0 11 rfl rfl)
theorem dX9_test_12 : decode cX9_test 12 = .ok (.aload_n 0, 1) := dk_42 (dk_at dksX9_test_0 12 rfl rfl)
theorem dX9_test_13 : decode cX9_test 13 = .ok (.bipush 60, 2) := dk_16 60 (dk_at dksX9_test_0 13 rfl rfl)
theorem dX9_test_15 : decode cX9_test 15 = .ok (.invokevirtual 263, 3) := dk_182 1 7 (dk_at dksX9_test_0 15 rfl rfl)
theorem dX9_test_18 : decode cX9_test 18 = .ok (.ifCond .ne 12, 3) := dk_154 0 12 (dk_at dksX9_test_0 18 rfl rfl)
theorem dX9_test_21 : decode cX9_test 21 = .ok (.aload_n 0, 1) := dk_42 (dk_at dksX9_test_0 21 rfl rfl)
theorem dX9_test_22 : decode cX9_test 22 = .ok (.bipush 61, 2) := dk_16 61 (dk_at dksX9_test_0 22 rfl rfl)
theorem dX9_test_24 : decode cX9_test 24 = .ok (.invokevirtual 263, 3) := dk_182 1 7 (dk_at dksX9_test_1 0 rfl rfl)
theorem dX9_test_27 : decode cX9_test 27 = .ok (.ifCond .eq 24, 3) := dk_153 0 24 (dk_at dksX9_test_1 3 rfl rfl)
theorem dX9_test_30 : decode cX9_test 30 = .ok (.aload_n 0, 1) := dk_42 (dk_at dksX9_test_1 6 rfl rfl)
theorem dX9_test_31 : decode cX9_test 31 = .ok (.iload_n 1, 1) := dk_27 (dk_at dksX9_test_1 7 rfl rfl)
theorem dX9_test_32 : decode cX9_test 32 = .ok (.invokevirtual 260, 3) := dk_182 1 4 (dk_at dksX9_test_1 8 rfl rfl)
theorem dX9_test_35 : decode cX9_test 35 = .ok (.aload_n 0, 1) := dk_42 (dk_at dksX9_test_1 11 rfl rfl)
theorem dX9_test_36 : decode cX9_test 36 = .ok (.iload_n 2, 1) := dk_28 (dk_at dksX9_test_1 12 rfl rfl)
theorem dX9_test_37 : decode cX9_test 37 = .ok (.ifCond .eq 8, 3) := dk_153 0 8 (dk_at dksX9_test_1 13 rfl rfl)
theorem dX9_test_40 : decode cX9_test 40 = .ok (.bipush 7, 2) := dk_16 7 (dk_at dksX9_test_1 16 rfl rfl)
theorem dX9_test_42 : decode cX9_test 42 = .ok (.goto 5, 3) := dk_167 0 5 (dk_at dksX9_test_1 18 rfl rfl)
theorem dX9_test_45 : decode cX9_test 45 = .ok (.bipush 8, 2) := dk_16 8 (dk_at dksX9_test_1 21 rfl rfl)
theorem dX9_test_47 : decode cX9_test 47 = .ok (.iconst 0, 1) := dk_3 (dk_at dksX9_test_1 23 rfl rfl)
theorem dX9_test_48 : decode cX9_test 48 = .ok (.invokevirtual 246, 3) := dk_182 0 246 (dk_at dksX9_test_2 0 rfl rfl)
theorem dX9_test_51 : decode cX9_test 51 = .ok (.return_, 1) := dk_177 (dk_at dksX9_test_2 3 rfl rfl)
abbrev cX9_sums : ByteArray := prog_23_method_34_code
def yX9_sums : MethodName := ⟨RX9, "sums", "(I)V"⟩
def dkwX9_sums_2 : List UInt8 := [153, 0, 7, 7, 167, 0, 4, 8, 3, 182, 0, 246, 167, 255, 202, 177]
abbrev dktX9_sums_2 : List UInt8 := dkwX9_sums_2 ++ []
def dkwX9_sums_1 : List UInt8 := [16, 43, 182, 0, 183, 61, 42, 89, 180, 0, 177, 4, 96, 181, 0, 177, 42, 27, 182, 1, 10, 42, 28]
abbrev dktX9_sums_1 : List UInt8 := dkwX9_sums_1 ++ dktX9_sums_2
def dkwX9_sums_0 : List UInt8 := [42, 27, 182, 1, 10, 42, 16, 43, 182, 0, 183, 154, 0, 12, 42, 16, 45, 182, 0, 183, 153, 0, 42, 42]
abbrev dktX9_sums_0 : List UInt8 := dkwX9_sums_0 ++ dktX9_sums_1
theorem dksX9_sums_0 : cX9_sums.data.toList.drop 0 = dktX9_sums_0 := by decide +kernel
theorem dksX9_sums_1 : cX9_sums.data.toList.drop 24 = dktX9_sums_1 := dk_seg dksX9_sums_0 24 rfl rfl
theorem dksX9_sums_2 : cX9_sums.data.toList.drop 47 = dktX9_sums_2 := dk_seg dksX9_sums_1 23 rfl rfl
theorem dX9_sums_0 : decode cX9_sums 0 = .ok (.aload_n 0, 1) := dk_42 (dk_at dksX9_sums_0 0 rfl rfl)
theorem dX9_sums_1 : decode cX9_sums 1 = .ok (.iload_n 1, 1) := dk_27 (dk_at dksX9_sums_0 1 rfl rfl)
theorem dX9_sums_2 : decode cX9_sums 2 = .ok (.invokevirtual 266, 3) := dk_182 1 10 (dk_at dksX9_sums_0 2 rfl rfl)
theorem dX9_sums_5 : decode cX9_sums 5 = .ok (.aload_n 0, 1) := dk_42 (dk_at dksX9_sums_0 5 rfl rfl)
theorem dX9_sums_6 : decode cX9_sums 6 = .ok (.bipush 43, 2) := dk_16 43 (dk_at dksX9_sums_0 6 rfl rfl)
theorem dX9_sums_8 : decode cX9_sums 8 = .ok (.invokevirtual 183, 3) := dk_182 0 183 (dk_at dksX9_sums_0 8 rfl rfl)
theorem dX9_sums_11 : decode cX9_sums 11 = .ok (.ifCond .ne 12, 3) := dk_154 0 12 (dk_at dksX9_sums_0 11 rfl rfl)
theorem dX9_sums_14 : decode cX9_sums 14 = .ok (.aload_n 0, 1) := dk_42 (dk_at dksX9_sums_0 14 rfl rfl)
theorem dX9_sums_15 : decode cX9_sums 15 = .ok (.bipush 45, 2) := dk_16 45 (dk_at dksX9_sums_0 15 rfl rfl)
theorem dX9_sums_17 : decode cX9_sums 17 = .ok (.invokevirtual 183, 3) := dk_182 0 183 (dk_at dksX9_sums_0 17 rfl rfl)
theorem dX9_sums_20 : decode cX9_sums 20 = .ok (.ifCond .eq 42, 3) := dk_153 0 42 (dk_at dksX9_sums_0 20 rfl rfl)
theorem dX9_sums_23 : decode cX9_sums 23 = .ok (.aload_n 0, 1) := dk_42 (dk_at dksX9_sums_0 23 rfl rfl)
theorem dX9_sums_24 : decode cX9_sums 24 = .ok (.bipush 43, 2) := dk_16 43 (dk_at dksX9_sums_1 0 rfl rfl)
theorem dX9_sums_26 : decode cX9_sums 26 = .ok (.invokevirtual 183, 3) := dk_182 0 183 (dk_at dksX9_sums_1 2 rfl rfl)
theorem dX9_sums_29 : decode cX9_sums 29 = .ok (.istore_n 2, 1) := dk_61 (dk_at dksX9_sums_1 5 rfl rfl)
theorem dX9_sums_30 : decode cX9_sums 30 = .ok (.aload_n 0, 1) := dk_42 (dk_at dksX9_sums_1 6 rfl rfl)
theorem dX9_sums_31 : decode cX9_sums 31 = .ok (.dup, 1) := dk_89 (dk_at dksX9_sums_1 7 rfl rfl)
theorem dX9_sums_32 : decode cX9_sums 32 = .ok (.getfield 177, 3) := dk_180 0 177 (dk_at dksX9_sums_1 8 rfl rfl)
theorem dX9_sums_35 : decode cX9_sums 35 = .ok (.iconst 1, 1) := dk_4 (dk_at dksX9_sums_1 11 rfl rfl)
theorem dX9_sums_36 : decode cX9_sums 36 = .ok (.iadd, 1) := dk_96 (dk_at dksX9_sums_1 12 rfl rfl)
theorem dX9_sums_37 : decode cX9_sums 37 = .ok (.putfield 177, 3) := dk_181 0 177 (dk_at dksX9_sums_1 13 rfl rfl)
theorem dX9_sums_40 : decode cX9_sums 40 = .ok (.aload_n 0, 1) := dk_42 (dk_at dksX9_sums_1 16 rfl rfl)
theorem dX9_sums_41 : decode cX9_sums 41 = .ok (.iload_n 1, 1) := dk_27 (dk_at dksX9_sums_1 17 rfl rfl)
theorem dX9_sums_42 : decode cX9_sums 42 = .ok (.invokevirtual 266, 3) := dk_182 1 10 (dk_at dksX9_sums_1 18 rfl rfl)
theorem dX9_sums_45 : decode cX9_sums 45 = .ok (.aload_n 0, 1) := dk_42 (dk_at dksX9_sums_1 21 rfl rfl)
theorem dX9_sums_46 : decode cX9_sums 46 = .ok (.iload_n 2, 1) := dk_28 (dk_at dksX9_sums_1 22 rfl rfl)
theorem dX9_sums_47 : decode cX9_sums 47 = .ok (.ifCond .eq 7, 3) := dk_153 0 7 (dk_at dksX9_sums_2 0 rfl rfl)
theorem dX9_sums_50 : decode cX9_sums 50 = .ok (.iconst 4, 1) := dk_7 (dk_at dksX9_sums_2 3 rfl rfl)
theorem dX9_sums_51 : decode cX9_sums 51 = .ok (.goto 4, 3) := dk_167 0 4 (dk_at dksX9_sums_2 4 rfl rfl)
theorem dX9_sums_54 : decode cX9_sums 54 = .ok (.iconst 5, 1) := dk_8 (dk_at dksX9_sums_2 7 rfl rfl)
theorem dX9_sums_55 : decode cX9_sums 55 = .ok (.iconst 0, 1) := dk_3 (dk_at dksX9_sums_2 8 rfl rfl)
theorem dX9_sums_56 : decode cX9_sums 56 = .ok (.invokevirtual 246, 3) := dk_182 0 246 (dk_at dksX9_sums_2 9 rfl rfl)
theorem dX9_sums_59 : decode cX9_sums 59 = .ok (.goto (-54), 3) := dk_167 255 202 (dk_at dksX9_sums_2 12 rfl rfl)
theorem dX9_sums_62 : decode cX9_sums 62 = .ok (.return_, 1) := dk_177 (dk_at dksX9_sums_2 15 rfl rfl)
abbrev cX9_products : ByteArray := prog_23_method_35_code
def yX9_products : MethodName := ⟨RX9, "products", "(I)V"⟩
def dkwX9_products_1 : List UInt8 := [182, 0, 246, 167, 255, 235, 177]
abbrev dktX9_products_1 : List UInt8 := dkwX9_products_1 ++ []
def dkwX9_products_0 : List UInt8 := [42, 27, 182, 1, 13, 42, 16, 42, 182, 1, 7, 153, 0, 18, 42, 27, 182, 1, 13, 42, 16, 6, 3]
abbrev dktX9_products_0 : List UInt8 := dkwX9_products_0 ++ dktX9_products_1
theorem dksX9_products_0 : cX9_products.data.toList.drop 0 = dktX9_products_0 := by decide +kernel
theorem dksX9_products_1 : cX9_products.data.toList.drop 23 = dktX9_products_1 := dk_seg dksX9_products_0 23 rfl rfl
theorem dX9_products_0 : decode cX9_products 0 = .ok (.aload_n 0, 1) := dk_42 (dk_at dksX9_products_0 0 rfl rfl)
theorem dX9_products_1 : decode cX9_products 1 = .ok (.iload_n 1, 1) := dk_27 (dk_at dksX9_products_0 1 rfl rfl)
theorem dX9_products_2 : decode cX9_products 2 = .ok (.invokevirtual 269, 3) := dk_182 1 13 (dk_at dksX9_products_0 2 rfl rfl)
theorem dX9_products_5 : decode cX9_products 5 = .ok (.aload_n 0, 1) := dk_42 (dk_at dksX9_products_0 5 rfl rfl)
theorem dX9_products_6 : decode cX9_products 6 = .ok (.bipush 42, 2) := dk_16 42 (dk_at dksX9_products_0 6 rfl rfl)
theorem dX9_products_8 : decode cX9_products 8 = .ok (.invokevirtual 263, 3) := dk_182 1 7 (dk_at dksX9_products_0 8 rfl rfl)
theorem dX9_products_11 : decode cX9_products 11 = .ok (.ifCond .eq 18, 3) := dk_153 0 18 (dk_at dksX9_products_0 11 rfl rfl)
theorem dX9_products_14 : decode cX9_products 14 = .ok (.aload_n 0, 1) := dk_42 (dk_at dksX9_products_0 14 rfl rfl)
theorem dX9_products_15 : decode cX9_products 15 = .ok (.iload_n 1, 1) := dk_27 (dk_at dksX9_products_0 15 rfl rfl)
theorem dX9_products_16 : decode cX9_products 16 = .ok (.invokevirtual 269, 3) := dk_182 1 13 (dk_at dksX9_products_0 16 rfl rfl)
theorem dX9_products_19 : decode cX9_products 19 = .ok (.aload_n 0, 1) := dk_42 (dk_at dksX9_products_0 19 rfl rfl)
theorem dX9_products_20 : decode cX9_products 20 = .ok (.bipush 6, 2) := dk_16 6 (dk_at dksX9_products_0 20 rfl rfl)
theorem dX9_products_22 : decode cX9_products 22 = .ok (.iconst 0, 1) := dk_3 (dk_at dksX9_products_0 22 rfl rfl)
theorem dX9_products_23 : decode cX9_products 23 = .ok (.invokevirtual 246, 3) := dk_182 0 246 (dk_at dksX9_products_1 0 rfl rfl)
theorem dX9_products_26 : decode cX9_products 26 = .ok (.goto (-21), 3) := dk_167 255 235 (dk_at dksX9_products_1 3 rfl rfl)
theorem dX9_products_29 : decode cX9_products 29 = .ok (.return_, 1) := dk_177 (dk_at dksX9_products_1 6 rfl rfl)
abbrev cX9_takePart : ByteArray := prog_23_method_36_code
def yX9_takePart : MethodName := ⟨RX9, "takePart", "(I)V"⟩
def dkwX9_takePart_9 : List UInt8 := [181, 0, 177, 177]
abbrev dktX9_takePart_9 : List UInt8 := dkwX9_takePart_9 ++ []
def dkwX9_takePart_8 : List UInt8 := [180, 0, 30, 42, 180, 0, 177, 47, 136, 167, 0, 5, 21, 5, 182, 0, 246, 42, 89, 180, 0, 177, 4, 96]
abbrev dktX9_takePart_8 : List UInt8 := dkwX9_takePart_8 ++ dktX9_takePart_9
def dkwX9_takePart_7 : List UInt8 := [42, 16, 41, 182, 0, 214, 167, 0, 45, 42, 28, 153, 0, 7, 4, 167, 0, 4, 5, 28, 153, 0, 16, 42]
abbrev dktX9_takePart_7 : List UInt8 := dkwX9_takePart_7 ++ dktX9_takePart_8
def dkwX9_takePart_6 : List UInt8 := [6, 3, 182, 0, 246, 167, 0, 70, 42, 16, 40, 182, 1, 7, 153, 0, 19, 42, 27, 4, 96, 182, 0, 243]
abbrev dktX9_takePart_6 : List UInt8 := dkwX9_takePart_6 ++ dktX9_takePart_7
def dkwX9_takePart_5 : List UInt8 := [180, 0, 180, 158, 0, 4, 177, 42, 16, 17, 182, 0, 192, 153, 0, 19, 42, 27, 4, 96, 182, 1, 13, 42]
abbrev dktX9_takePart_5 : List UInt8 := dkwX9_takePart_5 ++ dktX9_takePart_6
def dkwX9_takePart_4 : List UInt8 := [154, 0, 11, 42, 4, 182, 0, 186, 167, 0, 13, 27, 8, 160, 0, 8, 42, 8, 182, 0, 186, 42]
abbrev dktX9_takePart_4 : List UInt8 := dkwX9_takePart_4 ++ dktX9_takePart_5
def dkwX9_takePart_3 : List UInt8 := [156, 0, 33, 28, 154, 0, 29, 42, 16, 40, 182, 0, 183, 154, 0, 20, 42, 16, 17, 182, 0, 189]
abbrev dktX9_takePart_3 : List UInt8 := dkwX9_takePart_3 ++ dktX9_takePart_4
def dkwX9_takePart_2 : List UInt8 := [155, 0, 7, 29, 167, 0, 16, 21, 4, 155, 0, 10, 5, 21, 4, 96, 167, 0, 4, 2, 54, 5, 21, 5]
abbrev dktX9_takePart_2 : List UInt8 := dkwX9_takePart_2 ++ dktX9_takePart_3
def dkwX9_takePart_1 : List UInt8 := [167, 0, 4, 3, 61, 42, 16, 10, 5, 182, 0, 202, 62, 42, 16, 20, 5, 182, 0, 202, 54, 4, 29]
abbrev dktX9_takePart_1 : List UInt8 := dkwX9_takePart_1 ++ dktX9_takePart_2
def dkwX9_takePart_0 : List UInt8 := [42, 180, 0, 180, 158, 0, 4, 177, 42, 180, 0, 24, 42, 180, 0, 177, 46, 5, 160, 0, 7, 4]
abbrev dktX9_takePart_0 : List UInt8 := dkwX9_takePart_0 ++ dktX9_takePart_1
theorem dksX9_takePart_0 : cX9_takePart.data.toList.drop 0 = dktX9_takePart_0 := by decide +kernel
theorem dksX9_takePart_1 : cX9_takePart.data.toList.drop 22 = dktX9_takePart_1 := dk_seg dksX9_takePart_0 22 rfl rfl
theorem dksX9_takePart_2 : cX9_takePart.data.toList.drop 45 = dktX9_takePart_2 := dk_seg dksX9_takePart_1 23 rfl rfl
theorem dksX9_takePart_3 : cX9_takePart.data.toList.drop 69 = dktX9_takePart_3 := dk_seg dksX9_takePart_2 24 rfl rfl
theorem dksX9_takePart_4 : cX9_takePart.data.toList.drop 91 = dktX9_takePart_4 := dk_seg dksX9_takePart_3 22 rfl rfl
theorem dksX9_takePart_5 : cX9_takePart.data.toList.drop 113 = dktX9_takePart_5 := dk_seg dksX9_takePart_4 22 rfl rfl
theorem dksX9_takePart_6 : cX9_takePart.data.toList.drop 137 = dktX9_takePart_6 := dk_seg dksX9_takePart_5 24 rfl rfl
theorem dksX9_takePart_7 : cX9_takePart.data.toList.drop 161 = dktX9_takePart_7 := dk_seg dksX9_takePart_6 24 rfl rfl
theorem dksX9_takePart_8 : cX9_takePart.data.toList.drop 185 = dktX9_takePart_8 := dk_seg dksX9_takePart_7 24 rfl rfl
theorem dksX9_takePart_9 : cX9_takePart.data.toList.drop 209 = dktX9_takePart_9 := dk_seg dksX9_takePart_8 24 rfl rfl
theorem dX9_takePart_0 : decode cX9_takePart 0 = .ok (.aload_n 0, 1) := dk_42 (dk_at dksX9_takePart_0 0 rfl rfl)
theorem dX9_takePart_1 : decode cX9_takePart 1 = .ok (.getfield 180, 3) := dk_180 0 180 (dk_at dksX9_takePart_0 1 rfl rfl)
theorem dX9_takePart_4 : decode cX9_takePart 4 = .ok (.ifCond .le 4, 3) := dk_158 0 4 (dk_at dksX9_takePart_0 4 rfl rfl)
theorem dX9_takePart_7 : decode cX9_takePart 7 = .ok (.return_, 1) := dk_177 (dk_at dksX9_takePart_0 7 rfl rfl)
theorem dX9_takePart_8 : decode cX9_takePart 8 = .ok (.aload_n 0, 1) := dk_42 (dk_at dksX9_takePart_0 8 rfl rfl)
theorem dX9_takePart_9 : decode cX9_takePart 9 = .ok (.getfield 24, 3) := dk_180 0 24 (dk_at dksX9_takePart_0 9 rfl rfl)
theorem dX9_takePart_12 : decode cX9_takePart 12 = .ok (.aload_n 0, 1) := dk_42 (dk_at dksX9_takePart_0 12 rfl rfl)
theorem dX9_takePart_13 : decode cX9_takePart 13 = .ok (.getfield 177, 3) := dk_180 0 177 (dk_at dksX9_takePart_0 13 rfl rfl)
theorem dX9_takePart_16 : decode cX9_takePart 16 = .ok (.iaload, 1) := dk_46 (dk_at dksX9_takePart_0 16 rfl rfl)
theorem dX9_takePart_17 : decode cX9_takePart 17 = .ok (.iconst 2, 1) := dk_5 (dk_at dksX9_takePart_0 17 rfl rfl)
theorem dX9_takePart_18 : decode cX9_takePart 18 = .ok (.if_icmp .ne 7, 3) := dk_160 0 7 (dk_at dksX9_takePart_0 18 rfl rfl)
theorem dX9_takePart_21 : decode cX9_takePart 21 = .ok (.iconst 1, 1) := dk_4 (dk_at dksX9_takePart_0 21 rfl rfl)
theorem dX9_takePart_22 : decode cX9_takePart 22 = .ok (.goto 4, 3) := dk_167 0 4 (dk_at dksX9_takePart_1 0 rfl rfl)
theorem dX9_takePart_25 : decode cX9_takePart 25 = .ok (.iconst 0, 1) := dk_3 (dk_at dksX9_takePart_1 3 rfl rfl)
theorem dX9_takePart_26 : decode cX9_takePart 26 = .ok (.istore_n 2, 1) := dk_61 (dk_at dksX9_takePart_1 4 rfl rfl)
theorem dX9_takePart_27 : decode cX9_takePart 27 = .ok (.aload_n 0, 1) := dk_42 (dk_at dksX9_takePart_1 5 rfl rfl)
theorem dX9_takePart_28 : decode cX9_takePart 28 = .ok (.bipush 10, 2) := dk_16 10 (dk_at dksX9_takePart_1 6 rfl rfl)
theorem dX9_takePart_30 : decode cX9_takePart 30 = .ok (.iconst 2, 1) := dk_5 (dk_at dksX9_takePart_1 8 rfl rfl)
theorem dX9_takePart_31 : decode cX9_takePart 31 = .ok (.invokevirtual 202, 3) := dk_182 0 202 (dk_at dksX9_takePart_1 9 rfl rfl)
theorem dX9_takePart_34 : decode cX9_takePart 34 = .ok (.istore_n 3, 1) := dk_62 (dk_at dksX9_takePart_1 12 rfl rfl)
theorem dX9_takePart_35 : decode cX9_takePart 35 = .ok (.aload_n 0, 1) := dk_42 (dk_at dksX9_takePart_1 13 rfl rfl)
theorem dX9_takePart_36 : decode cX9_takePart 36 = .ok (.bipush 20, 2) := dk_16 20 (dk_at dksX9_takePart_1 14 rfl rfl)
theorem dX9_takePart_38 : decode cX9_takePart 38 = .ok (.iconst 2, 1) := dk_5 (dk_at dksX9_takePart_1 16 rfl rfl)
theorem dX9_takePart_39 : decode cX9_takePart 39 = .ok (.invokevirtual 202, 3) := dk_182 0 202 (dk_at dksX9_takePart_1 17 rfl rfl)
theorem dX9_takePart_42 : decode cX9_takePart 42 = .ok (.istore 4, 2) := dk_54 4 (dk_at dksX9_takePart_1 20 rfl rfl)
theorem dX9_takePart_44 : decode cX9_takePart 44 = .ok (.iload_n 3, 1) := dk_29 (dk_at dksX9_takePart_1 22 rfl rfl)
theorem dX9_takePart_45 : decode cX9_takePart 45 = .ok (.ifCond .lt 7, 3) := dk_155 0 7 (dk_at dksX9_takePart_2 0 rfl rfl)
theorem dX9_takePart_48 : decode cX9_takePart 48 = .ok (.iload_n 3, 1) := dk_29 (dk_at dksX9_takePart_2 3 rfl rfl)
theorem dX9_takePart_49 : decode cX9_takePart 49 = .ok (.goto 16, 3) := dk_167 0 16 (dk_at dksX9_takePart_2 4 rfl rfl)
theorem dX9_takePart_52 : decode cX9_takePart 52 = .ok (.iload 4, 2) := dk_21 4 (dk_at dksX9_takePart_2 7 rfl rfl)
theorem dX9_takePart_54 : decode cX9_takePart 54 = .ok (.ifCond .lt 10, 3) := dk_155 0 10 (dk_at dksX9_takePart_2 9 rfl rfl)
theorem dX9_takePart_57 : decode cX9_takePart 57 = .ok (.iconst 2, 1) := dk_5 (dk_at dksX9_takePart_2 12 rfl rfl)
theorem dX9_takePart_58 : decode cX9_takePart 58 = .ok (.iload 4, 2) := dk_21 4 (dk_at dksX9_takePart_2 13 rfl rfl)
theorem dX9_takePart_60 : decode cX9_takePart 60 = .ok (.iadd, 1) := dk_96 (dk_at dksX9_takePart_2 15 rfl rfl)
theorem dX9_takePart_61 : decode cX9_takePart 61 = .ok (.goto 4, 3) := dk_167 0 4 (dk_at dksX9_takePart_2 16 rfl rfl)
theorem dX9_takePart_64 : decode cX9_takePart 64 = .ok (.iconst (-1), 1) := dk_2 (dk_at dksX9_takePart_2 19 rfl rfl)
theorem dX9_takePart_65 : decode cX9_takePart 65 = .ok (.istore 5, 2) := dk_54 5 (dk_at dksX9_takePart_2 20 rfl rfl)
theorem dX9_takePart_67 : decode cX9_takePart 67 = .ok (.iload 5, 2) := dk_21 5 (dk_at dksX9_takePart_2 22 rfl rfl)
theorem dX9_takePart_69 : decode cX9_takePart 69 = .ok (.ifCond .ge 33, 3) := dk_156 0 33 (dk_at dksX9_takePart_3 0 rfl rfl)
theorem dX9_takePart_72 : decode cX9_takePart 72 = .ok (.iload_n 2, 1) := dk_28 (dk_at dksX9_takePart_3 3 rfl rfl)
theorem dX9_takePart_73 : decode cX9_takePart 73 = .ok (.ifCond .ne 29, 3) := dk_154 0 29 (dk_at dksX9_takePart_3 4 rfl rfl)
theorem dX9_takePart_76 : decode cX9_takePart 76 = .ok (.aload_n 0, 1) := dk_42 (dk_at dksX9_takePart_3 7 rfl rfl)
theorem dX9_takePart_77 : decode cX9_takePart 77 = .ok (.bipush 40, 2) := dk_16 40 (dk_at dksX9_takePart_3 8 rfl rfl)
theorem dX9_takePart_79 : decode cX9_takePart 79 = .ok (.invokevirtual 183, 3) := dk_182 0 183 (dk_at dksX9_takePart_3 10 rfl rfl)
theorem dX9_takePart_82 : decode cX9_takePart 82 = .ok (.ifCond .ne 20, 3) := dk_154 0 20 (dk_at dksX9_takePart_3 13 rfl rfl)
theorem dX9_takePart_85 : decode cX9_takePart 85 = .ok (.aload_n 0, 1) := dk_42 (dk_at dksX9_takePart_3 16 rfl rfl)
theorem dX9_takePart_86 : decode cX9_takePart 86 = .ok (.bipush 17, 2) := dk_16 17 (dk_at dksX9_takePart_3 17 rfl rfl)
theorem dX9_takePart_88 : decode cX9_takePart 88 = .ok (.invokevirtual 189, 3) := dk_182 0 189 (dk_at dksX9_takePart_3 19 rfl rfl)
theorem dX9_takePart_91 : decode cX9_takePart 91 = .ok (.ifCond .ne 11, 3) := dk_154 0 11 (dk_at dksX9_takePart_4 0 rfl rfl)
theorem dX9_takePart_94 : decode cX9_takePart 94 = .ok (.aload_n 0, 1) := dk_42 (dk_at dksX9_takePart_4 3 rfl rfl)
theorem dX9_takePart_95 : decode cX9_takePart 95 = .ok (.iconst 1, 1) := dk_4 (dk_at dksX9_takePart_4 4 rfl rfl)
theorem dX9_takePart_96 : decode cX9_takePart 96 = .ok (.invokevirtual 186, 3) := dk_182 0 186 (dk_at dksX9_takePart_4 5 rfl rfl)
theorem dX9_takePart_99 : decode cX9_takePart 99 = .ok (.goto 13, 3) := dk_167 0 13 (dk_at dksX9_takePart_4 8 rfl rfl)
theorem dX9_takePart_102 : decode cX9_takePart 102 = .ok (.iload_n 1, 1) := dk_27 (dk_at dksX9_takePart_4 11 rfl rfl)
theorem dX9_takePart_103 : decode cX9_takePart 103 = .ok (.iconst 5, 1) := dk_8 (dk_at dksX9_takePart_4 12 rfl rfl)
theorem dX9_takePart_104 : decode cX9_takePart 104 = .ok (.if_icmp .ne 8, 3) := dk_160 0 8 (dk_at dksX9_takePart_4 13 rfl rfl)
theorem dX9_takePart_107 : decode cX9_takePart 107 = .ok (.aload_n 0, 1) := dk_42 (dk_at dksX9_takePart_4 16 rfl rfl)
theorem dX9_takePart_108 : decode cX9_takePart 108 = .ok (.iconst 5, 1) := dk_8 (dk_at dksX9_takePart_4 17 rfl rfl)
theorem dX9_takePart_109 : decode cX9_takePart 109 = .ok (.invokevirtual 186, 3) := dk_182 0 186 (dk_at dksX9_takePart_4 18 rfl rfl)
theorem dX9_takePart_112 : decode cX9_takePart 112 = .ok (.aload_n 0, 1) := dk_42 (dk_at dksX9_takePart_4 21 rfl rfl)
theorem dX9_takePart_113 : decode cX9_takePart 113 = .ok (.getfield 180, 3) := dk_180 0 180 (dk_at dksX9_takePart_5 0 rfl rfl)
theorem dX9_takePart_116 : decode cX9_takePart 116 = .ok (.ifCond .le 4, 3) := dk_158 0 4 (dk_at dksX9_takePart_5 3 rfl rfl)
theorem dX9_takePart_119 : decode cX9_takePart 119 = .ok (.return_, 1) := dk_177 (dk_at dksX9_takePart_5 6 rfl rfl)
theorem dX9_takePart_120 : decode cX9_takePart 120 = .ok (.aload_n 0, 1) := dk_42 (dk_at dksX9_takePart_5 7 rfl rfl)
theorem dX9_takePart_121 : decode cX9_takePart 121 = .ok (.bipush 17, 2) := dk_16 17 (dk_at dksX9_takePart_5 8 rfl rfl)
theorem dX9_takePart_123 : decode cX9_takePart 123 = .ok (.invokevirtual 192, 3) := dk_182 0 192 (dk_at dksX9_takePart_5 10 rfl rfl)
theorem dX9_takePart_126 : decode cX9_takePart 126 = .ok (.ifCond .eq 19, 3) := dk_153 0 19 (dk_at dksX9_takePart_5 13 rfl rfl)
theorem dX9_takePart_129 : decode cX9_takePart 129 = .ok (.aload_n 0, 1) := dk_42 (dk_at dksX9_takePart_5 16 rfl rfl)
theorem dX9_takePart_130 : decode cX9_takePart 130 = .ok (.iload_n 1, 1) := dk_27 (dk_at dksX9_takePart_5 17 rfl rfl)
theorem dX9_takePart_131 : decode cX9_takePart 131 = .ok (.iconst 1, 1) := dk_4 (dk_at dksX9_takePart_5 18 rfl rfl)
theorem dX9_takePart_132 : decode cX9_takePart 132 = .ok (.iadd, 1) := dk_96 (dk_at dksX9_takePart_5 19 rfl rfl)
theorem dX9_takePart_133 : decode cX9_takePart 133 = .ok (.invokevirtual 269, 3) := dk_182 1 13 (dk_at dksX9_takePart_5 20 rfl rfl)
theorem dX9_takePart_136 : decode cX9_takePart 136 = .ok (.aload_n 0, 1) := dk_42 (dk_at dksX9_takePart_5 23 rfl rfl)
theorem dX9_takePart_137 : decode cX9_takePart 137 = .ok (.iconst 3, 1) := dk_6 (dk_at dksX9_takePart_6 0 rfl rfl)
theorem dX9_takePart_138 : decode cX9_takePart 138 = .ok (.iconst 0, 1) := dk_3 (dk_at dksX9_takePart_6 1 rfl rfl)
theorem dX9_takePart_139 : decode cX9_takePart 139 = .ok (.invokevirtual 246, 3) := dk_182 0 246 (dk_at dksX9_takePart_6 2 rfl rfl)
theorem dX9_takePart_142 : decode cX9_takePart 142 = .ok (.goto 70, 3) := dk_167 0 70 (dk_at dksX9_takePart_6 5 rfl rfl)
theorem dX9_takePart_145 : decode cX9_takePart 145 = .ok (.aload_n 0, 1) := dk_42 (dk_at dksX9_takePart_6 8 rfl rfl)
theorem dX9_takePart_146 : decode cX9_takePart 146 = .ok (.bipush 40, 2) := dk_16 40 (dk_at dksX9_takePart_6 9 rfl rfl)
theorem dX9_takePart_148 : decode cX9_takePart 148 = .ok (.invokevirtual 263, 3) := dk_182 1 7 (dk_at dksX9_takePart_6 11 rfl rfl)
theorem dX9_takePart_151 : decode cX9_takePart 151 = .ok (.ifCond .eq 19, 3) := dk_153 0 19 (dk_at dksX9_takePart_6 14 rfl rfl)
theorem dX9_takePart_154 : decode cX9_takePart 154 = .ok (.aload_n 0, 1) := dk_42 (dk_at dksX9_takePart_6 17 rfl rfl)
theorem dX9_takePart_155 : decode cX9_takePart 155 = .ok (.iload_n 1, 1) := dk_27 (dk_at dksX9_takePart_6 18 rfl rfl)
theorem dX9_takePart_156 : decode cX9_takePart 156 = .ok (.iconst 1, 1) := dk_4 (dk_at dksX9_takePart_6 19 rfl rfl)
theorem dX9_takePart_157 : decode cX9_takePart 157 = .ok (.iadd, 1) := dk_96 (dk_at dksX9_takePart_6 20 rfl rfl)
theorem dX9_takePart_158 : decode cX9_takePart 158 = .ok (.invokevirtual 243, 3) := dk_182 0 243 (dk_at dksX9_takePart_6 21 rfl rfl)
theorem dX9_takePart_161 : decode cX9_takePart 161 = .ok (.aload_n 0, 1) := dk_42 (dk_at dksX9_takePart_7 0 rfl rfl)
theorem dX9_takePart_162 : decode cX9_takePart 162 = .ok (.bipush 41, 2) := dk_16 41 (dk_at dksX9_takePart_7 1 rfl rfl)
theorem dX9_takePart_164 : decode cX9_takePart 164 = .ok (.invokevirtual 214, 3) := dk_182 0 214 (dk_at dksX9_takePart_7 3 rfl rfl)
theorem dX9_takePart_167 : decode cX9_takePart 167 = .ok (.goto 45, 3) := dk_167 0 45 (dk_at dksX9_takePart_7 6 rfl rfl)
theorem dX9_takePart_170 : decode cX9_takePart 170 = .ok (.aload_n 0, 1) := dk_42 (dk_at dksX9_takePart_7 9 rfl rfl)
theorem dX9_takePart_171 : decode cX9_takePart 171 = .ok (.iload_n 2, 1) := dk_28 (dk_at dksX9_takePart_7 10 rfl rfl)
theorem dX9_takePart_172 : decode cX9_takePart 172 = .ok (.ifCond .eq 7, 3) := dk_153 0 7 (dk_at dksX9_takePart_7 11 rfl rfl)
theorem dX9_takePart_175 : decode cX9_takePart 175 = .ok (.iconst 1, 1) := dk_4 (dk_at dksX9_takePart_7 14 rfl rfl)
theorem dX9_takePart_176 : decode cX9_takePart 176 = .ok (.goto 4, 3) := dk_167 0 4 (dk_at dksX9_takePart_7 15 rfl rfl)
theorem dX9_takePart_179 : decode cX9_takePart 179 = .ok (.iconst 2, 1) := dk_5 (dk_at dksX9_takePart_7 18 rfl rfl)
theorem dX9_takePart_180 : decode cX9_takePart 180 = .ok (.iload_n 2, 1) := dk_28 (dk_at dksX9_takePart_7 19 rfl rfl)
theorem dX9_takePart_181 : decode cX9_takePart 181 = .ok (.ifCond .eq 16, 3) := dk_153 0 16 (dk_at dksX9_takePart_7 20 rfl rfl)
theorem dX9_takePart_184 : decode cX9_takePart 184 = .ok (.aload_n 0, 1) := dk_42 (dk_at dksX9_takePart_7 23 rfl rfl)
theorem dX9_takePart_185 : decode cX9_takePart 185 = .ok (.getfield 30, 3) := dk_180 0 30 (dk_at dksX9_takePart_8 0 rfl rfl)
theorem dX9_takePart_188 : decode cX9_takePart 188 = .ok (.aload_n 0, 1) := dk_42 (dk_at dksX9_takePart_8 3 rfl rfl)
theorem dX9_takePart_189 : decode cX9_takePart 189 = .ok (.getfield 177, 3) := dk_180 0 177 (dk_at dksX9_takePart_8 4 rfl rfl)
theorem dX9_takePart_192 : decode cX9_takePart 192 = .ok (.laload, 1) := dk_47 (dk_at dksX9_takePart_8 7 rfl rfl)
theorem dX9_takePart_193 : decode cX9_takePart 193 = .ok (.l2i, 1) := dk_136 (dk_at dksX9_takePart_8 8 rfl rfl)
theorem dX9_takePart_194 : decode cX9_takePart 194 = .ok (.goto 5, 3) := dk_167 0 5 (dk_at dksX9_takePart_8 9 rfl rfl)
theorem dX9_takePart_197 : decode cX9_takePart 197 = .ok (.iload 5, 2) := dk_21 5 (dk_at dksX9_takePart_8 12 rfl rfl)
theorem dX9_takePart_199 : decode cX9_takePart 199 = .ok (.invokevirtual 246, 3) := dk_182 0 246 (dk_at dksX9_takePart_8 14 rfl rfl)
theorem dX9_takePart_202 : decode cX9_takePart 202 = .ok (.aload_n 0, 1) := dk_42 (dk_at dksX9_takePart_8 17 rfl rfl)
theorem dX9_takePart_203 : decode cX9_takePart 203 = .ok (.dup, 1) := dk_89 (dk_at dksX9_takePart_8 18 rfl rfl)
theorem dX9_takePart_204 : decode cX9_takePart 204 = .ok (.getfield 177, 3) := dk_180 0 177 (dk_at dksX9_takePart_8 19 rfl rfl)
theorem dX9_takePart_207 : decode cX9_takePart 207 = .ok (.iconst 1, 1) := dk_4 (dk_at dksX9_takePart_8 22 rfl rfl)
theorem dX9_takePart_208 : decode cX9_takePart 208 = .ok (.iadd, 1) := dk_96 (dk_at dksX9_takePart_8 23 rfl rfl)
theorem dX9_takePart_209 : decode cX9_takePart 209 = .ok (.putfield 177, 3) := dk_181 0 177 (dk_at dksX9_takePart_9 0 rfl rfl)
theorem dX9_takePart_212 : decode cX9_takePart 212 = .ok (.return_, 1) := dk_177 (dk_at dksX9_takePart_9 3 rfl rfl)
abbrev cX9_emit : ByteArray := prog_23_method_31_code
def yX9_emit : MethodName := ⟨RX9, "emit", "(II)V"⟩
def dkwX9_emit_1 : List UInt8 := [180, 0, 208, 96, 28, 79, 42, 89, 180, 0, 208, 4, 96, 181, 0, 208, 177]
abbrev dktX9_emit_1 : List UInt8 := dkwX9_emit_1 ++ []
def dkwX9_emit_0 : List UInt8 := [42, 180, 0, 84, 17, 4, 76, 42, 180, 0, 208, 96, 27, 79, 42, 180, 0, 87, 17, 4, 76, 42]
abbrev dktX9_emit_0 : List UInt8 := dkwX9_emit_0 ++ dktX9_emit_1
theorem dksX9_emit_0 : cX9_emit.data.toList.drop 0 = dktX9_emit_0 := by decide +kernel
theorem dksX9_emit_1 : cX9_emit.data.toList.drop 22 = dktX9_emit_1 := dk_seg dksX9_emit_0 22 rfl rfl
theorem dX9_emit_0 : decode cX9_emit 0 = .ok (.aload_n 0, 1) := dk_42 (dk_at dksX9_emit_0 0 rfl rfl)
theorem dX9_emit_1 : decode cX9_emit 1 = .ok (.getfield 84, 3) := dk_180 0 84 (dk_at dksX9_emit_0 1 rfl rfl)
theorem dX9_emit_4 : decode cX9_emit 4 = .ok (.sipush 1100, 3) := dk_17 4 76 (dk_at dksX9_emit_0 4 rfl rfl)
theorem dX9_emit_7 : decode cX9_emit 7 = .ok (.aload_n 0, 1) := dk_42 (dk_at dksX9_emit_0 7 rfl rfl)
theorem dX9_emit_8 : decode cX9_emit 8 = .ok (.getfield 208, 3) := dk_180 0 208 (dk_at dksX9_emit_0 8 rfl rfl)
theorem dX9_emit_11 : decode cX9_emit 11 = .ok (.iadd, 1) := dk_96 (dk_at dksX9_emit_0 11 rfl rfl)
theorem dX9_emit_12 : decode cX9_emit 12 = .ok (.iload_n 1, 1) := dk_27 (dk_at dksX9_emit_0 12 rfl rfl)
theorem dX9_emit_13 : decode cX9_emit 13 = .ok (.iastore, 1) := dk_79 (dk_at dksX9_emit_0 13 rfl rfl)
theorem dX9_emit_14 : decode cX9_emit 14 = .ok (.aload_n 0, 1) := dk_42 (dk_at dksX9_emit_0 14 rfl rfl)
theorem dX9_emit_15 : decode cX9_emit 15 = .ok (.getfield 87, 3) := dk_180 0 87 (dk_at dksX9_emit_0 15 rfl rfl)
theorem dX9_emit_18 : decode cX9_emit 18 = .ok (.sipush 1100, 3) := dk_17 4 76 (dk_at dksX9_emit_0 18 rfl rfl)
theorem dX9_emit_21 : decode cX9_emit 21 = .ok (.aload_n 0, 1) := dk_42 (dk_at dksX9_emit_0 21 rfl rfl)
theorem dX9_emit_22 : decode cX9_emit 22 = .ok (.getfield 208, 3) := dk_180 0 208 (dk_at dksX9_emit_1 0 rfl rfl)
theorem dX9_emit_25 : decode cX9_emit 25 = .ok (.iadd, 1) := dk_96 (dk_at dksX9_emit_1 3 rfl rfl)
theorem dX9_emit_26 : decode cX9_emit 26 = .ok (.iload_n 2, 1) := dk_28 (dk_at dksX9_emit_1 4 rfl rfl)
theorem dX9_emit_27 : decode cX9_emit 27 = .ok (.iastore, 1) := dk_79 (dk_at dksX9_emit_1 5 rfl rfl)
theorem dX9_emit_28 : decode cX9_emit 28 = .ok (.aload_n 0, 1) := dk_42 (dk_at dksX9_emit_1 6 rfl rfl)
theorem dX9_emit_29 : decode cX9_emit 29 = .ok (.dup, 1) := dk_89 (dk_at dksX9_emit_1 7 rfl rfl)
theorem dX9_emit_30 : decode cX9_emit 30 = .ok (.getfield 208, 3) := dk_180 0 208 (dk_at dksX9_emit_1 8 rfl rfl)
theorem dX9_emit_33 : decode cX9_emit 33 = .ok (.iconst 1, 1) := dk_4 (dk_at dksX9_emit_1 11 rfl rfl)
theorem dX9_emit_34 : decode cX9_emit 34 = .ok (.iadd, 1) := dk_96 (dk_at dksX9_emit_1 12 rfl rfl)
theorem dX9_emit_35 : decode cX9_emit 35 = .ok (.putfield 208, 3) := dk_181 0 208 (dk_at dksX9_emit_1 13 rfl rfl)
theorem dX9_emit_38 : decode cX9_emit 38 = .ok (.return_, 1) := dk_177 (dk_at dksX9_emit_1 16 rfl rfl)
abbrev cX9_hasSign : ByteArray := prog_23_method_14_code
def yX9_hasSign : MethodName := ⟨RX9, "hasSign", "(I)Z"⟩
def dkwX9_hasSign_1 : List UInt8 := [28, 172]
abbrev dktX9_hasSign_1 : List UInt8 := dkwX9_hasSign_1 ++ []
def dkwX9_hasSign_0 : List UInt8 := [42, 27, 182, 0, 183, 61, 42, 89, 180, 0, 177, 28, 153, 0, 7, 4, 167, 0, 4, 3, 96, 181, 0, 177]
abbrev dktX9_hasSign_0 : List UInt8 := dkwX9_hasSign_0 ++ dktX9_hasSign_1
theorem dksX9_hasSign_0 : cX9_hasSign.data.toList.drop 0 = dktX9_hasSign_0 := by decide +kernel
theorem dksX9_hasSign_1 : cX9_hasSign.data.toList.drop 24 = dktX9_hasSign_1 := dk_seg dksX9_hasSign_0 24 rfl rfl
theorem dX9_hasSign_0 : decode cX9_hasSign 0 = .ok (.aload_n 0, 1) := dk_42 (dk_at dksX9_hasSign_0 0 rfl rfl)
theorem dX9_hasSign_1 : decode cX9_hasSign 1 = .ok (.iload_n 1, 1) := dk_27 (dk_at dksX9_hasSign_0 1 rfl rfl)
theorem dX9_hasSign_2 : decode cX9_hasSign 2 = .ok (.invokevirtual 183, 3) := dk_182 0 183 (dk_at dksX9_hasSign_0 2 rfl rfl)
theorem dX9_hasSign_5 : decode cX9_hasSign 5 = .ok (.istore_n 2, 1) := dk_61 (dk_at dksX9_hasSign_0 5 rfl rfl)
theorem dX9_hasSign_6 : decode cX9_hasSign 6 = .ok (.aload_n 0, 1) := dk_42 (dk_at dksX9_hasSign_0 6 rfl rfl)
theorem dX9_hasSign_7 : decode cX9_hasSign 7 = .ok (.dup, 1) := dk_89 (dk_at dksX9_hasSign_0 7 rfl rfl)
theorem dX9_hasSign_8 : decode cX9_hasSign 8 = .ok (.getfield 177, 3) := dk_180 0 177 (dk_at dksX9_hasSign_0 8 rfl rfl)
theorem dX9_hasSign_11 : decode cX9_hasSign 11 = .ok (.iload_n 2, 1) := dk_28 (dk_at dksX9_hasSign_0 11 rfl rfl)
theorem dX9_hasSign_12 : decode cX9_hasSign 12 = .ok (.ifCond .eq 7, 3) := dk_153 0 7 (dk_at dksX9_hasSign_0 12 rfl rfl)
theorem dX9_hasSign_15 : decode cX9_hasSign 15 = .ok (.iconst 1, 1) := dk_4 (dk_at dksX9_hasSign_0 15 rfl rfl)
theorem dX9_hasSign_16 : decode cX9_hasSign 16 = .ok (.goto 4, 3) := dk_167 0 4 (dk_at dksX9_hasSign_0 16 rfl rfl)
theorem dX9_hasSign_19 : decode cX9_hasSign 19 = .ok (.iconst 0, 1) := dk_3 (dk_at dksX9_hasSign_0 19 rfl rfl)
theorem dX9_hasSign_20 : decode cX9_hasSign 20 = .ok (.iadd, 1) := dk_96 (dk_at dksX9_hasSign_0 20 rfl rfl)
theorem dX9_hasSign_21 : decode cX9_hasSign 21 = .ok (.putfield 177, 3) := dk_181 0 177 (dk_at dksX9_hasSign_0 21 rfl rfl)
theorem dX9_hasSign_24 : decode cX9_hasSign 24 = .ok (.iload_n 2, 1) := dk_28 (dk_at dksX9_hasSign_1 0 rfl rfl)
theorem dX9_hasSign_25 : decode cX9_hasSign 25 = .ok (.ireturn, 1) := dk_172 (dk_at dksX9_hasSign_1 1 rfl rfl)
abbrev cX9_readOnce : ByteArray := prog_23_method_25_code
def yX9_readOnce : MethodName := ⟨RX9, "readOnce", "()V"⟩
def dkwX9_readOnce_4 : List UInt8 := [182, 0, 198, 167, 0, 10, 42, 4, 16, 30, 182, 0, 198, 79, 177]
abbrev dktX9_readOnce_4 : List UInt8 := dkwX9_readOnce_4 ++ []
def dkwX9_readOnce_3 : List UInt8 := [17, 1, 86, 27, 96, 27, 7, 160, 0, 7, 4, 167, 0, 25, 27, 6, 160, 0, 13, 42, 3, 16, 9]
abbrev dktX9_readOnce_3 : List UInt8 := dkwX9_readOnce_3 ++ dktX9_readOnce_4
def dkwX9_readOnce_2 : List UInt8 := [180, 0, 211, 4, 27, 120, 128, 181, 0, 211, 42, 89, 180, 0, 177, 4, 96, 181, 0, 177, 42, 180, 0, 81]
abbrev dktX9_readOnce_2 : List UInt8 := dkwX9_readOnce_2 ++ dktX9_readOnce_3
def dkwX9_readOnce_1 : List UInt8 := [122, 4, 126, 4, 160, 0, 8, 42, 6, 182, 0, 186, 42, 180, 0, 180, 158, 0, 4, 177, 42, 89]
abbrev dktX9_readOnce_1 : List UInt8 := dkwX9_readOnce_1 ++ dktX9_readOnce_2
def dkwX9_readOnce_0 : List UInt8 := [42, 7, 8, 182, 0, 202, 60, 27, 156, 0, 11, 42, 4, 182, 0, 186, 167, 0, 20, 42, 180, 0, 211, 27]
abbrev dktX9_readOnce_0 : List UInt8 := dkwX9_readOnce_0 ++ dktX9_readOnce_1
theorem dksX9_readOnce_0 : cX9_readOnce.data.toList.drop 0 = dktX9_readOnce_0 := by decide +kernel
theorem dksX9_readOnce_1 : cX9_readOnce.data.toList.drop 24 = dktX9_readOnce_1 := dk_seg dksX9_readOnce_0 24 rfl rfl
theorem dksX9_readOnce_2 : cX9_readOnce.data.toList.drop 46 = dktX9_readOnce_2 := dk_seg dksX9_readOnce_1 22 rfl rfl
theorem dksX9_readOnce_3 : cX9_readOnce.data.toList.drop 70 = dktX9_readOnce_3 := dk_seg dksX9_readOnce_2 24 rfl rfl
theorem dksX9_readOnce_4 : cX9_readOnce.data.toList.drop 93 = dktX9_readOnce_4 := dk_seg dksX9_readOnce_3 23 rfl rfl
theorem dX9_readOnce_0 : decode cX9_readOnce 0 = .ok (.aload_n 0, 1) := dk_42 (dk_at dksX9_readOnce_0 0 rfl rfl)
theorem dX9_readOnce_1 : decode cX9_readOnce 1 = .ok (.iconst 4, 1) := dk_7 (dk_at dksX9_readOnce_0 1 rfl rfl)
theorem dX9_readOnce_2 : decode cX9_readOnce 2 = .ok (.iconst 5, 1) := dk_8 (dk_at dksX9_readOnce_0 2 rfl rfl)
theorem dX9_readOnce_3 : decode cX9_readOnce 3 = .ok (.invokevirtual 202, 3) := dk_182 0 202 (dk_at dksX9_readOnce_0 3 rfl rfl)
theorem dX9_readOnce_6 : decode cX9_readOnce 6 = .ok (.istore_n 1, 1) := dk_60 (dk_at dksX9_readOnce_0 6 rfl rfl)
theorem dX9_readOnce_7 : decode cX9_readOnce 7 = .ok (.iload_n 1, 1) := dk_27 (dk_at dksX9_readOnce_0 7 rfl rfl)
theorem dX9_readOnce_8 : decode cX9_readOnce 8 = .ok (.ifCond .ge 11, 3) := dk_156 0 11 (dk_at dksX9_readOnce_0 8 rfl rfl)
theorem dX9_readOnce_11 : decode cX9_readOnce 11 = .ok (.aload_n 0, 1) := dk_42 (dk_at dksX9_readOnce_0 11 rfl rfl)
theorem dX9_readOnce_12 : decode cX9_readOnce 12 = .ok (.iconst 1, 1) := dk_4 (dk_at dksX9_readOnce_0 12 rfl rfl)
theorem dX9_readOnce_13 : decode cX9_readOnce 13 = .ok (.invokevirtual 186, 3) := dk_182 0 186 (dk_at dksX9_readOnce_0 13 rfl rfl)
theorem dX9_readOnce_16 : decode cX9_readOnce 16 = .ok (.goto 20, 3) := dk_167 0 20 (dk_at dksX9_readOnce_0 16 rfl rfl)
theorem dX9_readOnce_19 : decode cX9_readOnce 19 = .ok (.aload_n 0, 1) := dk_42 (dk_at dksX9_readOnce_0 19 rfl rfl)
theorem dX9_readOnce_20 : decode cX9_readOnce 20 = .ok (.getfield 211, 3) := dk_180 0 211 (dk_at dksX9_readOnce_0 20 rfl rfl)
theorem dX9_readOnce_23 : decode cX9_readOnce 23 = .ok (.iload_n 1, 1) := dk_27 (dk_at dksX9_readOnce_0 23 rfl rfl)
theorem dX9_readOnce_24 : decode cX9_readOnce 24 = .ok (.ishr, 1) := dk_122 (dk_at dksX9_readOnce_1 0 rfl rfl)
theorem dX9_readOnce_25 : decode cX9_readOnce 25 = .ok (.iconst 1, 1) := dk_4 (dk_at dksX9_readOnce_1 1 rfl rfl)
theorem dX9_readOnce_26 : decode cX9_readOnce 26 = .ok (.iand, 1) := dk_126 (dk_at dksX9_readOnce_1 2 rfl rfl)
theorem dX9_readOnce_27 : decode cX9_readOnce 27 = .ok (.iconst 1, 1) := dk_4 (dk_at dksX9_readOnce_1 3 rfl rfl)
theorem dX9_readOnce_28 : decode cX9_readOnce 28 = .ok (.if_icmp .ne 8, 3) := dk_160 0 8 (dk_at dksX9_readOnce_1 4 rfl rfl)
theorem dX9_readOnce_31 : decode cX9_readOnce 31 = .ok (.aload_n 0, 1) := dk_42 (dk_at dksX9_readOnce_1 7 rfl rfl)
theorem dX9_readOnce_32 : decode cX9_readOnce 32 = .ok (.iconst 3, 1) := dk_6 (dk_at dksX9_readOnce_1 8 rfl rfl)
theorem dX9_readOnce_33 : decode cX9_readOnce 33 = .ok (.invokevirtual 186, 3) := dk_182 0 186 (dk_at dksX9_readOnce_1 9 rfl rfl)
theorem dX9_readOnce_36 : decode cX9_readOnce 36 = .ok (.aload_n 0, 1) := dk_42 (dk_at dksX9_readOnce_1 12 rfl rfl)
theorem dX9_readOnce_37 : decode cX9_readOnce 37 = .ok (.getfield 180, 3) := dk_180 0 180 (dk_at dksX9_readOnce_1 13 rfl rfl)
theorem dX9_readOnce_40 : decode cX9_readOnce 40 = .ok (.ifCond .le 4, 3) := dk_158 0 4 (dk_at dksX9_readOnce_1 16 rfl rfl)
theorem dX9_readOnce_43 : decode cX9_readOnce 43 = .ok (.return_, 1) := dk_177 (dk_at dksX9_readOnce_1 19 rfl rfl)
theorem dX9_readOnce_44 : decode cX9_readOnce 44 = .ok (.aload_n 0, 1) := dk_42 (dk_at dksX9_readOnce_1 20 rfl rfl)
theorem dX9_readOnce_45 : decode cX9_readOnce 45 = .ok (.dup, 1) := dk_89 (dk_at dksX9_readOnce_1 21 rfl rfl)
theorem dX9_readOnce_46 : decode cX9_readOnce 46 = .ok (.getfield 211, 3) := dk_180 0 211 (dk_at dksX9_readOnce_2 0 rfl rfl)
theorem dX9_readOnce_49 : decode cX9_readOnce 49 = .ok (.iconst 1, 1) := dk_4 (dk_at dksX9_readOnce_2 3 rfl rfl)
theorem dX9_readOnce_50 : decode cX9_readOnce 50 = .ok (.iload_n 1, 1) := dk_27 (dk_at dksX9_readOnce_2 4 rfl rfl)
theorem dX9_readOnce_51 : decode cX9_readOnce 51 = .ok (.ishl, 1) := dk_120 (dk_at dksX9_readOnce_2 5 rfl rfl)
theorem dX9_readOnce_52 : decode cX9_readOnce 52 = .ok (.ior, 1) := dk_128 (dk_at dksX9_readOnce_2 6 rfl rfl)
theorem dX9_readOnce_53 : decode cX9_readOnce 53 = .ok (.putfield 211, 3) := dk_181 0 211 (dk_at dksX9_readOnce_2 7 rfl rfl)
theorem dX9_readOnce_56 : decode cX9_readOnce 56 = .ok (.aload_n 0, 1) := dk_42 (dk_at dksX9_readOnce_2 10 rfl rfl)
theorem dX9_readOnce_57 : decode cX9_readOnce 57 = .ok (.dup, 1) := dk_89 (dk_at dksX9_readOnce_2 11 rfl rfl)
theorem dX9_readOnce_58 : decode cX9_readOnce 58 = .ok (.getfield 177, 3) := dk_180 0 177 (dk_at dksX9_readOnce_2 12 rfl rfl)
theorem dX9_readOnce_61 : decode cX9_readOnce 61 = .ok (.iconst 1, 1) := dk_4 (dk_at dksX9_readOnce_2 15 rfl rfl)
theorem dX9_readOnce_62 : decode cX9_readOnce 62 = .ok (.iadd, 1) := dk_96 (dk_at dksX9_readOnce_2 16 rfl rfl)
theorem dX9_readOnce_63 : decode cX9_readOnce 63 = .ok (.putfield 177, 3) := dk_181 0 177 (dk_at dksX9_readOnce_2 17 rfl rfl)
theorem dX9_readOnce_66 : decode cX9_readOnce 66 = .ok (.aload_n 0, 1) := dk_42 (dk_at dksX9_readOnce_2 20 rfl rfl)
theorem dX9_readOnce_67 : decode cX9_readOnce 67 = .ok (.getfield 81, 3) := dk_180 0 81 (dk_at dksX9_readOnce_2 21 rfl rfl)
theorem dX9_readOnce_70 : decode cX9_readOnce 70 = .ok (.sipush 342, 3) := dk_17 1 86 (dk_at dksX9_readOnce_3 0 rfl rfl)
theorem dX9_readOnce_73 : decode cX9_readOnce 73 = .ok (.iload_n 1, 1) := dk_27 (dk_at dksX9_readOnce_3 3 rfl rfl)
theorem dX9_readOnce_74 : decode cX9_readOnce 74 = .ok (.iadd, 1) := dk_96 (dk_at dksX9_readOnce_3 4 rfl rfl)
theorem dX9_readOnce_75 : decode cX9_readOnce 75 = .ok (.iload_n 1, 1) := dk_27 (dk_at dksX9_readOnce_3 5 rfl rfl)
theorem dX9_readOnce_76 : decode cX9_readOnce 76 = .ok (.iconst 4, 1) := dk_7 (dk_at dksX9_readOnce_3 6 rfl rfl)
theorem dX9_readOnce_77 : decode cX9_readOnce 77 = .ok (.if_icmp .ne 7, 3) := dk_160 0 7 (dk_at dksX9_readOnce_3 7 rfl rfl)
theorem dX9_readOnce_80 : decode cX9_readOnce 80 = .ok (.iconst 1, 1) := dk_4 (dk_at dksX9_readOnce_3 10 rfl rfl)
theorem dX9_readOnce_81 : decode cX9_readOnce 81 = .ok (.goto 25, 3) := dk_167 0 25 (dk_at dksX9_readOnce_3 11 rfl rfl)
theorem dX9_readOnce_84 : decode cX9_readOnce 84 = .ok (.iload_n 1, 1) := dk_27 (dk_at dksX9_readOnce_3 14 rfl rfl)
theorem dX9_readOnce_85 : decode cX9_readOnce 85 = .ok (.iconst 3, 1) := dk_6 (dk_at dksX9_readOnce_3 15 rfl rfl)
theorem dX9_readOnce_86 : decode cX9_readOnce 86 = .ok (.if_icmp .ne 13, 3) := dk_160 0 13 (dk_at dksX9_readOnce_3 16 rfl rfl)
theorem dX9_readOnce_89 : decode cX9_readOnce 89 = .ok (.aload_n 0, 1) := dk_42 (dk_at dksX9_readOnce_3 19 rfl rfl)
theorem dX9_readOnce_90 : decode cX9_readOnce 90 = .ok (.iconst 0, 1) := dk_3 (dk_at dksX9_readOnce_3 20 rfl rfl)
theorem dX9_readOnce_91 : decode cX9_readOnce 91 = .ok (.bipush 9, 2) := dk_16 9 (dk_at dksX9_readOnce_3 21 rfl rfl)
theorem dX9_readOnce_93 : decode cX9_readOnce 93 = .ok (.invokevirtual 198, 3) := dk_182 0 198 (dk_at dksX9_readOnce_4 0 rfl rfl)
theorem dX9_readOnce_96 : decode cX9_readOnce 96 = .ok (.goto 10, 3) := dk_167 0 10 (dk_at dksX9_readOnce_4 3 rfl rfl)
theorem dX9_readOnce_99 : decode cX9_readOnce 99 = .ok (.aload_n 0, 1) := dk_42 (dk_at dksX9_readOnce_4 6 rfl rfl)
theorem dX9_readOnce_100 : decode cX9_readOnce 100 = .ok (.iconst 1, 1) := dk_4 (dk_at dksX9_readOnce_4 7 rfl rfl)
theorem dX9_readOnce_101 : decode cX9_readOnce 101 = .ok (.bipush 30, 2) := dk_16 30 (dk_at dksX9_readOnce_4 8 rfl rfl)
theorem dX9_readOnce_103 : decode cX9_readOnce 103 = .ok (.invokevirtual 198, 3) := dk_182 0 198 (dk_at dksX9_readOnce_4 10 rfl rfl)
theorem dX9_readOnce_106 : decode cX9_readOnce 106 = .ok (.iastore, 1) := dk_79 (dk_at dksX9_readOnce_4 13 rfl rfl)
theorem dX9_readOnce_107 : decode cX9_readOnce 107 = .ok (.return_, 1) := dk_177 (dk_at dksX9_readOnce_4 14 rfl rfl)
abbrev cX9_walk : ByteArray := prog_23_method_30_code
def yX9_walk : MethodName := ⟨RX9, "walk", "()I"⟩
def dkwX9_walk_9 : List UInt8 := [180, 0, 93, 16, 30, 21, 4, 96, 46, 79, 132, 4, 1, 167, 255, 226, 3, 172]
abbrev dktX9_walk_9 : List UInt8 := dkwX9_walk_9 ++ []
def dkwX9_walk_8 : List UInt8 := [3, 27, 79, 3, 54, 4, 21, 4, 5, 27, 104, 162, 0, 28, 42, 180, 0, 93, 4, 21, 4, 96, 42]
abbrev dktX9_walk_8 : List UInt8 := dkwX9_walk_8 ++ dktX9_walk_9
def dkwX9_walk_7 : List UInt8 := [16, 59, 182, 0, 214, 167, 255, 104, 42, 180, 0, 180, 158, 0, 8, 42, 180, 0, 180, 172, 42, 180, 0, 93]
abbrev dktX9_walk_7 : List UInt8 := dkwX9_walk_7 ++ dktX9_walk_8
def dkwX9_walk_6 : List UInt8 := [17, 39, 15, 182, 0, 198, 79, 28, 4, 21, 4, 100, 96, 61, 29, 21, 4, 96, 62, 132, 1, 1, 42]
abbrev dktX9_walk_6 : List UInt8 := dkwX9_walk_6 ++ dktX9_walk_7
def dkwX9_walk_5 : List UInt8 := [180, 0, 93, 16, 30, 5, 27, 104, 96, 21, 4, 79, 42, 180, 0, 93, 16, 31, 5, 27, 104, 96, 42, 3]
abbrev dktX9_walk_5 : List UInt8 := dkwX9_walk_5 ++ dktX9_walk_6
def dkwX9_walk_4 : List UInt8 := [8, 182, 0, 186, 42, 180, 0, 180, 154, 0, 60, 42, 89, 180, 0, 177, 4, 96, 181, 0, 177, 42]
abbrev dktX9_walk_4 : List UInt8 := dkwX9_walk_4 ++ dktX9_walk_5
def dkwX9_walk_3 : List UInt8 := [29, 21, 4, 182, 0, 254, 153, 0, 11, 42, 5, 182, 0, 186, 167, 0, 14, 27, 16, 13, 160, 0, 8, 42]
abbrev dktX9_walk_3 : List UInt8 := dkwX9_walk_3 ++ dktX9_walk_4
def dkwX9_walk_2 : List UInt8 := [156, 0, 11, 42, 4, 182, 0, 186, 167, 0, 44, 42, 28, 29, 21, 4, 182, 0, 250, 153, 0, 14, 42, 28]
abbrev dktX9_walk_2 : List UInt8 := dkwX9_walk_2 ++ dktX9_walk_3
def dkwX9_walk_1 : List UInt8 := [180, 0, 24, 42, 180, 0, 177, 46, 153, 0, 139, 42, 16, 10, 5, 182, 0, 202, 54, 4, 21, 4]
abbrev dktX9_walk_1 : List UInt8 := dkwX9_walk_1 ++ dktX9_walk_2
def dkwX9_walk_0 : List UInt8 := [42, 3, 181, 0, 1, 42, 182, 0, 205, 3, 60, 3, 61, 3, 62, 42, 180, 0, 180, 154, 0, 151, 42]
abbrev dktX9_walk_0 : List UInt8 := dkwX9_walk_0 ++ dktX9_walk_1
theorem dksX9_walk_0 : cX9_walk.data.toList.drop 0 = dktX9_walk_0 := by decide +kernel
theorem dksX9_walk_1 : cX9_walk.data.toList.drop 23 = dktX9_walk_1 := dk_seg dksX9_walk_0 23 rfl rfl
theorem dksX9_walk_2 : cX9_walk.data.toList.drop 45 = dktX9_walk_2 := dk_seg dksX9_walk_1 22 rfl rfl
theorem dksX9_walk_3 : cX9_walk.data.toList.drop 69 = dktX9_walk_3 := dk_seg dksX9_walk_2 24 rfl rfl
theorem dksX9_walk_4 : cX9_walk.data.toList.drop 93 = dktX9_walk_4 := dk_seg dksX9_walk_3 24 rfl rfl
theorem dksX9_walk_5 : cX9_walk.data.toList.drop 115 = dktX9_walk_5 := dk_seg dksX9_walk_4 22 rfl rfl
theorem dksX9_walk_6 : cX9_walk.data.toList.drop 139 = dktX9_walk_6 := dk_seg dksX9_walk_5 24 rfl rfl
theorem dksX9_walk_7 : cX9_walk.data.toList.drop 162 = dktX9_walk_7 := dk_seg dksX9_walk_6 23 rfl rfl
theorem dksX9_walk_8 : cX9_walk.data.toList.drop 186 = dktX9_walk_8 := dk_seg dksX9_walk_7 24 rfl rfl
theorem dksX9_walk_9 : cX9_walk.data.toList.drop 209 = dktX9_walk_9 := dk_seg dksX9_walk_8 23 rfl rfl
theorem dX9_walk_0 : decode cX9_walk 0 = .ok (.aload_n 0, 1) := dk_42 (dk_at dksX9_walk_0 0 rfl rfl)
theorem dX9_walk_1 : decode cX9_walk 1 = .ok (.iconst 0, 1) := dk_3 (dk_at dksX9_walk_0 1 rfl rfl)
theorem dX9_walk_2 : decode cX9_walk 2 = .ok (.putfield 1, 3) := dk_181 0 1 (dk_at dksX9_walk_0 2 rfl rfl)
theorem dX9_walk_5 : decode cX9_walk 5 = .ok (.aload_n 0, 1) := dk_42 (dk_at dksX9_walk_0 5 rfl rfl)
theorem dX9_walk_6 : decode cX9_walk 6 = .ok (.invokevirtual 205, 3) := dk_182 0 205 (dk_at dksX9_walk_0 6 rfl rfl)
theorem dX9_walk_9 : decode cX9_walk 9 = .ok (.iconst 0, 1) := dk_3 (dk_at dksX9_walk_0 9 rfl rfl)
theorem dX9_walk_10 : decode cX9_walk 10 = .ok (.istore_n 1, 1) := dk_60 (dk_at dksX9_walk_0 10 rfl rfl)
theorem dX9_walk_11 : decode cX9_walk 11 = .ok (.iconst 0, 1) := dk_3 (dk_at dksX9_walk_0 11 rfl rfl)
theorem dX9_walk_12 : decode cX9_walk 12 = .ok (.istore_n 2, 1) := dk_61 (dk_at dksX9_walk_0 12 rfl rfl)
theorem dX9_walk_13 : decode cX9_walk 13 = .ok (.iconst 0, 1) := dk_3 (dk_at dksX9_walk_0 13 rfl rfl)
theorem dX9_walk_14 : decode cX9_walk 14 = .ok (.istore_n 3, 1) := dk_62 (dk_at dksX9_walk_0 14 rfl rfl)
theorem dX9_walk_15 : decode cX9_walk 15 = .ok (.aload_n 0, 1) := dk_42 (dk_at dksX9_walk_0 15 rfl rfl)
theorem dX9_walk_16 : decode cX9_walk 16 = .ok (.getfield 180, 3) := dk_180 0 180 (dk_at dksX9_walk_0 16 rfl rfl)
theorem dX9_walk_19 : decode cX9_walk 19 = .ok (.ifCond .ne 151, 3) := dk_154 0 151 (dk_at dksX9_walk_0 19 rfl rfl)
theorem dX9_walk_22 : decode cX9_walk 22 = .ok (.aload_n 0, 1) := dk_42 (dk_at dksX9_walk_0 22 rfl rfl)
theorem dX9_walk_23 : decode cX9_walk 23 = .ok (.getfield 24, 3) := dk_180 0 24 (dk_at dksX9_walk_1 0 rfl rfl)
theorem dX9_walk_26 : decode cX9_walk 26 = .ok (.aload_n 0, 1) := dk_42 (dk_at dksX9_walk_1 3 rfl rfl)
theorem dX9_walk_27 : decode cX9_walk 27 = .ok (.getfield 177, 3) := dk_180 0 177 (dk_at dksX9_walk_1 4 rfl rfl)
theorem dX9_walk_30 : decode cX9_walk 30 = .ok (.iaload, 1) := dk_46 (dk_at dksX9_walk_1 7 rfl rfl)
theorem dX9_walk_31 : decode cX9_walk 31 = .ok (.ifCond .eq 139, 3) := dk_153 0 139 (dk_at dksX9_walk_1 8 rfl rfl)
theorem dX9_walk_34 : decode cX9_walk 34 = .ok (.aload_n 0, 1) := dk_42 (dk_at dksX9_walk_1 11 rfl rfl)
theorem dX9_walk_35 : decode cX9_walk 35 = .ok (.bipush 10, 2) := dk_16 10 (dk_at dksX9_walk_1 12 rfl rfl)
theorem dX9_walk_37 : decode cX9_walk 37 = .ok (.iconst 2, 1) := dk_5 (dk_at dksX9_walk_1 14 rfl rfl)
theorem dX9_walk_38 : decode cX9_walk 38 = .ok (.invokevirtual 202, 3) := dk_182 0 202 (dk_at dksX9_walk_1 15 rfl rfl)
theorem dX9_walk_41 : decode cX9_walk 41 = .ok (.istore 4, 2) := dk_54 4 (dk_at dksX9_walk_1 18 rfl rfl)
theorem dX9_walk_43 : decode cX9_walk 43 = .ok (.iload 4, 2) := dk_21 4 (dk_at dksX9_walk_1 20 rfl rfl)
theorem dX9_walk_45 : decode cX9_walk 45 = .ok (.ifCond .ge 11, 3) := dk_156 0 11 (dk_at dksX9_walk_2 0 rfl rfl)
theorem dX9_walk_48 : decode cX9_walk 48 = .ok (.aload_n 0, 1) := dk_42 (dk_at dksX9_walk_2 3 rfl rfl)
theorem dX9_walk_49 : decode cX9_walk 49 = .ok (.iconst 1, 1) := dk_4 (dk_at dksX9_walk_2 4 rfl rfl)
theorem dX9_walk_50 : decode cX9_walk 50 = .ok (.invokevirtual 186, 3) := dk_182 0 186 (dk_at dksX9_walk_2 5 rfl rfl)
theorem dX9_walk_53 : decode cX9_walk 53 = .ok (.goto 44, 3) := dk_167 0 44 (dk_at dksX9_walk_2 8 rfl rfl)
theorem dX9_walk_56 : decode cX9_walk 56 = .ok (.aload_n 0, 1) := dk_42 (dk_at dksX9_walk_2 11 rfl rfl)
theorem dX9_walk_57 : decode cX9_walk 57 = .ok (.iload_n 2, 1) := dk_28 (dk_at dksX9_walk_2 12 rfl rfl)
theorem dX9_walk_58 : decode cX9_walk 58 = .ok (.iload_n 3, 1) := dk_29 (dk_at dksX9_walk_2 13 rfl rfl)
theorem dX9_walk_59 : decode cX9_walk 59 = .ok (.iload 4, 2) := dk_21 4 (dk_at dksX9_walk_2 14 rfl rfl)
theorem dX9_walk_61 : decode cX9_walk 61 = .ok (.invokevirtual 250, 3) := dk_182 0 250 (dk_at dksX9_walk_2 16 rfl rfl)
theorem dX9_walk_64 : decode cX9_walk 64 = .ok (.ifCond .eq 14, 3) := dk_153 0 14 (dk_at dksX9_walk_2 19 rfl rfl)
theorem dX9_walk_67 : decode cX9_walk 67 = .ok (.aload_n 0, 1) := dk_42 (dk_at dksX9_walk_2 22 rfl rfl)
theorem dX9_walk_68 : decode cX9_walk 68 = .ok (.iload_n 2, 1) := dk_28 (dk_at dksX9_walk_2 23 rfl rfl)
theorem dX9_walk_69 : decode cX9_walk 69 = .ok (.iload_n 3, 1) := dk_29 (dk_at dksX9_walk_3 0 rfl rfl)
theorem dX9_walk_70 : decode cX9_walk 70 = .ok (.iload 4, 2) := dk_21 4 (dk_at dksX9_walk_3 1 rfl rfl)
theorem dX9_walk_72 : decode cX9_walk 72 = .ok (.invokevirtual 254, 3) := dk_182 0 254 (dk_at dksX9_walk_3 3 rfl rfl)
theorem dX9_walk_75 : decode cX9_walk 75 = .ok (.ifCond .eq 11, 3) := dk_153 0 11 (dk_at dksX9_walk_3 6 rfl rfl)
theorem dX9_walk_78 : decode cX9_walk 78 = .ok (.aload_n 0, 1) := dk_42 (dk_at dksX9_walk_3 9 rfl rfl)
theorem dX9_walk_79 : decode cX9_walk 79 = .ok (.iconst 2, 1) := dk_5 (dk_at dksX9_walk_3 10 rfl rfl)
theorem dX9_walk_80 : decode cX9_walk 80 = .ok (.invokevirtual 186, 3) := dk_182 0 186 (dk_at dksX9_walk_3 11 rfl rfl)
theorem dX9_walk_83 : decode cX9_walk 83 = .ok (.goto 14, 3) := dk_167 0 14 (dk_at dksX9_walk_3 14 rfl rfl)
theorem dX9_walk_86 : decode cX9_walk 86 = .ok (.iload_n 1, 1) := dk_27 (dk_at dksX9_walk_3 17 rfl rfl)
theorem dX9_walk_87 : decode cX9_walk 87 = .ok (.bipush 13, 2) := dk_16 13 (dk_at dksX9_walk_3 18 rfl rfl)
theorem dX9_walk_89 : decode cX9_walk 89 = .ok (.if_icmp .ne 8, 3) := dk_160 0 8 (dk_at dksX9_walk_3 20 rfl rfl)
theorem dX9_walk_92 : decode cX9_walk 92 = .ok (.aload_n 0, 1) := dk_42 (dk_at dksX9_walk_3 23 rfl rfl)
theorem dX9_walk_93 : decode cX9_walk 93 = .ok (.iconst 5, 1) := dk_8 (dk_at dksX9_walk_4 0 rfl rfl)
theorem dX9_walk_94 : decode cX9_walk 94 = .ok (.invokevirtual 186, 3) := dk_182 0 186 (dk_at dksX9_walk_4 1 rfl rfl)
theorem dX9_walk_97 : decode cX9_walk 97 = .ok (.aload_n 0, 1) := dk_42 (dk_at dksX9_walk_4 4 rfl rfl)
theorem dX9_walk_98 : decode cX9_walk 98 = .ok (.getfield 180, 3) := dk_180 0 180 (dk_at dksX9_walk_4 5 rfl rfl)
theorem dX9_walk_101 : decode cX9_walk 101 = .ok (.ifCond .ne 60, 3) := dk_154 0 60 (dk_at dksX9_walk_4 8 rfl rfl)
theorem dX9_walk_104 : decode cX9_walk 104 = .ok (.aload_n 0, 1) := dk_42 (dk_at dksX9_walk_4 11 rfl rfl)
theorem dX9_walk_105 : decode cX9_walk 105 = .ok (.dup, 1) := dk_89 (dk_at dksX9_walk_4 12 rfl rfl)
theorem dX9_walk_106 : decode cX9_walk 106 = .ok (.getfield 177, 3) := dk_180 0 177 (dk_at dksX9_walk_4 13 rfl rfl)
theorem dX9_walk_109 : decode cX9_walk 109 = .ok (.iconst 1, 1) := dk_4 (dk_at dksX9_walk_4 16 rfl rfl)
theorem dX9_walk_110 : decode cX9_walk 110 = .ok (.iadd, 1) := dk_96 (dk_at dksX9_walk_4 17 rfl rfl)
theorem dX9_walk_111 : decode cX9_walk 111 = .ok (.putfield 177, 3) := dk_181 0 177 (dk_at dksX9_walk_4 18 rfl rfl)
theorem dX9_walk_114 : decode cX9_walk 114 = .ok (.aload_n 0, 1) := dk_42 (dk_at dksX9_walk_4 21 rfl rfl)
theorem dX9_walk_115 : decode cX9_walk 115 = .ok (.getfield 93, 3) := dk_180 0 93 (dk_at dksX9_walk_5 0 rfl rfl)
theorem dX9_walk_118 : decode cX9_walk 118 = .ok (.bipush 30, 2) := dk_16 30 (dk_at dksX9_walk_5 3 rfl rfl)
theorem dX9_walk_120 : decode cX9_walk 120 = .ok (.iconst 2, 1) := dk_5 (dk_at dksX9_walk_5 5 rfl rfl)
theorem dX9_walk_121 : decode cX9_walk 121 = .ok (.iload_n 1, 1) := dk_27 (dk_at dksX9_walk_5 6 rfl rfl)
theorem dX9_walk_122 : decode cX9_walk 122 = .ok (.imul, 1) := dk_104 (dk_at dksX9_walk_5 7 rfl rfl)
theorem dX9_walk_123 : decode cX9_walk 123 = .ok (.iadd, 1) := dk_96 (dk_at dksX9_walk_5 8 rfl rfl)
theorem dX9_walk_124 : decode cX9_walk 124 = .ok (.iload 4, 2) := dk_21 4 (dk_at dksX9_walk_5 9 rfl rfl)
theorem dX9_walk_126 : decode cX9_walk 126 = .ok (.iastore, 1) := dk_79 (dk_at dksX9_walk_5 11 rfl rfl)
theorem dX9_walk_127 : decode cX9_walk 127 = .ok (.aload_n 0, 1) := dk_42 (dk_at dksX9_walk_5 12 rfl rfl)
theorem dX9_walk_128 : decode cX9_walk 128 = .ok (.getfield 93, 3) := dk_180 0 93 (dk_at dksX9_walk_5 13 rfl rfl)
theorem dX9_walk_131 : decode cX9_walk 131 = .ok (.bipush 31, 2) := dk_16 31 (dk_at dksX9_walk_5 16 rfl rfl)
theorem dX9_walk_133 : decode cX9_walk 133 = .ok (.iconst 2, 1) := dk_5 (dk_at dksX9_walk_5 18 rfl rfl)
theorem dX9_walk_134 : decode cX9_walk 134 = .ok (.iload_n 1, 1) := dk_27 (dk_at dksX9_walk_5 19 rfl rfl)
theorem dX9_walk_135 : decode cX9_walk 135 = .ok (.imul, 1) := dk_104 (dk_at dksX9_walk_5 20 rfl rfl)
theorem dX9_walk_136 : decode cX9_walk 136 = .ok (.iadd, 1) := dk_96 (dk_at dksX9_walk_5 21 rfl rfl)
theorem dX9_walk_137 : decode cX9_walk 137 = .ok (.aload_n 0, 1) := dk_42 (dk_at dksX9_walk_5 22 rfl rfl)
theorem dX9_walk_138 : decode cX9_walk 138 = .ok (.iconst 0, 1) := dk_3 (dk_at dksX9_walk_5 23 rfl rfl)
theorem dX9_walk_139 : decode cX9_walk 139 = .ok (.sipush 9999, 3) := dk_17 39 15 (dk_at dksX9_walk_6 0 rfl rfl)
theorem dX9_walk_142 : decode cX9_walk 142 = .ok (.invokevirtual 198, 3) := dk_182 0 198 (dk_at dksX9_walk_6 3 rfl rfl)
theorem dX9_walk_145 : decode cX9_walk 145 = .ok (.iastore, 1) := dk_79 (dk_at dksX9_walk_6 6 rfl rfl)
theorem dX9_walk_146 : decode cX9_walk 146 = .ok (.iload_n 2, 1) := dk_28 (dk_at dksX9_walk_6 7 rfl rfl)
theorem dX9_walk_147 : decode cX9_walk 147 = .ok (.iconst 1, 1) := dk_4 (dk_at dksX9_walk_6 8 rfl rfl)
theorem dX9_walk_148 : decode cX9_walk 148 = .ok (.iload 4, 2) := dk_21 4 (dk_at dksX9_walk_6 9 rfl rfl)
theorem dX9_walk_150 : decode cX9_walk 150 = .ok (.isub, 1) := dk_100 (dk_at dksX9_walk_6 11 rfl rfl)
theorem dX9_walk_151 : decode cX9_walk 151 = .ok (.iadd, 1) := dk_96 (dk_at dksX9_walk_6 12 rfl rfl)
theorem dX9_walk_152 : decode cX9_walk 152 = .ok (.istore_n 2, 1) := dk_61 (dk_at dksX9_walk_6 13 rfl rfl)
theorem dX9_walk_153 : decode cX9_walk 153 = .ok (.iload_n 3, 1) := dk_29 (dk_at dksX9_walk_6 14 rfl rfl)
theorem dX9_walk_154 : decode cX9_walk 154 = .ok (.iload 4, 2) := dk_21 4 (dk_at dksX9_walk_6 15 rfl rfl)
theorem dX9_walk_156 : decode cX9_walk 156 = .ok (.iadd, 1) := dk_96 (dk_at dksX9_walk_6 17 rfl rfl)
theorem dX9_walk_157 : decode cX9_walk 157 = .ok (.istore_n 3, 1) := dk_62 (dk_at dksX9_walk_6 18 rfl rfl)
theorem dX9_walk_158 : decode cX9_walk 158 = .ok (.iinc 1 1, 3) := dk_132 1 1 (dk_at dksX9_walk_6 19 rfl rfl)
theorem dX9_walk_161 : decode cX9_walk 161 = .ok (.aload_n 0, 1) := dk_42 (dk_at dksX9_walk_6 22 rfl rfl)
theorem dX9_walk_162 : decode cX9_walk 162 = .ok (.bipush 59, 2) := dk_16 59 (dk_at dksX9_walk_7 0 rfl rfl)
theorem dX9_walk_164 : decode cX9_walk 164 = .ok (.invokevirtual 214, 3) := dk_182 0 214 (dk_at dksX9_walk_7 2 rfl rfl)
theorem dX9_walk_167 : decode cX9_walk 167 = .ok (.goto (-152), 3) := dk_167 255 104 (dk_at dksX9_walk_7 5 rfl rfl)
theorem dX9_walk_170 : decode cX9_walk 170 = .ok (.aload_n 0, 1) := dk_42 (dk_at dksX9_walk_7 8 rfl rfl)
theorem dX9_walk_171 : decode cX9_walk 171 = .ok (.getfield 180, 3) := dk_180 0 180 (dk_at dksX9_walk_7 9 rfl rfl)
theorem dX9_walk_174 : decode cX9_walk 174 = .ok (.ifCond .le 8, 3) := dk_158 0 8 (dk_at dksX9_walk_7 12 rfl rfl)
theorem dX9_walk_177 : decode cX9_walk 177 = .ok (.aload_n 0, 1) := dk_42 (dk_at dksX9_walk_7 15 rfl rfl)
theorem dX9_walk_178 : decode cX9_walk 178 = .ok (.getfield 180, 3) := dk_180 0 180 (dk_at dksX9_walk_7 16 rfl rfl)
theorem dX9_walk_181 : decode cX9_walk 181 = .ok (.ireturn, 1) := dk_172 (dk_at dksX9_walk_7 19 rfl rfl)
theorem dX9_walk_182 : decode cX9_walk 182 = .ok (.aload_n 0, 1) := dk_42 (dk_at dksX9_walk_7 20 rfl rfl)
theorem dX9_walk_183 : decode cX9_walk 183 = .ok (.getfield 93, 3) := dk_180 0 93 (dk_at dksX9_walk_7 21 rfl rfl)
theorem dX9_walk_186 : decode cX9_walk 186 = .ok (.iconst 0, 1) := dk_3 (dk_at dksX9_walk_8 0 rfl rfl)
theorem dX9_walk_187 : decode cX9_walk 187 = .ok (.iload_n 1, 1) := dk_27 (dk_at dksX9_walk_8 1 rfl rfl)
theorem dX9_walk_188 : decode cX9_walk 188 = .ok (.iastore, 1) := dk_79 (dk_at dksX9_walk_8 2 rfl rfl)
theorem dX9_walk_189 : decode cX9_walk 189 = .ok (.iconst 0, 1) := dk_3 (dk_at dksX9_walk_8 3 rfl rfl)
theorem dX9_walk_190 : decode cX9_walk 190 = .ok (.istore 4, 2) := dk_54 4 (dk_at dksX9_walk_8 4 rfl rfl)
theorem dX9_walk_192 : decode cX9_walk 192 = .ok (.iload 4, 2) := dk_21 4 (dk_at dksX9_walk_8 6 rfl rfl)
theorem dX9_walk_194 : decode cX9_walk 194 = .ok (.iconst 2, 1) := dk_5 (dk_at dksX9_walk_8 8 rfl rfl)
theorem dX9_walk_195 : decode cX9_walk 195 = .ok (.iload_n 1, 1) := dk_27 (dk_at dksX9_walk_8 9 rfl rfl)
theorem dX9_walk_196 : decode cX9_walk 196 = .ok (.imul, 1) := dk_104 (dk_at dksX9_walk_8 10 rfl rfl)
theorem dX9_walk_197 : decode cX9_walk 197 = .ok (.if_icmp .ge 28, 3) := dk_162 0 28 (dk_at dksX9_walk_8 11 rfl rfl)
theorem dX9_walk_200 : decode cX9_walk 200 = .ok (.aload_n 0, 1) := dk_42 (dk_at dksX9_walk_8 14 rfl rfl)
theorem dX9_walk_201 : decode cX9_walk 201 = .ok (.getfield 93, 3) := dk_180 0 93 (dk_at dksX9_walk_8 15 rfl rfl)
theorem dX9_walk_204 : decode cX9_walk 204 = .ok (.iconst 1, 1) := dk_4 (dk_at dksX9_walk_8 18 rfl rfl)
theorem dX9_walk_205 : decode cX9_walk 205 = .ok (.iload 4, 2) := dk_21 4 (dk_at dksX9_walk_8 19 rfl rfl)
theorem dX9_walk_207 : decode cX9_walk 207 = .ok (.iadd, 1) := dk_96 (dk_at dksX9_walk_8 21 rfl rfl)
theorem dX9_walk_208 : decode cX9_walk 208 = .ok (.aload_n 0, 1) := dk_42 (dk_at dksX9_walk_8 22 rfl rfl)
theorem dX9_walk_209 : decode cX9_walk 209 = .ok (.getfield 93, 3) := dk_180 0 93 (dk_at dksX9_walk_9 0 rfl rfl)
theorem dX9_walk_212 : decode cX9_walk 212 = .ok (.bipush 30, 2) := dk_16 30 (dk_at dksX9_walk_9 3 rfl rfl)
theorem dX9_walk_214 : decode cX9_walk 214 = .ok (.iload 4, 2) := dk_21 4 (dk_at dksX9_walk_9 5 rfl rfl)
theorem dX9_walk_216 : decode cX9_walk 216 = .ok (.iadd, 1) := dk_96 (dk_at dksX9_walk_9 7 rfl rfl)
theorem dX9_walk_217 : decode cX9_walk 217 = .ok (.iaload, 1) := dk_46 (dk_at dksX9_walk_9 8 rfl rfl)
theorem dX9_walk_218 : decode cX9_walk 218 = .ok (.iastore, 1) := dk_79 (dk_at dksX9_walk_9 9 rfl rfl)
theorem dX9_walk_219 : decode cX9_walk 219 = .ok (.iinc 4 1, 3) := dk_132 4 1 (dk_at dksX9_walk_9 10 rfl rfl)
theorem dX9_walk_222 : decode cX9_walk 222 = .ok (.goto (-30), 3) := dk_167 255 226 (dk_at dksX9_walk_9 13 rfl rfl)
theorem dX9_walk_225 : decode cX9_walk 225 = .ok (.iconst 0, 1) := dk_3 (dk_at dksX9_walk_9 16 rfl rfl)
theorem dX9_walk_226 : decode cX9_walk 226 = .ok (.ireturn, 1) := dk_172 (dk_at dksX9_walk_9 17 rfl rfl)
abbrev cX9_isThere : ByteArray := prog_23_method_45_code
def yX9_isThere : MethodName := ⟨RX9, "isThere", "(III)Z"⟩
def dkwX9_isThere_1 : List UInt8 := [182, 1, 23, 4, 100, 162, 0, 7, 4, 167, 0, 4, 3, 172]
abbrev dktX9_isThere_1 : List UInt8 := dkwX9_isThere_1 ++ []
def dkwX9_isThere_0 : List UInt8 := [29, 154, 0, 21, 27, 42, 182, 1, 19, 4, 100, 162, 0, 7, 4, 167, 0, 22, 3, 167, 0, 18, 28, 42]
abbrev dktX9_isThere_0 : List UInt8 := dkwX9_isThere_0 ++ dktX9_isThere_1
theorem dksX9_isThere_0 : cX9_isThere.data.toList.drop 0 = dktX9_isThere_0 := by decide +kernel
theorem dksX9_isThere_1 : cX9_isThere.data.toList.drop 24 = dktX9_isThere_1 := dk_seg dksX9_isThere_0 24 rfl rfl
theorem dX9_isThere_0 : decode cX9_isThere 0 = .ok (.iload_n 3, 1) := dk_29 (dk_at dksX9_isThere_0 0 rfl rfl)
theorem dX9_isThere_1 : decode cX9_isThere 1 = .ok (.ifCond .ne 21, 3) := dk_154 0 21 (dk_at dksX9_isThere_0 1 rfl rfl)
theorem dX9_isThere_4 : decode cX9_isThere 4 = .ok (.iload_n 1, 1) := dk_27 (dk_at dksX9_isThere_0 4 rfl rfl)
theorem dX9_isThere_5 : decode cX9_isThere 5 = .ok (.aload_n 0, 1) := dk_42 (dk_at dksX9_isThere_0 5 rfl rfl)
theorem dX9_isThere_6 : decode cX9_isThere 6 = .ok (.invokevirtual 275, 3) := dk_182 1 19 (dk_at dksX9_isThere_0 6 rfl rfl)
theorem dX9_isThere_9 : decode cX9_isThere 9 = .ok (.iconst 1, 1) := dk_4 (dk_at dksX9_isThere_0 9 rfl rfl)
theorem dX9_isThere_10 : decode cX9_isThere 10 = .ok (.isub, 1) := dk_100 (dk_at dksX9_isThere_0 10 rfl rfl)
theorem dX9_isThere_11 : decode cX9_isThere 11 = .ok (.if_icmp .ge 7, 3) := dk_162 0 7 (dk_at dksX9_isThere_0 11 rfl rfl)
theorem dX9_isThere_14 : decode cX9_isThere 14 = .ok (.iconst 1, 1) := dk_4 (dk_at dksX9_isThere_0 14 rfl rfl)
theorem dX9_isThere_15 : decode cX9_isThere 15 = .ok (.goto 22, 3) := dk_167 0 22 (dk_at dksX9_isThere_0 15 rfl rfl)
theorem dX9_isThere_18 : decode cX9_isThere 18 = .ok (.iconst 0, 1) := dk_3 (dk_at dksX9_isThere_0 18 rfl rfl)
theorem dX9_isThere_19 : decode cX9_isThere 19 = .ok (.goto 18, 3) := dk_167 0 18 (dk_at dksX9_isThere_0 19 rfl rfl)
theorem dX9_isThere_22 : decode cX9_isThere 22 = .ok (.iload_n 2, 1) := dk_28 (dk_at dksX9_isThere_0 22 rfl rfl)
theorem dX9_isThere_23 : decode cX9_isThere 23 = .ok (.aload_n 0, 1) := dk_42 (dk_at dksX9_isThere_0 23 rfl rfl)
theorem dX9_isThere_24 : decode cX9_isThere 24 = .ok (.invokevirtual 279, 3) := dk_182 1 23 (dk_at dksX9_isThere_1 0 rfl rfl)
theorem dX9_isThere_27 : decode cX9_isThere 27 = .ok (.iconst 1, 1) := dk_4 (dk_at dksX9_isThere_1 3 rfl rfl)
theorem dX9_isThere_28 : decode cX9_isThere 28 = .ok (.isub, 1) := dk_100 (dk_at dksX9_isThere_1 4 rfl rfl)
theorem dX9_isThere_29 : decode cX9_isThere 29 = .ok (.if_icmp .ge 7, 3) := dk_162 0 7 (dk_at dksX9_isThere_1 5 rfl rfl)
theorem dX9_isThere_32 : decode cX9_isThere 32 = .ok (.iconst 1, 1) := dk_4 (dk_at dksX9_isThere_1 8 rfl rfl)
theorem dX9_isThere_33 : decode cX9_isThere 33 = .ok (.goto 4, 3) := dk_167 0 4 (dk_at dksX9_isThere_1 9 rfl rfl)
theorem dX9_isThere_36 : decode cX9_isThere 36 = .ok (.iconst 0, 1) := dk_3 (dk_at dksX9_isThere_1 12 rfl rfl)
theorem dX9_isThere_37 : decode cX9_isThere 37 = .ok (.ireturn, 1) := dk_172 (dk_at dksX9_isThere_1 13 rfl rfl)
abbrev cX9_wide : ByteArray := prog_23_method_39_code
def yX9_wide : MethodName := ⟨RX9, "wide", "()I"⟩
def dkwX9_wide_0 : List UInt8 := [42, 180, 0, 81, 3, 46, 172]
abbrev dktX9_wide_0 : List UInt8 := dkwX9_wide_0 ++ []
theorem dksX9_wide_0 : cX9_wide.data.toList.drop 0 = dktX9_wide_0 := by decide +kernel
theorem dX9_wide_0 : decode cX9_wide 0 = .ok (.aload_n 0, 1) := dk_42 (dk_at dksX9_wide_0 0 rfl rfl)
theorem dX9_wide_1 : decode cX9_wide 1 = .ok (.getfield 81, 3) := dk_180 0 81 (dk_at dksX9_wide_0 1 rfl rfl)
theorem dX9_wide_4 : decode cX9_wide 4 = .ok (.iconst 0, 1) := dk_3 (dk_at dksX9_wide_0 4 rfl rfl)
theorem dX9_wide_5 : decode cX9_wide 5 = .ok (.iaload, 1) := dk_46 (dk_at dksX9_wide_0 5 rfl rfl)
theorem dX9_wide_6 : decode cX9_wide 6 = .ok (.ireturn, 1) := dk_172 (dk_at dksX9_wide_0 6 rfl rfl)
abbrev cX9_deep : ByteArray := prog_23_method_40_code
def yX9_deep : MethodName := ⟨RX9, "deep", "()I"⟩
def dkwX9_deep_0 : List UInt8 := [42, 180, 0, 81, 4, 46, 172]
abbrev dktX9_deep_0 : List UInt8 := dkwX9_deep_0 ++ []
theorem dksX9_deep_0 : cX9_deep.data.toList.drop 0 = dktX9_deep_0 := by decide +kernel
theorem dX9_deep_0 : decode cX9_deep 0 = .ok (.aload_n 0, 1) := dk_42 (dk_at dksX9_deep_0 0 rfl rfl)
theorem dX9_deep_1 : decode cX9_deep 1 = .ok (.getfield 81, 3) := dk_180 0 81 (dk_at dksX9_deep_0 1 rfl rfl)
theorem dX9_deep_4 : decode cX9_deep 4 = .ok (.iconst 1, 1) := dk_4 (dk_at dksX9_deep_0 4 rfl rfl)
theorem dX9_deep_5 : decode cX9_deep 5 = .ok (.iaload, 1) := dk_46 (dk_at dksX9_deep_0 5 rfl rfl)
theorem dX9_deep_6 : decode cX9_deep 6 = .ok (.ireturn, 1) := dk_172 (dk_at dksX9_deep_0 6 rfl rfl)
abbrev cX9_isBarred : ByteArray := prog_23_method_44_code
def yX9_isBarred : MethodName := ⟨RX9, "isBarred", "(III)Z"⟩
def dkwX9_isBarred_1 : List UInt8 := [167, 0, 4, 3, 172]
abbrev dktX9_isBarred_1 : List UInt8 := dkwX9_isBarred_1 ++ []
def dkwX9_isBarred_0 : List UInt8 := [42, 180, 0, 81, 17, 0, 226, 16, 6, 28, 104, 96, 27, 96, 46, 29, 122, 4, 126, 4, 160, 0, 7, 4]
abbrev dktX9_isBarred_0 : List UInt8 := dkwX9_isBarred_0 ++ dktX9_isBarred_1
theorem dksX9_isBarred_0 : cX9_isBarred.data.toList.drop 0 = dktX9_isBarred_0 := by decide +kernel
theorem dksX9_isBarred_1 : cX9_isBarred.data.toList.drop 24 = dktX9_isBarred_1 := dk_seg dksX9_isBarred_0 24 rfl rfl
theorem dX9_isBarred_0 : decode cX9_isBarred 0 = .ok (.aload_n 0, 1) := dk_42 (dk_at dksX9_isBarred_0 0 rfl rfl)
theorem dX9_isBarred_1 : decode cX9_isBarred 1 = .ok (.getfield 81, 3) := dk_180 0 81 (dk_at dksX9_isBarred_0 1 rfl rfl)
theorem dX9_isBarred_4 : decode cX9_isBarred 4 = .ok (.sipush 226, 3) := dk_17 0 226 (dk_at dksX9_isBarred_0 4 rfl rfl)
theorem dX9_isBarred_7 : decode cX9_isBarred 7 = .ok (.bipush 6, 2) := dk_16 6 (dk_at dksX9_isBarred_0 7 rfl rfl)
theorem dX9_isBarred_9 : decode cX9_isBarred 9 = .ok (.iload_n 2, 1) := dk_28 (dk_at dksX9_isBarred_0 9 rfl rfl)
theorem dX9_isBarred_10 : decode cX9_isBarred 10 = .ok (.imul, 1) := dk_104 (dk_at dksX9_isBarred_0 10 rfl rfl)
theorem dX9_isBarred_11 : decode cX9_isBarred 11 = .ok (.iadd, 1) := dk_96 (dk_at dksX9_isBarred_0 11 rfl rfl)
theorem dX9_isBarred_12 : decode cX9_isBarred 12 = .ok (.iload_n 1, 1) := dk_27 (dk_at dksX9_isBarred_0 12 rfl rfl)
theorem dX9_isBarred_13 : decode cX9_isBarred 13 = .ok (.iadd, 1) := dk_96 (dk_at dksX9_isBarred_0 13 rfl rfl)
theorem dX9_isBarred_14 : decode cX9_isBarred 14 = .ok (.iaload, 1) := dk_46 (dk_at dksX9_isBarred_0 14 rfl rfl)
theorem dX9_isBarred_15 : decode cX9_isBarred 15 = .ok (.iload_n 3, 1) := dk_29 (dk_at dksX9_isBarred_0 15 rfl rfl)
theorem dX9_isBarred_16 : decode cX9_isBarred 16 = .ok (.ishr, 1) := dk_122 (dk_at dksX9_isBarred_0 16 rfl rfl)
theorem dX9_isBarred_17 : decode cX9_isBarred 17 = .ok (.iconst 1, 1) := dk_4 (dk_at dksX9_isBarred_0 17 rfl rfl)
theorem dX9_isBarred_18 : decode cX9_isBarred 18 = .ok (.iand, 1) := dk_126 (dk_at dksX9_isBarred_0 18 rfl rfl)
theorem dX9_isBarred_19 : decode cX9_isBarred 19 = .ok (.iconst 1, 1) := dk_4 (dk_at dksX9_isBarred_0 19 rfl rfl)
theorem dX9_isBarred_20 : decode cX9_isBarred 20 = .ok (.if_icmp .ne 7, 3) := dk_160 0 7 (dk_at dksX9_isBarred_0 20 rfl rfl)
theorem dX9_isBarred_23 : decode cX9_isBarred 23 = .ok (.iconst 1, 1) := dk_4 (dk_at dksX9_isBarred_0 23 rfl rfl)
theorem dX9_isBarred_24 : decode cX9_isBarred 24 = .ok (.goto 4, 3) := dk_167 0 4 (dk_at dksX9_isBarred_1 0 rfl rfl)
theorem dX9_isBarred_27 : decode cX9_isBarred 27 = .ok (.iconst 0, 1) := dk_3 (dk_at dksX9_isBarred_1 3 rfl rfl)
theorem dX9_isBarred_28 : decode cX9_isBarred 28 = .ok (.ireturn, 1) := dk_172 (dk_at dksX9_isBarred_1 4 rfl rfl)
abbrev cX9_light : ByteArray := prog_23_method_51_code
def yX9_light : MethodName := ⟨RX9, "light", "(III)I"⟩
def dkwX9_light_4 : List UInt8 := [153, 0, 7, 4, 167, 0, 4, 3, 172]
abbrev dktX9_light_4 : List UInt8 := dkwX9_light_4 ++ []
def dkwX9_light_3 : List UInt8 := [167, 0, 32, 29, 7, 162, 0, 13, 42, 27, 28, 29, 182, 1, 33, 167, 0, 17, 42, 27, 28, 182, 1, 46]
abbrev dktX9_light_3 : List UInt8 := dkwX9_light_3 ++ dktX9_light_4
def dkwX9_light_2 : List UInt8 := [17, 0, 226, 16, 6, 28, 104, 96, 27, 96, 46, 172, 29, 154, 0, 12, 42, 27, 28, 182, 1, 26]
abbrev dktX9_light_2 : List UInt8 := dkwX9_light_2 ++ dktX9_light_3
def dkwX9_light_1 : List UInt8 := [8, 162, 0, 14, 42, 27, 28, 182, 1, 26, 156, 0, 5, 2, 172, 29, 8, 160, 0, 19, 42, 180, 0, 81]
abbrev dktX9_light_1 : List UInt8 := dkwX9_light_1 ++ dktX9_light_2
def dkwX9_light_0 : List UInt8 := [42, 3, 181, 0, 1, 42, 27, 28, 182, 1, 40, 153, 0, 26, 29, 3, 8, 184, 1, 43, 153, 0, 17, 29]
abbrev dktX9_light_0 : List UInt8 := dkwX9_light_0 ++ dktX9_light_1
theorem dksX9_light_0 : cX9_light.data.toList.drop 0 = dktX9_light_0 := by decide +kernel
theorem dksX9_light_1 : cX9_light.data.toList.drop 24 = dktX9_light_1 := dk_seg dksX9_light_0 24 rfl rfl
theorem dksX9_light_2 : cX9_light.data.toList.drop 48 = dktX9_light_2 := dk_seg dksX9_light_1 24 rfl rfl
theorem dksX9_light_3 : cX9_light.data.toList.drop 70 = dktX9_light_3 := dk_seg dksX9_light_2 22 rfl rfl
theorem dksX9_light_4 : cX9_light.data.toList.drop 94 = dktX9_light_4 := dk_seg dksX9_light_3 24 rfl rfl
theorem dX9_light_0 : decode cX9_light 0 = .ok (.aload_n 0, 1) := dk_42 (dk_at dksX9_light_0 0 rfl rfl)
theorem dX9_light_1 : decode cX9_light 1 = .ok (.iconst 0, 1) := dk_3 (dk_at dksX9_light_0 1 rfl rfl)
theorem dX9_light_2 : decode cX9_light 2 = .ok (.putfield 1, 3) := dk_181 0 1 (dk_at dksX9_light_0 2 rfl rfl)
theorem dX9_light_5 : decode cX9_light 5 = .ok (.aload_n 0, 1) := dk_42 (dk_at dksX9_light_0 5 rfl rfl)
theorem dX9_light_6 : decode cX9_light 6 = .ok (.iload_n 1, 1) := dk_27 (dk_at dksX9_light_0 6 rfl rfl)
theorem dX9_light_7 : decode cX9_light 7 = .ok (.iload_n 2, 1) := dk_28 (dk_at dksX9_light_0 7 rfl rfl)
theorem dX9_light_8 : decode cX9_light 8 = .ok (.invokevirtual 296, 3) := dk_182 1 40 (dk_at dksX9_light_0 8 rfl rfl)
theorem dX9_light_11 : decode cX9_light 11 = .ok (.ifCond .eq 26, 3) := dk_153 0 26 (dk_at dksX9_light_0 11 rfl rfl)
theorem dX9_light_14 : decode cX9_light 14 = .ok (.iload_n 3, 1) := dk_29 (dk_at dksX9_light_0 14 rfl rfl)
theorem dX9_light_15 : decode cX9_light 15 = .ok (.iconst 0, 1) := dk_3 (dk_at dksX9_light_0 15 rfl rfl)
theorem dX9_light_16 : decode cX9_light 16 = .ok (.iconst 5, 1) := dk_8 (dk_at dksX9_light_0 16 rfl rfl)
theorem dX9_light_17 : decode cX9_light 17 = .ok (.invokestatic 299, 3) := dk_184 1 43 (dk_at dksX9_light_0 17 rfl rfl)
theorem dX9_light_20 : decode cX9_light 20 = .ok (.ifCond .eq 17, 3) := dk_153 0 17 (dk_at dksX9_light_0 20 rfl rfl)
theorem dX9_light_23 : decode cX9_light 23 = .ok (.iload_n 3, 1) := dk_29 (dk_at dksX9_light_0 23 rfl rfl)
theorem dX9_light_24 : decode cX9_light 24 = .ok (.iconst 5, 1) := dk_8 (dk_at dksX9_light_1 0 rfl rfl)
theorem dX9_light_25 : decode cX9_light 25 = .ok (.if_icmp .ge 14, 3) := dk_162 0 14 (dk_at dksX9_light_1 1 rfl rfl)
theorem dX9_light_28 : decode cX9_light 28 = .ok (.aload_n 0, 1) := dk_42 (dk_at dksX9_light_1 4 rfl rfl)
theorem dX9_light_29 : decode cX9_light 29 = .ok (.iload_n 1, 1) := dk_27 (dk_at dksX9_light_1 5 rfl rfl)
theorem dX9_light_30 : decode cX9_light 30 = .ok (.iload_n 2, 1) := dk_28 (dk_at dksX9_light_1 6 rfl rfl)
theorem dX9_light_31 : decode cX9_light 31 = .ok (.invokevirtual 282, 3) := dk_182 1 26 (dk_at dksX9_light_1 7 rfl rfl)
theorem dX9_light_34 : decode cX9_light 34 = .ok (.ifCond .ge 5, 3) := dk_156 0 5 (dk_at dksX9_light_1 10 rfl rfl)
theorem dX9_light_37 : decode cX9_light 37 = .ok (.iconst (-1), 1) := dk_2 (dk_at dksX9_light_1 13 rfl rfl)
theorem dX9_light_38 : decode cX9_light 38 = .ok (.ireturn, 1) := dk_172 (dk_at dksX9_light_1 14 rfl rfl)
theorem dX9_light_39 : decode cX9_light 39 = .ok (.iload_n 3, 1) := dk_29 (dk_at dksX9_light_1 15 rfl rfl)
theorem dX9_light_40 : decode cX9_light 40 = .ok (.iconst 5, 1) := dk_8 (dk_at dksX9_light_1 16 rfl rfl)
theorem dX9_light_41 : decode cX9_light 41 = .ok (.if_icmp .ne 19, 3) := dk_160 0 19 (dk_at dksX9_light_1 17 rfl rfl)
theorem dX9_light_44 : decode cX9_light 44 = .ok (.aload_n 0, 1) := dk_42 (dk_at dksX9_light_1 20 rfl rfl)
theorem dX9_light_45 : decode cX9_light 45 = .ok (.getfield 81, 3) := dk_180 0 81 (dk_at dksX9_light_1 21 rfl rfl)
theorem dX9_light_48 : decode cX9_light 48 = .ok (.sipush 226, 3) := dk_17 0 226 (dk_at dksX9_light_2 0 rfl rfl)
theorem dX9_light_51 : decode cX9_light 51 = .ok (.bipush 6, 2) := dk_16 6 (dk_at dksX9_light_2 3 rfl rfl)
theorem dX9_light_53 : decode cX9_light 53 = .ok (.iload_n 2, 1) := dk_28 (dk_at dksX9_light_2 5 rfl rfl)
theorem dX9_light_54 : decode cX9_light 54 = .ok (.imul, 1) := dk_104 (dk_at dksX9_light_2 6 rfl rfl)
theorem dX9_light_55 : decode cX9_light 55 = .ok (.iadd, 1) := dk_96 (dk_at dksX9_light_2 7 rfl rfl)
theorem dX9_light_56 : decode cX9_light 56 = .ok (.iload_n 1, 1) := dk_27 (dk_at dksX9_light_2 8 rfl rfl)
theorem dX9_light_57 : decode cX9_light 57 = .ok (.iadd, 1) := dk_96 (dk_at dksX9_light_2 9 rfl rfl)
theorem dX9_light_58 : decode cX9_light 58 = .ok (.iaload, 1) := dk_46 (dk_at dksX9_light_2 10 rfl rfl)
theorem dX9_light_59 : decode cX9_light 59 = .ok (.ireturn, 1) := dk_172 (dk_at dksX9_light_2 11 rfl rfl)
theorem dX9_light_60 : decode cX9_light 60 = .ok (.iload_n 3, 1) := dk_29 (dk_at dksX9_light_2 12 rfl rfl)
theorem dX9_light_61 : decode cX9_light 61 = .ok (.ifCond .ne 12, 3) := dk_154 0 12 (dk_at dksX9_light_2 13 rfl rfl)
theorem dX9_light_64 : decode cX9_light 64 = .ok (.aload_n 0, 1) := dk_42 (dk_at dksX9_light_2 16 rfl rfl)
theorem dX9_light_65 : decode cX9_light 65 = .ok (.iload_n 1, 1) := dk_27 (dk_at dksX9_light_2 17 rfl rfl)
theorem dX9_light_66 : decode cX9_light 66 = .ok (.iload_n 2, 1) := dk_28 (dk_at dksX9_light_2 18 rfl rfl)
theorem dX9_light_67 : decode cX9_light 67 = .ok (.invokevirtual 282, 3) := dk_182 1 26 (dk_at dksX9_light_2 19 rfl rfl)
theorem dX9_light_70 : decode cX9_light 70 = .ok (.goto 32, 3) := dk_167 0 32 (dk_at dksX9_light_3 0 rfl rfl)
theorem dX9_light_73 : decode cX9_light 73 = .ok (.iload_n 3, 1) := dk_29 (dk_at dksX9_light_3 3 rfl rfl)
theorem dX9_light_74 : decode cX9_light 74 = .ok (.iconst 4, 1) := dk_7 (dk_at dksX9_light_3 4 rfl rfl)
theorem dX9_light_75 : decode cX9_light 75 = .ok (.if_icmp .ge 13, 3) := dk_162 0 13 (dk_at dksX9_light_3 5 rfl rfl)
theorem dX9_light_78 : decode cX9_light 78 = .ok (.aload_n 0, 1) := dk_42 (dk_at dksX9_light_3 8 rfl rfl)
theorem dX9_light_79 : decode cX9_light 79 = .ok (.iload_n 1, 1) := dk_27 (dk_at dksX9_light_3 9 rfl rfl)
theorem dX9_light_80 : decode cX9_light 80 = .ok (.iload_n 2, 1) := dk_28 (dk_at dksX9_light_3 10 rfl rfl)
theorem dX9_light_81 : decode cX9_light 81 = .ok (.iload_n 3, 1) := dk_29 (dk_at dksX9_light_3 11 rfl rfl)
theorem dX9_light_82 : decode cX9_light 82 = .ok (.invokevirtual 289, 3) := dk_182 1 33 (dk_at dksX9_light_3 12 rfl rfl)
theorem dX9_light_85 : decode cX9_light 85 = .ok (.goto 17, 3) := dk_167 0 17 (dk_at dksX9_light_3 15 rfl rfl)
theorem dX9_light_88 : decode cX9_light 88 = .ok (.aload_n 0, 1) := dk_42 (dk_at dksX9_light_3 18 rfl rfl)
theorem dX9_light_89 : decode cX9_light 89 = .ok (.iload_n 1, 1) := dk_27 (dk_at dksX9_light_3 19 rfl rfl)
theorem dX9_light_90 : decode cX9_light 90 = .ok (.iload_n 2, 1) := dk_28 (dk_at dksX9_light_3 20 rfl rfl)
theorem dX9_light_91 : decode cX9_light 91 = .ok (.invokevirtual 302, 3) := dk_182 1 46 (dk_at dksX9_light_3 21 rfl rfl)
theorem dX9_light_94 : decode cX9_light 94 = .ok (.ifCond .eq 7, 3) := dk_153 0 7 (dk_at dksX9_light_4 0 rfl rfl)
theorem dX9_light_97 : decode cX9_light 97 = .ok (.iconst 1, 1) := dk_4 (dk_at dksX9_light_4 3 rfl rfl)
theorem dX9_light_98 : decode cX9_light 98 = .ok (.goto 4, 3) := dk_167 0 4 (dk_at dksX9_light_4 4 rfl rfl)
theorem dX9_light_101 : decode cX9_light 101 = .ok (.iconst 0, 1) := dk_3 (dk_at dksX9_light_4 7 rfl rfl)
theorem dX9_light_102 : decode cX9_light 102 = .ok (.ireturn, 1) := dk_172 (dk_at dksX9_light_4 8 rfl rfl)
abbrev cX9_isCorner : ByteArray := prog_23_method_41_code
def yX9_isCorner : MethodName := ⟨RX9, "isCorner", "(II)Z"⟩
def dkwX9_isCorner_1 : List UInt8 := [4, 167, 0, 4, 3, 172]
abbrev dktX9_isCorner_1 : List UInt8 := dkwX9_isCorner_1 ++ []
def dkwX9_isCorner_0 : List UInt8 := [27, 155, 0, 27, 27, 42, 182, 1, 19, 162, 0, 19, 28, 155, 0, 15, 28, 42, 182, 1, 23, 162, 0, 7]
abbrev dktX9_isCorner_0 : List UInt8 := dkwX9_isCorner_0 ++ dktX9_isCorner_1
theorem dksX9_isCorner_0 : cX9_isCorner.data.toList.drop 0 = dktX9_isCorner_0 := by decide +kernel
theorem dksX9_isCorner_1 : cX9_isCorner.data.toList.drop 24 = dktX9_isCorner_1 := dk_seg dksX9_isCorner_0 24 rfl rfl
theorem dX9_isCorner_0 : decode cX9_isCorner 0 = .ok (.iload_n 1, 1) := dk_27 (dk_at dksX9_isCorner_0 0 rfl rfl)
theorem dX9_isCorner_1 : decode cX9_isCorner 1 = .ok (.ifCond .lt 27, 3) := dk_155 0 27 (dk_at dksX9_isCorner_0 1 rfl rfl)
theorem dX9_isCorner_4 : decode cX9_isCorner 4 = .ok (.iload_n 1, 1) := dk_27 (dk_at dksX9_isCorner_0 4 rfl rfl)
theorem dX9_isCorner_5 : decode cX9_isCorner 5 = .ok (.aload_n 0, 1) := dk_42 (dk_at dksX9_isCorner_0 5 rfl rfl)
theorem dX9_isCorner_6 : decode cX9_isCorner 6 = .ok (.invokevirtual 275, 3) := dk_182 1 19 (dk_at dksX9_isCorner_0 6 rfl rfl)
theorem dX9_isCorner_9 : decode cX9_isCorner 9 = .ok (.if_icmp .ge 19, 3) := dk_162 0 19 (dk_at dksX9_isCorner_0 9 rfl rfl)
theorem dX9_isCorner_12 : decode cX9_isCorner 12 = .ok (.iload_n 2, 1) := dk_28 (dk_at dksX9_isCorner_0 12 rfl rfl)
theorem dX9_isCorner_13 : decode cX9_isCorner 13 = .ok (.ifCond .lt 15, 3) := dk_155 0 15 (dk_at dksX9_isCorner_0 13 rfl rfl)
theorem dX9_isCorner_16 : decode cX9_isCorner 16 = .ok (.iload_n 2, 1) := dk_28 (dk_at dksX9_isCorner_0 16 rfl rfl)
theorem dX9_isCorner_17 : decode cX9_isCorner 17 = .ok (.aload_n 0, 1) := dk_42 (dk_at dksX9_isCorner_0 17 rfl rfl)
theorem dX9_isCorner_18 : decode cX9_isCorner 18 = .ok (.invokevirtual 279, 3) := dk_182 1 23 (dk_at dksX9_isCorner_0 18 rfl rfl)
theorem dX9_isCorner_21 : decode cX9_isCorner 21 = .ok (.if_icmp .ge 7, 3) := dk_162 0 7 (dk_at dksX9_isCorner_0 21 rfl rfl)
theorem dX9_isCorner_24 : decode cX9_isCorner 24 = .ok (.iconst 1, 1) := dk_4 (dk_at dksX9_isCorner_1 0 rfl rfl)
theorem dX9_isCorner_25 : decode cX9_isCorner 25 = .ok (.goto 4, 3) := dk_167 0 4 (dk_at dksX9_isCorner_1 1 rfl rfl)
theorem dX9_isCorner_28 : decode cX9_isCorner 28 = .ok (.iconst 0, 1) := dk_3 (dk_at dksX9_isCorner_1 4 rfl rfl)
theorem dX9_isCorner_29 : decode cX9_isCorner 29 = .ok (.ireturn, 1) := dk_172 (dk_at dksX9_isCorner_1 5 rfl rfl)
abbrev cX9_within : ByteArray := prog_23_method_17_code
def yX9_within : MethodName := ⟨RX9, "within", "(III)Z"⟩
def dkwX9_within_0 : List UInt8 := [26, 27, 161, 0, 12, 26, 28, 163, 0, 7, 4, 167, 0, 4, 3, 172]
abbrev dktX9_within_0 : List UInt8 := dkwX9_within_0 ++ []
theorem dksX9_within_0 : cX9_within.data.toList.drop 0 = dktX9_within_0 := by decide +kernel
theorem dX9_within_0 : decode cX9_within 0 = .ok (.iload_n 0, 1) := dk_26 (dk_at dksX9_within_0 0 rfl rfl)
theorem dX9_within_1 : decode cX9_within 1 = .ok (.iload_n 1, 1) := dk_27 (dk_at dksX9_within_0 1 rfl rfl)
theorem dX9_within_2 : decode cX9_within 2 = .ok (.if_icmp .lt 12, 3) := dk_161 0 12 (dk_at dksX9_within_0 2 rfl rfl)
theorem dX9_within_5 : decode cX9_within 5 = .ok (.iload_n 0, 1) := dk_26 (dk_at dksX9_within_0 5 rfl rfl)
theorem dX9_within_6 : decode cX9_within 6 = .ok (.iload_n 2, 1) := dk_28 (dk_at dksX9_within_0 6 rfl rfl)
theorem dX9_within_7 : decode cX9_within 7 = .ok (.if_icmp .gt 7, 3) := dk_163 0 7 (dk_at dksX9_within_0 7 rfl rfl)
theorem dX9_within_10 : decode cX9_within 10 = .ok (.iconst 1, 1) := dk_4 (dk_at dksX9_within_0 10 rfl rfl)
theorem dX9_within_11 : decode cX9_within 11 = .ok (.goto 4, 3) := dk_167 0 4 (dk_at dksX9_within_0 11 rfl rfl)
theorem dX9_within_14 : decode cX9_within 14 = .ok (.iconst 0, 1) := dk_3 (dk_at dksX9_within_0 14 rfl rfl)
theorem dX9_within_15 : decode cX9_within 15 = .ok (.ireturn, 1) := dk_172 (dk_at dksX9_within_0 15 rfl rfl)
abbrev cX9_kindAt : ByteArray := prog_23_method_42_code
def yX9_kindAt : MethodName := ⟨RX9, "kindAt", "(II)I"⟩
def dkwX9_kindAt_0 : List UInt8 := [42, 180, 0, 81, 16, 10, 7, 16, 6, 28, 104, 27, 96, 104, 96, 46, 4, 100, 172]
abbrev dktX9_kindAt_0 : List UInt8 := dkwX9_kindAt_0 ++ []
theorem dksX9_kindAt_0 : cX9_kindAt.data.toList.drop 0 = dktX9_kindAt_0 := by decide +kernel
theorem dX9_kindAt_0 : decode cX9_kindAt 0 = .ok (.aload_n 0, 1) := dk_42 (dk_at dksX9_kindAt_0 0 rfl rfl)
theorem dX9_kindAt_1 : decode cX9_kindAt 1 = .ok (.getfield 81, 3) := dk_180 0 81 (dk_at dksX9_kindAt_0 1 rfl rfl)
theorem dX9_kindAt_4 : decode cX9_kindAt 4 = .ok (.bipush 10, 2) := dk_16 10 (dk_at dksX9_kindAt_0 4 rfl rfl)
theorem dX9_kindAt_6 : decode cX9_kindAt 6 = .ok (.iconst 4, 1) := dk_7 (dk_at dksX9_kindAt_0 6 rfl rfl)
theorem dX9_kindAt_7 : decode cX9_kindAt 7 = .ok (.bipush 6, 2) := dk_16 6 (dk_at dksX9_kindAt_0 7 rfl rfl)
theorem dX9_kindAt_9 : decode cX9_kindAt 9 = .ok (.iload_n 2, 1) := dk_28 (dk_at dksX9_kindAt_0 9 rfl rfl)
theorem dX9_kindAt_10 : decode cX9_kindAt 10 = .ok (.imul, 1) := dk_104 (dk_at dksX9_kindAt_0 10 rfl rfl)
theorem dX9_kindAt_11 : decode cX9_kindAt 11 = .ok (.iload_n 1, 1) := dk_27 (dk_at dksX9_kindAt_0 11 rfl rfl)
theorem dX9_kindAt_12 : decode cX9_kindAt 12 = .ok (.iadd, 1) := dk_96 (dk_at dksX9_kindAt_0 12 rfl rfl)
theorem dX9_kindAt_13 : decode cX9_kindAt 13 = .ok (.imul, 1) := dk_104 (dk_at dksX9_kindAt_0 13 rfl rfl)
theorem dX9_kindAt_14 : decode cX9_kindAt 14 = .ok (.iadd, 1) := dk_96 (dk_at dksX9_kindAt_0 14 rfl rfl)
theorem dX9_kindAt_15 : decode cX9_kindAt 15 = .ok (.iaload, 1) := dk_46 (dk_at dksX9_kindAt_0 15 rfl rfl)
theorem dX9_kindAt_16 : decode cX9_kindAt 16 = .ok (.iconst 1, 1) := dk_4 (dk_at dksX9_kindAt_0 16 rfl rfl)
theorem dX9_kindAt_17 : decode cX9_kindAt 17 = .ok (.isub, 1) := dk_100 (dk_at dksX9_kindAt_0 17 rfl rfl)
theorem dX9_kindAt_18 : decode cX9_kindAt 18 = .ok (.ireturn, 1) := dk_172 (dk_at dksX9_kindAt_0 18 rfl rfl)
abbrev cX9_lightAt : ByteArray := prog_23_method_43_code
def yX9_lightAt : MethodName := ⟨RX9, "lightAt", "(III)I"⟩
def dkwX9_lightAt_0 : List UInt8 := [42, 180, 0, 81, 16, 10, 7, 16, 6, 28, 104, 27, 96, 104, 96, 29, 96, 46, 172]
abbrev dktX9_lightAt_0 : List UInt8 := dkwX9_lightAt_0 ++ []
theorem dksX9_lightAt_0 : cX9_lightAt.data.toList.drop 0 = dktX9_lightAt_0 := by decide +kernel
theorem dX9_lightAt_0 : decode cX9_lightAt 0 = .ok (.aload_n 0, 1) := dk_42 (dk_at dksX9_lightAt_0 0 rfl rfl)
theorem dX9_lightAt_1 : decode cX9_lightAt 1 = .ok (.getfield 81, 3) := dk_180 0 81 (dk_at dksX9_lightAt_0 1 rfl rfl)
theorem dX9_lightAt_4 : decode cX9_lightAt 4 = .ok (.bipush 10, 2) := dk_16 10 (dk_at dksX9_lightAt_0 4 rfl rfl)
theorem dX9_lightAt_6 : decode cX9_lightAt 6 = .ok (.iconst 4, 1) := dk_7 (dk_at dksX9_lightAt_0 6 rfl rfl)
theorem dX9_lightAt_7 : decode cX9_lightAt 7 = .ok (.bipush 6, 2) := dk_16 6 (dk_at dksX9_lightAt_0 7 rfl rfl)
theorem dX9_lightAt_9 : decode cX9_lightAt 9 = .ok (.iload_n 2, 1) := dk_28 (dk_at dksX9_lightAt_0 9 rfl rfl)
theorem dX9_lightAt_10 : decode cX9_lightAt 10 = .ok (.imul, 1) := dk_104 (dk_at dksX9_lightAt_0 10 rfl rfl)
theorem dX9_lightAt_11 : decode cX9_lightAt 11 = .ok (.iload_n 1, 1) := dk_27 (dk_at dksX9_lightAt_0 11 rfl rfl)
theorem dX9_lightAt_12 : decode cX9_lightAt 12 = .ok (.iadd, 1) := dk_96 (dk_at dksX9_lightAt_0 12 rfl rfl)
theorem dX9_lightAt_13 : decode cX9_lightAt 13 = .ok (.imul, 1) := dk_104 (dk_at dksX9_lightAt_0 13 rfl rfl)
theorem dX9_lightAt_14 : decode cX9_lightAt 14 = .ok (.iadd, 1) := dk_96 (dk_at dksX9_lightAt_0 14 rfl rfl)
theorem dX9_lightAt_15 : decode cX9_lightAt 15 = .ok (.iload_n 3, 1) := dk_29 (dk_at dksX9_lightAt_0 15 rfl rfl)
theorem dX9_lightAt_16 : decode cX9_lightAt 16 = .ok (.iadd, 1) := dk_96 (dk_at dksX9_lightAt_0 16 rfl rfl)
theorem dX9_lightAt_17 : decode cX9_lightAt 17 = .ok (.iaload, 1) := dk_46 (dk_at dksX9_lightAt_0 17 rfl rfl)
theorem dX9_lightAt_18 : decode cX9_lightAt 18 = .ok (.ireturn, 1) := dk_172 (dk_at dksX9_lightAt_0 18 rfl rfl)
abbrev cX9_isKnown : ByteArray := prog_23_method_59_code
def yX9_isKnown : MethodName := ⟨RX9, "isKnown", "(II)Z"⟩
def dkwX9_isKnown_1 : List UInt8 := [160, 0, 7, 4, 167, 0, 4, 3, 172]
abbrev dktX9_isKnown_1 : List UInt8 := dkwX9_isKnown_1 ++ []
def dkwX9_isKnown_0 : List UInt8 := [42, 27, 28, 182, 1, 26, 4, 160, 0, 24, 42, 180, 0, 102, 7, 16, 6, 28, 104, 96, 27, 96, 46, 4]
abbrev dktX9_isKnown_0 : List UInt8 := dkwX9_isKnown_0 ++ dktX9_isKnown_1
theorem dksX9_isKnown_0 : cX9_isKnown.data.toList.drop 0 = dktX9_isKnown_0 := by decide +kernel
theorem dksX9_isKnown_1 : cX9_isKnown.data.toList.drop 24 = dktX9_isKnown_1 := dk_seg dksX9_isKnown_0 24 rfl rfl
theorem dX9_isKnown_0 : decode cX9_isKnown 0 = .ok (.aload_n 0, 1) := dk_42 (dk_at dksX9_isKnown_0 0 rfl rfl)
theorem dX9_isKnown_1 : decode cX9_isKnown 1 = .ok (.iload_n 1, 1) := dk_27 (dk_at dksX9_isKnown_0 1 rfl rfl)
theorem dX9_isKnown_2 : decode cX9_isKnown 2 = .ok (.iload_n 2, 1) := dk_28 (dk_at dksX9_isKnown_0 2 rfl rfl)
theorem dX9_isKnown_3 : decode cX9_isKnown 3 = .ok (.invokevirtual 282, 3) := dk_182 1 26 (dk_at dksX9_isKnown_0 3 rfl rfl)
theorem dX9_isKnown_6 : decode cX9_isKnown 6 = .ok (.iconst 1, 1) := dk_4 (dk_at dksX9_isKnown_0 6 rfl rfl)
theorem dX9_isKnown_7 : decode cX9_isKnown 7 = .ok (.if_icmp .ne 24, 3) := dk_160 0 24 (dk_at dksX9_isKnown_0 7 rfl rfl)
theorem dX9_isKnown_10 : decode cX9_isKnown 10 = .ok (.aload_n 0, 1) := dk_42 (dk_at dksX9_isKnown_0 10 rfl rfl)
theorem dX9_isKnown_11 : decode cX9_isKnown 11 = .ok (.getfield 102, 3) := dk_180 0 102 (dk_at dksX9_isKnown_0 11 rfl rfl)
theorem dX9_isKnown_14 : decode cX9_isKnown 14 = .ok (.iconst 4, 1) := dk_7 (dk_at dksX9_isKnown_0 14 rfl rfl)
theorem dX9_isKnown_15 : decode cX9_isKnown 15 = .ok (.bipush 6, 2) := dk_16 6 (dk_at dksX9_isKnown_0 15 rfl rfl)
theorem dX9_isKnown_17 : decode cX9_isKnown 17 = .ok (.iload_n 2, 1) := dk_28 (dk_at dksX9_isKnown_0 17 rfl rfl)
theorem dX9_isKnown_18 : decode cX9_isKnown 18 = .ok (.imul, 1) := dk_104 (dk_at dksX9_isKnown_0 18 rfl rfl)
theorem dX9_isKnown_19 : decode cX9_isKnown 19 = .ok (.iadd, 1) := dk_96 (dk_at dksX9_isKnown_0 19 rfl rfl)
theorem dX9_isKnown_20 : decode cX9_isKnown 20 = .ok (.iload_n 1, 1) := dk_27 (dk_at dksX9_isKnown_0 20 rfl rfl)
theorem dX9_isKnown_21 : decode cX9_isKnown 21 = .ok (.iadd, 1) := dk_96 (dk_at dksX9_isKnown_0 21 rfl rfl)
theorem dX9_isKnown_22 : decode cX9_isKnown 22 = .ok (.iaload, 1) := dk_46 (dk_at dksX9_isKnown_0 22 rfl rfl)
theorem dX9_isKnown_23 : decode cX9_isKnown 23 = .ok (.iconst 1, 1) := dk_4 (dk_at dksX9_isKnown_0 23 rfl rfl)
theorem dX9_isKnown_24 : decode cX9_isKnown 24 = .ok (.if_icmp .ne 7, 3) := dk_160 0 7 (dk_at dksX9_isKnown_1 0 rfl rfl)
theorem dX9_isKnown_27 : decode cX9_isKnown 27 = .ok (.iconst 1, 1) := dk_4 (dk_at dksX9_isKnown_1 3 rfl rfl)
theorem dX9_isKnown_28 : decode cX9_isKnown 28 = .ok (.goto 4, 3) := dk_167 0 4 (dk_at dksX9_isKnown_1 4 rfl rfl)
theorem dX9_isKnown_31 : decode cX9_isKnown 31 = .ok (.iconst 0, 1) := dk_3 (dk_at dksX9_isKnown_1 7 rfl rfl)
theorem dX9_isKnown_32 : decode cX9_isKnown 32 = .ok (.ireturn, 1) := dk_172 (dk_at dksX9_isKnown_1 8 rfl rfl)
abbrev cX9_green : ByteArray := prog_23_method_54_code
def yX9_green : MethodName := ⟨RX9, "green", "(IIII)I"⟩
def dkwX9_green_3 : List UInt8 := [54, 5, 21, 5, 153, 0, 7, 4, 167, 0, 4, 3, 172]
abbrev dktX9_green_3 : List UInt8 := dkwX9_green_3 ++ []
def dkwX9_green_2 : List UInt8 := [182, 1, 29, 153, 0, 15, 42, 27, 28, 29, 21, 4, 182, 1, 36, 153, 0, 7, 4, 167, 0, 4, 3]
abbrev dktX9_green_2 : List UInt8 := dkwX9_green_2 ++ dktX9_green_3
def dkwX9_green_1 : List UInt8 := [182, 1, 26, 5, 160, 0, 16, 29, 4, 160, 0, 7, 4, 167, 0, 33, 3, 167, 0, 29, 42, 27, 28]
abbrev dktX9_green_1 : List UInt8 := dkwX9_green_1 ++ dktX9_green_2
def dkwX9_green_0 : List UInt8 := [42, 3, 181, 0, 1, 42, 27, 28, 29, 21, 4, 182, 1, 56, 154, 0, 5, 2, 172, 42, 27, 28]
abbrev dktX9_green_0 : List UInt8 := dkwX9_green_0 ++ dktX9_green_1
theorem dksX9_green_0 : cX9_green.data.toList.drop 0 = dktX9_green_0 := by decide +kernel
theorem dksX9_green_1 : cX9_green.data.toList.drop 22 = dktX9_green_1 := dk_seg dksX9_green_0 22 rfl rfl
theorem dksX9_green_2 : cX9_green.data.toList.drop 45 = dktX9_green_2 := dk_seg dksX9_green_1 23 rfl rfl
theorem dksX9_green_3 : cX9_green.data.toList.drop 68 = dktX9_green_3 := dk_seg dksX9_green_2 23 rfl rfl
theorem dX9_green_0 : decode cX9_green 0 = .ok (.aload_n 0, 1) := dk_42 (dk_at dksX9_green_0 0 rfl rfl)
theorem dX9_green_1 : decode cX9_green 1 = .ok (.iconst 0, 1) := dk_3 (dk_at dksX9_green_0 1 rfl rfl)
theorem dX9_green_2 : decode cX9_green 2 = .ok (.putfield 1, 3) := dk_181 0 1 (dk_at dksX9_green_0 2 rfl rfl)
theorem dX9_green_5 : decode cX9_green 5 = .ok (.aload_n 0, 1) := dk_42 (dk_at dksX9_green_0 5 rfl rfl)
theorem dX9_green_6 : decode cX9_green 6 = .ok (.iload_n 1, 1) := dk_27 (dk_at dksX9_green_0 6 rfl rfl)
theorem dX9_green_7 : decode cX9_green 7 = .ok (.iload_n 2, 1) := dk_28 (dk_at dksX9_green_0 7 rfl rfl)
theorem dX9_green_8 : decode cX9_green 8 = .ok (.iload_n 3, 1) := dk_29 (dk_at dksX9_green_0 8 rfl rfl)
theorem dX9_green_9 : decode cX9_green 9 = .ok (.iload 4, 2) := dk_21 4 (dk_at dksX9_green_0 9 rfl rfl)
theorem dX9_green_11 : decode cX9_green 11 = .ok (.invokevirtual 312, 3) := dk_182 1 56 (dk_at dksX9_green_0 11 rfl rfl)
theorem dX9_green_14 : decode cX9_green 14 = .ok (.ifCond .ne 5, 3) := dk_154 0 5 (dk_at dksX9_green_0 14 rfl rfl)
theorem dX9_green_17 : decode cX9_green 17 = .ok (.iconst (-1), 1) := dk_2 (dk_at dksX9_green_0 17 rfl rfl)
theorem dX9_green_18 : decode cX9_green 18 = .ok (.ireturn, 1) := dk_172 (dk_at dksX9_green_0 18 rfl rfl)
theorem dX9_green_19 : decode cX9_green 19 = .ok (.aload_n 0, 1) := dk_42 (dk_at dksX9_green_0 19 rfl rfl)
theorem dX9_green_20 : decode cX9_green 20 = .ok (.iload_n 1, 1) := dk_27 (dk_at dksX9_green_0 20 rfl rfl)
theorem dX9_green_21 : decode cX9_green 21 = .ok (.iload_n 2, 1) := dk_28 (dk_at dksX9_green_0 21 rfl rfl)
theorem dX9_green_22 : decode cX9_green 22 = .ok (.invokevirtual 282, 3) := dk_182 1 26 (dk_at dksX9_green_1 0 rfl rfl)
theorem dX9_green_25 : decode cX9_green 25 = .ok (.iconst 2, 1) := dk_5 (dk_at dksX9_green_1 3 rfl rfl)
theorem dX9_green_26 : decode cX9_green 26 = .ok (.if_icmp .ne 16, 3) := dk_160 0 16 (dk_at dksX9_green_1 4 rfl rfl)
theorem dX9_green_29 : decode cX9_green 29 = .ok (.iload_n 3, 1) := dk_29 (dk_at dksX9_green_1 7 rfl rfl)
theorem dX9_green_30 : decode cX9_green 30 = .ok (.iconst 1, 1) := dk_4 (dk_at dksX9_green_1 8 rfl rfl)
theorem dX9_green_31 : decode cX9_green 31 = .ok (.if_icmp .ne 7, 3) := dk_160 0 7 (dk_at dksX9_green_1 9 rfl rfl)
theorem dX9_green_34 : decode cX9_green 34 = .ok (.iconst 1, 1) := dk_4 (dk_at dksX9_green_1 12 rfl rfl)
theorem dX9_green_35 : decode cX9_green 35 = .ok (.goto 33, 3) := dk_167 0 33 (dk_at dksX9_green_1 13 rfl rfl)
theorem dX9_green_38 : decode cX9_green 38 = .ok (.iconst 0, 1) := dk_3 (dk_at dksX9_green_1 16 rfl rfl)
theorem dX9_green_39 : decode cX9_green 39 = .ok (.goto 29, 3) := dk_167 0 29 (dk_at dksX9_green_1 17 rfl rfl)
theorem dX9_green_42 : decode cX9_green 42 = .ok (.aload_n 0, 1) := dk_42 (dk_at dksX9_green_1 20 rfl rfl)
theorem dX9_green_43 : decode cX9_green 43 = .ok (.iload_n 1, 1) := dk_27 (dk_at dksX9_green_1 21 rfl rfl)
theorem dX9_green_44 : decode cX9_green 44 = .ok (.iload_n 2, 1) := dk_28 (dk_at dksX9_green_1 22 rfl rfl)
theorem dX9_green_45 : decode cX9_green 45 = .ok (.invokevirtual 285, 3) := dk_182 1 29 (dk_at dksX9_green_2 0 rfl rfl)
theorem dX9_green_48 : decode cX9_green 48 = .ok (.ifCond .eq 15, 3) := dk_153 0 15 (dk_at dksX9_green_2 3 rfl rfl)
theorem dX9_green_51 : decode cX9_green 51 = .ok (.aload_n 0, 1) := dk_42 (dk_at dksX9_green_2 6 rfl rfl)
theorem dX9_green_52 : decode cX9_green 52 = .ok (.iload_n 1, 1) := dk_27 (dk_at dksX9_green_2 7 rfl rfl)
theorem dX9_green_53 : decode cX9_green 53 = .ok (.iload_n 2, 1) := dk_28 (dk_at dksX9_green_2 8 rfl rfl)
theorem dX9_green_54 : decode cX9_green 54 = .ok (.iload_n 3, 1) := dk_29 (dk_at dksX9_green_2 9 rfl rfl)
theorem dX9_green_55 : decode cX9_green 55 = .ok (.iload 4, 2) := dk_21 4 (dk_at dksX9_green_2 10 rfl rfl)
theorem dX9_green_57 : decode cX9_green 57 = .ok (.invokevirtual 292, 3) := dk_182 1 36 (dk_at dksX9_green_2 12 rfl rfl)
theorem dX9_green_60 : decode cX9_green 60 = .ok (.ifCond .eq 7, 3) := dk_153 0 7 (dk_at dksX9_green_2 15 rfl rfl)
theorem dX9_green_63 : decode cX9_green 63 = .ok (.iconst 1, 1) := dk_4 (dk_at dksX9_green_2 18 rfl rfl)
theorem dX9_green_64 : decode cX9_green 64 = .ok (.goto 4, 3) := dk_167 0 4 (dk_at dksX9_green_2 19 rfl rfl)
theorem dX9_green_67 : decode cX9_green 67 = .ok (.iconst 0, 1) := dk_3 (dk_at dksX9_green_2 22 rfl rfl)
theorem dX9_green_68 : decode cX9_green 68 = .ok (.istore 5, 2) := dk_54 5 (dk_at dksX9_green_3 0 rfl rfl)
theorem dX9_green_70 : decode cX9_green 70 = .ok (.iload 5, 2) := dk_21 5 (dk_at dksX9_green_3 2 rfl rfl)
theorem dX9_green_72 : decode cX9_green 72 = .ok (.ifCond .eq 7, 3) := dk_153 0 7 (dk_at dksX9_green_3 4 rfl rfl)
theorem dX9_green_75 : decode cX9_green 75 = .ok (.iconst 1, 1) := dk_4 (dk_at dksX9_green_3 7 rfl rfl)
theorem dX9_green_76 : decode cX9_green 76 = .ok (.goto 4, 3) := dk_167 0 4 (dk_at dksX9_green_3 8 rfl rfl)
theorem dX9_green_79 : decode cX9_green 79 = .ok (.iconst 0, 1) := dk_3 (dk_at dksX9_green_3 11 rfl rfl)
theorem dX9_green_80 : decode cX9_green 80 = .ok (.ireturn, 1) := dk_172 (dk_at dksX9_green_3 12 rfl rfl)
abbrev cX9_mayAsk : ByteArray := prog_23_method_53_code
def yX9_mayAsk : MethodName := ⟨RX9, "mayAsk", "(IIII)Z"⟩
def dkwX9_mayAsk_1 : List UInt8 := [153, 0, 17, 42, 27, 28, 29, 182, 1, 53, 153, 0, 7, 4, 167, 0, 4, 3, 172]
abbrev dktX9_mayAsk_1 : List UInt8 := dkwX9_mayAsk_1 ++ []
def dkwX9_mayAsk_0 : List UInt8 := [42, 27, 28, 182, 1, 40, 153, 0, 35, 29, 3, 4, 184, 1, 43, 153, 0, 26, 42, 21, 4, 182, 1, 50]
abbrev dktX9_mayAsk_0 : List UInt8 := dkwX9_mayAsk_0 ++ dktX9_mayAsk_1
theorem dksX9_mayAsk_0 : cX9_mayAsk.data.toList.drop 0 = dktX9_mayAsk_0 := by decide +kernel
theorem dksX9_mayAsk_1 : cX9_mayAsk.data.toList.drop 24 = dktX9_mayAsk_1 := dk_seg dksX9_mayAsk_0 24 rfl rfl
theorem dX9_mayAsk_0 : decode cX9_mayAsk 0 = .ok (.aload_n 0, 1) := dk_42 (dk_at dksX9_mayAsk_0 0 rfl rfl)
theorem dX9_mayAsk_1 : decode cX9_mayAsk 1 = .ok (.iload_n 1, 1) := dk_27 (dk_at dksX9_mayAsk_0 1 rfl rfl)
theorem dX9_mayAsk_2 : decode cX9_mayAsk 2 = .ok (.iload_n 2, 1) := dk_28 (dk_at dksX9_mayAsk_0 2 rfl rfl)
theorem dX9_mayAsk_3 : decode cX9_mayAsk 3 = .ok (.invokevirtual 296, 3) := dk_182 1 40 (dk_at dksX9_mayAsk_0 3 rfl rfl)
theorem dX9_mayAsk_6 : decode cX9_mayAsk 6 = .ok (.ifCond .eq 35, 3) := dk_153 0 35 (dk_at dksX9_mayAsk_0 6 rfl rfl)
theorem dX9_mayAsk_9 : decode cX9_mayAsk 9 = .ok (.iload_n 3, 1) := dk_29 (dk_at dksX9_mayAsk_0 9 rfl rfl)
theorem dX9_mayAsk_10 : decode cX9_mayAsk 10 = .ok (.iconst 0, 1) := dk_3 (dk_at dksX9_mayAsk_0 10 rfl rfl)
theorem dX9_mayAsk_11 : decode cX9_mayAsk 11 = .ok (.iconst 1, 1) := dk_4 (dk_at dksX9_mayAsk_0 11 rfl rfl)
theorem dX9_mayAsk_12 : decode cX9_mayAsk 12 = .ok (.invokestatic 299, 3) := dk_184 1 43 (dk_at dksX9_mayAsk_0 12 rfl rfl)
theorem dX9_mayAsk_15 : decode cX9_mayAsk 15 = .ok (.ifCond .eq 26, 3) := dk_153 0 26 (dk_at dksX9_mayAsk_0 15 rfl rfl)
theorem dX9_mayAsk_18 : decode cX9_mayAsk 18 = .ok (.aload_n 0, 1) := dk_42 (dk_at dksX9_mayAsk_0 18 rfl rfl)
theorem dX9_mayAsk_19 : decode cX9_mayAsk 19 = .ok (.iload 4, 2) := dk_21 4 (dk_at dksX9_mayAsk_0 19 rfl rfl)
theorem dX9_mayAsk_21 : decode cX9_mayAsk 21 = .ok (.invokevirtual 306, 3) := dk_182 1 50 (dk_at dksX9_mayAsk_0 21 rfl rfl)
theorem dX9_mayAsk_24 : decode cX9_mayAsk 24 = .ok (.ifCond .eq 17, 3) := dk_153 0 17 (dk_at dksX9_mayAsk_1 0 rfl rfl)
theorem dX9_mayAsk_27 : decode cX9_mayAsk 27 = .ok (.aload_n 0, 1) := dk_42 (dk_at dksX9_mayAsk_1 3 rfl rfl)
theorem dX9_mayAsk_28 : decode cX9_mayAsk 28 = .ok (.iload_n 1, 1) := dk_27 (dk_at dksX9_mayAsk_1 4 rfl rfl)
theorem dX9_mayAsk_29 : decode cX9_mayAsk 29 = .ok (.iload_n 2, 1) := dk_28 (dk_at dksX9_mayAsk_1 5 rfl rfl)
theorem dX9_mayAsk_30 : decode cX9_mayAsk 30 = .ok (.iload_n 3, 1) := dk_29 (dk_at dksX9_mayAsk_1 6 rfl rfl)
theorem dX9_mayAsk_31 : decode cX9_mayAsk 31 = .ok (.invokevirtual 309, 3) := dk_182 1 53 (dk_at dksX9_mayAsk_1 7 rfl rfl)
theorem dX9_mayAsk_34 : decode cX9_mayAsk 34 = .ok (.ifCond .eq 7, 3) := dk_153 0 7 (dk_at dksX9_mayAsk_1 10 rfl rfl)
theorem dX9_mayAsk_37 : decode cX9_mayAsk 37 = .ok (.iconst 1, 1) := dk_4 (dk_at dksX9_mayAsk_1 13 rfl rfl)
theorem dX9_mayAsk_38 : decode cX9_mayAsk 38 = .ok (.goto 4, 3) := dk_167 0 4 (dk_at dksX9_mayAsk_1 14 rfl rfl)
theorem dX9_mayAsk_41 : decode cX9_mayAsk 41 = .ok (.iconst 0, 1) := dk_3 (dk_at dksX9_mayAsk_1 17 rfl rfl)
theorem dX9_mayAsk_42 : decode cX9_mayAsk 42 = .ok (.ireturn, 1) := dk_172 (dk_at dksX9_mayAsk_1 18 rfl rfl)
abbrev cX9_isSecond : ByteArray := prog_23_method_52_code
def yX9_isSecond : MethodName := ⟨RX9, "isSecond", "(I)Z"⟩
def dkwX9_isSecond_0 : List UInt8 := [27, 3, 19, 1, 49, 184, 1, 43, 172]
abbrev dktX9_isSecond_0 : List UInt8 := dkwX9_isSecond_0 ++ []
theorem dksX9_isSecond_0 : cX9_isSecond.data.toList.drop 0 = dktX9_isSecond_0 := by decide +kernel
theorem dX9_isSecond_0 : decode cX9_isSecond 0 = .ok (.iload_n 1, 1) := dk_27 (dk_at dksX9_isSecond_0 0 rfl rfl)
theorem dX9_isSecond_1 : decode cX9_isSecond 1 = .ok (.iconst 0, 1) := dk_3 (dk_at dksX9_isSecond_0 1 rfl rfl)
theorem dX9_isSecond_2 : decode cX9_isSecond 2 = .ok (.ldc_w 305, 3) := dk_19 1 49 (dk_at dksX9_isSecond_0 2 rfl rfl)
theorem dX9_isSecond_5 : decode cX9_isSecond 5 = .ok (.invokestatic 299, 3) := dk_184 1 43 (dk_at dksX9_isSecond_0 5 rfl rfl)
theorem dX9_isSecond_8 : decode cX9_isSecond 8 = .ok (.ireturn, 1) := dk_172 (dk_at dksX9_isSecond_0 8 rfl rfl)
abbrev cX9_canGo : ByteArray := prog_23_method_47_code
def yX9_canGo : MethodName := ⟨RX9, "canGo", "(III)Z"⟩
def dkwX9_canGo_3 : List UInt8 := [21, 4, 153, 0, 7, 4, 167, 0, 4, 3, 172]
abbrev dktX9_canGo_3 : List UInt8 := dkwX9_canGo_3 ++ []
def dkwX9_canGo_2 : List UInt8 := [3, 54, 4, 42, 27, 28, 29, 182, 0, 250, 153, 0, 22, 42, 27, 28, 29, 182, 0, 254, 154, 0, 12]
abbrev dktX9_canGo_2 : List UInt8 := dkwX9_canGo_2 ++ dktX9_canGo_3
def dkwX9_canGo_1 : List UInt8 := [167, 0, 20, 42, 27, 28, 6, 182, 1, 33, 42, 27, 28, 4, 182, 1, 33, 162, 0, 7, 4, 167, 0, 4]
abbrev dktX9_canGo_1 : List UInt8 := dkwX9_canGo_1 ++ dktX9_canGo_2
def dkwX9_canGo_0 : List UInt8 := [42, 27, 28, 182, 1, 29, 153, 0, 37, 29, 154, 0, 16, 42, 27, 28, 6, 182, 1, 33, 158, 0, 27]
abbrev dktX9_canGo_0 : List UInt8 := dkwX9_canGo_0 ++ dktX9_canGo_1
theorem dksX9_canGo_0 : cX9_canGo.data.toList.drop 0 = dktX9_canGo_0 := by decide +kernel
theorem dksX9_canGo_1 : cX9_canGo.data.toList.drop 23 = dktX9_canGo_1 := dk_seg dksX9_canGo_0 23 rfl rfl
theorem dksX9_canGo_2 : cX9_canGo.data.toList.drop 47 = dktX9_canGo_2 := dk_seg dksX9_canGo_1 24 rfl rfl
theorem dksX9_canGo_3 : cX9_canGo.data.toList.drop 70 = dktX9_canGo_3 := dk_seg dksX9_canGo_2 23 rfl rfl
theorem dX9_canGo_0 : decode cX9_canGo 0 = .ok (.aload_n 0, 1) := dk_42 (dk_at dksX9_canGo_0 0 rfl rfl)
theorem dX9_canGo_1 : decode cX9_canGo 1 = .ok (.iload_n 1, 1) := dk_27 (dk_at dksX9_canGo_0 1 rfl rfl)
theorem dX9_canGo_2 : decode cX9_canGo 2 = .ok (.iload_n 2, 1) := dk_28 (dk_at dksX9_canGo_0 2 rfl rfl)
theorem dX9_canGo_3 : decode cX9_canGo 3 = .ok (.invokevirtual 285, 3) := dk_182 1 29 (dk_at dksX9_canGo_0 3 rfl rfl)
theorem dX9_canGo_6 : decode cX9_canGo 6 = .ok (.ifCond .eq 37, 3) := dk_153 0 37 (dk_at dksX9_canGo_0 6 rfl rfl)
theorem dX9_canGo_9 : decode cX9_canGo 9 = .ok (.iload_n 3, 1) := dk_29 (dk_at dksX9_canGo_0 9 rfl rfl)
theorem dX9_canGo_10 : decode cX9_canGo 10 = .ok (.ifCond .ne 16, 3) := dk_154 0 16 (dk_at dksX9_canGo_0 10 rfl rfl)
theorem dX9_canGo_13 : decode cX9_canGo 13 = .ok (.aload_n 0, 1) := dk_42 (dk_at dksX9_canGo_0 13 rfl rfl)
theorem dX9_canGo_14 : decode cX9_canGo 14 = .ok (.iload_n 1, 1) := dk_27 (dk_at dksX9_canGo_0 14 rfl rfl)
theorem dX9_canGo_15 : decode cX9_canGo 15 = .ok (.iload_n 2, 1) := dk_28 (dk_at dksX9_canGo_0 15 rfl rfl)
theorem dX9_canGo_16 : decode cX9_canGo 16 = .ok (.iconst 3, 1) := dk_6 (dk_at dksX9_canGo_0 16 rfl rfl)
theorem dX9_canGo_17 : decode cX9_canGo 17 = .ok (.invokevirtual 289, 3) := dk_182 1 33 (dk_at dksX9_canGo_0 17 rfl rfl)
theorem dX9_canGo_20 : decode cX9_canGo 20 = .ok (.ifCond .le 27, 3) := dk_158 0 27 (dk_at dksX9_canGo_0 20 rfl rfl)
theorem dX9_canGo_23 : decode cX9_canGo 23 = .ok (.goto 20, 3) := dk_167 0 20 (dk_at dksX9_canGo_1 0 rfl rfl)
theorem dX9_canGo_26 : decode cX9_canGo 26 = .ok (.aload_n 0, 1) := dk_42 (dk_at dksX9_canGo_1 3 rfl rfl)
theorem dX9_canGo_27 : decode cX9_canGo 27 = .ok (.iload_n 1, 1) := dk_27 (dk_at dksX9_canGo_1 4 rfl rfl)
theorem dX9_canGo_28 : decode cX9_canGo 28 = .ok (.iload_n 2, 1) := dk_28 (dk_at dksX9_canGo_1 5 rfl rfl)
theorem dX9_canGo_29 : decode cX9_canGo 29 = .ok (.iconst 3, 1) := dk_6 (dk_at dksX9_canGo_1 6 rfl rfl)
theorem dX9_canGo_30 : decode cX9_canGo 30 = .ok (.invokevirtual 289, 3) := dk_182 1 33 (dk_at dksX9_canGo_1 7 rfl rfl)
theorem dX9_canGo_33 : decode cX9_canGo 33 = .ok (.aload_n 0, 1) := dk_42 (dk_at dksX9_canGo_1 10 rfl rfl)
theorem dX9_canGo_34 : decode cX9_canGo 34 = .ok (.iload_n 1, 1) := dk_27 (dk_at dksX9_canGo_1 11 rfl rfl)
theorem dX9_canGo_35 : decode cX9_canGo 35 = .ok (.iload_n 2, 1) := dk_28 (dk_at dksX9_canGo_1 12 rfl rfl)
theorem dX9_canGo_36 : decode cX9_canGo 36 = .ok (.iconst 1, 1) := dk_4 (dk_at dksX9_canGo_1 13 rfl rfl)
theorem dX9_canGo_37 : decode cX9_canGo 37 = .ok (.invokevirtual 289, 3) := dk_182 1 33 (dk_at dksX9_canGo_1 14 rfl rfl)
theorem dX9_canGo_40 : decode cX9_canGo 40 = .ok (.if_icmp .ge 7, 3) := dk_162 0 7 (dk_at dksX9_canGo_1 17 rfl rfl)
theorem dX9_canGo_43 : decode cX9_canGo 43 = .ok (.iconst 1, 1) := dk_4 (dk_at dksX9_canGo_1 20 rfl rfl)
theorem dX9_canGo_44 : decode cX9_canGo 44 = .ok (.goto 4, 3) := dk_167 0 4 (dk_at dksX9_canGo_1 21 rfl rfl)
theorem dX9_canGo_47 : decode cX9_canGo 47 = .ok (.iconst 0, 1) := dk_3 (dk_at dksX9_canGo_2 0 rfl rfl)
theorem dX9_canGo_48 : decode cX9_canGo 48 = .ok (.istore 4, 2) := dk_54 4 (dk_at dksX9_canGo_2 1 rfl rfl)
theorem dX9_canGo_50 : decode cX9_canGo 50 = .ok (.aload_n 0, 1) := dk_42 (dk_at dksX9_canGo_2 3 rfl rfl)
theorem dX9_canGo_51 : decode cX9_canGo 51 = .ok (.iload_n 1, 1) := dk_27 (dk_at dksX9_canGo_2 4 rfl rfl)
theorem dX9_canGo_52 : decode cX9_canGo 52 = .ok (.iload_n 2, 1) := dk_28 (dk_at dksX9_canGo_2 5 rfl rfl)
theorem dX9_canGo_53 : decode cX9_canGo 53 = .ok (.iload_n 3, 1) := dk_29 (dk_at dksX9_canGo_2 6 rfl rfl)
theorem dX9_canGo_54 : decode cX9_canGo 54 = .ok (.invokevirtual 250, 3) := dk_182 0 250 (dk_at dksX9_canGo_2 7 rfl rfl)
theorem dX9_canGo_57 : decode cX9_canGo 57 = .ok (.ifCond .eq 22, 3) := dk_153 0 22 (dk_at dksX9_canGo_2 10 rfl rfl)
theorem dX9_canGo_60 : decode cX9_canGo 60 = .ok (.aload_n 0, 1) := dk_42 (dk_at dksX9_canGo_2 13 rfl rfl)
theorem dX9_canGo_61 : decode cX9_canGo 61 = .ok (.iload_n 1, 1) := dk_27 (dk_at dksX9_canGo_2 14 rfl rfl)
theorem dX9_canGo_62 : decode cX9_canGo 62 = .ok (.iload_n 2, 1) := dk_28 (dk_at dksX9_canGo_2 15 rfl rfl)
theorem dX9_canGo_63 : decode cX9_canGo 63 = .ok (.iload_n 3, 1) := dk_29 (dk_at dksX9_canGo_2 16 rfl rfl)
theorem dX9_canGo_64 : decode cX9_canGo 64 = .ok (.invokevirtual 254, 3) := dk_182 0 254 (dk_at dksX9_canGo_2 17 rfl rfl)
theorem dX9_canGo_67 : decode cX9_canGo 67 = .ok (.ifCond .ne 12, 3) := dk_154 0 12 (dk_at dksX9_canGo_2 20 rfl rfl)
theorem dX9_canGo_70 : decode cX9_canGo 70 = .ok (.iload 4, 2) := dk_21 4 (dk_at dksX9_canGo_3 0 rfl rfl)
theorem dX9_canGo_72 : decode cX9_canGo 72 = .ok (.ifCond .eq 7, 3) := dk_153 0 7 (dk_at dksX9_canGo_3 2 rfl rfl)
theorem dX9_canGo_75 : decode cX9_canGo 75 = .ok (.iconst 1, 1) := dk_4 (dk_at dksX9_canGo_3 5 rfl rfl)
theorem dX9_canGo_76 : decode cX9_canGo 76 = .ok (.goto 4, 3) := dk_167 0 4 (dk_at dksX9_canGo_3 6 rfl rfl)
theorem dX9_canGo_79 : decode cX9_canGo 79 = .ok (.iconst 0, 1) := dk_3 (dk_at dksX9_canGo_3 9 rfl rfl)
theorem dX9_canGo_80 : decode cX9_canGo 80 = .ok (.ireturn, 1) := dk_172 (dk_at dksX9_canGo_3 10 rfl rfl)
abbrev cX9_isTimed : ByteArray := prog_23_method_46_code
def yX9_isTimed : MethodName := ⟨RX9, "isTimed", "(II)Z"⟩
def dkwX9_isTimed_1 : List UInt8 := [172]
abbrev dktX9_isTimed_1 : List UInt8 := dkwX9_isTimed_1 ++ []
def dkwX9_isTimed_0 : List UInt8 := [42, 27, 28, 182, 1, 26, 153, 0, 13, 42, 27, 28, 182, 1, 26, 4, 160, 0, 7, 4, 167, 0, 4, 3]
abbrev dktX9_isTimed_0 : List UInt8 := dkwX9_isTimed_0 ++ dktX9_isTimed_1
theorem dksX9_isTimed_0 : cX9_isTimed.data.toList.drop 0 = dktX9_isTimed_0 := by decide +kernel
theorem dksX9_isTimed_1 : cX9_isTimed.data.toList.drop 24 = dktX9_isTimed_1 := dk_seg dksX9_isTimed_0 24 rfl rfl
theorem dX9_isTimed_0 : decode cX9_isTimed 0 = .ok (.aload_n 0, 1) := dk_42 (dk_at dksX9_isTimed_0 0 rfl rfl)
theorem dX9_isTimed_1 : decode cX9_isTimed 1 = .ok (.iload_n 1, 1) := dk_27 (dk_at dksX9_isTimed_0 1 rfl rfl)
theorem dX9_isTimed_2 : decode cX9_isTimed 2 = .ok (.iload_n 2, 1) := dk_28 (dk_at dksX9_isTimed_0 2 rfl rfl)
theorem dX9_isTimed_3 : decode cX9_isTimed 3 = .ok (.invokevirtual 282, 3) := dk_182 1 26 (dk_at dksX9_isTimed_0 3 rfl rfl)
theorem dX9_isTimed_6 : decode cX9_isTimed 6 = .ok (.ifCond .eq 13, 3) := dk_153 0 13 (dk_at dksX9_isTimed_0 6 rfl rfl)
theorem dX9_isTimed_9 : decode cX9_isTimed 9 = .ok (.aload_n 0, 1) := dk_42 (dk_at dksX9_isTimed_0 9 rfl rfl)
theorem dX9_isTimed_10 : decode cX9_isTimed 10 = .ok (.iload_n 1, 1) := dk_27 (dk_at dksX9_isTimed_0 10 rfl rfl)
theorem dX9_isTimed_11 : decode cX9_isTimed 11 = .ok (.iload_n 2, 1) := dk_28 (dk_at dksX9_isTimed_0 11 rfl rfl)
theorem dX9_isTimed_12 : decode cX9_isTimed 12 = .ok (.invokevirtual 282, 3) := dk_182 1 26 (dk_at dksX9_isTimed_0 12 rfl rfl)
theorem dX9_isTimed_15 : decode cX9_isTimed 15 = .ok (.iconst 1, 1) := dk_4 (dk_at dksX9_isTimed_0 15 rfl rfl)
theorem dX9_isTimed_16 : decode cX9_isTimed 16 = .ok (.if_icmp .ne 7, 3) := dk_160 0 7 (dk_at dksX9_isTimed_0 16 rfl rfl)
theorem dX9_isTimed_19 : decode cX9_isTimed 19 = .ok (.iconst 1, 1) := dk_4 (dk_at dksX9_isTimed_0 19 rfl rfl)
theorem dX9_isTimed_20 : decode cX9_isTimed 20 = .ok (.goto 4, 3) := dk_167 0 4 (dk_at dksX9_isTimed_0 20 rfl rfl)
theorem dX9_isTimed_23 : decode cX9_isTimed 23 = .ok (.iconst 0, 1) := dk_3 (dk_at dksX9_isTimed_0 23 rfl rfl)
theorem dX9_isTimed_24 : decode cX9_isTimed 24 = .ok (.ireturn, 1) := dk_172 (dk_at dksX9_isTimed_1 0 rfl rfl)
abbrev cX9_isGreen : ByteArray := prog_23_method_49_code
def yX9_isGreen : MethodName := ⟨RX9, "isGreen", "(IIII)Z"⟩
def dkwX9_isGreen_2 : List UInt8 := [154, 0, 7, 4, 167, 0, 4, 3, 160, 0, 7, 4, 167, 0, 4, 3, 172]
abbrev dktX9_isGreen_2 : List UInt8 := dkwX9_isGreen_2 ++ []
def dkwX9_isGreen_1 : List UInt8 := [96, 21, 5, 112, 54, 6, 21, 6, 42, 27, 28, 6, 182, 1, 33, 162, 0, 7, 4, 167, 0, 4, 3, 29]
abbrev dktX9_isGreen_1 : List UInt8 := dkwX9_isGreen_1 ++ dktX9_isGreen_2
def dkwX9_isGreen_0 : List UInt8 := [42, 27, 28, 4, 182, 1, 33, 54, 5, 21, 4, 42, 27, 28, 5, 182, 1, 33, 100, 21, 5, 112, 21, 5]
abbrev dktX9_isGreen_0 : List UInt8 := dkwX9_isGreen_0 ++ dktX9_isGreen_1
theorem dksX9_isGreen_0 : cX9_isGreen.data.toList.drop 0 = dktX9_isGreen_0 := by decide +kernel
theorem dksX9_isGreen_1 : cX9_isGreen.data.toList.drop 24 = dktX9_isGreen_1 := dk_seg dksX9_isGreen_0 24 rfl rfl
theorem dksX9_isGreen_2 : cX9_isGreen.data.toList.drop 48 = dktX9_isGreen_2 := dk_seg dksX9_isGreen_1 24 rfl rfl
theorem dX9_isGreen_0 : decode cX9_isGreen 0 = .ok (.aload_n 0, 1) := dk_42 (dk_at dksX9_isGreen_0 0 rfl rfl)
theorem dX9_isGreen_1 : decode cX9_isGreen 1 = .ok (.iload_n 1, 1) := dk_27 (dk_at dksX9_isGreen_0 1 rfl rfl)
theorem dX9_isGreen_2 : decode cX9_isGreen 2 = .ok (.iload_n 2, 1) := dk_28 (dk_at dksX9_isGreen_0 2 rfl rfl)
theorem dX9_isGreen_3 : decode cX9_isGreen 3 = .ok (.iconst 1, 1) := dk_4 (dk_at dksX9_isGreen_0 3 rfl rfl)
theorem dX9_isGreen_4 : decode cX9_isGreen 4 = .ok (.invokevirtual 289, 3) := dk_182 1 33 (dk_at dksX9_isGreen_0 4 rfl rfl)
theorem dX9_isGreen_7 : decode cX9_isGreen 7 = .ok (.istore 5, 2) := dk_54 5 (dk_at dksX9_isGreen_0 7 rfl rfl)
theorem dX9_isGreen_9 : decode cX9_isGreen 9 = .ok (.iload 4, 2) := dk_21 4 (dk_at dksX9_isGreen_0 9 rfl rfl)
theorem dX9_isGreen_11 : decode cX9_isGreen 11 = .ok (.aload_n 0, 1) := dk_42 (dk_at dksX9_isGreen_0 11 rfl rfl)
theorem dX9_isGreen_12 : decode cX9_isGreen 12 = .ok (.iload_n 1, 1) := dk_27 (dk_at dksX9_isGreen_0 12 rfl rfl)
theorem dX9_isGreen_13 : decode cX9_isGreen 13 = .ok (.iload_n 2, 1) := dk_28 (dk_at dksX9_isGreen_0 13 rfl rfl)
theorem dX9_isGreen_14 : decode cX9_isGreen 14 = .ok (.iconst 2, 1) := dk_5 (dk_at dksX9_isGreen_0 14 rfl rfl)
theorem dX9_isGreen_15 : decode cX9_isGreen 15 = .ok (.invokevirtual 289, 3) := dk_182 1 33 (dk_at dksX9_isGreen_0 15 rfl rfl)
theorem dX9_isGreen_18 : decode cX9_isGreen 18 = .ok (.isub, 1) := dk_100 (dk_at dksX9_isGreen_0 18 rfl rfl)
theorem dX9_isGreen_19 : decode cX9_isGreen 19 = .ok (.iload 5, 2) := dk_21 5 (dk_at dksX9_isGreen_0 19 rfl rfl)
theorem dX9_isGreen_21 : decode cX9_isGreen 21 = .ok (.irem, 1) := dk_112 (dk_at dksX9_isGreen_0 21 rfl rfl)
theorem dX9_isGreen_22 : decode cX9_isGreen 22 = .ok (.iload 5, 2) := dk_21 5 (dk_at dksX9_isGreen_0 22 rfl rfl)
theorem dX9_isGreen_24 : decode cX9_isGreen 24 = .ok (.iadd, 1) := dk_96 (dk_at dksX9_isGreen_1 0 rfl rfl)
theorem dX9_isGreen_25 : decode cX9_isGreen 25 = .ok (.iload 5, 2) := dk_21 5 (dk_at dksX9_isGreen_1 1 rfl rfl)
theorem dX9_isGreen_27 : decode cX9_isGreen 27 = .ok (.irem, 1) := dk_112 (dk_at dksX9_isGreen_1 3 rfl rfl)
theorem dX9_isGreen_28 : decode cX9_isGreen 28 = .ok (.istore 6, 2) := dk_54 6 (dk_at dksX9_isGreen_1 4 rfl rfl)
theorem dX9_isGreen_30 : decode cX9_isGreen 30 = .ok (.iload 6, 2) := dk_21 6 (dk_at dksX9_isGreen_1 6 rfl rfl)
theorem dX9_isGreen_32 : decode cX9_isGreen 32 = .ok (.aload_n 0, 1) := dk_42 (dk_at dksX9_isGreen_1 8 rfl rfl)
theorem dX9_isGreen_33 : decode cX9_isGreen 33 = .ok (.iload_n 1, 1) := dk_27 (dk_at dksX9_isGreen_1 9 rfl rfl)
theorem dX9_isGreen_34 : decode cX9_isGreen 34 = .ok (.iload_n 2, 1) := dk_28 (dk_at dksX9_isGreen_1 10 rfl rfl)
theorem dX9_isGreen_35 : decode cX9_isGreen 35 = .ok (.iconst 3, 1) := dk_6 (dk_at dksX9_isGreen_1 11 rfl rfl)
theorem dX9_isGreen_36 : decode cX9_isGreen 36 = .ok (.invokevirtual 289, 3) := dk_182 1 33 (dk_at dksX9_isGreen_1 12 rfl rfl)
theorem dX9_isGreen_39 : decode cX9_isGreen 39 = .ok (.if_icmp .ge 7, 3) := dk_162 0 7 (dk_at dksX9_isGreen_1 15 rfl rfl)
theorem dX9_isGreen_42 : decode cX9_isGreen 42 = .ok (.iconst 1, 1) := dk_4 (dk_at dksX9_isGreen_1 18 rfl rfl)
theorem dX9_isGreen_43 : decode cX9_isGreen 43 = .ok (.goto 4, 3) := dk_167 0 4 (dk_at dksX9_isGreen_1 19 rfl rfl)
theorem dX9_isGreen_46 : decode cX9_isGreen 46 = .ok (.iconst 0, 1) := dk_3 (dk_at dksX9_isGreen_1 22 rfl rfl)
theorem dX9_isGreen_47 : decode cX9_isGreen 47 = .ok (.iload_n 3, 1) := dk_29 (dk_at dksX9_isGreen_1 23 rfl rfl)
theorem dX9_isGreen_48 : decode cX9_isGreen 48 = .ok (.ifCond .ne 7, 3) := dk_154 0 7 (dk_at dksX9_isGreen_2 0 rfl rfl)
theorem dX9_isGreen_51 : decode cX9_isGreen 51 = .ok (.iconst 1, 1) := dk_4 (dk_at dksX9_isGreen_2 3 rfl rfl)
theorem dX9_isGreen_52 : decode cX9_isGreen 52 = .ok (.goto 4, 3) := dk_167 0 4 (dk_at dksX9_isGreen_2 4 rfl rfl)
theorem dX9_isGreen_55 : decode cX9_isGreen 55 = .ok (.iconst 0, 1) := dk_3 (dk_at dksX9_isGreen_2 7 rfl rfl)
theorem dX9_isGreen_56 : decode cX9_isGreen 56 = .ok (.if_icmp .ne 7, 3) := dk_160 0 7 (dk_at dksX9_isGreen_2 8 rfl rfl)
theorem dX9_isGreen_59 : decode cX9_isGreen 59 = .ok (.iconst 1, 1) := dk_4 (dk_at dksX9_isGreen_2 11 rfl rfl)
theorem dX9_isGreen_60 : decode cX9_isGreen 60 = .ok (.goto 4, 3) := dk_167 0 4 (dk_at dksX9_isGreen_2 12 rfl rfl)
theorem dX9_isGreen_63 : decode cX9_isGreen 63 = .ok (.iconst 0, 1) := dk_3 (dk_at dksX9_isGreen_2 15 rfl rfl)
theorem dX9_isGreen_64 : decode cX9_isGreen 64 = .ok (.ireturn, 1) := dk_172 (dk_at dksX9_isGreen_2 16 rfl rfl)
abbrev cX9_until : ByteArray := prog_23_method_55_code
def yX9_until : MethodName := ⟨RX9, "until", "(IIII)I"⟩
def dkwX9_until_1 : List UInt8 := [182, 1, 59, 167, 0, 4, 2, 172]
abbrev dktX9_until_1 : List UInt8 := dkwX9_until_1 ++ []
def dkwX9_until_0 : List UInt8 := [42, 3, 181, 0, 1, 42, 27, 28, 29, 21, 4, 182, 1, 56, 153, 0, 15, 42, 27, 28, 29, 21, 4]
abbrev dktX9_until_0 : List UInt8 := dkwX9_until_0 ++ dktX9_until_1
theorem dksX9_until_0 : cX9_until.data.toList.drop 0 = dktX9_until_0 := by decide +kernel
theorem dksX9_until_1 : cX9_until.data.toList.drop 23 = dktX9_until_1 := dk_seg dksX9_until_0 23 rfl rfl
theorem dX9_until_0 : decode cX9_until 0 = .ok (.aload_n 0, 1) := dk_42 (dk_at dksX9_until_0 0 rfl rfl)
theorem dX9_until_1 : decode cX9_until 1 = .ok (.iconst 0, 1) := dk_3 (dk_at dksX9_until_0 1 rfl rfl)
theorem dX9_until_2 : decode cX9_until 2 = .ok (.putfield 1, 3) := dk_181 0 1 (dk_at dksX9_until_0 2 rfl rfl)
theorem dX9_until_5 : decode cX9_until 5 = .ok (.aload_n 0, 1) := dk_42 (dk_at dksX9_until_0 5 rfl rfl)
theorem dX9_until_6 : decode cX9_until 6 = .ok (.iload_n 1, 1) := dk_27 (dk_at dksX9_until_0 6 rfl rfl)
theorem dX9_until_7 : decode cX9_until 7 = .ok (.iload_n 2, 1) := dk_28 (dk_at dksX9_until_0 7 rfl rfl)
theorem dX9_until_8 : decode cX9_until 8 = .ok (.iload_n 3, 1) := dk_29 (dk_at dksX9_until_0 8 rfl rfl)
theorem dX9_until_9 : decode cX9_until 9 = .ok (.iload 4, 2) := dk_21 4 (dk_at dksX9_until_0 9 rfl rfl)
theorem dX9_until_11 : decode cX9_until 11 = .ok (.invokevirtual 312, 3) := dk_182 1 56 (dk_at dksX9_until_0 11 rfl rfl)
theorem dX9_until_14 : decode cX9_until 14 = .ok (.ifCond .eq 15, 3) := dk_153 0 15 (dk_at dksX9_until_0 14 rfl rfl)
theorem dX9_until_17 : decode cX9_until 17 = .ok (.aload_n 0, 1) := dk_42 (dk_at dksX9_until_0 17 rfl rfl)
theorem dX9_until_18 : decode cX9_until 18 = .ok (.iload_n 1, 1) := dk_27 (dk_at dksX9_until_0 18 rfl rfl)
theorem dX9_until_19 : decode cX9_until 19 = .ok (.iload_n 2, 1) := dk_28 (dk_at dksX9_until_0 19 rfl rfl)
theorem dX9_until_20 : decode cX9_until 20 = .ok (.iload_n 3, 1) := dk_29 (dk_at dksX9_until_0 20 rfl rfl)
theorem dX9_until_21 : decode cX9_until 21 = .ok (.iload 4, 2) := dk_21 4 (dk_at dksX9_until_0 21 rfl rfl)
theorem dX9_until_23 : decode cX9_until 23 = .ok (.invokevirtual 315, 3) := dk_182 1 59 (dk_at dksX9_until_1 0 rfl rfl)
theorem dX9_until_26 : decode cX9_until 26 = .ok (.goto 4, 3) := dk_167 0 4 (dk_at dksX9_until_1 3 rfl rfl)
theorem dX9_until_29 : decode cX9_until 29 = .ok (.iconst (-1), 1) := dk_2 (dk_at dksX9_until_1 6 rfl rfl)
theorem dX9_until_30 : decode cX9_until 30 = .ok (.ireturn, 1) := dk_172 (dk_at dksX9_until_1 7 rfl rfl)
abbrev cX9_waitFor : ByteArray := prog_23_method_50_code
def yX9_waitFor : MethodName := ⟨RX9, "waitFor", "(IIII)I"⟩
def dkwX9_waitFor_2 : List UInt8 := [182, 1, 36, 154, 0, 9, 132, 5, 1, 167, 255, 229, 21, 5, 172]
abbrev dktX9_waitFor_2 : List UInt8 := dkwX9_waitFor_2 ++ []
def dkwX9_waitFor_1 : List UInt8 := [3, 172, 3, 54, 5, 42, 27, 28, 182, 1, 29, 153, 0, 24, 42, 27, 28, 29, 21, 4, 21, 5, 96]
abbrev dktX9_waitFor_1 : List UInt8 := dkwX9_waitFor_1 ++ dktX9_waitFor_2
def dkwX9_waitFor_0 : List UInt8 := [42, 27, 28, 182, 1, 26, 5, 160, 0, 19, 29, 154, 0, 13, 42, 27, 28, 5, 182, 1, 33, 167, 0, 4]
abbrev dktX9_waitFor_0 : List UInt8 := dkwX9_waitFor_0 ++ dktX9_waitFor_1
theorem dksX9_waitFor_0 : cX9_waitFor.data.toList.drop 0 = dktX9_waitFor_0 := by decide +kernel
theorem dksX9_waitFor_1 : cX9_waitFor.data.toList.drop 24 = dktX9_waitFor_1 := dk_seg dksX9_waitFor_0 24 rfl rfl
theorem dksX9_waitFor_2 : cX9_waitFor.data.toList.drop 47 = dktX9_waitFor_2 := dk_seg dksX9_waitFor_1 23 rfl rfl
theorem dX9_waitFor_0 : decode cX9_waitFor 0 = .ok (.aload_n 0, 1) := dk_42 (dk_at dksX9_waitFor_0 0 rfl rfl)
theorem dX9_waitFor_1 : decode cX9_waitFor 1 = .ok (.iload_n 1, 1) := dk_27 (dk_at dksX9_waitFor_0 1 rfl rfl)
theorem dX9_waitFor_2 : decode cX9_waitFor 2 = .ok (.iload_n 2, 1) := dk_28 (dk_at dksX9_waitFor_0 2 rfl rfl)
theorem dX9_waitFor_3 : decode cX9_waitFor 3 = .ok (.invokevirtual 282, 3) := dk_182 1 26 (dk_at dksX9_waitFor_0 3 rfl rfl)
theorem dX9_waitFor_6 : decode cX9_waitFor 6 = .ok (.iconst 2, 1) := dk_5 (dk_at dksX9_waitFor_0 6 rfl rfl)
theorem dX9_waitFor_7 : decode cX9_waitFor 7 = .ok (.if_icmp .ne 19, 3) := dk_160 0 19 (dk_at dksX9_waitFor_0 7 rfl rfl)
theorem dX9_waitFor_10 : decode cX9_waitFor 10 = .ok (.iload_n 3, 1) := dk_29 (dk_at dksX9_waitFor_0 10 rfl rfl)
theorem dX9_waitFor_11 : decode cX9_waitFor 11 = .ok (.ifCond .ne 13, 3) := dk_154 0 13 (dk_at dksX9_waitFor_0 11 rfl rfl)
theorem dX9_waitFor_14 : decode cX9_waitFor 14 = .ok (.aload_n 0, 1) := dk_42 (dk_at dksX9_waitFor_0 14 rfl rfl)
theorem dX9_waitFor_15 : decode cX9_waitFor 15 = .ok (.iload_n 1, 1) := dk_27 (dk_at dksX9_waitFor_0 15 rfl rfl)
theorem dX9_waitFor_16 : decode cX9_waitFor 16 = .ok (.iload_n 2, 1) := dk_28 (dk_at dksX9_waitFor_0 16 rfl rfl)
theorem dX9_waitFor_17 : decode cX9_waitFor 17 = .ok (.iconst 2, 1) := dk_5 (dk_at dksX9_waitFor_0 17 rfl rfl)
theorem dX9_waitFor_18 : decode cX9_waitFor 18 = .ok (.invokevirtual 289, 3) := dk_182 1 33 (dk_at dksX9_waitFor_0 18 rfl rfl)
theorem dX9_waitFor_21 : decode cX9_waitFor 21 = .ok (.goto 4, 3) := dk_167 0 4 (dk_at dksX9_waitFor_0 21 rfl rfl)
theorem dX9_waitFor_24 : decode cX9_waitFor 24 = .ok (.iconst 0, 1) := dk_3 (dk_at dksX9_waitFor_1 0 rfl rfl)
theorem dX9_waitFor_25 : decode cX9_waitFor 25 = .ok (.ireturn, 1) := dk_172 (dk_at dksX9_waitFor_1 1 rfl rfl)
theorem dX9_waitFor_26 : decode cX9_waitFor 26 = .ok (.iconst 0, 1) := dk_3 (dk_at dksX9_waitFor_1 2 rfl rfl)
theorem dX9_waitFor_27 : decode cX9_waitFor 27 = .ok (.istore 5, 2) := dk_54 5 (dk_at dksX9_waitFor_1 3 rfl rfl)
theorem dX9_waitFor_29 : decode cX9_waitFor 29 = .ok (.aload_n 0, 1) := dk_42 (dk_at dksX9_waitFor_1 5 rfl rfl)
theorem dX9_waitFor_30 : decode cX9_waitFor 30 = .ok (.iload_n 1, 1) := dk_27 (dk_at dksX9_waitFor_1 6 rfl rfl)
theorem dX9_waitFor_31 : decode cX9_waitFor 31 = .ok (.iload_n 2, 1) := dk_28 (dk_at dksX9_waitFor_1 7 rfl rfl)
theorem dX9_waitFor_32 : decode cX9_waitFor 32 = .ok (.invokevirtual 285, 3) := dk_182 1 29 (dk_at dksX9_waitFor_1 8 rfl rfl)
theorem dX9_waitFor_35 : decode cX9_waitFor 35 = .ok (.ifCond .eq 24, 3) := dk_153 0 24 (dk_at dksX9_waitFor_1 11 rfl rfl)
theorem dX9_waitFor_38 : decode cX9_waitFor 38 = .ok (.aload_n 0, 1) := dk_42 (dk_at dksX9_waitFor_1 14 rfl rfl)
theorem dX9_waitFor_39 : decode cX9_waitFor 39 = .ok (.iload_n 1, 1) := dk_27 (dk_at dksX9_waitFor_1 15 rfl rfl)
theorem dX9_waitFor_40 : decode cX9_waitFor 40 = .ok (.iload_n 2, 1) := dk_28 (dk_at dksX9_waitFor_1 16 rfl rfl)
theorem dX9_waitFor_41 : decode cX9_waitFor 41 = .ok (.iload_n 3, 1) := dk_29 (dk_at dksX9_waitFor_1 17 rfl rfl)
theorem dX9_waitFor_42 : decode cX9_waitFor 42 = .ok (.iload 4, 2) := dk_21 4 (dk_at dksX9_waitFor_1 18 rfl rfl)
theorem dX9_waitFor_44 : decode cX9_waitFor 44 = .ok (.iload 5, 2) := dk_21 5 (dk_at dksX9_waitFor_1 20 rfl rfl)
theorem dX9_waitFor_46 : decode cX9_waitFor 46 = .ok (.iadd, 1) := dk_96 (dk_at dksX9_waitFor_1 22 rfl rfl)
theorem dX9_waitFor_47 : decode cX9_waitFor 47 = .ok (.invokevirtual 292, 3) := dk_182 1 36 (dk_at dksX9_waitFor_2 0 rfl rfl)
theorem dX9_waitFor_50 : decode cX9_waitFor 50 = .ok (.ifCond .ne 9, 3) := dk_154 0 9 (dk_at dksX9_waitFor_2 3 rfl rfl)
theorem dX9_waitFor_53 : decode cX9_waitFor 53 = .ok (.iinc 5 1, 3) := dk_132 5 1 (dk_at dksX9_waitFor_2 6 rfl rfl)
theorem dX9_waitFor_56 : decode cX9_waitFor 56 = .ok (.goto (-27), 3) := dk_167 255 229 (dk_at dksX9_waitFor_2 9 rfl rfl)
theorem dX9_waitFor_59 : decode cX9_waitFor 59 = .ok (.iload 5, 2) := dk_21 5 (dk_at dksX9_waitFor_2 12 rfl rfl)
theorem dX9_waitFor_61 : decode cX9_waitFor 61 = .ok (.ireturn, 1) := dk_172 (dk_at dksX9_waitFor_2 14 rfl rfl)
abbrev cX9_go : ByteArray := prog_23_method_62_code
def yX9_go : MethodName := ⟨RX9, "go", "(IZ)I"⟩
def dkwX9_go_7 : List UInt8 := [5, 46, 172]
abbrev dktX9_go_7 : List UInt8 := dkwX9_go_7 ++ []
def dkwX9_go_6 : List UInt8 := [96, 79, 42, 180, 0, 102, 6, 92, 46, 28, 153, 0, 7, 4, 167, 0, 4, 3, 96, 79, 42, 180, 0, 102]
abbrev dktX9_go_6 : List UInt8 := dkwX9_go_6 ++ dktX9_go_7
def dkwX9_go_5 : List UInt8 := [46, 96, 96, 79, 42, 180, 0, 102, 3, 92, 46, 4, 27, 100, 96, 79, 42, 180, 0, 102, 4, 92, 46, 27]
abbrev dktX9_go_5 : List UInt8 := dkwX9_go_5 ++ dktX9_go_6
def dkwX9_go_4 : List UInt8 := [180, 0, 102, 5, 46, 182, 1, 59, 28, 153, 0, 10, 42, 182, 1, 76, 167, 0, 9, 42, 180, 0, 81, 5]
abbrev dktX9_go_4 : List UInt8 := dkwX9_go_4 ++ dktX9_go_5
def dkwX9_go_3 : List UInt8 := [160, 0, 5, 2, 172, 42, 182, 1, 73, 42, 180, 0, 102, 5, 92, 46, 42, 29, 21, 4, 27, 42]
abbrev dktX9_go_3 : List UInt8 := dkwX9_go_3 ++ dktX9_go_4
def dkwX9_go_2 : List UInt8 := [180, 0, 81, 16, 6, 46, 4, 159, 0, 18, 42, 180, 0, 102, 6, 46, 42, 180, 0, 81, 8, 46]
abbrev dktX9_go_2 : List UInt8 := dkwX9_go_2 ++ dktX9_go_3
def dkwX9_go_1 : List UInt8 := [184, 1, 43, 153, 0, 44, 42, 29, 21, 4, 27, 182, 1, 53, 153, 0, 33, 28, 153, 0, 31, 42]
abbrev dktX9_go_1 : List UInt8 := dkwX9_go_1 ++ dktX9_go_2
def dkwX9_go_0 : List UInt8 := [42, 3, 181, 0, 1, 42, 180, 0, 102, 3, 46, 62, 42, 180, 0, 102, 4, 46, 54, 4, 27, 3, 4]
abbrev dktX9_go_0 : List UInt8 := dkwX9_go_0 ++ dktX9_go_1
theorem dksX9_go_0 : cX9_go.data.toList.drop 0 = dktX9_go_0 := by decide +kernel
theorem dksX9_go_1 : cX9_go.data.toList.drop 23 = dktX9_go_1 := dk_seg dksX9_go_0 23 rfl rfl
theorem dksX9_go_2 : cX9_go.data.toList.drop 45 = dktX9_go_2 := dk_seg dksX9_go_1 22 rfl rfl
theorem dksX9_go_3 : cX9_go.data.toList.drop 67 = dktX9_go_3 := dk_seg dksX9_go_2 22 rfl rfl
theorem dksX9_go_4 : cX9_go.data.toList.drop 89 = dktX9_go_4 := dk_seg dksX9_go_3 22 rfl rfl
theorem dksX9_go_5 : cX9_go.data.toList.drop 113 = dktX9_go_5 := dk_seg dksX9_go_4 24 rfl rfl
theorem dksX9_go_6 : cX9_go.data.toList.drop 137 = dktX9_go_6 := dk_seg dksX9_go_5 24 rfl rfl
theorem dksX9_go_7 : cX9_go.data.toList.drop 161 = dktX9_go_7 := dk_seg dksX9_go_6 24 rfl rfl
theorem dX9_go_0 : decode cX9_go 0 = .ok (.aload_n 0, 1) := dk_42 (dk_at dksX9_go_0 0 rfl rfl)
theorem dX9_go_1 : decode cX9_go 1 = .ok (.iconst 0, 1) := dk_3 (dk_at dksX9_go_0 1 rfl rfl)
theorem dX9_go_2 : decode cX9_go 2 = .ok (.putfield 1, 3) := dk_181 0 1 (dk_at dksX9_go_0 2 rfl rfl)
theorem dX9_go_5 : decode cX9_go 5 = .ok (.aload_n 0, 1) := dk_42 (dk_at dksX9_go_0 5 rfl rfl)
theorem dX9_go_6 : decode cX9_go 6 = .ok (.getfield 102, 3) := dk_180 0 102 (dk_at dksX9_go_0 6 rfl rfl)
theorem dX9_go_9 : decode cX9_go 9 = .ok (.iconst 0, 1) := dk_3 (dk_at dksX9_go_0 9 rfl rfl)
theorem dX9_go_10 : decode cX9_go 10 = .ok (.iaload, 1) := dk_46 (dk_at dksX9_go_0 10 rfl rfl)
theorem dX9_go_11 : decode cX9_go 11 = .ok (.istore_n 3, 1) := dk_62 (dk_at dksX9_go_0 11 rfl rfl)
theorem dX9_go_12 : decode cX9_go 12 = .ok (.aload_n 0, 1) := dk_42 (dk_at dksX9_go_0 12 rfl rfl)
theorem dX9_go_13 : decode cX9_go 13 = .ok (.getfield 102, 3) := dk_180 0 102 (dk_at dksX9_go_0 13 rfl rfl)
theorem dX9_go_16 : decode cX9_go 16 = .ok (.iconst 1, 1) := dk_4 (dk_at dksX9_go_0 16 rfl rfl)
theorem dX9_go_17 : decode cX9_go 17 = .ok (.iaload, 1) := dk_46 (dk_at dksX9_go_0 17 rfl rfl)
theorem dX9_go_18 : decode cX9_go 18 = .ok (.istore 4, 2) := dk_54 4 (dk_at dksX9_go_0 18 rfl rfl)
theorem dX9_go_20 : decode cX9_go 20 = .ok (.iload_n 1, 1) := dk_27 (dk_at dksX9_go_0 20 rfl rfl)
theorem dX9_go_21 : decode cX9_go 21 = .ok (.iconst 0, 1) := dk_3 (dk_at dksX9_go_0 21 rfl rfl)
theorem dX9_go_22 : decode cX9_go 22 = .ok (.iconst 1, 1) := dk_4 (dk_at dksX9_go_0 22 rfl rfl)
theorem dX9_go_23 : decode cX9_go 23 = .ok (.invokestatic 299, 3) := dk_184 1 43 (dk_at dksX9_go_1 0 rfl rfl)
theorem dX9_go_26 : decode cX9_go 26 = .ok (.ifCond .eq 44, 3) := dk_153 0 44 (dk_at dksX9_go_1 3 rfl rfl)
theorem dX9_go_29 : decode cX9_go 29 = .ok (.aload_n 0, 1) := dk_42 (dk_at dksX9_go_1 6 rfl rfl)
theorem dX9_go_30 : decode cX9_go 30 = .ok (.iload_n 3, 1) := dk_29 (dk_at dksX9_go_1 7 rfl rfl)
theorem dX9_go_31 : decode cX9_go 31 = .ok (.iload 4, 2) := dk_21 4 (dk_at dksX9_go_1 8 rfl rfl)
theorem dX9_go_33 : decode cX9_go 33 = .ok (.iload_n 1, 1) := dk_27 (dk_at dksX9_go_1 10 rfl rfl)
theorem dX9_go_34 : decode cX9_go 34 = .ok (.invokevirtual 309, 3) := dk_182 1 53 (dk_at dksX9_go_1 11 rfl rfl)
theorem dX9_go_37 : decode cX9_go 37 = .ok (.ifCond .eq 33, 3) := dk_153 0 33 (dk_at dksX9_go_1 14 rfl rfl)
theorem dX9_go_40 : decode cX9_go 40 = .ok (.iload_n 2, 1) := dk_28 (dk_at dksX9_go_1 17 rfl rfl)
theorem dX9_go_41 : decode cX9_go 41 = .ok (.ifCond .eq 31, 3) := dk_153 0 31 (dk_at dksX9_go_1 18 rfl rfl)
theorem dX9_go_44 : decode cX9_go 44 = .ok (.aload_n 0, 1) := dk_42 (dk_at dksX9_go_1 21 rfl rfl)
theorem dX9_go_45 : decode cX9_go 45 = .ok (.getfield 81, 3) := dk_180 0 81 (dk_at dksX9_go_2 0 rfl rfl)
theorem dX9_go_48 : decode cX9_go 48 = .ok (.bipush 6, 2) := dk_16 6 (dk_at dksX9_go_2 3 rfl rfl)
theorem dX9_go_50 : decode cX9_go 50 = .ok (.iaload, 1) := dk_46 (dk_at dksX9_go_2 5 rfl rfl)
theorem dX9_go_51 : decode cX9_go 51 = .ok (.iconst 1, 1) := dk_4 (dk_at dksX9_go_2 6 rfl rfl)
theorem dX9_go_52 : decode cX9_go 52 = .ok (.if_icmp .eq 18, 3) := dk_159 0 18 (dk_at dksX9_go_2 7 rfl rfl)
theorem dX9_go_55 : decode cX9_go 55 = .ok (.aload_n 0, 1) := dk_42 (dk_at dksX9_go_2 10 rfl rfl)
theorem dX9_go_56 : decode cX9_go 56 = .ok (.getfield 102, 3) := dk_180 0 102 (dk_at dksX9_go_2 11 rfl rfl)
theorem dX9_go_59 : decode cX9_go 59 = .ok (.iconst 3, 1) := dk_6 (dk_at dksX9_go_2 14 rfl rfl)
theorem dX9_go_60 : decode cX9_go 60 = .ok (.iaload, 1) := dk_46 (dk_at dksX9_go_2 15 rfl rfl)
theorem dX9_go_61 : decode cX9_go 61 = .ok (.aload_n 0, 1) := dk_42 (dk_at dksX9_go_2 16 rfl rfl)
theorem dX9_go_62 : decode cX9_go 62 = .ok (.getfield 81, 3) := dk_180 0 81 (dk_at dksX9_go_2 17 rfl rfl)
theorem dX9_go_65 : decode cX9_go 65 = .ok (.iconst 5, 1) := dk_8 (dk_at dksX9_go_2 20 rfl rfl)
theorem dX9_go_66 : decode cX9_go 66 = .ok (.iaload, 1) := dk_46 (dk_at dksX9_go_2 21 rfl rfl)
theorem dX9_go_67 : decode cX9_go 67 = .ok (.if_icmp .ne 5, 3) := dk_160 0 5 (dk_at dksX9_go_3 0 rfl rfl)
theorem dX9_go_70 : decode cX9_go 70 = .ok (.iconst (-1), 1) := dk_2 (dk_at dksX9_go_3 3 rfl rfl)
theorem dX9_go_71 : decode cX9_go 71 = .ok (.ireturn, 1) := dk_172 (dk_at dksX9_go_3 4 rfl rfl)
theorem dX9_go_72 : decode cX9_go 72 = .ok (.aload_n 0, 1) := dk_42 (dk_at dksX9_go_3 5 rfl rfl)
theorem dX9_go_73 : decode cX9_go 73 = .ok (.invokevirtual 329, 3) := dk_182 1 73 (dk_at dksX9_go_3 6 rfl rfl)
theorem dX9_go_76 : decode cX9_go 76 = .ok (.aload_n 0, 1) := dk_42 (dk_at dksX9_go_3 9 rfl rfl)
theorem dX9_go_77 : decode cX9_go 77 = .ok (.getfield 102, 3) := dk_180 0 102 (dk_at dksX9_go_3 10 rfl rfl)
theorem dX9_go_80 : decode cX9_go 80 = .ok (.iconst 2, 1) := dk_5 (dk_at dksX9_go_3 13 rfl rfl)
theorem dX9_go_81 : decode cX9_go 81 = .ok (.dup2, 1) := dk_92 (dk_at dksX9_go_3 14 rfl rfl)
theorem dX9_go_82 : decode cX9_go 82 = .ok (.iaload, 1) := dk_46 (dk_at dksX9_go_3 15 rfl rfl)
theorem dX9_go_83 : decode cX9_go 83 = .ok (.aload_n 0, 1) := dk_42 (dk_at dksX9_go_3 16 rfl rfl)
theorem dX9_go_84 : decode cX9_go 84 = .ok (.iload_n 3, 1) := dk_29 (dk_at dksX9_go_3 17 rfl rfl)
theorem dX9_go_85 : decode cX9_go 85 = .ok (.iload 4, 2) := dk_21 4 (dk_at dksX9_go_3 18 rfl rfl)
theorem dX9_go_87 : decode cX9_go 87 = .ok (.iload_n 1, 1) := dk_27 (dk_at dksX9_go_3 20 rfl rfl)
theorem dX9_go_88 : decode cX9_go 88 = .ok (.aload_n 0, 1) := dk_42 (dk_at dksX9_go_3 21 rfl rfl)
theorem dX9_go_89 : decode cX9_go 89 = .ok (.getfield 102, 3) := dk_180 0 102 (dk_at dksX9_go_4 0 rfl rfl)
theorem dX9_go_92 : decode cX9_go 92 = .ok (.iconst 2, 1) := dk_5 (dk_at dksX9_go_4 3 rfl rfl)
theorem dX9_go_93 : decode cX9_go 93 = .ok (.iaload, 1) := dk_46 (dk_at dksX9_go_4 4 rfl rfl)
theorem dX9_go_94 : decode cX9_go 94 = .ok (.invokevirtual 315, 3) := dk_182 1 59 (dk_at dksX9_go_4 5 rfl rfl)
theorem dX9_go_97 : decode cX9_go 97 = .ok (.iload_n 2, 1) := dk_28 (dk_at dksX9_go_4 8 rfl rfl)
theorem dX9_go_98 : decode cX9_go 98 = .ok (.ifCond .eq 10, 3) := dk_153 0 10 (dk_at dksX9_go_4 9 rfl rfl)
theorem dX9_go_101 : decode cX9_go 101 = .ok (.aload_n 0, 1) := dk_42 (dk_at dksX9_go_4 12 rfl rfl)
theorem dX9_go_102 : decode cX9_go 102 = .ok (.invokevirtual 332, 3) := dk_182 1 76 (dk_at dksX9_go_4 13 rfl rfl)
theorem dX9_go_105 : decode cX9_go 105 = .ok (.goto 9, 3) := dk_167 0 9 (dk_at dksX9_go_4 16 rfl rfl)
theorem dX9_go_108 : decode cX9_go 108 = .ok (.aload_n 0, 1) := dk_42 (dk_at dksX9_go_4 19 rfl rfl)
theorem dX9_go_109 : decode cX9_go 109 = .ok (.getfield 81, 3) := dk_180 0 81 (dk_at dksX9_go_4 20 rfl rfl)
theorem dX9_go_112 : decode cX9_go 112 = .ok (.iconst 2, 1) := dk_5 (dk_at dksX9_go_4 23 rfl rfl)
theorem dX9_go_113 : decode cX9_go 113 = .ok (.iaload, 1) := dk_46 (dk_at dksX9_go_5 0 rfl rfl)
theorem dX9_go_114 : decode cX9_go 114 = .ok (.iadd, 1) := dk_96 (dk_at dksX9_go_5 1 rfl rfl)
theorem dX9_go_115 : decode cX9_go 115 = .ok (.iadd, 1) := dk_96 (dk_at dksX9_go_5 2 rfl rfl)
theorem dX9_go_116 : decode cX9_go 116 = .ok (.iastore, 1) := dk_79 (dk_at dksX9_go_5 3 rfl rfl)
theorem dX9_go_117 : decode cX9_go 117 = .ok (.aload_n 0, 1) := dk_42 (dk_at dksX9_go_5 4 rfl rfl)
theorem dX9_go_118 : decode cX9_go 118 = .ok (.getfield 102, 3) := dk_180 0 102 (dk_at dksX9_go_5 5 rfl rfl)
theorem dX9_go_121 : decode cX9_go 121 = .ok (.iconst 0, 1) := dk_3 (dk_at dksX9_go_5 8 rfl rfl)
theorem dX9_go_122 : decode cX9_go 122 = .ok (.dup2, 1) := dk_92 (dk_at dksX9_go_5 9 rfl rfl)
theorem dX9_go_123 : decode cX9_go 123 = .ok (.iaload, 1) := dk_46 (dk_at dksX9_go_5 10 rfl rfl)
theorem dX9_go_124 : decode cX9_go 124 = .ok (.iconst 1, 1) := dk_4 (dk_at dksX9_go_5 11 rfl rfl)
theorem dX9_go_125 : decode cX9_go 125 = .ok (.iload_n 1, 1) := dk_27 (dk_at dksX9_go_5 12 rfl rfl)
theorem dX9_go_126 : decode cX9_go 126 = .ok (.isub, 1) := dk_100 (dk_at dksX9_go_5 13 rfl rfl)
theorem dX9_go_127 : decode cX9_go 127 = .ok (.iadd, 1) := dk_96 (dk_at dksX9_go_5 14 rfl rfl)
theorem dX9_go_128 : decode cX9_go 128 = .ok (.iastore, 1) := dk_79 (dk_at dksX9_go_5 15 rfl rfl)
theorem dX9_go_129 : decode cX9_go 129 = .ok (.aload_n 0, 1) := dk_42 (dk_at dksX9_go_5 16 rfl rfl)
theorem dX9_go_130 : decode cX9_go 130 = .ok (.getfield 102, 3) := dk_180 0 102 (dk_at dksX9_go_5 17 rfl rfl)
theorem dX9_go_133 : decode cX9_go 133 = .ok (.iconst 1, 1) := dk_4 (dk_at dksX9_go_5 20 rfl rfl)
theorem dX9_go_134 : decode cX9_go 134 = .ok (.dup2, 1) := dk_92 (dk_at dksX9_go_5 21 rfl rfl)
theorem dX9_go_135 : decode cX9_go 135 = .ok (.iaload, 1) := dk_46 (dk_at dksX9_go_5 22 rfl rfl)
theorem dX9_go_136 : decode cX9_go 136 = .ok (.iload_n 1, 1) := dk_27 (dk_at dksX9_go_5 23 rfl rfl)
theorem dX9_go_137 : decode cX9_go 137 = .ok (.iadd, 1) := dk_96 (dk_at dksX9_go_6 0 rfl rfl)
theorem dX9_go_138 : decode cX9_go 138 = .ok (.iastore, 1) := dk_79 (dk_at dksX9_go_6 1 rfl rfl)
theorem dX9_go_139 : decode cX9_go 139 = .ok (.aload_n 0, 1) := dk_42 (dk_at dksX9_go_6 2 rfl rfl)
theorem dX9_go_140 : decode cX9_go 140 = .ok (.getfield 102, 3) := dk_180 0 102 (dk_at dksX9_go_6 3 rfl rfl)
theorem dX9_go_143 : decode cX9_go 143 = .ok (.iconst 3, 1) := dk_6 (dk_at dksX9_go_6 6 rfl rfl)
theorem dX9_go_144 : decode cX9_go 144 = .ok (.dup2, 1) := dk_92 (dk_at dksX9_go_6 7 rfl rfl)
theorem dX9_go_145 : decode cX9_go 145 = .ok (.iaload, 1) := dk_46 (dk_at dksX9_go_6 8 rfl rfl)
theorem dX9_go_146 : decode cX9_go 146 = .ok (.iload_n 2, 1) := dk_28 (dk_at dksX9_go_6 9 rfl rfl)
theorem dX9_go_147 : decode cX9_go 147 = .ok (.ifCond .eq 7, 3) := dk_153 0 7 (dk_at dksX9_go_6 10 rfl rfl)
theorem dX9_go_150 : decode cX9_go 150 = .ok (.iconst 1, 1) := dk_4 (dk_at dksX9_go_6 13 rfl rfl)
theorem dX9_go_151 : decode cX9_go 151 = .ok (.goto 4, 3) := dk_167 0 4 (dk_at dksX9_go_6 14 rfl rfl)
theorem dX9_go_154 : decode cX9_go 154 = .ok (.iconst 0, 1) := dk_3 (dk_at dksX9_go_6 17 rfl rfl)
theorem dX9_go_155 : decode cX9_go 155 = .ok (.iadd, 1) := dk_96 (dk_at dksX9_go_6 18 rfl rfl)
theorem dX9_go_156 : decode cX9_go 156 = .ok (.iastore, 1) := dk_79 (dk_at dksX9_go_6 19 rfl rfl)
theorem dX9_go_157 : decode cX9_go 157 = .ok (.aload_n 0, 1) := dk_42 (dk_at dksX9_go_6 20 rfl rfl)
theorem dX9_go_158 : decode cX9_go 158 = .ok (.getfield 102, 3) := dk_180 0 102 (dk_at dksX9_go_6 21 rfl rfl)
theorem dX9_go_161 : decode cX9_go 161 = .ok (.iconst 2, 1) := dk_5 (dk_at dksX9_go_7 0 rfl rfl)
theorem dX9_go_162 : decode cX9_go 162 = .ok (.iaload, 1) := dk_46 (dk_at dksX9_go_7 1 rfl rfl)
theorem dX9_go_163 : decode cX9_go 163 = .ok (.ireturn, 1) := dk_172 (dk_at dksX9_go_7 2 rfl rfl)
abbrev cX9_keeps : ByteArray := prog_23_method_58_code
def yX9_keeps : MethodName := ⟨RX9, "keeps", "()V"⟩
def dkwX9_keeps_2 : List UInt8 := [3, 8, 42, 180, 1, 63, 96, 16, 58, 182, 1, 69, 42, 89, 180, 1, 63, 4, 96, 181, 1, 63, 177]
abbrev dktX9_keeps_2 : List UInt8 := dkwX9_keeps_2 ++ []
def dkwX9_keeps_1 : List UInt8 := [4, 100, 16, 58, 182, 1, 69, 132, 1, 1, 167, 255, 233, 42, 89, 180, 1, 63, 4, 100, 181, 1, 63, 42]
abbrev dktX9_keeps_1 : List UInt8 := dkwX9_keeps_1 ++ dktX9_keeps_2
def dkwX9_keeps_0 : List UInt8 := [42, 180, 1, 63, 16, 16, 160, 0, 41, 4, 60, 27, 16, 16, 162, 0, 23, 42, 8, 27, 96, 8, 27, 96]
abbrev dktX9_keeps_0 : List UInt8 := dkwX9_keeps_0 ++ dktX9_keeps_1
theorem dksX9_keeps_0 : cX9_keeps.data.toList.drop 0 = dktX9_keeps_0 := by decide +kernel
theorem dksX9_keeps_1 : cX9_keeps.data.toList.drop 24 = dktX9_keeps_1 := dk_seg dksX9_keeps_0 24 rfl rfl
theorem dksX9_keeps_2 : cX9_keeps.data.toList.drop 48 = dktX9_keeps_2 := dk_seg dksX9_keeps_1 24 rfl rfl
theorem dX9_keeps_0 : decode cX9_keeps 0 = .ok (.aload_n 0, 1) := dk_42 (dk_at dksX9_keeps_0 0 rfl rfl)
theorem dX9_keeps_1 : decode cX9_keeps 1 = .ok (.getfield 319, 3) := dk_180 1 63 (dk_at dksX9_keeps_0 1 rfl rfl)
theorem dX9_keeps_4 : decode cX9_keeps 4 = .ok (.bipush 16, 2) := dk_16 16 (dk_at dksX9_keeps_0 4 rfl rfl)
theorem dX9_keeps_6 : decode cX9_keeps 6 = .ok (.if_icmp .ne 41, 3) := dk_160 0 41 (dk_at dksX9_keeps_0 6 rfl rfl)
theorem dX9_keeps_9 : decode cX9_keeps 9 = .ok (.iconst 1, 1) := dk_4 (dk_at dksX9_keeps_0 9 rfl rfl)
theorem dX9_keeps_10 : decode cX9_keeps 10 = .ok (.istore_n 1, 1) := dk_60 (dk_at dksX9_keeps_0 10 rfl rfl)
theorem dX9_keeps_11 : decode cX9_keeps 11 = .ok (.iload_n 1, 1) := dk_27 (dk_at dksX9_keeps_0 11 rfl rfl)
theorem dX9_keeps_12 : decode cX9_keeps 12 = .ok (.bipush 16, 2) := dk_16 16 (dk_at dksX9_keeps_0 12 rfl rfl)
theorem dX9_keeps_14 : decode cX9_keeps 14 = .ok (.if_icmp .ge 23, 3) := dk_162 0 23 (dk_at dksX9_keeps_0 14 rfl rfl)
theorem dX9_keeps_17 : decode cX9_keeps 17 = .ok (.aload_n 0, 1) := dk_42 (dk_at dksX9_keeps_0 17 rfl rfl)
theorem dX9_keeps_18 : decode cX9_keeps 18 = .ok (.iconst 5, 1) := dk_8 (dk_at dksX9_keeps_0 18 rfl rfl)
theorem dX9_keeps_19 : decode cX9_keeps 19 = .ok (.iload_n 1, 1) := dk_27 (dk_at dksX9_keeps_0 19 rfl rfl)
theorem dX9_keeps_20 : decode cX9_keeps 20 = .ok (.iadd, 1) := dk_96 (dk_at dksX9_keeps_0 20 rfl rfl)
theorem dX9_keeps_21 : decode cX9_keeps 21 = .ok (.iconst 5, 1) := dk_8 (dk_at dksX9_keeps_0 21 rfl rfl)
theorem dX9_keeps_22 : decode cX9_keeps 22 = .ok (.iload_n 1, 1) := dk_27 (dk_at dksX9_keeps_0 22 rfl rfl)
theorem dX9_keeps_23 : decode cX9_keeps 23 = .ok (.iadd, 1) := dk_96 (dk_at dksX9_keeps_0 23 rfl rfl)
theorem dX9_keeps_24 : decode cX9_keeps 24 = .ok (.iconst 1, 1) := dk_4 (dk_at dksX9_keeps_1 0 rfl rfl)
theorem dX9_keeps_25 : decode cX9_keeps 25 = .ok (.isub, 1) := dk_100 (dk_at dksX9_keeps_1 1 rfl rfl)
theorem dX9_keeps_26 : decode cX9_keeps 26 = .ok (.bipush 58, 2) := dk_16 58 (dk_at dksX9_keeps_1 2 rfl rfl)
theorem dX9_keeps_28 : decode cX9_keeps 28 = .ok (.invokevirtual 325, 3) := dk_182 1 69 (dk_at dksX9_keeps_1 4 rfl rfl)
theorem dX9_keeps_31 : decode cX9_keeps 31 = .ok (.iinc 1 1, 3) := dk_132 1 1 (dk_at dksX9_keeps_1 7 rfl rfl)
theorem dX9_keeps_34 : decode cX9_keeps 34 = .ok (.goto (-23), 3) := dk_167 255 233 (dk_at dksX9_keeps_1 10 rfl rfl)
theorem dX9_keeps_37 : decode cX9_keeps 37 = .ok (.aload_n 0, 1) := dk_42 (dk_at dksX9_keeps_1 13 rfl rfl)
theorem dX9_keeps_38 : decode cX9_keeps 38 = .ok (.dup, 1) := dk_89 (dk_at dksX9_keeps_1 14 rfl rfl)
theorem dX9_keeps_39 : decode cX9_keeps 39 = .ok (.getfield 319, 3) := dk_180 1 63 (dk_at dksX9_keeps_1 15 rfl rfl)
theorem dX9_keeps_42 : decode cX9_keeps 42 = .ok (.iconst 1, 1) := dk_4 (dk_at dksX9_keeps_1 18 rfl rfl)
theorem dX9_keeps_43 : decode cX9_keeps 43 = .ok (.isub, 1) := dk_100 (dk_at dksX9_keeps_1 19 rfl rfl)
theorem dX9_keeps_44 : decode cX9_keeps 44 = .ok (.putfield 319, 3) := dk_181 1 63 (dk_at dksX9_keeps_1 20 rfl rfl)
theorem dX9_keeps_47 : decode cX9_keeps 47 = .ok (.aload_n 0, 1) := dk_42 (dk_at dksX9_keeps_1 23 rfl rfl)
theorem dX9_keeps_48 : decode cX9_keeps 48 = .ok (.iconst 0, 1) := dk_3 (dk_at dksX9_keeps_2 0 rfl rfl)
theorem dX9_keeps_49 : decode cX9_keeps 49 = .ok (.iconst 5, 1) := dk_8 (dk_at dksX9_keeps_2 1 rfl rfl)
theorem dX9_keeps_50 : decode cX9_keeps 50 = .ok (.aload_n 0, 1) := dk_42 (dk_at dksX9_keeps_2 2 rfl rfl)
theorem dX9_keeps_51 : decode cX9_keeps 51 = .ok (.getfield 319, 3) := dk_180 1 63 (dk_at dksX9_keeps_2 3 rfl rfl)
theorem dX9_keeps_54 : decode cX9_keeps 54 = .ok (.iadd, 1) := dk_96 (dk_at dksX9_keeps_2 6 rfl rfl)
theorem dX9_keeps_55 : decode cX9_keeps 55 = .ok (.bipush 58, 2) := dk_16 58 (dk_at dksX9_keeps_2 7 rfl rfl)
theorem dX9_keeps_57 : decode cX9_keeps 57 = .ok (.invokevirtual 325, 3) := dk_182 1 69 (dk_at dksX9_keeps_2 9 rfl rfl)
theorem dX9_keeps_60 : decode cX9_keeps 60 = .ok (.aload_n 0, 1) := dk_42 (dk_at dksX9_keeps_2 12 rfl rfl)
theorem dX9_keeps_61 : decode cX9_keeps 61 = .ok (.dup, 1) := dk_89 (dk_at dksX9_keeps_2 13 rfl rfl)
theorem dX9_keeps_62 : decode cX9_keeps 62 = .ok (.getfield 319, 3) := dk_180 1 63 (dk_at dksX9_keeps_2 14 rfl rfl)
theorem dX9_keeps_65 : decode cX9_keeps 65 = .ok (.iconst 1, 1) := dk_4 (dk_at dksX9_keeps_2 17 rfl rfl)
theorem dX9_keeps_66 : decode cX9_keeps 66 = .ok (.iadd, 1) := dk_96 (dk_at dksX9_keeps_2 18 rfl rfl)
theorem dX9_keeps_67 : decode cX9_keeps 67 = .ok (.putfield 319, 3) := dk_181 1 63 (dk_at dksX9_keeps_2 19 rfl rfl)
theorem dX9_keeps_70 : decode cX9_keeps 70 = .ok (.return_, 1) := dk_177 (dk_at dksX9_keeps_2 22 rfl rfl)
abbrev cX9_copies : ByteArray := prog_23_method_56_code
def yX9_copies : MethodName := ⟨RX9, "copies", "(III)V"⟩
def dkwX9_copies_1 : List UInt8 := [16, 120, 27, 104, 21, 4, 96, 46, 79, 132, 4, 1, 167, 255, 223, 177]
abbrev dktX9_copies_1 : List UInt8 := dkwX9_copies_1 ++ []
def dkwX9_copies_0 : List UInt8 := [3, 54, 4, 21, 4, 29, 162, 0, 33, 42, 180, 0, 102, 16, 120, 28, 104, 21, 4, 96, 42, 180, 0, 102]
abbrev dktX9_copies_0 : List UInt8 := dkwX9_copies_0 ++ dktX9_copies_1
theorem dksX9_copies_0 : cX9_copies.data.toList.drop 0 = dktX9_copies_0 := by decide +kernel
theorem dksX9_copies_1 : cX9_copies.data.toList.drop 24 = dktX9_copies_1 := dk_seg dksX9_copies_0 24 rfl rfl
theorem dX9_copies_0 : decode cX9_copies 0 = .ok (.iconst 0, 1) := dk_3 (dk_at dksX9_copies_0 0 rfl rfl)
theorem dX9_copies_1 : decode cX9_copies 1 = .ok (.istore 4, 2) := dk_54 4 (dk_at dksX9_copies_0 1 rfl rfl)
theorem dX9_copies_3 : decode cX9_copies 3 = .ok (.iload 4, 2) := dk_21 4 (dk_at dksX9_copies_0 3 rfl rfl)
theorem dX9_copies_5 : decode cX9_copies 5 = .ok (.iload_n 3, 1) := dk_29 (dk_at dksX9_copies_0 5 rfl rfl)
theorem dX9_copies_6 : decode cX9_copies 6 = .ok (.if_icmp .ge 33, 3) := dk_162 0 33 (dk_at dksX9_copies_0 6 rfl rfl)
theorem dX9_copies_9 : decode cX9_copies 9 = .ok (.aload_n 0, 1) := dk_42 (dk_at dksX9_copies_0 9 rfl rfl)
theorem dX9_copies_10 : decode cX9_copies 10 = .ok (.getfield 102, 3) := dk_180 0 102 (dk_at dksX9_copies_0 10 rfl rfl)
theorem dX9_copies_13 : decode cX9_copies 13 = .ok (.bipush 120, 2) := dk_16 120 (dk_at dksX9_copies_0 13 rfl rfl)
theorem dX9_copies_15 : decode cX9_copies 15 = .ok (.iload_n 2, 1) := dk_28 (dk_at dksX9_copies_0 15 rfl rfl)
theorem dX9_copies_16 : decode cX9_copies 16 = .ok (.imul, 1) := dk_104 (dk_at dksX9_copies_0 16 rfl rfl)
theorem dX9_copies_17 : decode cX9_copies 17 = .ok (.iload 4, 2) := dk_21 4 (dk_at dksX9_copies_0 17 rfl rfl)
theorem dX9_copies_19 : decode cX9_copies 19 = .ok (.iadd, 1) := dk_96 (dk_at dksX9_copies_0 19 rfl rfl)
theorem dX9_copies_20 : decode cX9_copies 20 = .ok (.aload_n 0, 1) := dk_42 (dk_at dksX9_copies_0 20 rfl rfl)
theorem dX9_copies_21 : decode cX9_copies 21 = .ok (.getfield 102, 3) := dk_180 0 102 (dk_at dksX9_copies_0 21 rfl rfl)
theorem dX9_copies_24 : decode cX9_copies 24 = .ok (.bipush 120, 2) := dk_16 120 (dk_at dksX9_copies_1 0 rfl rfl)
theorem dX9_copies_26 : decode cX9_copies 26 = .ok (.iload_n 1, 1) := dk_27 (dk_at dksX9_copies_1 2 rfl rfl)
theorem dX9_copies_27 : decode cX9_copies 27 = .ok (.imul, 1) := dk_104 (dk_at dksX9_copies_1 3 rfl rfl)
theorem dX9_copies_28 : decode cX9_copies 28 = .ok (.iload 4, 2) := dk_21 4 (dk_at dksX9_copies_1 4 rfl rfl)
theorem dX9_copies_30 : decode cX9_copies 30 = .ok (.iadd, 1) := dk_96 (dk_at dksX9_copies_1 6 rfl rfl)
theorem dX9_copies_31 : decode cX9_copies 31 = .ok (.iaload, 1) := dk_46 (dk_at dksX9_copies_1 7 rfl rfl)
theorem dX9_copies_32 : decode cX9_copies 32 = .ok (.iastore, 1) := dk_79 (dk_at dksX9_copies_1 8 rfl rfl)
theorem dX9_copies_33 : decode cX9_copies 33 = .ok (.iinc 4 1, 3) := dk_132 4 1 (dk_at dksX9_copies_1 9 rfl rfl)
theorem dX9_copies_36 : decode cX9_copies 36 = .ok (.goto (-33), 3) := dk_167 255 223 (dk_at dksX9_copies_1 12 rfl rfl)
theorem dX9_copies_39 : decode cX9_copies 39 = .ok (.return_, 1) := dk_177 (dk_at dksX9_copies_1 15 rfl rfl)
abbrev cX9_runTime : ByteArray := prog_23_method_60_code
def yX9_runTime : MethodName := ⟨RX9, "runTime", "()I"⟩
def dkwX9_runTime_1 : List UInt8 := [172]
abbrev dktX9_runTime_1 : List UInt8 := dkwX9_runTime_1 ++ []
def dkwX9_runTime_0 : List UInt8 := [42, 180, 0, 81, 6, 46, 156, 0, 12, 42, 180, 0, 81, 5, 46, 167, 0, 9, 42, 180, 0, 81, 6, 46]
abbrev dktX9_runTime_0 : List UInt8 := dkwX9_runTime_0 ++ dktX9_runTime_1
theorem dksX9_runTime_0 : cX9_runTime.data.toList.drop 0 = dktX9_runTime_0 := by decide +kernel
theorem dksX9_runTime_1 : cX9_runTime.data.toList.drop 24 = dktX9_runTime_1 := dk_seg dksX9_runTime_0 24 rfl rfl
theorem dX9_runTime_0 : decode cX9_runTime 0 = .ok (.aload_n 0, 1) := dk_42 (dk_at dksX9_runTime_0 0 rfl rfl)
theorem dX9_runTime_1 : decode cX9_runTime 1 = .ok (.getfield 81, 3) := dk_180 0 81 (dk_at dksX9_runTime_0 1 rfl rfl)
theorem dX9_runTime_4 : decode cX9_runTime 4 = .ok (.iconst 3, 1) := dk_6 (dk_at dksX9_runTime_0 4 rfl rfl)
theorem dX9_runTime_5 : decode cX9_runTime 5 = .ok (.iaload, 1) := dk_46 (dk_at dksX9_runTime_0 5 rfl rfl)
theorem dX9_runTime_6 : decode cX9_runTime 6 = .ok (.ifCond .ge 12, 3) := dk_156 0 12 (dk_at dksX9_runTime_0 6 rfl rfl)
theorem dX9_runTime_9 : decode cX9_runTime 9 = .ok (.aload_n 0, 1) := dk_42 (dk_at dksX9_runTime_0 9 rfl rfl)
theorem dX9_runTime_10 : decode cX9_runTime 10 = .ok (.getfield 81, 3) := dk_180 0 81 (dk_at dksX9_runTime_0 10 rfl rfl)
theorem dX9_runTime_13 : decode cX9_runTime 13 = .ok (.iconst 2, 1) := dk_5 (dk_at dksX9_runTime_0 13 rfl rfl)
theorem dX9_runTime_14 : decode cX9_runTime 14 = .ok (.iaload, 1) := dk_46 (dk_at dksX9_runTime_0 14 rfl rfl)
theorem dX9_runTime_15 : decode cX9_runTime 15 = .ok (.goto 9, 3) := dk_167 0 9 (dk_at dksX9_runTime_0 15 rfl rfl)
theorem dX9_runTime_18 : decode cX9_runTime 18 = .ok (.aload_n 0, 1) := dk_42 (dk_at dksX9_runTime_0 18 rfl rfl)
theorem dX9_runTime_19 : decode cX9_runTime 19 = .ok (.getfield 81, 3) := dk_180 0 81 (dk_at dksX9_runTime_0 19 rfl rfl)
theorem dX9_runTime_22 : decode cX9_runTime 22 = .ok (.iconst 3, 1) := dk_6 (dk_at dksX9_runTime_0 22 rfl rfl)
theorem dX9_runTime_23 : decode cX9_runTime 23 = .ok (.iaload, 1) := dk_46 (dk_at dksX9_runTime_0 23 rfl rfl)
theorem dX9_runTime_24 : decode cX9_runTime 24 = .ok (.ireturn, 1) := dk_172 (dk_at dksX9_runTime_1 0 rfl rfl)
abbrev cX9_stay : ByteArray := prog_23_method_63_code
def yX9_stay : MethodName := ⟨RX9, "stay", "(I)I"⟩
def dkwX9_stay_1 : List UInt8 := [180, 0, 102, 5, 92, 46, 27, 96, 79, 42, 180, 0, 102, 5, 46, 172]
abbrev dktX9_stay_1 : List UInt8 := dkwX9_stay_1 ++ []
def dkwX9_stay_0 : List UInt8 := [42, 3, 181, 0, 1, 27, 4, 17, 3, 232, 184, 1, 43, 154, 0, 5, 2, 172, 42, 182, 1, 73, 42]
abbrev dktX9_stay_0 : List UInt8 := dkwX9_stay_0 ++ dktX9_stay_1
theorem dksX9_stay_0 : cX9_stay.data.toList.drop 0 = dktX9_stay_0 := by decide +kernel
theorem dksX9_stay_1 : cX9_stay.data.toList.drop 23 = dktX9_stay_1 := dk_seg dksX9_stay_0 23 rfl rfl
theorem dX9_stay_0 : decode cX9_stay 0 = .ok (.aload_n 0, 1) := dk_42 (dk_at dksX9_stay_0 0 rfl rfl)
theorem dX9_stay_1 : decode cX9_stay 1 = .ok (.iconst 0, 1) := dk_3 (dk_at dksX9_stay_0 1 rfl rfl)
theorem dX9_stay_2 : decode cX9_stay 2 = .ok (.putfield 1, 3) := dk_181 0 1 (dk_at dksX9_stay_0 2 rfl rfl)
theorem dX9_stay_5 : decode cX9_stay 5 = .ok (.iload_n 1, 1) := dk_27 (dk_at dksX9_stay_0 5 rfl rfl)
theorem dX9_stay_6 : decode cX9_stay 6 = .ok (.iconst 1, 1) := dk_4 (dk_at dksX9_stay_0 6 rfl rfl)
theorem dX9_stay_7 : decode cX9_stay 7 = .ok (.sipush 1000, 3) := dk_17 3 232 (dk_at dksX9_stay_0 7 rfl rfl)
theorem dX9_stay_10 : decode cX9_stay 10 = .ok (.invokestatic 299, 3) := dk_184 1 43 (dk_at dksX9_stay_0 10 rfl rfl)
theorem dX9_stay_13 : decode cX9_stay 13 = .ok (.ifCond .ne 5, 3) := dk_154 0 5 (dk_at dksX9_stay_0 13 rfl rfl)
theorem dX9_stay_16 : decode cX9_stay 16 = .ok (.iconst (-1), 1) := dk_2 (dk_at dksX9_stay_0 16 rfl rfl)
theorem dX9_stay_17 : decode cX9_stay 17 = .ok (.ireturn, 1) := dk_172 (dk_at dksX9_stay_0 17 rfl rfl)
theorem dX9_stay_18 : decode cX9_stay 18 = .ok (.aload_n 0, 1) := dk_42 (dk_at dksX9_stay_0 18 rfl rfl)
theorem dX9_stay_19 : decode cX9_stay 19 = .ok (.invokevirtual 329, 3) := dk_182 1 73 (dk_at dksX9_stay_0 19 rfl rfl)
theorem dX9_stay_22 : decode cX9_stay 22 = .ok (.aload_n 0, 1) := dk_42 (dk_at dksX9_stay_0 22 rfl rfl)
theorem dX9_stay_23 : decode cX9_stay 23 = .ok (.getfield 102, 3) := dk_180 0 102 (dk_at dksX9_stay_1 0 rfl rfl)
theorem dX9_stay_26 : decode cX9_stay 26 = .ok (.iconst 2, 1) := dk_5 (dk_at dksX9_stay_1 3 rfl rfl)
theorem dX9_stay_27 : decode cX9_stay 27 = .ok (.dup2, 1) := dk_92 (dk_at dksX9_stay_1 4 rfl rfl)
theorem dX9_stay_28 : decode cX9_stay 28 = .ok (.iaload, 1) := dk_46 (dk_at dksX9_stay_1 5 rfl rfl)
theorem dX9_stay_29 : decode cX9_stay 29 = .ok (.iload_n 1, 1) := dk_27 (dk_at dksX9_stay_1 6 rfl rfl)
theorem dX9_stay_30 : decode cX9_stay 30 = .ok (.iadd, 1) := dk_96 (dk_at dksX9_stay_1 7 rfl rfl)
theorem dX9_stay_31 : decode cX9_stay 31 = .ok (.iastore, 1) := dk_79 (dk_at dksX9_stay_1 8 rfl rfl)
theorem dX9_stay_32 : decode cX9_stay 32 = .ok (.aload_n 0, 1) := dk_42 (dk_at dksX9_stay_1 9 rfl rfl)
theorem dX9_stay_33 : decode cX9_stay 33 = .ok (.getfield 102, 3) := dk_180 0 102 (dk_at dksX9_stay_1 10 rfl rfl)
theorem dX9_stay_36 : decode cX9_stay 36 = .ok (.iconst 2, 1) := dk_5 (dk_at dksX9_stay_1 13 rfl rfl)
theorem dX9_stay_37 : decode cX9_stay 37 = .ok (.iaload, 1) := dk_46 (dk_at dksX9_stay_1 14 rfl rfl)
theorem dX9_stay_38 : decode cX9_stay 38 = .ok (.ireturn, 1) := dk_172 (dk_at dksX9_stay_1 15 rfl rfl)
abbrev cX9_look : ByteArray := prog_23_method_64_code
def yX9_look : MethodName := ⟨RX9, "look", "()Z"⟩
def dkwX9_look_3 : List UInt8 := [172]
abbrev dktX9_look_3 : List UInt8 := dkwX9_look_3 ++ []
def dkwX9_look_2 : List UInt8 := [180, 0, 102, 7, 16, 6, 28, 104, 96, 27, 96, 4, 79, 42, 89, 180, 1, 66, 4, 96, 181, 1, 66, 4]
abbrev dktX9_look_2 : List UInt8 := dkwX9_look_2 ++ dktX9_look_3
def dkwX9_look_1 : List UInt8 := [182, 1, 26, 4, 160, 0, 12, 42, 27, 28, 182, 1, 46, 153, 0, 5, 3, 172, 42, 182, 1, 73, 42]
abbrev dktX9_look_1 : List UInt8 := dkwX9_look_1 ++ dktX9_look_2
def dkwX9_look_0 : List UInt8 := [42, 3, 181, 0, 1, 42, 180, 0, 102, 3, 46, 60, 42, 180, 0, 102, 4, 46, 61, 42, 27, 28]
abbrev dktX9_look_0 : List UInt8 := dkwX9_look_0 ++ dktX9_look_1
theorem dksX9_look_0 : cX9_look.data.toList.drop 0 = dktX9_look_0 := by decide +kernel
theorem dksX9_look_1 : cX9_look.data.toList.drop 22 = dktX9_look_1 := dk_seg dksX9_look_0 22 rfl rfl
theorem dksX9_look_2 : cX9_look.data.toList.drop 45 = dktX9_look_2 := dk_seg dksX9_look_1 23 rfl rfl
theorem dksX9_look_3 : cX9_look.data.toList.drop 69 = dktX9_look_3 := dk_seg dksX9_look_2 24 rfl rfl
theorem dX9_look_0 : decode cX9_look 0 = .ok (.aload_n 0, 1) := dk_42 (dk_at dksX9_look_0 0 rfl rfl)
theorem dX9_look_1 : decode cX9_look 1 = .ok (.iconst 0, 1) := dk_3 (dk_at dksX9_look_0 1 rfl rfl)
theorem dX9_look_2 : decode cX9_look 2 = .ok (.putfield 1, 3) := dk_181 0 1 (dk_at dksX9_look_0 2 rfl rfl)
theorem dX9_look_5 : decode cX9_look 5 = .ok (.aload_n 0, 1) := dk_42 (dk_at dksX9_look_0 5 rfl rfl)
theorem dX9_look_6 : decode cX9_look 6 = .ok (.getfield 102, 3) := dk_180 0 102 (dk_at dksX9_look_0 6 rfl rfl)
theorem dX9_look_9 : decode cX9_look 9 = .ok (.iconst 0, 1) := dk_3 (dk_at dksX9_look_0 9 rfl rfl)
theorem dX9_look_10 : decode cX9_look 10 = .ok (.iaload, 1) := dk_46 (dk_at dksX9_look_0 10 rfl rfl)
theorem dX9_look_11 : decode cX9_look 11 = .ok (.istore_n 1, 1) := dk_60 (dk_at dksX9_look_0 11 rfl rfl)
theorem dX9_look_12 : decode cX9_look 12 = .ok (.aload_n 0, 1) := dk_42 (dk_at dksX9_look_0 12 rfl rfl)
theorem dX9_look_13 : decode cX9_look 13 = .ok (.getfield 102, 3) := dk_180 0 102 (dk_at dksX9_look_0 13 rfl rfl)
theorem dX9_look_16 : decode cX9_look 16 = .ok (.iconst 1, 1) := dk_4 (dk_at dksX9_look_0 16 rfl rfl)
theorem dX9_look_17 : decode cX9_look 17 = .ok (.iaload, 1) := dk_46 (dk_at dksX9_look_0 17 rfl rfl)
theorem dX9_look_18 : decode cX9_look 18 = .ok (.istore_n 2, 1) := dk_61 (dk_at dksX9_look_0 18 rfl rfl)
theorem dX9_look_19 : decode cX9_look 19 = .ok (.aload_n 0, 1) := dk_42 (dk_at dksX9_look_0 19 rfl rfl)
theorem dX9_look_20 : decode cX9_look 20 = .ok (.iload_n 1, 1) := dk_27 (dk_at dksX9_look_0 20 rfl rfl)
theorem dX9_look_21 : decode cX9_look 21 = .ok (.iload_n 2, 1) := dk_28 (dk_at dksX9_look_0 21 rfl rfl)
theorem dX9_look_22 : decode cX9_look 22 = .ok (.invokevirtual 282, 3) := dk_182 1 26 (dk_at dksX9_look_1 0 rfl rfl)
theorem dX9_look_25 : decode cX9_look 25 = .ok (.iconst 1, 1) := dk_4 (dk_at dksX9_look_1 3 rfl rfl)
theorem dX9_look_26 : decode cX9_look 26 = .ok (.if_icmp .ne 12, 3) := dk_160 0 12 (dk_at dksX9_look_1 4 rfl rfl)
theorem dX9_look_29 : decode cX9_look 29 = .ok (.aload_n 0, 1) := dk_42 (dk_at dksX9_look_1 7 rfl rfl)
theorem dX9_look_30 : decode cX9_look 30 = .ok (.iload_n 1, 1) := dk_27 (dk_at dksX9_look_1 8 rfl rfl)
theorem dX9_look_31 : decode cX9_look 31 = .ok (.iload_n 2, 1) := dk_28 (dk_at dksX9_look_1 9 rfl rfl)
theorem dX9_look_32 : decode cX9_look 32 = .ok (.invokevirtual 302, 3) := dk_182 1 46 (dk_at dksX9_look_1 10 rfl rfl)
theorem dX9_look_35 : decode cX9_look 35 = .ok (.ifCond .eq 5, 3) := dk_153 0 5 (dk_at dksX9_look_1 13 rfl rfl)
theorem dX9_look_38 : decode cX9_look 38 = .ok (.iconst 0, 1) := dk_3 (dk_at dksX9_look_1 16 rfl rfl)
theorem dX9_look_39 : decode cX9_look 39 = .ok (.ireturn, 1) := dk_172 (dk_at dksX9_look_1 17 rfl rfl)
theorem dX9_look_40 : decode cX9_look 40 = .ok (.aload_n 0, 1) := dk_42 (dk_at dksX9_look_1 18 rfl rfl)
theorem dX9_look_41 : decode cX9_look 41 = .ok (.invokevirtual 329, 3) := dk_182 1 73 (dk_at dksX9_look_1 19 rfl rfl)
theorem dX9_look_44 : decode cX9_look 44 = .ok (.aload_n 0, 1) := dk_42 (dk_at dksX9_look_1 22 rfl rfl)
theorem dX9_look_45 : decode cX9_look 45 = .ok (.getfield 102, 3) := dk_180 0 102 (dk_at dksX9_look_2 0 rfl rfl)
theorem dX9_look_48 : decode cX9_look 48 = .ok (.iconst 4, 1) := dk_7 (dk_at dksX9_look_2 3 rfl rfl)
theorem dX9_look_49 : decode cX9_look 49 = .ok (.bipush 6, 2) := dk_16 6 (dk_at dksX9_look_2 4 rfl rfl)
theorem dX9_look_51 : decode cX9_look 51 = .ok (.iload_n 2, 1) := dk_28 (dk_at dksX9_look_2 6 rfl rfl)
theorem dX9_look_52 : decode cX9_look 52 = .ok (.imul, 1) := dk_104 (dk_at dksX9_look_2 7 rfl rfl)
theorem dX9_look_53 : decode cX9_look 53 = .ok (.iadd, 1) := dk_96 (dk_at dksX9_look_2 8 rfl rfl)
theorem dX9_look_54 : decode cX9_look 54 = .ok (.iload_n 1, 1) := dk_27 (dk_at dksX9_look_2 9 rfl rfl)
theorem dX9_look_55 : decode cX9_look 55 = .ok (.iadd, 1) := dk_96 (dk_at dksX9_look_2 10 rfl rfl)
theorem dX9_look_56 : decode cX9_look 56 = .ok (.iconst 1, 1) := dk_4 (dk_at dksX9_look_2 11 rfl rfl)
theorem dX9_look_57 : decode cX9_look 57 = .ok (.iastore, 1) := dk_79 (dk_at dksX9_look_2 12 rfl rfl)
theorem dX9_look_58 : decode cX9_look 58 = .ok (.aload_n 0, 1) := dk_42 (dk_at dksX9_look_2 13 rfl rfl)
theorem dX9_look_59 : decode cX9_look 59 = .ok (.dup, 1) := dk_89 (dk_at dksX9_look_2 14 rfl rfl)
theorem dX9_look_60 : decode cX9_look 60 = .ok (.getfield 322, 3) := dk_180 1 66 (dk_at dksX9_look_2 15 rfl rfl)
theorem dX9_look_63 : decode cX9_look 63 = .ok (.iconst 1, 1) := dk_4 (dk_at dksX9_look_2 18 rfl rfl)
theorem dX9_look_64 : decode cX9_look 64 = .ok (.iadd, 1) := dk_96 (dk_at dksX9_look_2 19 rfl rfl)
theorem dX9_look_65 : decode cX9_look 65 = .ok (.putfield 322, 3) := dk_181 1 66 (dk_at dksX9_look_2 20 rfl rfl)
theorem dX9_look_68 : decode cX9_look 68 = .ok (.iconst 1, 1) := dk_4 (dk_at dksX9_look_2 23 rfl rfl)
theorem dX9_look_69 : decode cX9_look 69 = .ok (.ireturn, 1) := dk_172 (dk_at dksX9_look_3 0 rfl rfl)
abbrev cX9_undo : ByteArray := prog_23_method_65_code
def yX9_undo : MethodName := ⟨RX9, "undo", "()Z"⟩
def dkwX9_undo_2 : List UInt8 := [172]
abbrev dktX9_undo_2 : List UInt8 := dkwX9_undo_2 ++ []
def dkwX9_undo_1 : List UInt8 := [42, 8, 42, 180, 1, 63, 96, 3, 16, 58, 182, 1, 69, 42, 89, 180, 1, 66, 4, 96, 181, 1, 66, 4]
abbrev dktX9_undo_1 : List UInt8 := dkwX9_undo_1 ++ dktX9_undo_2
def dkwX9_undo_0 : List UInt8 := [42, 3, 181, 0, 1, 42, 180, 1, 63, 154, 0, 5, 3, 172, 42, 89, 180, 1, 63, 4, 100, 181, 1, 63]
abbrev dktX9_undo_0 : List UInt8 := dkwX9_undo_0 ++ dktX9_undo_1
theorem dksX9_undo_0 : cX9_undo.data.toList.drop 0 = dktX9_undo_0 := by decide +kernel
theorem dksX9_undo_1 : cX9_undo.data.toList.drop 24 = dktX9_undo_1 := dk_seg dksX9_undo_0 24 rfl rfl
theorem dksX9_undo_2 : cX9_undo.data.toList.drop 48 = dktX9_undo_2 := dk_seg dksX9_undo_1 24 rfl rfl
theorem dX9_undo_0 : decode cX9_undo 0 = .ok (.aload_n 0, 1) := dk_42 (dk_at dksX9_undo_0 0 rfl rfl)
theorem dX9_undo_1 : decode cX9_undo 1 = .ok (.iconst 0, 1) := dk_3 (dk_at dksX9_undo_0 1 rfl rfl)
theorem dX9_undo_2 : decode cX9_undo 2 = .ok (.putfield 1, 3) := dk_181 0 1 (dk_at dksX9_undo_0 2 rfl rfl)
theorem dX9_undo_5 : decode cX9_undo 5 = .ok (.aload_n 0, 1) := dk_42 (dk_at dksX9_undo_0 5 rfl rfl)
theorem dX9_undo_6 : decode cX9_undo 6 = .ok (.getfield 319, 3) := dk_180 1 63 (dk_at dksX9_undo_0 6 rfl rfl)
theorem dX9_undo_9 : decode cX9_undo 9 = .ok (.ifCond .ne 5, 3) := dk_154 0 5 (dk_at dksX9_undo_0 9 rfl rfl)
theorem dX9_undo_12 : decode cX9_undo 12 = .ok (.iconst 0, 1) := dk_3 (dk_at dksX9_undo_0 12 rfl rfl)
theorem dX9_undo_13 : decode cX9_undo 13 = .ok (.ireturn, 1) := dk_172 (dk_at dksX9_undo_0 13 rfl rfl)
theorem dX9_undo_14 : decode cX9_undo 14 = .ok (.aload_n 0, 1) := dk_42 (dk_at dksX9_undo_0 14 rfl rfl)
theorem dX9_undo_15 : decode cX9_undo 15 = .ok (.dup, 1) := dk_89 (dk_at dksX9_undo_0 15 rfl rfl)
theorem dX9_undo_16 : decode cX9_undo 16 = .ok (.getfield 319, 3) := dk_180 1 63 (dk_at dksX9_undo_0 16 rfl rfl)
theorem dX9_undo_19 : decode cX9_undo 19 = .ok (.iconst 1, 1) := dk_4 (dk_at dksX9_undo_0 19 rfl rfl)
theorem dX9_undo_20 : decode cX9_undo 20 = .ok (.isub, 1) := dk_100 (dk_at dksX9_undo_0 20 rfl rfl)
theorem dX9_undo_21 : decode cX9_undo 21 = .ok (.putfield 319, 3) := dk_181 1 63 (dk_at dksX9_undo_0 21 rfl rfl)
theorem dX9_undo_24 : decode cX9_undo 24 = .ok (.aload_n 0, 1) := dk_42 (dk_at dksX9_undo_1 0 rfl rfl)
theorem dX9_undo_25 : decode cX9_undo 25 = .ok (.iconst 5, 1) := dk_8 (dk_at dksX9_undo_1 1 rfl rfl)
theorem dX9_undo_26 : decode cX9_undo 26 = .ok (.aload_n 0, 1) := dk_42 (dk_at dksX9_undo_1 2 rfl rfl)
theorem dX9_undo_27 : decode cX9_undo 27 = .ok (.getfield 319, 3) := dk_180 1 63 (dk_at dksX9_undo_1 3 rfl rfl)
theorem dX9_undo_30 : decode cX9_undo 30 = .ok (.iadd, 1) := dk_96 (dk_at dksX9_undo_1 6 rfl rfl)
theorem dX9_undo_31 : decode cX9_undo 31 = .ok (.iconst 0, 1) := dk_3 (dk_at dksX9_undo_1 7 rfl rfl)
theorem dX9_undo_32 : decode cX9_undo 32 = .ok (.bipush 58, 2) := dk_16 58 (dk_at dksX9_undo_1 8 rfl rfl)
theorem dX9_undo_34 : decode cX9_undo 34 = .ok (.invokevirtual 325, 3) := dk_182 1 69 (dk_at dksX9_undo_1 10 rfl rfl)
theorem dX9_undo_37 : decode cX9_undo 37 = .ok (.aload_n 0, 1) := dk_42 (dk_at dksX9_undo_1 13 rfl rfl)
theorem dX9_undo_38 : decode cX9_undo 38 = .ok (.dup, 1) := dk_89 (dk_at dksX9_undo_1 14 rfl rfl)
theorem dX9_undo_39 : decode cX9_undo 39 = .ok (.getfield 322, 3) := dk_180 1 66 (dk_at dksX9_undo_1 15 rfl rfl)
theorem dX9_undo_42 : decode cX9_undo 42 = .ok (.iconst 1, 1) := dk_4 (dk_at dksX9_undo_1 18 rfl rfl)
theorem dX9_undo_43 : decode cX9_undo 43 = .ok (.iadd, 1) := dk_96 (dk_at dksX9_undo_1 19 rfl rfl)
theorem dX9_undo_44 : decode cX9_undo 44 = .ok (.putfield 322, 3) := dk_181 1 66 (dk_at dksX9_undo_1 20 rfl rfl)
theorem dX9_undo_47 : decode cX9_undo 47 = .ok (.iconst 1, 1) := dk_4 (dk_at dksX9_undo_1 23 rfl rfl)
theorem dX9_undo_48 : decode cX9_undo 48 = .ok (.ireturn, 1) := dk_172 (dk_at dksX9_undo_2 0 rfl rfl)
abbrev cX9_judged : ByteArray := prog_23_method_66_code
def yX9_judged : MethodName := ⟨RX9, "judged", "()I"⟩
def dkwX9_judged_6 : List UInt8 := [167, 255, 132, 2, 172]
abbrev dktX9_judged_6 : List UInt8 := dkwX9_judged_6 ++ []
def dkwX9_judged_5 : List UInt8 := [180, 0, 81, 5, 46, 96, 62, 27, 4, 21, 5, 100, 96, 60, 28, 21, 5, 96, 61, 132, 4, 1]
abbrev dktX9_judged_5 : List UInt8 := dkwX9_judged_5 ++ dktX9_judged_6
def dkwX9_judged_4 : List UInt8 := [153, 0, 19, 42, 27, 28, 21, 5, 21, 6, 182, 1, 36, 154, 0, 6, 21, 4, 172, 21, 6, 42]
abbrev dktX9_judged_4 : List UInt8 := dkwX9_judged_4 ++ dktX9_judged_5
def dkwX9_judged_3 : List UInt8 := [5, 182, 1, 33, 96, 167, 0, 4, 29, 54, 7, 21, 6, 21, 7, 161, 0, 25, 42, 27, 28, 182, 1, 29]
abbrev dktX9_judged_3 : List UInt8 := dkwX9_judged_3 ++ dktX9_judged_4
def dkwX9_judged_2 : List UInt8 := [104, 96, 46, 54, 6, 42, 27, 28, 182, 1, 26, 5, 160, 0, 20, 21, 5, 154, 0, 15, 29, 42, 27, 28]
abbrev dktX9_judged_2 : List UInt8 := dkwX9_judged_2 ++ dktX9_judged_3
def dkwX9_judged_1 : List UInt8 := [162, 0, 119, 42, 180, 0, 93, 4, 5, 21, 4, 104, 96, 46, 54, 5, 42, 180, 0, 93, 5, 5, 21, 4]
abbrev dktX9_judged_1 : List UInt8 := dkwX9_judged_1 ++ dktX9_judged_2
def dkwX9_judged_0 : List UInt8 := [42, 3, 181, 0, 1, 3, 60, 3, 61, 3, 62, 3, 54, 4, 21, 4, 42, 180, 0, 93, 3, 46]
abbrev dktX9_judged_0 : List UInt8 := dkwX9_judged_0 ++ dktX9_judged_1
theorem dksX9_judged_0 : cX9_judged.data.toList.drop 0 = dktX9_judged_0 := by decide +kernel
theorem dksX9_judged_1 : cX9_judged.data.toList.drop 22 = dktX9_judged_1 := dk_seg dksX9_judged_0 22 rfl rfl
theorem dksX9_judged_2 : cX9_judged.data.toList.drop 46 = dktX9_judged_2 := dk_seg dksX9_judged_1 24 rfl rfl
theorem dksX9_judged_3 : cX9_judged.data.toList.drop 70 = dktX9_judged_3 := dk_seg dksX9_judged_2 24 rfl rfl
theorem dksX9_judged_4 : cX9_judged.data.toList.drop 94 = dktX9_judged_4 := dk_seg dksX9_judged_3 24 rfl rfl
theorem dksX9_judged_5 : cX9_judged.data.toList.drop 116 = dktX9_judged_5 := dk_seg dksX9_judged_4 22 rfl rfl
theorem dksX9_judged_6 : cX9_judged.data.toList.drop 138 = dktX9_judged_6 := dk_seg dksX9_judged_5 22 rfl rfl
theorem dX9_judged_0 : decode cX9_judged 0 = .ok (.aload_n 0, 1) := dk_42 (dk_at dksX9_judged_0 0 rfl rfl)
theorem dX9_judged_1 : decode cX9_judged 1 = .ok (.iconst 0, 1) := dk_3 (dk_at dksX9_judged_0 1 rfl rfl)
theorem dX9_judged_2 : decode cX9_judged 2 = .ok (.putfield 1, 3) := dk_181 0 1 (dk_at dksX9_judged_0 2 rfl rfl)
theorem dX9_judged_5 : decode cX9_judged 5 = .ok (.iconst 0, 1) := dk_3 (dk_at dksX9_judged_0 5 rfl rfl)
theorem dX9_judged_6 : decode cX9_judged 6 = .ok (.istore_n 1, 1) := dk_60 (dk_at dksX9_judged_0 6 rfl rfl)
theorem dX9_judged_7 : decode cX9_judged 7 = .ok (.iconst 0, 1) := dk_3 (dk_at dksX9_judged_0 7 rfl rfl)
theorem dX9_judged_8 : decode cX9_judged 8 = .ok (.istore_n 2, 1) := dk_61 (dk_at dksX9_judged_0 8 rfl rfl)
theorem dX9_judged_9 : decode cX9_judged 9 = .ok (.iconst 0, 1) := dk_3 (dk_at dksX9_judged_0 9 rfl rfl)
theorem dX9_judged_10 : decode cX9_judged 10 = .ok (.istore_n 3, 1) := dk_62 (dk_at dksX9_judged_0 10 rfl rfl)
theorem dX9_judged_11 : decode cX9_judged 11 = .ok (.iconst 0, 1) := dk_3 (dk_at dksX9_judged_0 11 rfl rfl)
theorem dX9_judged_12 : decode cX9_judged 12 = .ok (.istore 4, 2) := dk_54 4 (dk_at dksX9_judged_0 12 rfl rfl)
theorem dX9_judged_14 : decode cX9_judged 14 = .ok (.iload 4, 2) := dk_21 4 (dk_at dksX9_judged_0 14 rfl rfl)
theorem dX9_judged_16 : decode cX9_judged 16 = .ok (.aload_n 0, 1) := dk_42 (dk_at dksX9_judged_0 16 rfl rfl)
theorem dX9_judged_17 : decode cX9_judged 17 = .ok (.getfield 93, 3) := dk_180 0 93 (dk_at dksX9_judged_0 17 rfl rfl)
theorem dX9_judged_20 : decode cX9_judged 20 = .ok (.iconst 0, 1) := dk_3 (dk_at dksX9_judged_0 20 rfl rfl)
theorem dX9_judged_21 : decode cX9_judged 21 = .ok (.iaload, 1) := dk_46 (dk_at dksX9_judged_0 21 rfl rfl)
theorem dX9_judged_22 : decode cX9_judged 22 = .ok (.if_icmp .ge 119, 3) := dk_162 0 119 (dk_at dksX9_judged_1 0 rfl rfl)
theorem dX9_judged_25 : decode cX9_judged 25 = .ok (.aload_n 0, 1) := dk_42 (dk_at dksX9_judged_1 3 rfl rfl)
theorem dX9_judged_26 : decode cX9_judged 26 = .ok (.getfield 93, 3) := dk_180 0 93 (dk_at dksX9_judged_1 4 rfl rfl)
theorem dX9_judged_29 : decode cX9_judged 29 = .ok (.iconst 1, 1) := dk_4 (dk_at dksX9_judged_1 7 rfl rfl)
theorem dX9_judged_30 : decode cX9_judged 30 = .ok (.iconst 2, 1) := dk_5 (dk_at dksX9_judged_1 8 rfl rfl)
theorem dX9_judged_31 : decode cX9_judged 31 = .ok (.iload 4, 2) := dk_21 4 (dk_at dksX9_judged_1 9 rfl rfl)
theorem dX9_judged_33 : decode cX9_judged 33 = .ok (.imul, 1) := dk_104 (dk_at dksX9_judged_1 11 rfl rfl)
theorem dX9_judged_34 : decode cX9_judged 34 = .ok (.iadd, 1) := dk_96 (dk_at dksX9_judged_1 12 rfl rfl)
theorem dX9_judged_35 : decode cX9_judged 35 = .ok (.iaload, 1) := dk_46 (dk_at dksX9_judged_1 13 rfl rfl)
theorem dX9_judged_36 : decode cX9_judged 36 = .ok (.istore 5, 2) := dk_54 5 (dk_at dksX9_judged_1 14 rfl rfl)
theorem dX9_judged_38 : decode cX9_judged 38 = .ok (.aload_n 0, 1) := dk_42 (dk_at dksX9_judged_1 16 rfl rfl)
theorem dX9_judged_39 : decode cX9_judged 39 = .ok (.getfield 93, 3) := dk_180 0 93 (dk_at dksX9_judged_1 17 rfl rfl)
theorem dX9_judged_42 : decode cX9_judged 42 = .ok (.iconst 2, 1) := dk_5 (dk_at dksX9_judged_1 20 rfl rfl)
theorem dX9_judged_43 : decode cX9_judged 43 = .ok (.iconst 2, 1) := dk_5 (dk_at dksX9_judged_1 21 rfl rfl)
theorem dX9_judged_44 : decode cX9_judged 44 = .ok (.iload 4, 2) := dk_21 4 (dk_at dksX9_judged_1 22 rfl rfl)
theorem dX9_judged_46 : decode cX9_judged 46 = .ok (.imul, 1) := dk_104 (dk_at dksX9_judged_2 0 rfl rfl)
theorem dX9_judged_47 : decode cX9_judged 47 = .ok (.iadd, 1) := dk_96 (dk_at dksX9_judged_2 1 rfl rfl)
theorem dX9_judged_48 : decode cX9_judged 48 = .ok (.iaload, 1) := dk_46 (dk_at dksX9_judged_2 2 rfl rfl)
theorem dX9_judged_49 : decode cX9_judged 49 = .ok (.istore 6, 2) := dk_54 6 (dk_at dksX9_judged_2 3 rfl rfl)
theorem dX9_judged_51 : decode cX9_judged 51 = .ok (.aload_n 0, 1) := dk_42 (dk_at dksX9_judged_2 5 rfl rfl)
theorem dX9_judged_52 : decode cX9_judged 52 = .ok (.iload_n 1, 1) := dk_27 (dk_at dksX9_judged_2 6 rfl rfl)
theorem dX9_judged_53 : decode cX9_judged 53 = .ok (.iload_n 2, 1) := dk_28 (dk_at dksX9_judged_2 7 rfl rfl)
theorem dX9_judged_54 : decode cX9_judged 54 = .ok (.invokevirtual 282, 3) := dk_182 1 26 (dk_at dksX9_judged_2 8 rfl rfl)
theorem dX9_judged_57 : decode cX9_judged 57 = .ok (.iconst 2, 1) := dk_5 (dk_at dksX9_judged_2 11 rfl rfl)
theorem dX9_judged_58 : decode cX9_judged 58 = .ok (.if_icmp .ne 20, 3) := dk_160 0 20 (dk_at dksX9_judged_2 12 rfl rfl)
theorem dX9_judged_61 : decode cX9_judged 61 = .ok (.iload 5, 2) := dk_21 5 (dk_at dksX9_judged_2 15 rfl rfl)
theorem dX9_judged_63 : decode cX9_judged 63 = .ok (.ifCond .ne 15, 3) := dk_154 0 15 (dk_at dksX9_judged_2 17 rfl rfl)
theorem dX9_judged_66 : decode cX9_judged 66 = .ok (.iload_n 3, 1) := dk_29 (dk_at dksX9_judged_2 20 rfl rfl)
theorem dX9_judged_67 : decode cX9_judged 67 = .ok (.aload_n 0, 1) := dk_42 (dk_at dksX9_judged_2 21 rfl rfl)
theorem dX9_judged_68 : decode cX9_judged 68 = .ok (.iload_n 1, 1) := dk_27 (dk_at dksX9_judged_2 22 rfl rfl)
theorem dX9_judged_69 : decode cX9_judged 69 = .ok (.iload_n 2, 1) := dk_28 (dk_at dksX9_judged_2 23 rfl rfl)
theorem dX9_judged_70 : decode cX9_judged 70 = .ok (.iconst 2, 1) := dk_5 (dk_at dksX9_judged_3 0 rfl rfl)
theorem dX9_judged_71 : decode cX9_judged 71 = .ok (.invokevirtual 289, 3) := dk_182 1 33 (dk_at dksX9_judged_3 1 rfl rfl)
theorem dX9_judged_74 : decode cX9_judged 74 = .ok (.iadd, 1) := dk_96 (dk_at dksX9_judged_3 4 rfl rfl)
theorem dX9_judged_75 : decode cX9_judged 75 = .ok (.goto 4, 3) := dk_167 0 4 (dk_at dksX9_judged_3 5 rfl rfl)
theorem dX9_judged_78 : decode cX9_judged 78 = .ok (.iload_n 3, 1) := dk_29 (dk_at dksX9_judged_3 8 rfl rfl)
theorem dX9_judged_79 : decode cX9_judged 79 = .ok (.istore 7, 2) := dk_54 7 (dk_at dksX9_judged_3 9 rfl rfl)
theorem dX9_judged_81 : decode cX9_judged 81 = .ok (.iload 6, 2) := dk_21 6 (dk_at dksX9_judged_3 11 rfl rfl)
theorem dX9_judged_83 : decode cX9_judged 83 = .ok (.iload 7, 2) := dk_21 7 (dk_at dksX9_judged_3 13 rfl rfl)
theorem dX9_judged_85 : decode cX9_judged 85 = .ok (.if_icmp .lt 25, 3) := dk_161 0 25 (dk_at dksX9_judged_3 15 rfl rfl)
theorem dX9_judged_88 : decode cX9_judged 88 = .ok (.aload_n 0, 1) := dk_42 (dk_at dksX9_judged_3 18 rfl rfl)
theorem dX9_judged_89 : decode cX9_judged 89 = .ok (.iload_n 1, 1) := dk_27 (dk_at dksX9_judged_3 19 rfl rfl)
theorem dX9_judged_90 : decode cX9_judged 90 = .ok (.iload_n 2, 1) := dk_28 (dk_at dksX9_judged_3 20 rfl rfl)
theorem dX9_judged_91 : decode cX9_judged 91 = .ok (.invokevirtual 285, 3) := dk_182 1 29 (dk_at dksX9_judged_3 21 rfl rfl)
theorem dX9_judged_94 : decode cX9_judged 94 = .ok (.ifCond .eq 19, 3) := dk_153 0 19 (dk_at dksX9_judged_4 0 rfl rfl)
theorem dX9_judged_97 : decode cX9_judged 97 = .ok (.aload_n 0, 1) := dk_42 (dk_at dksX9_judged_4 3 rfl rfl)
theorem dX9_judged_98 : decode cX9_judged 98 = .ok (.iload_n 1, 1) := dk_27 (dk_at dksX9_judged_4 4 rfl rfl)
theorem dX9_judged_99 : decode cX9_judged 99 = .ok (.iload_n 2, 1) := dk_28 (dk_at dksX9_judged_4 5 rfl rfl)
theorem dX9_judged_100 : decode cX9_judged 100 = .ok (.iload 5, 2) := dk_21 5 (dk_at dksX9_judged_4 6 rfl rfl)
theorem dX9_judged_102 : decode cX9_judged 102 = .ok (.iload 6, 2) := dk_21 6 (dk_at dksX9_judged_4 8 rfl rfl)
theorem dX9_judged_104 : decode cX9_judged 104 = .ok (.invokevirtual 292, 3) := dk_182 1 36 (dk_at dksX9_judged_4 10 rfl rfl)
theorem dX9_judged_107 : decode cX9_judged 107 = .ok (.ifCond .ne 6, 3) := dk_154 0 6 (dk_at dksX9_judged_4 13 rfl rfl)
theorem dX9_judged_110 : decode cX9_judged 110 = .ok (.iload 4, 2) := dk_21 4 (dk_at dksX9_judged_4 16 rfl rfl)
theorem dX9_judged_112 : decode cX9_judged 112 = .ok (.ireturn, 1) := dk_172 (dk_at dksX9_judged_4 18 rfl rfl)
theorem dX9_judged_113 : decode cX9_judged 113 = .ok (.iload 6, 2) := dk_21 6 (dk_at dksX9_judged_4 19 rfl rfl)
theorem dX9_judged_115 : decode cX9_judged 115 = .ok (.aload_n 0, 1) := dk_42 (dk_at dksX9_judged_4 21 rfl rfl)
theorem dX9_judged_116 : decode cX9_judged 116 = .ok (.getfield 81, 3) := dk_180 0 81 (dk_at dksX9_judged_5 0 rfl rfl)
theorem dX9_judged_119 : decode cX9_judged 119 = .ok (.iconst 2, 1) := dk_5 (dk_at dksX9_judged_5 3 rfl rfl)
theorem dX9_judged_120 : decode cX9_judged 120 = .ok (.iaload, 1) := dk_46 (dk_at dksX9_judged_5 4 rfl rfl)
theorem dX9_judged_121 : decode cX9_judged 121 = .ok (.iadd, 1) := dk_96 (dk_at dksX9_judged_5 5 rfl rfl)
theorem dX9_judged_122 : decode cX9_judged 122 = .ok (.istore_n 3, 1) := dk_62 (dk_at dksX9_judged_5 6 rfl rfl)
theorem dX9_judged_123 : decode cX9_judged 123 = .ok (.iload_n 1, 1) := dk_27 (dk_at dksX9_judged_5 7 rfl rfl)
theorem dX9_judged_124 : decode cX9_judged 124 = .ok (.iconst 1, 1) := dk_4 (dk_at dksX9_judged_5 8 rfl rfl)
theorem dX9_judged_125 : decode cX9_judged 125 = .ok (.iload 5, 2) := dk_21 5 (dk_at dksX9_judged_5 9 rfl rfl)
theorem dX9_judged_127 : decode cX9_judged 127 = .ok (.isub, 1) := dk_100 (dk_at dksX9_judged_5 11 rfl rfl)
theorem dX9_judged_128 : decode cX9_judged 128 = .ok (.iadd, 1) := dk_96 (dk_at dksX9_judged_5 12 rfl rfl)
theorem dX9_judged_129 : decode cX9_judged 129 = .ok (.istore_n 1, 1) := dk_60 (dk_at dksX9_judged_5 13 rfl rfl)
theorem dX9_judged_130 : decode cX9_judged 130 = .ok (.iload_n 2, 1) := dk_28 (dk_at dksX9_judged_5 14 rfl rfl)
theorem dX9_judged_131 : decode cX9_judged 131 = .ok (.iload 5, 2) := dk_21 5 (dk_at dksX9_judged_5 15 rfl rfl)
theorem dX9_judged_133 : decode cX9_judged 133 = .ok (.iadd, 1) := dk_96 (dk_at dksX9_judged_5 17 rfl rfl)
theorem dX9_judged_134 : decode cX9_judged 134 = .ok (.istore_n 2, 1) := dk_61 (dk_at dksX9_judged_5 18 rfl rfl)
theorem dX9_judged_135 : decode cX9_judged 135 = .ok (.iinc 4 1, 3) := dk_132 4 1 (dk_at dksX9_judged_5 19 rfl rfl)
theorem dX9_judged_138 : decode cX9_judged 138 = .ok (.goto (-124), 3) := dk_167 255 132 (dk_at dksX9_judged_6 0 rfl rfl)
theorem dX9_judged_141 : decode cX9_judged 141 = .ok (.iconst (-1), 1) := dk_2 (dk_at dksX9_judged_6 3 rfl rfl)
theorem dX9_judged_142 : decode cX9_judged 142 = .ok (.ireturn, 1) := dk_172 (dk_at dksX9_judged_6 4 rfl rfl)
abbrev cX9_soonest : ByteArray := prog_23_method_69_code
def yX9_soonest : MethodName := ⟨RX9, "soonest", "(IIII)I"⟩
def dkwX9_soonest_7 : List UInt8 := [54, 7, 132, 9, 1, 167, 255, 152, 21, 4, 156, 0, 8, 21, 5, 167, 0, 5, 16, 254, 172]
abbrev dktX9_soonest_7 : List UInt8 := dkwX9_soonest_7 ++ []
def dkwX9_soonest_6 : List UInt8 := [180, 0, 81, 5, 46, 96, 96, 54, 8, 21, 6, 4, 21, 10, 100, 96, 54, 6, 21, 7, 21, 10, 96]
abbrev dktX9_soonest_6 : List UInt8 := dkwX9_soonest_6 ++ dktX9_soonest_7
def dkwX9_soonest_5 : List UInt8 := [21, 4, 160, 0, 6, 21, 10, 172, 21, 8, 42, 21, 6, 21, 7, 21, 10, 21, 8, 182, 1, 59, 42]
abbrev dktX9_soonest_5 : List UInt8 := dkwX9_soonest_5 ++ dktX9_soonest_6
def dkwX9_soonest_4 : List UInt8 := [21, 6, 21, 7, 3, 21, 8, 182, 1, 83, 21, 5, 160, 0, 7, 3, 167, 0, 4, 4, 54, 10, 21, 9]
abbrev dktX9_soonest_4 : List UInt8 := dkwX9_soonest_4 ++ dktX9_soonest_5
def dkwX9_soonest_3 : List UInt8 := [182, 1, 79, 154, 0, 99, 21, 4, 155, 0, 94, 42, 21, 6, 21, 7, 3, 182, 1, 53, 153, 0, 23, 42]
abbrev dktX9_soonest_3 : List UInt8 := dkwX9_soonest_3 ++ dktX9_soonest_4
def dkwX9_soonest_2 : List UInt8 := [160, 0, 6, 16, 254, 172, 27, 54, 6, 28, 54, 7, 29, 54, 8, 3, 54, 9, 42, 21, 6, 21, 7]
abbrev dktX9_soonest_2 : List UInt8 := dkwX9_soonest_2 ++ dktX9_soonest_3
def dkwX9_soonest_1 : List UInt8 := [2, 161, 0, 13, 42, 27, 28, 29, 182, 1, 86, 167, 0, 6, 19, 1, 82, 54, 5, 21, 5, 19, 1, 82]
abbrev dktX9_soonest_1 : List UInt8 := dkwX9_soonest_1 ++ dktX9_soonest_2
def dkwX9_soonest_0 : List UInt8 := [42, 3, 181, 0, 1, 42, 27, 28, 182, 1, 40, 153, 0, 27, 42, 29, 182, 1, 50, 153, 0, 19, 21, 4]
abbrev dktX9_soonest_0 : List UInt8 := dkwX9_soonest_0 ++ dktX9_soonest_1
theorem dksX9_soonest_0 : cX9_soonest.data.toList.drop 0 = dktX9_soonest_0 := by decide +kernel
theorem dksX9_soonest_1 : cX9_soonest.data.toList.drop 24 = dktX9_soonest_1 := dk_seg dksX9_soonest_0 24 rfl rfl
theorem dksX9_soonest_2 : cX9_soonest.data.toList.drop 48 = dktX9_soonest_2 := dk_seg dksX9_soonest_1 24 rfl rfl
theorem dksX9_soonest_3 : cX9_soonest.data.toList.drop 71 = dktX9_soonest_3 := dk_seg dksX9_soonest_2 23 rfl rfl
theorem dksX9_soonest_4 : cX9_soonest.data.toList.drop 95 = dktX9_soonest_4 := dk_seg dksX9_soonest_3 24 rfl rfl
theorem dksX9_soonest_5 : cX9_soonest.data.toList.drop 119 = dktX9_soonest_5 := dk_seg dksX9_soonest_4 24 rfl rfl
theorem dksX9_soonest_6 : cX9_soonest.data.toList.drop 142 = dktX9_soonest_6 := dk_seg dksX9_soonest_5 23 rfl rfl
theorem dksX9_soonest_7 : cX9_soonest.data.toList.drop 165 = dktX9_soonest_7 := dk_seg dksX9_soonest_6 23 rfl rfl
theorem dX9_soonest_0 : decode cX9_soonest 0 = .ok (.aload_n 0, 1) := dk_42 (dk_at dksX9_soonest_0 0 rfl rfl)
theorem dX9_soonest_1 : decode cX9_soonest 1 = .ok (.iconst 0, 1) := dk_3 (dk_at dksX9_soonest_0 1 rfl rfl)
theorem dX9_soonest_2 : decode cX9_soonest 2 = .ok (.putfield 1, 3) := dk_181 0 1 (dk_at dksX9_soonest_0 2 rfl rfl)
theorem dX9_soonest_5 : decode cX9_soonest 5 = .ok (.aload_n 0, 1) := dk_42 (dk_at dksX9_soonest_0 5 rfl rfl)
theorem dX9_soonest_6 : decode cX9_soonest 6 = .ok (.iload_n 1, 1) := dk_27 (dk_at dksX9_soonest_0 6 rfl rfl)
theorem dX9_soonest_7 : decode cX9_soonest 7 = .ok (.iload_n 2, 1) := dk_28 (dk_at dksX9_soonest_0 7 rfl rfl)
theorem dX9_soonest_8 : decode cX9_soonest 8 = .ok (.invokevirtual 296, 3) := dk_182 1 40 (dk_at dksX9_soonest_0 8 rfl rfl)
theorem dX9_soonest_11 : decode cX9_soonest 11 = .ok (.ifCond .eq 27, 3) := dk_153 0 27 (dk_at dksX9_soonest_0 11 rfl rfl)
theorem dX9_soonest_14 : decode cX9_soonest 14 = .ok (.aload_n 0, 1) := dk_42 (dk_at dksX9_soonest_0 14 rfl rfl)
theorem dX9_soonest_15 : decode cX9_soonest 15 = .ok (.iload_n 3, 1) := dk_29 (dk_at dksX9_soonest_0 15 rfl rfl)
theorem dX9_soonest_16 : decode cX9_soonest 16 = .ok (.invokevirtual 306, 3) := dk_182 1 50 (dk_at dksX9_soonest_0 16 rfl rfl)
theorem dX9_soonest_19 : decode cX9_soonest 19 = .ok (.ifCond .eq 19, 3) := dk_153 0 19 (dk_at dksX9_soonest_0 19 rfl rfl)
theorem dX9_soonest_22 : decode cX9_soonest 22 = .ok (.iload 4, 2) := dk_21 4 (dk_at dksX9_soonest_0 22 rfl rfl)
theorem dX9_soonest_24 : decode cX9_soonest 24 = .ok (.iconst (-1), 1) := dk_2 (dk_at dksX9_soonest_1 0 rfl rfl)
theorem dX9_soonest_25 : decode cX9_soonest 25 = .ok (.if_icmp .lt 13, 3) := dk_161 0 13 (dk_at dksX9_soonest_1 1 rfl rfl)
theorem dX9_soonest_28 : decode cX9_soonest 28 = .ok (.aload_n 0, 1) := dk_42 (dk_at dksX9_soonest_1 4 rfl rfl)
theorem dX9_soonest_29 : decode cX9_soonest 29 = .ok (.iload_n 1, 1) := dk_27 (dk_at dksX9_soonest_1 5 rfl rfl)
theorem dX9_soonest_30 : decode cX9_soonest 30 = .ok (.iload_n 2, 1) := dk_28 (dk_at dksX9_soonest_1 6 rfl rfl)
theorem dX9_soonest_31 : decode cX9_soonest 31 = .ok (.iload_n 3, 1) := dk_29 (dk_at dksX9_soonest_1 7 rfl rfl)
theorem dX9_soonest_32 : decode cX9_soonest 32 = .ok (.invokevirtual 342, 3) := dk_182 1 86 (dk_at dksX9_soonest_1 8 rfl rfl)
theorem dX9_soonest_35 : decode cX9_soonest 35 = .ok (.goto 6, 3) := dk_167 0 6 (dk_at dksX9_soonest_1 11 rfl rfl)
theorem dX9_soonest_38 : decode cX9_soonest 38 = .ok (.ldc_w 338, 3) := dk_19 1 82 (dk_at dksX9_soonest_1 14 rfl rfl)
theorem dX9_soonest_41 : decode cX9_soonest 41 = .ok (.istore 5, 2) := dk_54 5 (dk_at dksX9_soonest_1 17 rfl rfl)
theorem dX9_soonest_43 : decode cX9_soonest 43 = .ok (.iload 5, 2) := dk_21 5 (dk_at dksX9_soonest_1 19 rfl rfl)
theorem dX9_soonest_45 : decode cX9_soonest 45 = .ok (.ldc_w 338, 3) := dk_19 1 82 (dk_at dksX9_soonest_1 21 rfl rfl)
theorem dX9_soonest_48 : decode cX9_soonest 48 = .ok (.if_icmp .ne 6, 3) := dk_160 0 6 (dk_at dksX9_soonest_2 0 rfl rfl)
theorem dX9_soonest_51 : decode cX9_soonest 51 = .ok (.bipush (-2), 2) := dk_16 254 (dk_at dksX9_soonest_2 3 rfl rfl)
theorem dX9_soonest_53 : decode cX9_soonest 53 = .ok (.ireturn, 1) := dk_172 (dk_at dksX9_soonest_2 5 rfl rfl)
theorem dX9_soonest_54 : decode cX9_soonest 54 = .ok (.iload_n 1, 1) := dk_27 (dk_at dksX9_soonest_2 6 rfl rfl)
theorem dX9_soonest_55 : decode cX9_soonest 55 = .ok (.istore 6, 2) := dk_54 6 (dk_at dksX9_soonest_2 7 rfl rfl)
theorem dX9_soonest_57 : decode cX9_soonest 57 = .ok (.iload_n 2, 1) := dk_28 (dk_at dksX9_soonest_2 9 rfl rfl)
theorem dX9_soonest_58 : decode cX9_soonest 58 = .ok (.istore 7, 2) := dk_54 7 (dk_at dksX9_soonest_2 10 rfl rfl)
theorem dX9_soonest_60 : decode cX9_soonest 60 = .ok (.iload_n 3, 1) := dk_29 (dk_at dksX9_soonest_2 12 rfl rfl)
theorem dX9_soonest_61 : decode cX9_soonest 61 = .ok (.istore 8, 2) := dk_54 8 (dk_at dksX9_soonest_2 13 rfl rfl)
theorem dX9_soonest_63 : decode cX9_soonest 63 = .ok (.iconst 0, 1) := dk_3 (dk_at dksX9_soonest_2 15 rfl rfl)
theorem dX9_soonest_64 : decode cX9_soonest 64 = .ok (.istore 9, 2) := dk_54 9 (dk_at dksX9_soonest_2 16 rfl rfl)
theorem dX9_soonest_66 : decode cX9_soonest 66 = .ok (.aload_n 0, 1) := dk_42 (dk_at dksX9_soonest_2 18 rfl rfl)
theorem dX9_soonest_67 : decode cX9_soonest 67 = .ok (.iload 6, 2) := dk_21 6 (dk_at dksX9_soonest_2 19 rfl rfl)
theorem dX9_soonest_69 : decode cX9_soonest 69 = .ok (.iload 7, 2) := dk_21 7 (dk_at dksX9_soonest_2 21 rfl rfl)
theorem dX9_soonest_71 : decode cX9_soonest 71 = .ok (.invokevirtual 335, 3) := dk_182 1 79 (dk_at dksX9_soonest_3 0 rfl rfl)
theorem dX9_soonest_74 : decode cX9_soonest 74 = .ok (.ifCond .ne 99, 3) := dk_154 0 99 (dk_at dksX9_soonest_3 3 rfl rfl)
theorem dX9_soonest_77 : decode cX9_soonest 77 = .ok (.iload 4, 2) := dk_21 4 (dk_at dksX9_soonest_3 6 rfl rfl)
theorem dX9_soonest_79 : decode cX9_soonest 79 = .ok (.ifCond .lt 94, 3) := dk_155 0 94 (dk_at dksX9_soonest_3 8 rfl rfl)
theorem dX9_soonest_82 : decode cX9_soonest 82 = .ok (.aload_n 0, 1) := dk_42 (dk_at dksX9_soonest_3 11 rfl rfl)
theorem dX9_soonest_83 : decode cX9_soonest 83 = .ok (.iload 6, 2) := dk_21 6 (dk_at dksX9_soonest_3 12 rfl rfl)
theorem dX9_soonest_85 : decode cX9_soonest 85 = .ok (.iload 7, 2) := dk_21 7 (dk_at dksX9_soonest_3 14 rfl rfl)
theorem dX9_soonest_87 : decode cX9_soonest 87 = .ok (.iconst 0, 1) := dk_3 (dk_at dksX9_soonest_3 16 rfl rfl)
theorem dX9_soonest_88 : decode cX9_soonest 88 = .ok (.invokevirtual 309, 3) := dk_182 1 53 (dk_at dksX9_soonest_3 17 rfl rfl)
theorem dX9_soonest_91 : decode cX9_soonest 91 = .ok (.ifCond .eq 23, 3) := dk_153 0 23 (dk_at dksX9_soonest_3 20 rfl rfl)
theorem dX9_soonest_94 : decode cX9_soonest 94 = .ok (.aload_n 0, 1) := dk_42 (dk_at dksX9_soonest_3 23 rfl rfl)
theorem dX9_soonest_95 : decode cX9_soonest 95 = .ok (.iload 6, 2) := dk_21 6 (dk_at dksX9_soonest_4 0 rfl rfl)
theorem dX9_soonest_97 : decode cX9_soonest 97 = .ok (.iload 7, 2) := dk_21 7 (dk_at dksX9_soonest_4 2 rfl rfl)
theorem dX9_soonest_99 : decode cX9_soonest 99 = .ok (.iconst 0, 1) := dk_3 (dk_at dksX9_soonest_4 4 rfl rfl)
theorem dX9_soonest_100 : decode cX9_soonest 100 = .ok (.iload 8, 2) := dk_21 8 (dk_at dksX9_soonest_4 5 rfl rfl)
theorem dX9_soonest_102 : decode cX9_soonest 102 = .ok (.invokevirtual 339, 3) := dk_182 1 83 (dk_at dksX9_soonest_4 7 rfl rfl)
theorem dX9_soonest_105 : decode cX9_soonest 105 = .ok (.iload 5, 2) := dk_21 5 (dk_at dksX9_soonest_4 10 rfl rfl)
theorem dX9_soonest_107 : decode cX9_soonest 107 = .ok (.if_icmp .ne 7, 3) := dk_160 0 7 (dk_at dksX9_soonest_4 12 rfl rfl)
theorem dX9_soonest_110 : decode cX9_soonest 110 = .ok (.iconst 0, 1) := dk_3 (dk_at dksX9_soonest_4 15 rfl rfl)
theorem dX9_soonest_111 : decode cX9_soonest 111 = .ok (.goto 4, 3) := dk_167 0 4 (dk_at dksX9_soonest_4 16 rfl rfl)
theorem dX9_soonest_114 : decode cX9_soonest 114 = .ok (.iconst 1, 1) := dk_4 (dk_at dksX9_soonest_4 19 rfl rfl)
theorem dX9_soonest_115 : decode cX9_soonest 115 = .ok (.istore 10, 2) := dk_54 10 (dk_at dksX9_soonest_4 20 rfl rfl)
theorem dX9_soonest_117 : decode cX9_soonest 117 = .ok (.iload 9, 2) := dk_21 9 (dk_at dksX9_soonest_4 22 rfl rfl)
theorem dX9_soonest_119 : decode cX9_soonest 119 = .ok (.iload 4, 2) := dk_21 4 (dk_at dksX9_soonest_5 0 rfl rfl)
theorem dX9_soonest_121 : decode cX9_soonest 121 = .ok (.if_icmp .ne 6, 3) := dk_160 0 6 (dk_at dksX9_soonest_5 2 rfl rfl)
theorem dX9_soonest_124 : decode cX9_soonest 124 = .ok (.iload 10, 2) := dk_21 10 (dk_at dksX9_soonest_5 5 rfl rfl)
theorem dX9_soonest_126 : decode cX9_soonest 126 = .ok (.ireturn, 1) := dk_172 (dk_at dksX9_soonest_5 7 rfl rfl)
theorem dX9_soonest_127 : decode cX9_soonest 127 = .ok (.iload 8, 2) := dk_21 8 (dk_at dksX9_soonest_5 8 rfl rfl)
theorem dX9_soonest_129 : decode cX9_soonest 129 = .ok (.aload_n 0, 1) := dk_42 (dk_at dksX9_soonest_5 10 rfl rfl)
theorem dX9_soonest_130 : decode cX9_soonest 130 = .ok (.iload 6, 2) := dk_21 6 (dk_at dksX9_soonest_5 11 rfl rfl)
theorem dX9_soonest_132 : decode cX9_soonest 132 = .ok (.iload 7, 2) := dk_21 7 (dk_at dksX9_soonest_5 13 rfl rfl)
theorem dX9_soonest_134 : decode cX9_soonest 134 = .ok (.iload 10, 2) := dk_21 10 (dk_at dksX9_soonest_5 15 rfl rfl)
theorem dX9_soonest_136 : decode cX9_soonest 136 = .ok (.iload 8, 2) := dk_21 8 (dk_at dksX9_soonest_5 17 rfl rfl)
theorem dX9_soonest_138 : decode cX9_soonest 138 = .ok (.invokevirtual 315, 3) := dk_182 1 59 (dk_at dksX9_soonest_5 19 rfl rfl)
theorem dX9_soonest_141 : decode cX9_soonest 141 = .ok (.aload_n 0, 1) := dk_42 (dk_at dksX9_soonest_5 22 rfl rfl)
theorem dX9_soonest_142 : decode cX9_soonest 142 = .ok (.getfield 81, 3) := dk_180 0 81 (dk_at dksX9_soonest_6 0 rfl rfl)
theorem dX9_soonest_145 : decode cX9_soonest 145 = .ok (.iconst 2, 1) := dk_5 (dk_at dksX9_soonest_6 3 rfl rfl)
theorem dX9_soonest_146 : decode cX9_soonest 146 = .ok (.iaload, 1) := dk_46 (dk_at dksX9_soonest_6 4 rfl rfl)
theorem dX9_soonest_147 : decode cX9_soonest 147 = .ok (.iadd, 1) := dk_96 (dk_at dksX9_soonest_6 5 rfl rfl)
theorem dX9_soonest_148 : decode cX9_soonest 148 = .ok (.iadd, 1) := dk_96 (dk_at dksX9_soonest_6 6 rfl rfl)
theorem dX9_soonest_149 : decode cX9_soonest 149 = .ok (.istore 8, 2) := dk_54 8 (dk_at dksX9_soonest_6 7 rfl rfl)
theorem dX9_soonest_151 : decode cX9_soonest 151 = .ok (.iload 6, 2) := dk_21 6 (dk_at dksX9_soonest_6 9 rfl rfl)
theorem dX9_soonest_153 : decode cX9_soonest 153 = .ok (.iconst 1, 1) := dk_4 (dk_at dksX9_soonest_6 11 rfl rfl)
theorem dX9_soonest_154 : decode cX9_soonest 154 = .ok (.iload 10, 2) := dk_21 10 (dk_at dksX9_soonest_6 12 rfl rfl)
theorem dX9_soonest_156 : decode cX9_soonest 156 = .ok (.isub, 1) := dk_100 (dk_at dksX9_soonest_6 14 rfl rfl)
theorem dX9_soonest_157 : decode cX9_soonest 157 = .ok (.iadd, 1) := dk_96 (dk_at dksX9_soonest_6 15 rfl rfl)
theorem dX9_soonest_158 : decode cX9_soonest 158 = .ok (.istore 6, 2) := dk_54 6 (dk_at dksX9_soonest_6 16 rfl rfl)
theorem dX9_soonest_160 : decode cX9_soonest 160 = .ok (.iload 7, 2) := dk_21 7 (dk_at dksX9_soonest_6 18 rfl rfl)
theorem dX9_soonest_162 : decode cX9_soonest 162 = .ok (.iload 10, 2) := dk_21 10 (dk_at dksX9_soonest_6 20 rfl rfl)
theorem dX9_soonest_164 : decode cX9_soonest 164 = .ok (.iadd, 1) := dk_96 (dk_at dksX9_soonest_6 22 rfl rfl)
theorem dX9_soonest_165 : decode cX9_soonest 165 = .ok (.istore 7, 2) := dk_54 7 (dk_at dksX9_soonest_7 0 rfl rfl)
theorem dX9_soonest_167 : decode cX9_soonest 167 = .ok (.iinc 9 1, 3) := dk_132 9 1 (dk_at dksX9_soonest_7 2 rfl rfl)
theorem dX9_soonest_170 : decode cX9_soonest 170 = .ok (.goto (-104), 3) := dk_167 255 152 (dk_at dksX9_soonest_7 5 rfl rfl)
theorem dX9_soonest_173 : decode cX9_soonest 173 = .ok (.iload 4, 2) := dk_21 4 (dk_at dksX9_soonest_7 8 rfl rfl)
theorem dX9_soonest_175 : decode cX9_soonest 175 = .ok (.ifCond .ge 8, 3) := dk_156 0 8 (dk_at dksX9_soonest_7 10 rfl rfl)
theorem dX9_soonest_178 : decode cX9_soonest 178 = .ok (.iload 5, 2) := dk_21 5 (dk_at dksX9_soonest_7 13 rfl rfl)
theorem dX9_soonest_180 : decode cX9_soonest 180 = .ok (.goto 5, 3) := dk_167 0 5 (dk_at dksX9_soonest_7 15 rfl rfl)
theorem dX9_soonest_183 : decode cX9_soonest 183 = .ok (.bipush (-2), 2) := dk_16 254 (dk_at dksX9_soonest_7 18 rfl rfl)
theorem dX9_soonest_185 : decode cX9_soonest 185 = .ok (.ireturn, 1) := dk_172 (dk_at dksX9_soonest_7 20 rfl rfl)
abbrev cX9_soonestFrom : ByteArray := prog_23_method_67_code
def yX9_soonestFrom : MethodName := ⟨RX9, "soonestFrom", "(III)I"⟩
def dkwX9_soonestFrom_3 : List UInt8 := [21, 4, 172]
abbrev dktX9_soonestFrom_3 : List UInt8 := dkwX9_soonestFrom_3 ++ []
def dkwX9_soonestFrom_2 : List UInt8 := [54, 6, 21, 6, 21, 4, 162, 0, 8, 21, 6, 167, 0, 5, 21, 4, 54, 4, 132, 5, 1, 167, 255, 209]
abbrev dktX9_soonestFrom_2 : List UInt8 := dkwX9_soonestFrom_2 ++ dktX9_soonestFrom_3
def dkwX9_soonestFrom_1 : List UInt8 := [162, 0, 47, 42, 27, 28, 21, 5, 182, 1, 53, 153, 0, 30, 42, 27, 28, 21, 5, 29, 182, 1, 83]
abbrev dktX9_soonestFrom_1 : List UInt8 := dkwX9_soonestFrom_1 ++ dktX9_soonestFrom_2
def dkwX9_soonestFrom_0 : List UInt8 := [42, 27, 28, 182, 1, 79, 153, 0, 5, 29, 172, 19, 1, 82, 54, 4, 3, 54, 5, 21, 5, 5]
abbrev dktX9_soonestFrom_0 : List UInt8 := dkwX9_soonestFrom_0 ++ dktX9_soonestFrom_1
theorem dksX9_soonestFrom_0 : cX9_soonestFrom.data.toList.drop 0 = dktX9_soonestFrom_0 := by decide +kernel
theorem dksX9_soonestFrom_1 : cX9_soonestFrom.data.toList.drop 22 = dktX9_soonestFrom_1 := dk_seg dksX9_soonestFrom_0 22 rfl rfl
theorem dksX9_soonestFrom_2 : cX9_soonestFrom.data.toList.drop 45 = dktX9_soonestFrom_2 := dk_seg dksX9_soonestFrom_1 23 rfl rfl
theorem dksX9_soonestFrom_3 : cX9_soonestFrom.data.toList.drop 69 = dktX9_soonestFrom_3 := dk_seg dksX9_soonestFrom_2 24 rfl rfl
theorem dX9_soonestFrom_0 : decode cX9_soonestFrom 0 = .ok (.aload_n 0, 1) := dk_42 (dk_at dksX9_soonestFrom_0 0 rfl rfl)
theorem dX9_soonestFrom_1 : decode cX9_soonestFrom 1 = .ok (.iload_n 1, 1) := dk_27 (dk_at dksX9_soonestFrom_0 1 rfl rfl)
theorem dX9_soonestFrom_2 : decode cX9_soonestFrom 2 = .ok (.iload_n 2, 1) := dk_28 (dk_at dksX9_soonestFrom_0 2 rfl rfl)
theorem dX9_soonestFrom_3 : decode cX9_soonestFrom 3 = .ok (.invokevirtual 335, 3) := dk_182 1 79 (dk_at dksX9_soonestFrom_0 3 rfl rfl)
theorem dX9_soonestFrom_6 : decode cX9_soonestFrom 6 = .ok (.ifCond .eq 5, 3) := dk_153 0 5 (dk_at dksX9_soonestFrom_0 6 rfl rfl)
theorem dX9_soonestFrom_9 : decode cX9_soonestFrom 9 = .ok (.iload_n 3, 1) := dk_29 (dk_at dksX9_soonestFrom_0 9 rfl rfl)
theorem dX9_soonestFrom_10 : decode cX9_soonestFrom 10 = .ok (.ireturn, 1) := dk_172 (dk_at dksX9_soonestFrom_0 10 rfl rfl)
theorem dX9_soonestFrom_11 : decode cX9_soonestFrom 11 = .ok (.ldc_w 338, 3) := dk_19 1 82 (dk_at dksX9_soonestFrom_0 11 rfl rfl)
theorem dX9_soonestFrom_14 : decode cX9_soonestFrom 14 = .ok (.istore 4, 2) := dk_54 4 (dk_at dksX9_soonestFrom_0 14 rfl rfl)
theorem dX9_soonestFrom_16 : decode cX9_soonestFrom 16 = .ok (.iconst 0, 1) := dk_3 (dk_at dksX9_soonestFrom_0 16 rfl rfl)
theorem dX9_soonestFrom_17 : decode cX9_soonestFrom 17 = .ok (.istore 5, 2) := dk_54 5 (dk_at dksX9_soonestFrom_0 17 rfl rfl)
theorem dX9_soonestFrom_19 : decode cX9_soonestFrom 19 = .ok (.iload 5, 2) := dk_21 5 (dk_at dksX9_soonestFrom_0 19 rfl rfl)
theorem dX9_soonestFrom_21 : decode cX9_soonestFrom 21 = .ok (.iconst 2, 1) := dk_5 (dk_at dksX9_soonestFrom_0 21 rfl rfl)
theorem dX9_soonestFrom_22 : decode cX9_soonestFrom 22 = .ok (.if_icmp .ge 47, 3) := dk_162 0 47 (dk_at dksX9_soonestFrom_1 0 rfl rfl)
theorem dX9_soonestFrom_25 : decode cX9_soonestFrom 25 = .ok (.aload_n 0, 1) := dk_42 (dk_at dksX9_soonestFrom_1 3 rfl rfl)
theorem dX9_soonestFrom_26 : decode cX9_soonestFrom 26 = .ok (.iload_n 1, 1) := dk_27 (dk_at dksX9_soonestFrom_1 4 rfl rfl)
theorem dX9_soonestFrom_27 : decode cX9_soonestFrom 27 = .ok (.iload_n 2, 1) := dk_28 (dk_at dksX9_soonestFrom_1 5 rfl rfl)
theorem dX9_soonestFrom_28 : decode cX9_soonestFrom 28 = .ok (.iload 5, 2) := dk_21 5 (dk_at dksX9_soonestFrom_1 6 rfl rfl)
theorem dX9_soonestFrom_30 : decode cX9_soonestFrom 30 = .ok (.invokevirtual 309, 3) := dk_182 1 53 (dk_at dksX9_soonestFrom_1 8 rfl rfl)
theorem dX9_soonestFrom_33 : decode cX9_soonestFrom 33 = .ok (.ifCond .eq 30, 3) := dk_153 0 30 (dk_at dksX9_soonestFrom_1 11 rfl rfl)
theorem dX9_soonestFrom_36 : decode cX9_soonestFrom 36 = .ok (.aload_n 0, 1) := dk_42 (dk_at dksX9_soonestFrom_1 14 rfl rfl)
theorem dX9_soonestFrom_37 : decode cX9_soonestFrom 37 = .ok (.iload_n 1, 1) := dk_27 (dk_at dksX9_soonestFrom_1 15 rfl rfl)
theorem dX9_soonestFrom_38 : decode cX9_soonestFrom 38 = .ok (.iload_n 2, 1) := dk_28 (dk_at dksX9_soonestFrom_1 16 rfl rfl)
theorem dX9_soonestFrom_39 : decode cX9_soonestFrom 39 = .ok (.iload 5, 2) := dk_21 5 (dk_at dksX9_soonestFrom_1 17 rfl rfl)
theorem dX9_soonestFrom_41 : decode cX9_soonestFrom 41 = .ok (.iload_n 3, 1) := dk_29 (dk_at dksX9_soonestFrom_1 19 rfl rfl)
theorem dX9_soonestFrom_42 : decode cX9_soonestFrom 42 = .ok (.invokevirtual 339, 3) := dk_182 1 83 (dk_at dksX9_soonestFrom_1 20 rfl rfl)
theorem dX9_soonestFrom_45 : decode cX9_soonestFrom 45 = .ok (.istore 6, 2) := dk_54 6 (dk_at dksX9_soonestFrom_2 0 rfl rfl)
theorem dX9_soonestFrom_47 : decode cX9_soonestFrom 47 = .ok (.iload 6, 2) := dk_21 6 (dk_at dksX9_soonestFrom_2 2 rfl rfl)
theorem dX9_soonestFrom_49 : decode cX9_soonestFrom 49 = .ok (.iload 4, 2) := dk_21 4 (dk_at dksX9_soonestFrom_2 4 rfl rfl)
theorem dX9_soonestFrom_51 : decode cX9_soonestFrom 51 = .ok (.if_icmp .ge 8, 3) := dk_162 0 8 (dk_at dksX9_soonestFrom_2 6 rfl rfl)
theorem dX9_soonestFrom_54 : decode cX9_soonestFrom 54 = .ok (.iload 6, 2) := dk_21 6 (dk_at dksX9_soonestFrom_2 9 rfl rfl)
theorem dX9_soonestFrom_56 : decode cX9_soonestFrom 56 = .ok (.goto 5, 3) := dk_167 0 5 (dk_at dksX9_soonestFrom_2 11 rfl rfl)
theorem dX9_soonestFrom_59 : decode cX9_soonestFrom 59 = .ok (.iload 4, 2) := dk_21 4 (dk_at dksX9_soonestFrom_2 14 rfl rfl)
theorem dX9_soonestFrom_61 : decode cX9_soonestFrom 61 = .ok (.istore 4, 2) := dk_54 4 (dk_at dksX9_soonestFrom_2 16 rfl rfl)
theorem dX9_soonestFrom_63 : decode cX9_soonestFrom 63 = .ok (.iinc 5 1, 3) := dk_132 5 1 (dk_at dksX9_soonestFrom_2 18 rfl rfl)
theorem dX9_soonestFrom_66 : decode cX9_soonestFrom 66 = .ok (.goto (-47), 3) := dk_167 255 209 (dk_at dksX9_soonestFrom_2 21 rfl rfl)
theorem dX9_soonestFrom_69 : decode cX9_soonestFrom 69 = .ok (.iload 4, 2) := dk_21 4 (dk_at dksX9_soonestFrom_3 0 rfl rfl)
theorem dX9_soonestFrom_71 : decode cX9_soonestFrom 71 = .ok (.ireturn, 1) := dk_172 (dk_at dksX9_soonestFrom_3 2 rfl rfl)
abbrev cX9_isHome : ByteArray := prog_23_method_48_code
def yX9_isHome : MethodName := ⟨RX9, "isHome", "(II)Z"⟩
def dkwX9_isHome_1 : List UInt8 := [3, 172]
abbrev dktX9_isHome_1 : List UInt8 := dkwX9_isHome_1 ++ []
def dkwX9_isHome_0 : List UInt8 := [27, 42, 182, 1, 19, 4, 100, 160, 0, 17, 28, 42, 182, 1, 23, 4, 100, 160, 0, 7, 4, 167, 0, 4]
abbrev dktX9_isHome_0 : List UInt8 := dkwX9_isHome_0 ++ dktX9_isHome_1
theorem dksX9_isHome_0 : cX9_isHome.data.toList.drop 0 = dktX9_isHome_0 := by decide +kernel
theorem dksX9_isHome_1 : cX9_isHome.data.toList.drop 24 = dktX9_isHome_1 := dk_seg dksX9_isHome_0 24 rfl rfl
theorem dX9_isHome_0 : decode cX9_isHome 0 = .ok (.iload_n 1, 1) := dk_27 (dk_at dksX9_isHome_0 0 rfl rfl)
theorem dX9_isHome_1 : decode cX9_isHome 1 = .ok (.aload_n 0, 1) := dk_42 (dk_at dksX9_isHome_0 1 rfl rfl)
theorem dX9_isHome_2 : decode cX9_isHome 2 = .ok (.invokevirtual 275, 3) := dk_182 1 19 (dk_at dksX9_isHome_0 2 rfl rfl)
theorem dX9_isHome_5 : decode cX9_isHome 5 = .ok (.iconst 1, 1) := dk_4 (dk_at dksX9_isHome_0 5 rfl rfl)
theorem dX9_isHome_6 : decode cX9_isHome 6 = .ok (.isub, 1) := dk_100 (dk_at dksX9_isHome_0 6 rfl rfl)
theorem dX9_isHome_7 : decode cX9_isHome 7 = .ok (.if_icmp .ne 17, 3) := dk_160 0 17 (dk_at dksX9_isHome_0 7 rfl rfl)
theorem dX9_isHome_10 : decode cX9_isHome 10 = .ok (.iload_n 2, 1) := dk_28 (dk_at dksX9_isHome_0 10 rfl rfl)
theorem dX9_isHome_11 : decode cX9_isHome 11 = .ok (.aload_n 0, 1) := dk_42 (dk_at dksX9_isHome_0 11 rfl rfl)
theorem dX9_isHome_12 : decode cX9_isHome 12 = .ok (.invokevirtual 279, 3) := dk_182 1 23 (dk_at dksX9_isHome_0 12 rfl rfl)
theorem dX9_isHome_15 : decode cX9_isHome 15 = .ok (.iconst 1, 1) := dk_4 (dk_at dksX9_isHome_0 15 rfl rfl)
theorem dX9_isHome_16 : decode cX9_isHome 16 = .ok (.isub, 1) := dk_100 (dk_at dksX9_isHome_0 16 rfl rfl)
theorem dX9_isHome_17 : decode cX9_isHome 17 = .ok (.if_icmp .ne 7, 3) := dk_160 0 7 (dk_at dksX9_isHome_0 17 rfl rfl)
theorem dX9_isHome_20 : decode cX9_isHome 20 = .ok (.iconst 1, 1) := dk_4 (dk_at dksX9_isHome_0 20 rfl rfl)
theorem dX9_isHome_21 : decode cX9_isHome 21 = .ok (.goto 4, 3) := dk_167 0 4 (dk_at dksX9_isHome_0 21 rfl rfl)
theorem dX9_isHome_24 : decode cX9_isHome 24 = .ok (.iconst 0, 1) := dk_3 (dk_at dksX9_isHome_1 0 rfl rfl)
theorem dX9_isHome_25 : decode cX9_isHome 25 = .ok (.ireturn, 1) := dk_172 (dk_at dksX9_isHome_1 1 rfl rfl)
abbrev cX9_soonestBy : ByteArray := prog_23_method_68_code
def yX9_soonestBy : MethodName := ⟨RX9, "soonestBy", "(IIII)I"⟩
def dkwX9_soonestBy_1 : List UInt8 := [180, 0, 81, 5, 46, 96, 182, 1, 86, 172]
abbrev dktX9_soonestBy_1 : List UInt8 := dkwX9_soonestBy_1 ++ []
def dkwX9_soonestBy_0 : List UInt8 := [42, 27, 4, 96, 29, 100, 28, 29, 96, 21, 4, 42, 27, 28, 29, 21, 4, 182, 1, 59, 96, 42]
abbrev dktX9_soonestBy_0 : List UInt8 := dkwX9_soonestBy_0 ++ dktX9_soonestBy_1
theorem dksX9_soonestBy_0 : cX9_soonestBy.data.toList.drop 0 = dktX9_soonestBy_0 := by decide +kernel
theorem dksX9_soonestBy_1 : cX9_soonestBy.data.toList.drop 22 = dktX9_soonestBy_1 := dk_seg dksX9_soonestBy_0 22 rfl rfl
theorem dX9_soonestBy_0 : decode cX9_soonestBy 0 = .ok (.aload_n 0, 1) := dk_42 (dk_at dksX9_soonestBy_0 0 rfl rfl)
theorem dX9_soonestBy_1 : decode cX9_soonestBy 1 = .ok (.iload_n 1, 1) := dk_27 (dk_at dksX9_soonestBy_0 1 rfl rfl)
theorem dX9_soonestBy_2 : decode cX9_soonestBy 2 = .ok (.iconst 1, 1) := dk_4 (dk_at dksX9_soonestBy_0 2 rfl rfl)
theorem dX9_soonestBy_3 : decode cX9_soonestBy 3 = .ok (.iadd, 1) := dk_96 (dk_at dksX9_soonestBy_0 3 rfl rfl)
theorem dX9_soonestBy_4 : decode cX9_soonestBy 4 = .ok (.iload_n 3, 1) := dk_29 (dk_at dksX9_soonestBy_0 4 rfl rfl)
theorem dX9_soonestBy_5 : decode cX9_soonestBy 5 = .ok (.isub, 1) := dk_100 (dk_at dksX9_soonestBy_0 5 rfl rfl)
theorem dX9_soonestBy_6 : decode cX9_soonestBy 6 = .ok (.iload_n 2, 1) := dk_28 (dk_at dksX9_soonestBy_0 6 rfl rfl)
theorem dX9_soonestBy_7 : decode cX9_soonestBy 7 = .ok (.iload_n 3, 1) := dk_29 (dk_at dksX9_soonestBy_0 7 rfl rfl)
theorem dX9_soonestBy_8 : decode cX9_soonestBy 8 = .ok (.iadd, 1) := dk_96 (dk_at dksX9_soonestBy_0 8 rfl rfl)
theorem dX9_soonestBy_9 : decode cX9_soonestBy 9 = .ok (.iload 4, 2) := dk_21 4 (dk_at dksX9_soonestBy_0 9 rfl rfl)
theorem dX9_soonestBy_11 : decode cX9_soonestBy 11 = .ok (.aload_n 0, 1) := dk_42 (dk_at dksX9_soonestBy_0 11 rfl rfl)
theorem dX9_soonestBy_12 : decode cX9_soonestBy 12 = .ok (.iload_n 1, 1) := dk_27 (dk_at dksX9_soonestBy_0 12 rfl rfl)
theorem dX9_soonestBy_13 : decode cX9_soonestBy 13 = .ok (.iload_n 2, 1) := dk_28 (dk_at dksX9_soonestBy_0 13 rfl rfl)
theorem dX9_soonestBy_14 : decode cX9_soonestBy 14 = .ok (.iload_n 3, 1) := dk_29 (dk_at dksX9_soonestBy_0 14 rfl rfl)
theorem dX9_soonestBy_15 : decode cX9_soonestBy 15 = .ok (.iload 4, 2) := dk_21 4 (dk_at dksX9_soonestBy_0 15 rfl rfl)
theorem dX9_soonestBy_17 : decode cX9_soonestBy 17 = .ok (.invokevirtual 315, 3) := dk_182 1 59 (dk_at dksX9_soonestBy_0 17 rfl rfl)
theorem dX9_soonestBy_20 : decode cX9_soonestBy 20 = .ok (.iadd, 1) := dk_96 (dk_at dksX9_soonestBy_0 20 rfl rfl)
theorem dX9_soonestBy_21 : decode cX9_soonestBy 21 = .ok (.aload_n 0, 1) := dk_42 (dk_at dksX9_soonestBy_0 21 rfl rfl)
theorem dX9_soonestBy_22 : decode cX9_soonestBy 22 = .ok (.getfield 81, 3) := dk_180 0 81 (dk_at dksX9_soonestBy_1 0 rfl rfl)
theorem dX9_soonestBy_25 : decode cX9_soonestBy 25 = .ok (.iconst 2, 1) := dk_5 (dk_at dksX9_soonestBy_1 3 rfl rfl)
theorem dX9_soonestBy_26 : decode cX9_soonestBy 26 = .ok (.iaload, 1) := dk_46 (dk_at dksX9_soonestBy_1 4 rfl rfl)
theorem dX9_soonestBy_27 : decode cX9_soonestBy 27 = .ok (.iadd, 1) := dk_96 (dk_at dksX9_soonestBy_1 5 rfl rfl)
theorem dX9_soonestBy_28 : decode cX9_soonestBy 28 = .ok (.invokevirtual 342, 3) := dk_182 1 86 (dk_at dksX9_soonestBy_1 6 rfl rfl)
theorem dX9_soonestBy_31 : decode cX9_soonestBy 31 = .ok (.ireturn, 1) := dk_172 (dk_at dksX9_soonestBy_1 9 rfl rfl)
abbrev cX9_latest : ByteArray := prog_23_method_70_code
def yX9_latest : MethodName := ⟨RX9, "latest", "(III)I"⟩
def dkwX9_latest_4 : List UInt8 := [167, 255, 215, 21, 5, 172]
abbrev dktX9_latest_4 : List UInt8 := dkwX9_latest_4 ++ []
def dkwX9_latest_3 : List UInt8 := [182, 1, 86, 21, 4, 160, 0, 10, 29, 21, 6, 96, 167, 0, 5, 21, 5, 54, 5, 132, 6, 1]
abbrev dktX9_latest_3 : List UInt8 := dkwX9_latest_3 ++ dktX9_latest_4
def dkwX9_latest_2 : List UInt8 := [54, 5, 4, 54, 6, 21, 6, 42, 180, 0, 81, 16, 9, 46, 162, 0, 35, 42, 27, 28, 29, 21, 6, 96]
abbrev dktX9_latest_2 : List UInt8 := dkwX9_latest_2 ++ dktX9_latest_3
def dkwX9_latest_1 : List UInt8 := [28, 29, 182, 1, 86, 167, 0, 6, 19, 1, 82, 54, 4, 21, 4, 19, 1, 82, 160, 0, 5, 2, 172, 29]
abbrev dktX9_latest_1 : List UInt8 := dkwX9_latest_1 ++ dktX9_latest_2
def dkwX9_latest_0 : List UInt8 := [42, 3, 181, 0, 1, 42, 27, 28, 182, 1, 40, 153, 0, 21, 42, 29, 182, 1, 50, 153, 0, 13, 42, 27]
abbrev dktX9_latest_0 : List UInt8 := dkwX9_latest_0 ++ dktX9_latest_1
theorem dksX9_latest_0 : cX9_latest.data.toList.drop 0 = dktX9_latest_0 := by decide +kernel
theorem dksX9_latest_1 : cX9_latest.data.toList.drop 24 = dktX9_latest_1 := dk_seg dksX9_latest_0 24 rfl rfl
theorem dksX9_latest_2 : cX9_latest.data.toList.drop 48 = dktX9_latest_2 := dk_seg dksX9_latest_1 24 rfl rfl
theorem dksX9_latest_3 : cX9_latest.data.toList.drop 72 = dktX9_latest_3 := dk_seg dksX9_latest_2 24 rfl rfl
theorem dksX9_latest_4 : cX9_latest.data.toList.drop 94 = dktX9_latest_4 := dk_seg dksX9_latest_3 22 rfl rfl
theorem dX9_latest_0 : decode cX9_latest 0 = .ok (.aload_n 0, 1) := dk_42 (dk_at dksX9_latest_0 0 rfl rfl)
theorem dX9_latest_1 : decode cX9_latest 1 = .ok (.iconst 0, 1) := dk_3 (dk_at dksX9_latest_0 1 rfl rfl)
theorem dX9_latest_2 : decode cX9_latest 2 = .ok (.putfield 1, 3) := dk_181 0 1 (dk_at dksX9_latest_0 2 rfl rfl)
theorem dX9_latest_5 : decode cX9_latest 5 = .ok (.aload_n 0, 1) := dk_42 (dk_at dksX9_latest_0 5 rfl rfl)
theorem dX9_latest_6 : decode cX9_latest 6 = .ok (.iload_n 1, 1) := dk_27 (dk_at dksX9_latest_0 6 rfl rfl)
theorem dX9_latest_7 : decode cX9_latest 7 = .ok (.iload_n 2, 1) := dk_28 (dk_at dksX9_latest_0 7 rfl rfl)
theorem dX9_latest_8 : decode cX9_latest 8 = .ok (.invokevirtual 296, 3) := dk_182 1 40 (dk_at dksX9_latest_0 8 rfl rfl)
theorem dX9_latest_11 : decode cX9_latest 11 = .ok (.ifCond .eq 21, 3) := dk_153 0 21 (dk_at dksX9_latest_0 11 rfl rfl)
theorem dX9_latest_14 : decode cX9_latest 14 = .ok (.aload_n 0, 1) := dk_42 (dk_at dksX9_latest_0 14 rfl rfl)
theorem dX9_latest_15 : decode cX9_latest 15 = .ok (.iload_n 3, 1) := dk_29 (dk_at dksX9_latest_0 15 rfl rfl)
theorem dX9_latest_16 : decode cX9_latest 16 = .ok (.invokevirtual 306, 3) := dk_182 1 50 (dk_at dksX9_latest_0 16 rfl rfl)
theorem dX9_latest_19 : decode cX9_latest 19 = .ok (.ifCond .eq 13, 3) := dk_153 0 13 (dk_at dksX9_latest_0 19 rfl rfl)
theorem dX9_latest_22 : decode cX9_latest 22 = .ok (.aload_n 0, 1) := dk_42 (dk_at dksX9_latest_0 22 rfl rfl)
theorem dX9_latest_23 : decode cX9_latest 23 = .ok (.iload_n 1, 1) := dk_27 (dk_at dksX9_latest_0 23 rfl rfl)
theorem dX9_latest_24 : decode cX9_latest 24 = .ok (.iload_n 2, 1) := dk_28 (dk_at dksX9_latest_1 0 rfl rfl)
theorem dX9_latest_25 : decode cX9_latest 25 = .ok (.iload_n 3, 1) := dk_29 (dk_at dksX9_latest_1 1 rfl rfl)
theorem dX9_latest_26 : decode cX9_latest 26 = .ok (.invokevirtual 342, 3) := dk_182 1 86 (dk_at dksX9_latest_1 2 rfl rfl)
theorem dX9_latest_29 : decode cX9_latest 29 = .ok (.goto 6, 3) := dk_167 0 6 (dk_at dksX9_latest_1 5 rfl rfl)
theorem dX9_latest_32 : decode cX9_latest 32 = .ok (.ldc_w 338, 3) := dk_19 1 82 (dk_at dksX9_latest_1 8 rfl rfl)
theorem dX9_latest_35 : decode cX9_latest 35 = .ok (.istore 4, 2) := dk_54 4 (dk_at dksX9_latest_1 11 rfl rfl)
theorem dX9_latest_37 : decode cX9_latest 37 = .ok (.iload 4, 2) := dk_21 4 (dk_at dksX9_latest_1 13 rfl rfl)
theorem dX9_latest_39 : decode cX9_latest 39 = .ok (.ldc_w 338, 3) := dk_19 1 82 (dk_at dksX9_latest_1 15 rfl rfl)
theorem dX9_latest_42 : decode cX9_latest 42 = .ok (.if_icmp .ne 5, 3) := dk_160 0 5 (dk_at dksX9_latest_1 18 rfl rfl)
theorem dX9_latest_45 : decode cX9_latest 45 = .ok (.iconst (-1), 1) := dk_2 (dk_at dksX9_latest_1 21 rfl rfl)
theorem dX9_latest_46 : decode cX9_latest 46 = .ok (.ireturn, 1) := dk_172 (dk_at dksX9_latest_1 22 rfl rfl)
theorem dX9_latest_47 : decode cX9_latest 47 = .ok (.iload_n 3, 1) := dk_29 (dk_at dksX9_latest_1 23 rfl rfl)
theorem dX9_latest_48 : decode cX9_latest 48 = .ok (.istore 5, 2) := dk_54 5 (dk_at dksX9_latest_2 0 rfl rfl)
theorem dX9_latest_50 : decode cX9_latest 50 = .ok (.iconst 1, 1) := dk_4 (dk_at dksX9_latest_2 2 rfl rfl)
theorem dX9_latest_51 : decode cX9_latest 51 = .ok (.istore 6, 2) := dk_54 6 (dk_at dksX9_latest_2 3 rfl rfl)
theorem dX9_latest_53 : decode cX9_latest 53 = .ok (.iload 6, 2) := dk_21 6 (dk_at dksX9_latest_2 5 rfl rfl)
theorem dX9_latest_55 : decode cX9_latest 55 = .ok (.aload_n 0, 1) := dk_42 (dk_at dksX9_latest_2 7 rfl rfl)
theorem dX9_latest_56 : decode cX9_latest 56 = .ok (.getfield 81, 3) := dk_180 0 81 (dk_at dksX9_latest_2 8 rfl rfl)
theorem dX9_latest_59 : decode cX9_latest 59 = .ok (.bipush 9, 2) := dk_16 9 (dk_at dksX9_latest_2 11 rfl rfl)
theorem dX9_latest_61 : decode cX9_latest 61 = .ok (.iaload, 1) := dk_46 (dk_at dksX9_latest_2 13 rfl rfl)
theorem dX9_latest_62 : decode cX9_latest 62 = .ok (.if_icmp .ge 35, 3) := dk_162 0 35 (dk_at dksX9_latest_2 14 rfl rfl)
theorem dX9_latest_65 : decode cX9_latest 65 = .ok (.aload_n 0, 1) := dk_42 (dk_at dksX9_latest_2 17 rfl rfl)
theorem dX9_latest_66 : decode cX9_latest 66 = .ok (.iload_n 1, 1) := dk_27 (dk_at dksX9_latest_2 18 rfl rfl)
theorem dX9_latest_67 : decode cX9_latest 67 = .ok (.iload_n 2, 1) := dk_28 (dk_at dksX9_latest_2 19 rfl rfl)
theorem dX9_latest_68 : decode cX9_latest 68 = .ok (.iload_n 3, 1) := dk_29 (dk_at dksX9_latest_2 20 rfl rfl)
theorem dX9_latest_69 : decode cX9_latest 69 = .ok (.iload 6, 2) := dk_21 6 (dk_at dksX9_latest_2 21 rfl rfl)
theorem dX9_latest_71 : decode cX9_latest 71 = .ok (.iadd, 1) := dk_96 (dk_at dksX9_latest_2 23 rfl rfl)
theorem dX9_latest_72 : decode cX9_latest 72 = .ok (.invokevirtual 342, 3) := dk_182 1 86 (dk_at dksX9_latest_3 0 rfl rfl)
theorem dX9_latest_75 : decode cX9_latest 75 = .ok (.iload 4, 2) := dk_21 4 (dk_at dksX9_latest_3 3 rfl rfl)
theorem dX9_latest_77 : decode cX9_latest 77 = .ok (.if_icmp .ne 10, 3) := dk_160 0 10 (dk_at dksX9_latest_3 5 rfl rfl)
theorem dX9_latest_80 : decode cX9_latest 80 = .ok (.iload_n 3, 1) := dk_29 (dk_at dksX9_latest_3 8 rfl rfl)
theorem dX9_latest_81 : decode cX9_latest 81 = .ok (.iload 6, 2) := dk_21 6 (dk_at dksX9_latest_3 9 rfl rfl)
theorem dX9_latest_83 : decode cX9_latest 83 = .ok (.iadd, 1) := dk_96 (dk_at dksX9_latest_3 11 rfl rfl)
theorem dX9_latest_84 : decode cX9_latest 84 = .ok (.goto 5, 3) := dk_167 0 5 (dk_at dksX9_latest_3 12 rfl rfl)
theorem dX9_latest_87 : decode cX9_latest 87 = .ok (.iload 5, 2) := dk_21 5 (dk_at dksX9_latest_3 15 rfl rfl)
theorem dX9_latest_89 : decode cX9_latest 89 = .ok (.istore 5, 2) := dk_54 5 (dk_at dksX9_latest_3 17 rfl rfl)
theorem dX9_latest_91 : decode cX9_latest 91 = .ok (.iinc 6 1, 3) := dk_132 6 1 (dk_at dksX9_latest_3 19 rfl rfl)
theorem dX9_latest_94 : decode cX9_latest 94 = .ok (.goto (-41), 3) := dk_167 255 215 (dk_at dksX9_latest_4 0 rfl rfl)
theorem dX9_latest_97 : decode cX9_latest 97 = .ok (.iload 5, 2) := dk_21 5 (dk_at dksX9_latest_4 3 rfl rfl)
theorem dX9_latest_99 : decode cX9_latest 99 = .ok (.ireturn, 1) := dk_172 (dk_at dksX9_latest_4 5 rfl rfl)
abbrev cX9_turning : ByteArray := prog_23_method_72_code
def yX9_turning : MethodName := ⟨RX9, "turning", "(II)I"⟩
def dkwX9_turning_2 : List UInt8 := [167, 0, 4, 29, 172]
abbrev dktX9_turning_2 : List UInt8 := dkwX9_turning_2 ++ []
def dkwX9_turning_1 : List UInt8 := [3, 3, 27, 2, 28, 182, 1, 89, 167, 0, 6, 19, 1, 82, 62, 29, 19, 1, 82, 160, 0, 7, 2]
abbrev dktX9_turning_1 : List UInt8 := dkwX9_turning_1 ++ dktX9_turning_2
def dkwX9_turning_0 : List UInt8 := [42, 3, 181, 0, 1, 42, 27, 182, 1, 50, 153, 0, 25, 28, 3, 16, 12, 184, 1, 43, 153, 0, 15, 42]
abbrev dktX9_turning_0 : List UInt8 := dkwX9_turning_0 ++ dktX9_turning_1
theorem dksX9_turning_0 : cX9_turning.data.toList.drop 0 = dktX9_turning_0 := by decide +kernel
theorem dksX9_turning_1 : cX9_turning.data.toList.drop 24 = dktX9_turning_1 := dk_seg dksX9_turning_0 24 rfl rfl
theorem dksX9_turning_2 : cX9_turning.data.toList.drop 47 = dktX9_turning_2 := dk_seg dksX9_turning_1 23 rfl rfl
theorem dX9_turning_0 : decode cX9_turning 0 = .ok (.aload_n 0, 1) := dk_42 (dk_at dksX9_turning_0 0 rfl rfl)
theorem dX9_turning_1 : decode cX9_turning 1 = .ok (.iconst 0, 1) := dk_3 (dk_at dksX9_turning_0 1 rfl rfl)
theorem dX9_turning_2 : decode cX9_turning 2 = .ok (.putfield 1, 3) := dk_181 0 1 (dk_at dksX9_turning_0 2 rfl rfl)
theorem dX9_turning_5 : decode cX9_turning 5 = .ok (.aload_n 0, 1) := dk_42 (dk_at dksX9_turning_0 5 rfl rfl)
theorem dX9_turning_6 : decode cX9_turning 6 = .ok (.iload_n 1, 1) := dk_27 (dk_at dksX9_turning_0 6 rfl rfl)
theorem dX9_turning_7 : decode cX9_turning 7 = .ok (.invokevirtual 306, 3) := dk_182 1 50 (dk_at dksX9_turning_0 7 rfl rfl)
theorem dX9_turning_10 : decode cX9_turning 10 = .ok (.ifCond .eq 25, 3) := dk_153 0 25 (dk_at dksX9_turning_0 10 rfl rfl)
theorem dX9_turning_13 : decode cX9_turning 13 = .ok (.iload_n 2, 1) := dk_28 (dk_at dksX9_turning_0 13 rfl rfl)
theorem dX9_turning_14 : decode cX9_turning 14 = .ok (.iconst 0, 1) := dk_3 (dk_at dksX9_turning_0 14 rfl rfl)
theorem dX9_turning_15 : decode cX9_turning 15 = .ok (.bipush 12, 2) := dk_16 12 (dk_at dksX9_turning_0 15 rfl rfl)
theorem dX9_turning_17 : decode cX9_turning 17 = .ok (.invokestatic 299, 3) := dk_184 1 43 (dk_at dksX9_turning_0 17 rfl rfl)
theorem dX9_turning_20 : decode cX9_turning 20 = .ok (.ifCond .eq 15, 3) := dk_153 0 15 (dk_at dksX9_turning_0 20 rfl rfl)
theorem dX9_turning_23 : decode cX9_turning 23 = .ok (.aload_n 0, 1) := dk_42 (dk_at dksX9_turning_0 23 rfl rfl)
theorem dX9_turning_24 : decode cX9_turning 24 = .ok (.iconst 0, 1) := dk_3 (dk_at dksX9_turning_1 0 rfl rfl)
theorem dX9_turning_25 : decode cX9_turning 25 = .ok (.iconst 0, 1) := dk_3 (dk_at dksX9_turning_1 1 rfl rfl)
theorem dX9_turning_26 : decode cX9_turning 26 = .ok (.iload_n 1, 1) := dk_27 (dk_at dksX9_turning_1 2 rfl rfl)
theorem dX9_turning_27 : decode cX9_turning 27 = .ok (.iconst (-1), 1) := dk_2 (dk_at dksX9_turning_1 3 rfl rfl)
theorem dX9_turning_28 : decode cX9_turning 28 = .ok (.iload_n 2, 1) := dk_28 (dk_at dksX9_turning_1 4 rfl rfl)
theorem dX9_turning_29 : decode cX9_turning 29 = .ok (.invokevirtual 345, 3) := dk_182 1 89 (dk_at dksX9_turning_1 5 rfl rfl)
theorem dX9_turning_32 : decode cX9_turning 32 = .ok (.goto 6, 3) := dk_167 0 6 (dk_at dksX9_turning_1 8 rfl rfl)
theorem dX9_turning_35 : decode cX9_turning 35 = .ok (.ldc_w 338, 3) := dk_19 1 82 (dk_at dksX9_turning_1 11 rfl rfl)
theorem dX9_turning_38 : decode cX9_turning 38 = .ok (.istore_n 3, 1) := dk_62 (dk_at dksX9_turning_1 14 rfl rfl)
theorem dX9_turning_39 : decode cX9_turning 39 = .ok (.iload_n 3, 1) := dk_29 (dk_at dksX9_turning_1 15 rfl rfl)
theorem dX9_turning_40 : decode cX9_turning 40 = .ok (.ldc_w 338, 3) := dk_19 1 82 (dk_at dksX9_turning_1 16 rfl rfl)
theorem dX9_turning_43 : decode cX9_turning 43 = .ok (.if_icmp .ne 7, 3) := dk_160 0 7 (dk_at dksX9_turning_1 19 rfl rfl)
theorem dX9_turning_46 : decode cX9_turning 46 = .ok (.iconst (-1), 1) := dk_2 (dk_at dksX9_turning_1 22 rfl rfl)
theorem dX9_turning_47 : decode cX9_turning 47 = .ok (.goto 4, 3) := dk_167 0 4 (dk_at dksX9_turning_2 0 rfl rfl)
theorem dX9_turning_50 : decode cX9_turning 50 = .ok (.iload_n 3, 1) := dk_29 (dk_at dksX9_turning_2 3 rfl rfl)
theorem dX9_turning_51 : decode cX9_turning 51 = .ok (.ireturn, 1) := dk_172 (dk_at dksX9_turning_2 4 rfl rfl)
abbrev cX9_turnsFrom : ByteArray := prog_23_method_71_code
def yX9_turnsFrom : MethodName := ⟨RX9, "turnsFrom", "(IIIII)I"⟩
def dkwX9_turnsFrom_5 : List UInt8 := [54, 6, 132, 7, 1, 167, 255, 154, 21, 6, 172]
abbrev dktX9_turnsFrom_5 : List UInt8 := dkwX9_turnsFrom_5 ++ []
def dkwX9_turnsFrom_4 : List UInt8 := [21, 7, 21, 8, 182, 1, 89, 54, 9, 21, 9, 21, 6, 162, 0, 8, 21, 9, 167, 0, 5, 21, 6]
abbrev dktX9_turnsFrom_4 : List UInt8 := dkwX9_turnsFrom_4 ++ dktX9_turnsFrom_5
def dkwX9_turnsFrom_3 : List UInt8 := [100, 28, 21, 7, 96, 29, 42, 27, 28, 21, 7, 29, 182, 1, 59, 96, 42, 180, 0, 81, 5, 46, 96]
abbrev dktX9_turnsFrom_3 : List UInt8 := dkwX9_turnsFrom_3 ++ dktX9_turnsFrom_4
def dkwX9_turnsFrom_2 : List UInt8 := [54, 8, 21, 8, 155, 0, 68, 42, 27, 28, 21, 7, 182, 1, 53, 153, 0, 57, 42, 27, 4, 96, 21, 7]
abbrev dktX9_turnsFrom_2 : List UInt8 := dkwX9_turnsFrom_2 ++ dktX9_turnsFrom_3
def dkwX9_turnsFrom_1 : List UInt8 := [162, 0, 102, 21, 4, 155, 0, 17, 21, 7, 21, 4, 159, 0, 10, 21, 5, 4, 100, 167, 0, 5, 21, 5]
abbrev dktX9_turnsFrom_1 : List UInt8 := dkwX9_turnsFrom_1 ++ dktX9_turnsFrom_2
def dkwX9_turnsFrom_0 : List UInt8 := [42, 27, 28, 182, 1, 79, 153, 0, 5, 29, 172, 19, 1, 82, 54, 6, 3, 54, 7, 21, 7, 5]
abbrev dktX9_turnsFrom_0 : List UInt8 := dkwX9_turnsFrom_0 ++ dktX9_turnsFrom_1
theorem dksX9_turnsFrom_0 : cX9_turnsFrom.data.toList.drop 0 = dktX9_turnsFrom_0 := by decide +kernel
theorem dksX9_turnsFrom_1 : cX9_turnsFrom.data.toList.drop 22 = dktX9_turnsFrom_1 := dk_seg dksX9_turnsFrom_0 22 rfl rfl
theorem dksX9_turnsFrom_2 : cX9_turnsFrom.data.toList.drop 46 = dktX9_turnsFrom_2 := dk_seg dksX9_turnsFrom_1 24 rfl rfl
theorem dksX9_turnsFrom_3 : cX9_turnsFrom.data.toList.drop 70 = dktX9_turnsFrom_3 := dk_seg dksX9_turnsFrom_2 24 rfl rfl
theorem dksX9_turnsFrom_4 : cX9_turnsFrom.data.toList.drop 93 = dktX9_turnsFrom_4 := dk_seg dksX9_turnsFrom_3 23 rfl rfl
theorem dksX9_turnsFrom_5 : cX9_turnsFrom.data.toList.drop 116 = dktX9_turnsFrom_5 := dk_seg dksX9_turnsFrom_4 23 rfl rfl
theorem dX9_turnsFrom_0 : decode cX9_turnsFrom 0 = .ok (.aload_n 0, 1) := dk_42 (dk_at dksX9_turnsFrom_0 0 rfl rfl)
theorem dX9_turnsFrom_1 : decode cX9_turnsFrom 1 = .ok (.iload_n 1, 1) := dk_27 (dk_at dksX9_turnsFrom_0 1 rfl rfl)
theorem dX9_turnsFrom_2 : decode cX9_turnsFrom 2 = .ok (.iload_n 2, 1) := dk_28 (dk_at dksX9_turnsFrom_0 2 rfl rfl)
theorem dX9_turnsFrom_3 : decode cX9_turnsFrom 3 = .ok (.invokevirtual 335, 3) := dk_182 1 79 (dk_at dksX9_turnsFrom_0 3 rfl rfl)
theorem dX9_turnsFrom_6 : decode cX9_turnsFrom 6 = .ok (.ifCond .eq 5, 3) := dk_153 0 5 (dk_at dksX9_turnsFrom_0 6 rfl rfl)
theorem dX9_turnsFrom_9 : decode cX9_turnsFrom 9 = .ok (.iload_n 3, 1) := dk_29 (dk_at dksX9_turnsFrom_0 9 rfl rfl)
theorem dX9_turnsFrom_10 : decode cX9_turnsFrom 10 = .ok (.ireturn, 1) := dk_172 (dk_at dksX9_turnsFrom_0 10 rfl rfl)
theorem dX9_turnsFrom_11 : decode cX9_turnsFrom 11 = .ok (.ldc_w 338, 3) := dk_19 1 82 (dk_at dksX9_turnsFrom_0 11 rfl rfl)
theorem dX9_turnsFrom_14 : decode cX9_turnsFrom 14 = .ok (.istore 6, 2) := dk_54 6 (dk_at dksX9_turnsFrom_0 14 rfl rfl)
theorem dX9_turnsFrom_16 : decode cX9_turnsFrom 16 = .ok (.iconst 0, 1) := dk_3 (dk_at dksX9_turnsFrom_0 16 rfl rfl)
theorem dX9_turnsFrom_17 : decode cX9_turnsFrom 17 = .ok (.istore 7, 2) := dk_54 7 (dk_at dksX9_turnsFrom_0 17 rfl rfl)
theorem dX9_turnsFrom_19 : decode cX9_turnsFrom 19 = .ok (.iload 7, 2) := dk_21 7 (dk_at dksX9_turnsFrom_0 19 rfl rfl)
theorem dX9_turnsFrom_21 : decode cX9_turnsFrom 21 = .ok (.iconst 2, 1) := dk_5 (dk_at dksX9_turnsFrom_0 21 rfl rfl)
theorem dX9_turnsFrom_22 : decode cX9_turnsFrom 22 = .ok (.if_icmp .ge 102, 3) := dk_162 0 102 (dk_at dksX9_turnsFrom_1 0 rfl rfl)
theorem dX9_turnsFrom_25 : decode cX9_turnsFrom 25 = .ok (.iload 4, 2) := dk_21 4 (dk_at dksX9_turnsFrom_1 3 rfl rfl)
theorem dX9_turnsFrom_27 : decode cX9_turnsFrom 27 = .ok (.ifCond .lt 17, 3) := dk_155 0 17 (dk_at dksX9_turnsFrom_1 5 rfl rfl)
theorem dX9_turnsFrom_30 : decode cX9_turnsFrom 30 = .ok (.iload 7, 2) := dk_21 7 (dk_at dksX9_turnsFrom_1 8 rfl rfl)
theorem dX9_turnsFrom_32 : decode cX9_turnsFrom 32 = .ok (.iload 4, 2) := dk_21 4 (dk_at dksX9_turnsFrom_1 10 rfl rfl)
theorem dX9_turnsFrom_34 : decode cX9_turnsFrom 34 = .ok (.if_icmp .eq 10, 3) := dk_159 0 10 (dk_at dksX9_turnsFrom_1 12 rfl rfl)
theorem dX9_turnsFrom_37 : decode cX9_turnsFrom 37 = .ok (.iload 5, 2) := dk_21 5 (dk_at dksX9_turnsFrom_1 15 rfl rfl)
theorem dX9_turnsFrom_39 : decode cX9_turnsFrom 39 = .ok (.iconst 1, 1) := dk_4 (dk_at dksX9_turnsFrom_1 17 rfl rfl)
theorem dX9_turnsFrom_40 : decode cX9_turnsFrom 40 = .ok (.isub, 1) := dk_100 (dk_at dksX9_turnsFrom_1 18 rfl rfl)
theorem dX9_turnsFrom_41 : decode cX9_turnsFrom 41 = .ok (.goto 5, 3) := dk_167 0 5 (dk_at dksX9_turnsFrom_1 19 rfl rfl)
theorem dX9_turnsFrom_44 : decode cX9_turnsFrom 44 = .ok (.iload 5, 2) := dk_21 5 (dk_at dksX9_turnsFrom_1 22 rfl rfl)
theorem dX9_turnsFrom_46 : decode cX9_turnsFrom 46 = .ok (.istore 8, 2) := dk_54 8 (dk_at dksX9_turnsFrom_2 0 rfl rfl)
theorem dX9_turnsFrom_48 : decode cX9_turnsFrom 48 = .ok (.iload 8, 2) := dk_21 8 (dk_at dksX9_turnsFrom_2 2 rfl rfl)
theorem dX9_turnsFrom_50 : decode cX9_turnsFrom 50 = .ok (.ifCond .lt 68, 3) := dk_155 0 68 (dk_at dksX9_turnsFrom_2 4 rfl rfl)
theorem dX9_turnsFrom_53 : decode cX9_turnsFrom 53 = .ok (.aload_n 0, 1) := dk_42 (dk_at dksX9_turnsFrom_2 7 rfl rfl)
theorem dX9_turnsFrom_54 : decode cX9_turnsFrom 54 = .ok (.iload_n 1, 1) := dk_27 (dk_at dksX9_turnsFrom_2 8 rfl rfl)
theorem dX9_turnsFrom_55 : decode cX9_turnsFrom 55 = .ok (.iload_n 2, 1) := dk_28 (dk_at dksX9_turnsFrom_2 9 rfl rfl)
theorem dX9_turnsFrom_56 : decode cX9_turnsFrom 56 = .ok (.iload 7, 2) := dk_21 7 (dk_at dksX9_turnsFrom_2 10 rfl rfl)
theorem dX9_turnsFrom_58 : decode cX9_turnsFrom 58 = .ok (.invokevirtual 309, 3) := dk_182 1 53 (dk_at dksX9_turnsFrom_2 12 rfl rfl)
theorem dX9_turnsFrom_61 : decode cX9_turnsFrom 61 = .ok (.ifCond .eq 57, 3) := dk_153 0 57 (dk_at dksX9_turnsFrom_2 15 rfl rfl)
theorem dX9_turnsFrom_64 : decode cX9_turnsFrom 64 = .ok (.aload_n 0, 1) := dk_42 (dk_at dksX9_turnsFrom_2 18 rfl rfl)
theorem dX9_turnsFrom_65 : decode cX9_turnsFrom 65 = .ok (.iload_n 1, 1) := dk_27 (dk_at dksX9_turnsFrom_2 19 rfl rfl)
theorem dX9_turnsFrom_66 : decode cX9_turnsFrom 66 = .ok (.iconst 1, 1) := dk_4 (dk_at dksX9_turnsFrom_2 20 rfl rfl)
theorem dX9_turnsFrom_67 : decode cX9_turnsFrom 67 = .ok (.iadd, 1) := dk_96 (dk_at dksX9_turnsFrom_2 21 rfl rfl)
theorem dX9_turnsFrom_68 : decode cX9_turnsFrom 68 = .ok (.iload 7, 2) := dk_21 7 (dk_at dksX9_turnsFrom_2 22 rfl rfl)
theorem dX9_turnsFrom_70 : decode cX9_turnsFrom 70 = .ok (.isub, 1) := dk_100 (dk_at dksX9_turnsFrom_3 0 rfl rfl)
theorem dX9_turnsFrom_71 : decode cX9_turnsFrom 71 = .ok (.iload_n 2, 1) := dk_28 (dk_at dksX9_turnsFrom_3 1 rfl rfl)
theorem dX9_turnsFrom_72 : decode cX9_turnsFrom 72 = .ok (.iload 7, 2) := dk_21 7 (dk_at dksX9_turnsFrom_3 2 rfl rfl)
theorem dX9_turnsFrom_74 : decode cX9_turnsFrom 74 = .ok (.iadd, 1) := dk_96 (dk_at dksX9_turnsFrom_3 4 rfl rfl)
theorem dX9_turnsFrom_75 : decode cX9_turnsFrom 75 = .ok (.iload_n 3, 1) := dk_29 (dk_at dksX9_turnsFrom_3 5 rfl rfl)
theorem dX9_turnsFrom_76 : decode cX9_turnsFrom 76 = .ok (.aload_n 0, 1) := dk_42 (dk_at dksX9_turnsFrom_3 6 rfl rfl)
theorem dX9_turnsFrom_77 : decode cX9_turnsFrom 77 = .ok (.iload_n 1, 1) := dk_27 (dk_at dksX9_turnsFrom_3 7 rfl rfl)
theorem dX9_turnsFrom_78 : decode cX9_turnsFrom 78 = .ok (.iload_n 2, 1) := dk_28 (dk_at dksX9_turnsFrom_3 8 rfl rfl)
theorem dX9_turnsFrom_79 : decode cX9_turnsFrom 79 = .ok (.iload 7, 2) := dk_21 7 (dk_at dksX9_turnsFrom_3 9 rfl rfl)
theorem dX9_turnsFrom_81 : decode cX9_turnsFrom 81 = .ok (.iload_n 3, 1) := dk_29 (dk_at dksX9_turnsFrom_3 11 rfl rfl)
theorem dX9_turnsFrom_82 : decode cX9_turnsFrom 82 = .ok (.invokevirtual 315, 3) := dk_182 1 59 (dk_at dksX9_turnsFrom_3 12 rfl rfl)
theorem dX9_turnsFrom_85 : decode cX9_turnsFrom 85 = .ok (.iadd, 1) := dk_96 (dk_at dksX9_turnsFrom_3 15 rfl rfl)
theorem dX9_turnsFrom_86 : decode cX9_turnsFrom 86 = .ok (.aload_n 0, 1) := dk_42 (dk_at dksX9_turnsFrom_3 16 rfl rfl)
theorem dX9_turnsFrom_87 : decode cX9_turnsFrom 87 = .ok (.getfield 81, 3) := dk_180 0 81 (dk_at dksX9_turnsFrom_3 17 rfl rfl)
theorem dX9_turnsFrom_90 : decode cX9_turnsFrom 90 = .ok (.iconst 2, 1) := dk_5 (dk_at dksX9_turnsFrom_3 20 rfl rfl)
theorem dX9_turnsFrom_91 : decode cX9_turnsFrom 91 = .ok (.iaload, 1) := dk_46 (dk_at dksX9_turnsFrom_3 21 rfl rfl)
theorem dX9_turnsFrom_92 : decode cX9_turnsFrom 92 = .ok (.iadd, 1) := dk_96 (dk_at dksX9_turnsFrom_3 22 rfl rfl)
theorem dX9_turnsFrom_93 : decode cX9_turnsFrom 93 = .ok (.iload 7, 2) := dk_21 7 (dk_at dksX9_turnsFrom_4 0 rfl rfl)
theorem dX9_turnsFrom_95 : decode cX9_turnsFrom 95 = .ok (.iload 8, 2) := dk_21 8 (dk_at dksX9_turnsFrom_4 2 rfl rfl)
theorem dX9_turnsFrom_97 : decode cX9_turnsFrom 97 = .ok (.invokevirtual 345, 3) := dk_182 1 89 (dk_at dksX9_turnsFrom_4 4 rfl rfl)
theorem dX9_turnsFrom_100 : decode cX9_turnsFrom 100 = .ok (.istore 9, 2) := dk_54 9 (dk_at dksX9_turnsFrom_4 7 rfl rfl)
theorem dX9_turnsFrom_102 : decode cX9_turnsFrom 102 = .ok (.iload 9, 2) := dk_21 9 (dk_at dksX9_turnsFrom_4 9 rfl rfl)
theorem dX9_turnsFrom_104 : decode cX9_turnsFrom 104 = .ok (.iload 6, 2) := dk_21 6 (dk_at dksX9_turnsFrom_4 11 rfl rfl)
theorem dX9_turnsFrom_106 : decode cX9_turnsFrom 106 = .ok (.if_icmp .ge 8, 3) := dk_162 0 8 (dk_at dksX9_turnsFrom_4 13 rfl rfl)
theorem dX9_turnsFrom_109 : decode cX9_turnsFrom 109 = .ok (.iload 9, 2) := dk_21 9 (dk_at dksX9_turnsFrom_4 16 rfl rfl)
theorem dX9_turnsFrom_111 : decode cX9_turnsFrom 111 = .ok (.goto 5, 3) := dk_167 0 5 (dk_at dksX9_turnsFrom_4 18 rfl rfl)
theorem dX9_turnsFrom_114 : decode cX9_turnsFrom 114 = .ok (.iload 6, 2) := dk_21 6 (dk_at dksX9_turnsFrom_4 21 rfl rfl)
theorem dX9_turnsFrom_116 : decode cX9_turnsFrom 116 = .ok (.istore 6, 2) := dk_54 6 (dk_at dksX9_turnsFrom_5 0 rfl rfl)
theorem dX9_turnsFrom_118 : decode cX9_turnsFrom 118 = .ok (.iinc 7 1, 3) := dk_132 7 1 (dk_at dksX9_turnsFrom_5 2 rfl rfl)
theorem dX9_turnsFrom_121 : decode cX9_turnsFrom 121 = .ok (.goto (-102), 3) := dk_167 255 154 (dk_at dksX9_turnsFrom_5 5 rfl rfl)
theorem dX9_turnsFrom_124 : decode cX9_turnsFrom 124 = .ok (.iload 6, 2) := dk_21 6 (dk_at dksX9_turnsFrom_5 8 rfl rfl)
theorem dX9_turnsFrom_126 : decode cX9_turnsFrom 126 = .ok (.ireturn, 1) := dk_172 (dk_at dksX9_turnsFrom_5 10 rfl rfl)
abbrev cX9_mean : ByteArray := prog_23_method_82_code
def yX9_mean : MethodName := ⟨RX9, "mean", "(IIII)I"⟩
def dkwX9_mean_1 : List UInt8 := [2, 172, 42, 27, 3, 2, 3, 182, 1, 133, 42, 28, 29, 21, 4, 182, 1, 121, 172]
abbrev dktX9_mean_1 : List UInt8 := dkwX9_mean_1 ++ []
def dkwX9_mean_0 : List UInt8 := [42, 3, 181, 0, 1, 42, 27, 182, 1, 127, 153, 0, 14, 42, 28, 29, 21, 4, 182, 1, 130, 154, 0, 5]
abbrev dktX9_mean_0 : List UInt8 := dkwX9_mean_0 ++ dktX9_mean_1
theorem dksX9_mean_0 : cX9_mean.data.toList.drop 0 = dktX9_mean_0 := by decide +kernel
theorem dksX9_mean_1 : cX9_mean.data.toList.drop 24 = dktX9_mean_1 := dk_seg dksX9_mean_0 24 rfl rfl
theorem dX9_mean_0 : decode cX9_mean 0 = .ok (.aload_n 0, 1) := dk_42 (dk_at dksX9_mean_0 0 rfl rfl)
theorem dX9_mean_1 : decode cX9_mean 1 = .ok (.iconst 0, 1) := dk_3 (dk_at dksX9_mean_0 1 rfl rfl)
theorem dX9_mean_2 : decode cX9_mean 2 = .ok (.putfield 1, 3) := dk_181 0 1 (dk_at dksX9_mean_0 2 rfl rfl)
theorem dX9_mean_5 : decode cX9_mean 5 = .ok (.aload_n 0, 1) := dk_42 (dk_at dksX9_mean_0 5 rfl rfl)
theorem dX9_mean_6 : decode cX9_mean 6 = .ok (.iload_n 1, 1) := dk_27 (dk_at dksX9_mean_0 6 rfl rfl)
theorem dX9_mean_7 : decode cX9_mean 7 = .ok (.invokevirtual 383, 3) := dk_182 1 127 (dk_at dksX9_mean_0 7 rfl rfl)
theorem dX9_mean_10 : decode cX9_mean 10 = .ok (.ifCond .eq 14, 3) := dk_153 0 14 (dk_at dksX9_mean_0 10 rfl rfl)
theorem dX9_mean_13 : decode cX9_mean 13 = .ok (.aload_n 0, 1) := dk_42 (dk_at dksX9_mean_0 13 rfl rfl)
theorem dX9_mean_14 : decode cX9_mean 14 = .ok (.iload_n 2, 1) := dk_28 (dk_at dksX9_mean_0 14 rfl rfl)
theorem dX9_mean_15 : decode cX9_mean 15 = .ok (.iload_n 3, 1) := dk_29 (dk_at dksX9_mean_0 15 rfl rfl)
theorem dX9_mean_16 : decode cX9_mean 16 = .ok (.iload 4, 2) := dk_21 4 (dk_at dksX9_mean_0 16 rfl rfl)
theorem dX9_mean_18 : decode cX9_mean 18 = .ok (.invokevirtual 386, 3) := dk_182 1 130 (dk_at dksX9_mean_0 18 rfl rfl)
theorem dX9_mean_21 : decode cX9_mean 21 = .ok (.ifCond .ne 5, 3) := dk_154 0 5 (dk_at dksX9_mean_0 21 rfl rfl)
theorem dX9_mean_24 : decode cX9_mean 24 = .ok (.iconst (-1), 1) := dk_2 (dk_at dksX9_mean_1 0 rfl rfl)
theorem dX9_mean_25 : decode cX9_mean 25 = .ok (.ireturn, 1) := dk_172 (dk_at dksX9_mean_1 1 rfl rfl)
theorem dX9_mean_26 : decode cX9_mean 26 = .ok (.aload_n 0, 1) := dk_42 (dk_at dksX9_mean_1 2 rfl rfl)
theorem dX9_mean_27 : decode cX9_mean 27 = .ok (.iload_n 1, 1) := dk_27 (dk_at dksX9_mean_1 3 rfl rfl)
theorem dX9_mean_28 : decode cX9_mean 28 = .ok (.iconst 0, 1) := dk_3 (dk_at dksX9_mean_1 4 rfl rfl)
theorem dX9_mean_29 : decode cX9_mean 29 = .ok (.iconst (-1), 1) := dk_2 (dk_at dksX9_mean_1 5 rfl rfl)
theorem dX9_mean_30 : decode cX9_mean 30 = .ok (.iconst 0, 1) := dk_3 (dk_at dksX9_mean_1 6 rfl rfl)
theorem dX9_mean_31 : decode cX9_mean 31 = .ok (.invokevirtual 389, 3) := dk_182 1 133 (dk_at dksX9_mean_1 7 rfl rfl)
theorem dX9_mean_34 : decode cX9_mean 34 = .ok (.aload_n 0, 1) := dk_42 (dk_at dksX9_mean_1 10 rfl rfl)
theorem dX9_mean_35 : decode cX9_mean 35 = .ok (.iload_n 2, 1) := dk_28 (dk_at dksX9_mean_1 11 rfl rfl)
theorem dX9_mean_36 : decode cX9_mean 36 = .ok (.iload_n 3, 1) := dk_29 (dk_at dksX9_mean_1 12 rfl rfl)
theorem dX9_mean_37 : decode cX9_mean 37 = .ok (.iload 4, 2) := dk_21 4 (dk_at dksX9_mean_1 13 rfl rfl)
theorem dX9_mean_39 : decode cX9_mean 39 = .ok (.invokevirtual 377, 3) := dk_182 1 121 (dk_at dksX9_mean_1 15 rfl rfl)
theorem dX9_mean_42 : decode cX9_mean 42 = .ok (.ireturn, 1) := dk_172 (dk_at dksX9_mean_1 18 rfl rfl)
abbrev cX9_isGoer : ByteArray := prog_23_method_80_code
def yX9_isGoer : MethodName := ⟨RX9, "isGoer", "(I)Z"⟩
def dkwX9_isGoer_0 : List UInt8 := [27, 3, 6, 42, 180, 0, 81, 16, 8, 46, 96, 184, 1, 43, 172]
abbrev dktX9_isGoer_0 : List UInt8 := dkwX9_isGoer_0 ++ []
theorem dksX9_isGoer_0 : cX9_isGoer.data.toList.drop 0 = dktX9_isGoer_0 := by decide +kernel
theorem dX9_isGoer_0 : decode cX9_isGoer 0 = .ok (.iload_n 1, 1) := dk_27 (dk_at dksX9_isGoer_0 0 rfl rfl)
theorem dX9_isGoer_1 : decode cX9_isGoer 1 = .ok (.iconst 0, 1) := dk_3 (dk_at dksX9_isGoer_0 1 rfl rfl)
theorem dX9_isGoer_2 : decode cX9_isGoer 2 = .ok (.iconst 3, 1) := dk_6 (dk_at dksX9_isGoer_0 2 rfl rfl)
theorem dX9_isGoer_3 : decode cX9_isGoer 3 = .ok (.aload_n 0, 1) := dk_42 (dk_at dksX9_isGoer_0 3 rfl rfl)
theorem dX9_isGoer_4 : decode cX9_isGoer 4 = .ok (.getfield 81, 3) := dk_180 0 81 (dk_at dksX9_isGoer_0 4 rfl rfl)
theorem dX9_isGoer_7 : decode cX9_isGoer 7 = .ok (.bipush 8, 2) := dk_16 8 (dk_at dksX9_isGoer_0 7 rfl rfl)
theorem dX9_isGoer_9 : decode cX9_isGoer 9 = .ok (.iaload, 1) := dk_46 (dk_at dksX9_isGoer_0 9 rfl rfl)
theorem dX9_isGoer_10 : decode cX9_isGoer 10 = .ok (.iadd, 1) := dk_96 (dk_at dksX9_isGoer_0 10 rfl rfl)
theorem dX9_isGoer_11 : decode cX9_isGoer 11 = .ok (.invokestatic 299, 3) := dk_184 1 43 (dk_at dksX9_isGoer_0 11 rfl rfl)
theorem dX9_isGoer_14 : decode cX9_isGoer 14 = .ok (.ireturn, 1) := dk_172 (dk_at dksX9_isGoer_0 14 rfl rfl)
abbrev cX9_isPlace : ByteArray := prog_23_method_81_code
def yX9_isPlace : MethodName := ⟨RX9, "isPlace", "(III)Z"⟩
def dkwX9_isPlace_0 : List UInt8 := [42, 27, 28, 182, 1, 40, 153, 0, 15, 42, 29, 182, 1, 50, 153, 0, 7, 4, 167, 0, 4, 3, 172]
abbrev dktX9_isPlace_0 : List UInt8 := dkwX9_isPlace_0 ++ []
theorem dksX9_isPlace_0 : cX9_isPlace.data.toList.drop 0 = dktX9_isPlace_0 := by decide +kernel
theorem dX9_isPlace_0 : decode cX9_isPlace 0 = .ok (.aload_n 0, 1) := dk_42 (dk_at dksX9_isPlace_0 0 rfl rfl)
theorem dX9_isPlace_1 : decode cX9_isPlace 1 = .ok (.iload_n 1, 1) := dk_27 (dk_at dksX9_isPlace_0 1 rfl rfl)
theorem dX9_isPlace_2 : decode cX9_isPlace 2 = .ok (.iload_n 2, 1) := dk_28 (dk_at dksX9_isPlace_0 2 rfl rfl)
theorem dX9_isPlace_3 : decode cX9_isPlace 3 = .ok (.invokevirtual 296, 3) := dk_182 1 40 (dk_at dksX9_isPlace_0 3 rfl rfl)
theorem dX9_isPlace_6 : decode cX9_isPlace 6 = .ok (.ifCond .eq 15, 3) := dk_153 0 15 (dk_at dksX9_isPlace_0 6 rfl rfl)
theorem dX9_isPlace_9 : decode cX9_isPlace 9 = .ok (.aload_n 0, 1) := dk_42 (dk_at dksX9_isPlace_0 9 rfl rfl)
theorem dX9_isPlace_10 : decode cX9_isPlace 10 = .ok (.iload_n 3, 1) := dk_29 (dk_at dksX9_isPlace_0 10 rfl rfl)
theorem dX9_isPlace_11 : decode cX9_isPlace 11 = .ok (.invokevirtual 306, 3) := dk_182 1 50 (dk_at dksX9_isPlace_0 11 rfl rfl)
theorem dX9_isPlace_14 : decode cX9_isPlace 14 = .ok (.ifCond .eq 7, 3) := dk_153 0 7 (dk_at dksX9_isPlace_0 14 rfl rfl)
theorem dX9_isPlace_17 : decode cX9_isPlace 17 = .ok (.iconst 1, 1) := dk_4 (dk_at dksX9_isPlace_0 17 rfl rfl)
theorem dX9_isPlace_18 : decode cX9_isPlace 18 = .ok (.goto 4, 3) := dk_167 0 4 (dk_at dksX9_isPlace_0 18 rfl rfl)
theorem dX9_isPlace_21 : decode cX9_isPlace 21 = .ok (.iconst 0, 1) := dk_3 (dk_at dksX9_isPlace_0 21 rfl rfl)
theorem dX9_isPlace_22 : decode cX9_isPlace 22 = .ok (.ireturn, 1) := dk_172 (dk_at dksX9_isPlace_0 22 rfl rfl)
abbrev cX9_asks : ByteArray := prog_23_method_73_code
def yX9_asks : MethodName := ⟨RX9, "asks", "(IZII)V"⟩
def dkwX9_asks_3 : List UInt8 := [181, 1, 100, 42, 89, 180, 1, 103, 4, 96, 181, 1, 103, 177]
abbrev dktX9_asks_3 : List UInt8 := dkwX9_asks_3 ++ []
def dkwX9_asks_2 : List UInt8 := [181, 0, 116, 42, 28, 181, 1, 93, 42, 42, 180, 1, 66, 181, 1, 97, 42, 29, 181, 0, 119, 42, 21, 4]
abbrev dktX9_asks_2 : List UInt8 := dkwX9_asks_2 ++ dktX9_asks_3
def dkwX9_asks_1 : List UInt8 := [160, 0, 20, 42, 180, 0, 119, 29, 160, 0, 12, 42, 180, 1, 100, 21, 4, 159, 0, 42, 42, 27]
abbrev dktX9_asks_1 : List UInt8 := dkwX9_asks_1 ++ dktX9_asks_2
def dkwX9_asks_0 : List UInt8 := [42, 180, 0, 116, 27, 160, 0, 39, 42, 180, 1, 93, 28, 160, 0, 31, 42, 180, 1, 97, 42, 180, 1, 66]
abbrev dktX9_asks_0 : List UInt8 := dkwX9_asks_0 ++ dktX9_asks_1
theorem dksX9_asks_0 : cX9_asks.data.toList.drop 0 = dktX9_asks_0 := by decide +kernel
theorem dksX9_asks_1 : cX9_asks.data.toList.drop 24 = dktX9_asks_1 := dk_seg dksX9_asks_0 24 rfl rfl
theorem dksX9_asks_2 : cX9_asks.data.toList.drop 46 = dktX9_asks_2 := dk_seg dksX9_asks_1 22 rfl rfl
theorem dksX9_asks_3 : cX9_asks.data.toList.drop 70 = dktX9_asks_3 := dk_seg dksX9_asks_2 24 rfl rfl
theorem dX9_asks_0 : decode cX9_asks 0 = .ok (.aload_n 0, 1) := dk_42 (dk_at dksX9_asks_0 0 rfl rfl)
theorem dX9_asks_1 : decode cX9_asks 1 = .ok (.getfield 116, 3) := dk_180 0 116 (dk_at dksX9_asks_0 1 rfl rfl)
theorem dX9_asks_4 : decode cX9_asks 4 = .ok (.iload_n 1, 1) := dk_27 (dk_at dksX9_asks_0 4 rfl rfl)
theorem dX9_asks_5 : decode cX9_asks 5 = .ok (.if_icmp .ne 39, 3) := dk_160 0 39 (dk_at dksX9_asks_0 5 rfl rfl)
theorem dX9_asks_8 : decode cX9_asks 8 = .ok (.aload_n 0, 1) := dk_42 (dk_at dksX9_asks_0 8 rfl rfl)
theorem dX9_asks_9 : decode cX9_asks 9 = .ok (.getfield 349, 3) := dk_180 1 93 (dk_at dksX9_asks_0 9 rfl rfl)
theorem dX9_asks_12 : decode cX9_asks 12 = .ok (.iload_n 2, 1) := dk_28 (dk_at dksX9_asks_0 12 rfl rfl)
theorem dX9_asks_13 : decode cX9_asks 13 = .ok (.if_icmp .ne 31, 3) := dk_160 0 31 (dk_at dksX9_asks_0 13 rfl rfl)
theorem dX9_asks_16 : decode cX9_asks 16 = .ok (.aload_n 0, 1) := dk_42 (dk_at dksX9_asks_0 16 rfl rfl)
theorem dX9_asks_17 : decode cX9_asks 17 = .ok (.getfield 353, 3) := dk_180 1 97 (dk_at dksX9_asks_0 17 rfl rfl)
theorem dX9_asks_20 : decode cX9_asks 20 = .ok (.aload_n 0, 1) := dk_42 (dk_at dksX9_asks_0 20 rfl rfl)
theorem dX9_asks_21 : decode cX9_asks 21 = .ok (.getfield 322, 3) := dk_180 1 66 (dk_at dksX9_asks_0 21 rfl rfl)
theorem dX9_asks_24 : decode cX9_asks 24 = .ok (.if_icmp .ne 20, 3) := dk_160 0 20 (dk_at dksX9_asks_1 0 rfl rfl)
theorem dX9_asks_27 : decode cX9_asks 27 = .ok (.aload_n 0, 1) := dk_42 (dk_at dksX9_asks_1 3 rfl rfl)
theorem dX9_asks_28 : decode cX9_asks 28 = .ok (.getfield 119, 3) := dk_180 0 119 (dk_at dksX9_asks_1 4 rfl rfl)
theorem dX9_asks_31 : decode cX9_asks 31 = .ok (.iload_n 3, 1) := dk_29 (dk_at dksX9_asks_1 7 rfl rfl)
theorem dX9_asks_32 : decode cX9_asks 32 = .ok (.if_icmp .ne 12, 3) := dk_160 0 12 (dk_at dksX9_asks_1 8 rfl rfl)
theorem dX9_asks_35 : decode cX9_asks 35 = .ok (.aload_n 0, 1) := dk_42 (dk_at dksX9_asks_1 11 rfl rfl)
theorem dX9_asks_36 : decode cX9_asks 36 = .ok (.getfield 356, 3) := dk_180 1 100 (dk_at dksX9_asks_1 12 rfl rfl)
theorem dX9_asks_39 : decode cX9_asks 39 = .ok (.iload 4, 2) := dk_21 4 (dk_at dksX9_asks_1 15 rfl rfl)
theorem dX9_asks_41 : decode cX9_asks 41 = .ok (.if_icmp .eq 42, 3) := dk_159 0 42 (dk_at dksX9_asks_1 17 rfl rfl)
theorem dX9_asks_44 : decode cX9_asks 44 = .ok (.aload_n 0, 1) := dk_42 (dk_at dksX9_asks_1 20 rfl rfl)
theorem dX9_asks_45 : decode cX9_asks 45 = .ok (.iload_n 1, 1) := dk_27 (dk_at dksX9_asks_1 21 rfl rfl)
theorem dX9_asks_46 : decode cX9_asks 46 = .ok (.putfield 116, 3) := dk_181 0 116 (dk_at dksX9_asks_2 0 rfl rfl)
theorem dX9_asks_49 : decode cX9_asks 49 = .ok (.aload_n 0, 1) := dk_42 (dk_at dksX9_asks_2 3 rfl rfl)
theorem dX9_asks_50 : decode cX9_asks 50 = .ok (.iload_n 2, 1) := dk_28 (dk_at dksX9_asks_2 4 rfl rfl)
theorem dX9_asks_51 : decode cX9_asks 51 = .ok (.putfield 349, 3) := dk_181 1 93 (dk_at dksX9_asks_2 5 rfl rfl)
theorem dX9_asks_54 : decode cX9_asks 54 = .ok (.aload_n 0, 1) := dk_42 (dk_at dksX9_asks_2 8 rfl rfl)
theorem dX9_asks_55 : decode cX9_asks 55 = .ok (.aload_n 0, 1) := dk_42 (dk_at dksX9_asks_2 9 rfl rfl)
theorem dX9_asks_56 : decode cX9_asks 56 = .ok (.getfield 322, 3) := dk_180 1 66 (dk_at dksX9_asks_2 10 rfl rfl)
theorem dX9_asks_59 : decode cX9_asks 59 = .ok (.putfield 353, 3) := dk_181 1 97 (dk_at dksX9_asks_2 13 rfl rfl)
theorem dX9_asks_62 : decode cX9_asks 62 = .ok (.aload_n 0, 1) := dk_42 (dk_at dksX9_asks_2 16 rfl rfl)
theorem dX9_asks_63 : decode cX9_asks 63 = .ok (.iload_n 3, 1) := dk_29 (dk_at dksX9_asks_2 17 rfl rfl)
theorem dX9_asks_64 : decode cX9_asks 64 = .ok (.putfield 119, 3) := dk_181 0 119 (dk_at dksX9_asks_2 18 rfl rfl)
theorem dX9_asks_67 : decode cX9_asks 67 = .ok (.aload_n 0, 1) := dk_42 (dk_at dksX9_asks_2 21 rfl rfl)
theorem dX9_asks_68 : decode cX9_asks 68 = .ok (.iload 4, 2) := dk_21 4 (dk_at dksX9_asks_2 22 rfl rfl)
theorem dX9_asks_70 : decode cX9_asks 70 = .ok (.putfield 356, 3) := dk_181 1 100 (dk_at dksX9_asks_3 0 rfl rfl)
theorem dX9_asks_73 : decode cX9_asks 73 = .ok (.aload_n 0, 1) := dk_42 (dk_at dksX9_asks_3 3 rfl rfl)
theorem dX9_asks_74 : decode cX9_asks 74 = .ok (.dup, 1) := dk_89 (dk_at dksX9_asks_3 4 rfl rfl)
theorem dX9_asks_75 : decode cX9_asks 75 = .ok (.getfield 359, 3) := dk_180 1 103 (dk_at dksX9_asks_3 5 rfl rfl)
theorem dX9_asks_78 : decode cX9_asks 78 = .ok (.iconst 1, 1) := dk_4 (dk_at dksX9_asks_3 8 rfl rfl)
theorem dX9_asks_79 : decode cX9_asks 79 = .ok (.iadd, 1) := dk_96 (dk_at dksX9_asks_3 9 rfl rfl)
theorem dX9_asks_80 : decode cX9_asks 80 = .ok (.putfield 359, 3) := dk_181 1 103 (dk_at dksX9_asks_3 10 rfl rfl)
theorem dX9_asks_83 : decode cX9_asks 83 = .ok (.return_, 1) := dk_177 (dk_at dksX9_asks_3 13 rfl rfl)
abbrev cX9_worthFrom : ByteArray := prog_23_method_75_code
def yX9_worthFrom : MethodName := ⟨RX9, "worthFrom", "(III)I"⟩
def dkwX9_worthFrom_5 : List UInt8 := [180, 0, 113, 21, 5, 42, 180, 1, 103, 79, 42, 180, 0, 110, 21, 5, 46, 172]
abbrev dktX9_worthFrom_5 : List UInt8 := dkwX9_worthFrom_5 ++ []
def dkwX9_worthFrom_4 : List UInt8 := [180, 1, 100, 96, 167, 0, 5, 21, 4, 182, 1, 112, 54, 6, 42, 180, 0, 110, 21, 5, 21, 6, 79, 42]
abbrev dktX9_worthFrom_4 : List UInt8 := dkwX9_worthFrom_4 ++ dktX9_worthFrom_5
def dkwX9_worthFrom_3 : List UInt8 := [167, 0, 36, 42, 27, 28, 21, 4, 16, 6, 28, 104, 27, 96, 42, 180, 0, 119, 160, 0, 13, 21, 4, 42]
abbrev dktX9_worthFrom_3 : List UInt8 := dkwX9_worthFrom_3 ++ dktX9_worthFrom_4
def dkwX9_worthFrom_2 : List UInt8 := [180, 1, 103, 159, 0, 78, 42, 27, 28, 182, 1, 106, 153, 0, 14, 42, 27, 28, 21, 4, 182, 1, 109]
abbrev dktX9_worthFrom_2 : List UInt8 := dkwX9_worthFrom_2 ++ dktX9_worthFrom_3
def dkwX9_worthFrom_1 : List UInt8 := [17, 4, 176, 16, 6, 28, 104, 27, 96, 104, 21, 4, 96, 54, 5, 42, 180, 0, 113, 21, 5, 46, 42]
abbrev dktX9_worthFrom_1 : List UInt8 := dkwX9_worthFrom_1 ++ dktX9_worthFrom_2
def dkwX9_worthFrom_0 : List UInt8 := [42, 27, 28, 182, 1, 79, 153, 0, 5, 3, 172, 29, 42, 180, 0, 81, 16, 9, 46, 112, 54, 4]
abbrev dktX9_worthFrom_0 : List UInt8 := dkwX9_worthFrom_0 ++ dktX9_worthFrom_1
theorem dksX9_worthFrom_0 : cX9_worthFrom.data.toList.drop 0 = dktX9_worthFrom_0 := by decide +kernel
theorem dksX9_worthFrom_1 : cX9_worthFrom.data.toList.drop 22 = dktX9_worthFrom_1 := dk_seg dksX9_worthFrom_0 22 rfl rfl
theorem dksX9_worthFrom_2 : cX9_worthFrom.data.toList.drop 45 = dktX9_worthFrom_2 := dk_seg dksX9_worthFrom_1 23 rfl rfl
theorem dksX9_worthFrom_3 : cX9_worthFrom.data.toList.drop 68 = dktX9_worthFrom_3 := dk_seg dksX9_worthFrom_2 23 rfl rfl
theorem dksX9_worthFrom_4 : cX9_worthFrom.data.toList.drop 92 = dktX9_worthFrom_4 := dk_seg dksX9_worthFrom_3 24 rfl rfl
theorem dksX9_worthFrom_5 : cX9_worthFrom.data.toList.drop 116 = dktX9_worthFrom_5 := dk_seg dksX9_worthFrom_4 24 rfl rfl
theorem dX9_worthFrom_0 : decode cX9_worthFrom 0 = .ok (.aload_n 0, 1) := dk_42 (dk_at dksX9_worthFrom_0 0 rfl rfl)
theorem dX9_worthFrom_1 : decode cX9_worthFrom 1 = .ok (.iload_n 1, 1) := dk_27 (dk_at dksX9_worthFrom_0 1 rfl rfl)
theorem dX9_worthFrom_2 : decode cX9_worthFrom 2 = .ok (.iload_n 2, 1) := dk_28 (dk_at dksX9_worthFrom_0 2 rfl rfl)
theorem dX9_worthFrom_3 : decode cX9_worthFrom 3 = .ok (.invokevirtual 335, 3) := dk_182 1 79 (dk_at dksX9_worthFrom_0 3 rfl rfl)
theorem dX9_worthFrom_6 : decode cX9_worthFrom 6 = .ok (.ifCond .eq 5, 3) := dk_153 0 5 (dk_at dksX9_worthFrom_0 6 rfl rfl)
theorem dX9_worthFrom_9 : decode cX9_worthFrom 9 = .ok (.iconst 0, 1) := dk_3 (dk_at dksX9_worthFrom_0 9 rfl rfl)
theorem dX9_worthFrom_10 : decode cX9_worthFrom 10 = .ok (.ireturn, 1) := dk_172 (dk_at dksX9_worthFrom_0 10 rfl rfl)
theorem dX9_worthFrom_11 : decode cX9_worthFrom 11 = .ok (.iload_n 3, 1) := dk_29 (dk_at dksX9_worthFrom_0 11 rfl rfl)
theorem dX9_worthFrom_12 : decode cX9_worthFrom 12 = .ok (.aload_n 0, 1) := dk_42 (dk_at dksX9_worthFrom_0 12 rfl rfl)
theorem dX9_worthFrom_13 : decode cX9_worthFrom 13 = .ok (.getfield 81, 3) := dk_180 0 81 (dk_at dksX9_worthFrom_0 13 rfl rfl)
theorem dX9_worthFrom_16 : decode cX9_worthFrom 16 = .ok (.bipush 9, 2) := dk_16 9 (dk_at dksX9_worthFrom_0 16 rfl rfl)
theorem dX9_worthFrom_18 : decode cX9_worthFrom 18 = .ok (.iaload, 1) := dk_46 (dk_at dksX9_worthFrom_0 18 rfl rfl)
theorem dX9_worthFrom_19 : decode cX9_worthFrom 19 = .ok (.irem, 1) := dk_112 (dk_at dksX9_worthFrom_0 19 rfl rfl)
theorem dX9_worthFrom_20 : decode cX9_worthFrom 20 = .ok (.istore 4, 2) := dk_54 4 (dk_at dksX9_worthFrom_0 20 rfl rfl)
theorem dX9_worthFrom_22 : decode cX9_worthFrom 22 = .ok (.sipush 1200, 3) := dk_17 4 176 (dk_at dksX9_worthFrom_1 0 rfl rfl)
theorem dX9_worthFrom_25 : decode cX9_worthFrom 25 = .ok (.bipush 6, 2) := dk_16 6 (dk_at dksX9_worthFrom_1 3 rfl rfl)
theorem dX9_worthFrom_27 : decode cX9_worthFrom 27 = .ok (.iload_n 2, 1) := dk_28 (dk_at dksX9_worthFrom_1 5 rfl rfl)
theorem dX9_worthFrom_28 : decode cX9_worthFrom 28 = .ok (.imul, 1) := dk_104 (dk_at dksX9_worthFrom_1 6 rfl rfl)
theorem dX9_worthFrom_29 : decode cX9_worthFrom 29 = .ok (.iload_n 1, 1) := dk_27 (dk_at dksX9_worthFrom_1 7 rfl rfl)
theorem dX9_worthFrom_30 : decode cX9_worthFrom 30 = .ok (.iadd, 1) := dk_96 (dk_at dksX9_worthFrom_1 8 rfl rfl)
theorem dX9_worthFrom_31 : decode cX9_worthFrom 31 = .ok (.imul, 1) := dk_104 (dk_at dksX9_worthFrom_1 9 rfl rfl)
theorem dX9_worthFrom_32 : decode cX9_worthFrom 32 = .ok (.iload 4, 2) := dk_21 4 (dk_at dksX9_worthFrom_1 10 rfl rfl)
theorem dX9_worthFrom_34 : decode cX9_worthFrom 34 = .ok (.iadd, 1) := dk_96 (dk_at dksX9_worthFrom_1 12 rfl rfl)
theorem dX9_worthFrom_35 : decode cX9_worthFrom 35 = .ok (.istore 5, 2) := dk_54 5 (dk_at dksX9_worthFrom_1 13 rfl rfl)
theorem dX9_worthFrom_37 : decode cX9_worthFrom 37 = .ok (.aload_n 0, 1) := dk_42 (dk_at dksX9_worthFrom_1 15 rfl rfl)
theorem dX9_worthFrom_38 : decode cX9_worthFrom 38 = .ok (.getfield 113, 3) := dk_180 0 113 (dk_at dksX9_worthFrom_1 16 rfl rfl)
theorem dX9_worthFrom_41 : decode cX9_worthFrom 41 = .ok (.iload 5, 2) := dk_21 5 (dk_at dksX9_worthFrom_1 19 rfl rfl)
theorem dX9_worthFrom_43 : decode cX9_worthFrom 43 = .ok (.iaload, 1) := dk_46 (dk_at dksX9_worthFrom_1 21 rfl rfl)
theorem dX9_worthFrom_44 : decode cX9_worthFrom 44 = .ok (.aload_n 0, 1) := dk_42 (dk_at dksX9_worthFrom_1 22 rfl rfl)
theorem dX9_worthFrom_45 : decode cX9_worthFrom 45 = .ok (.getfield 359, 3) := dk_180 1 103 (dk_at dksX9_worthFrom_2 0 rfl rfl)
theorem dX9_worthFrom_48 : decode cX9_worthFrom 48 = .ok (.if_icmp .eq 78, 3) := dk_159 0 78 (dk_at dksX9_worthFrom_2 3 rfl rfl)
theorem dX9_worthFrom_51 : decode cX9_worthFrom 51 = .ok (.aload_n 0, 1) := dk_42 (dk_at dksX9_worthFrom_2 6 rfl rfl)
theorem dX9_worthFrom_52 : decode cX9_worthFrom 52 = .ok (.iload_n 1, 1) := dk_27 (dk_at dksX9_worthFrom_2 7 rfl rfl)
theorem dX9_worthFrom_53 : decode cX9_worthFrom 53 = .ok (.iload_n 2, 1) := dk_28 (dk_at dksX9_worthFrom_2 8 rfl rfl)
theorem dX9_worthFrom_54 : decode cX9_worthFrom 54 = .ok (.invokevirtual 362, 3) := dk_182 1 106 (dk_at dksX9_worthFrom_2 9 rfl rfl)
theorem dX9_worthFrom_57 : decode cX9_worthFrom 57 = .ok (.ifCond .eq 14, 3) := dk_153 0 14 (dk_at dksX9_worthFrom_2 12 rfl rfl)
theorem dX9_worthFrom_60 : decode cX9_worthFrom 60 = .ok (.aload_n 0, 1) := dk_42 (dk_at dksX9_worthFrom_2 15 rfl rfl)
theorem dX9_worthFrom_61 : decode cX9_worthFrom 61 = .ok (.iload_n 1, 1) := dk_27 (dk_at dksX9_worthFrom_2 16 rfl rfl)
theorem dX9_worthFrom_62 : decode cX9_worthFrom 62 = .ok (.iload_n 2, 1) := dk_28 (dk_at dksX9_worthFrom_2 17 rfl rfl)
theorem dX9_worthFrom_63 : decode cX9_worthFrom 63 = .ok (.iload 4, 2) := dk_21 4 (dk_at dksX9_worthFrom_2 18 rfl rfl)
theorem dX9_worthFrom_65 : decode cX9_worthFrom 65 = .ok (.invokevirtual 365, 3) := dk_182 1 109 (dk_at dksX9_worthFrom_2 20 rfl rfl)
theorem dX9_worthFrom_68 : decode cX9_worthFrom 68 = .ok (.goto 36, 3) := dk_167 0 36 (dk_at dksX9_worthFrom_3 0 rfl rfl)
theorem dX9_worthFrom_71 : decode cX9_worthFrom 71 = .ok (.aload_n 0, 1) := dk_42 (dk_at dksX9_worthFrom_3 3 rfl rfl)
theorem dX9_worthFrom_72 : decode cX9_worthFrom 72 = .ok (.iload_n 1, 1) := dk_27 (dk_at dksX9_worthFrom_3 4 rfl rfl)
theorem dX9_worthFrom_73 : decode cX9_worthFrom 73 = .ok (.iload_n 2, 1) := dk_28 (dk_at dksX9_worthFrom_3 5 rfl rfl)
theorem dX9_worthFrom_74 : decode cX9_worthFrom 74 = .ok (.iload 4, 2) := dk_21 4 (dk_at dksX9_worthFrom_3 6 rfl rfl)
theorem dX9_worthFrom_76 : decode cX9_worthFrom 76 = .ok (.bipush 6, 2) := dk_16 6 (dk_at dksX9_worthFrom_3 8 rfl rfl)
theorem dX9_worthFrom_78 : decode cX9_worthFrom 78 = .ok (.iload_n 2, 1) := dk_28 (dk_at dksX9_worthFrom_3 10 rfl rfl)
theorem dX9_worthFrom_79 : decode cX9_worthFrom 79 = .ok (.imul, 1) := dk_104 (dk_at dksX9_worthFrom_3 11 rfl rfl)
theorem dX9_worthFrom_80 : decode cX9_worthFrom 80 = .ok (.iload_n 1, 1) := dk_27 (dk_at dksX9_worthFrom_3 12 rfl rfl)
theorem dX9_worthFrom_81 : decode cX9_worthFrom 81 = .ok (.iadd, 1) := dk_96 (dk_at dksX9_worthFrom_3 13 rfl rfl)
theorem dX9_worthFrom_82 : decode cX9_worthFrom 82 = .ok (.aload_n 0, 1) := dk_42 (dk_at dksX9_worthFrom_3 14 rfl rfl)
theorem dX9_worthFrom_83 : decode cX9_worthFrom 83 = .ok (.getfield 119, 3) := dk_180 0 119 (dk_at dksX9_worthFrom_3 15 rfl rfl)
theorem dX9_worthFrom_86 : decode cX9_worthFrom 86 = .ok (.if_icmp .ne 13, 3) := dk_160 0 13 (dk_at dksX9_worthFrom_3 18 rfl rfl)
theorem dX9_worthFrom_89 : decode cX9_worthFrom 89 = .ok (.iload 4, 2) := dk_21 4 (dk_at dksX9_worthFrom_3 21 rfl rfl)
theorem dX9_worthFrom_91 : decode cX9_worthFrom 91 = .ok (.aload_n 0, 1) := dk_42 (dk_at dksX9_worthFrom_3 23 rfl rfl)
theorem dX9_worthFrom_92 : decode cX9_worthFrom 92 = .ok (.getfield 356, 3) := dk_180 1 100 (dk_at dksX9_worthFrom_4 0 rfl rfl)
theorem dX9_worthFrom_95 : decode cX9_worthFrom 95 = .ok (.iadd, 1) := dk_96 (dk_at dksX9_worthFrom_4 3 rfl rfl)
theorem dX9_worthFrom_96 : decode cX9_worthFrom 96 = .ok (.goto 5, 3) := dk_167 0 5 (dk_at dksX9_worthFrom_4 4 rfl rfl)
theorem dX9_worthFrom_99 : decode cX9_worthFrom 99 = .ok (.iload 4, 2) := dk_21 4 (dk_at dksX9_worthFrom_4 7 rfl rfl)
theorem dX9_worthFrom_101 : decode cX9_worthFrom 101 = .ok (.invokevirtual 368, 3) := dk_182 1 112 (dk_at dksX9_worthFrom_4 9 rfl rfl)
theorem dX9_worthFrom_104 : decode cX9_worthFrom 104 = .ok (.istore 6, 2) := dk_54 6 (dk_at dksX9_worthFrom_4 12 rfl rfl)
theorem dX9_worthFrom_106 : decode cX9_worthFrom 106 = .ok (.aload_n 0, 1) := dk_42 (dk_at dksX9_worthFrom_4 14 rfl rfl)
theorem dX9_worthFrom_107 : decode cX9_worthFrom 107 = .ok (.getfield 110, 3) := dk_180 0 110 (dk_at dksX9_worthFrom_4 15 rfl rfl)
theorem dX9_worthFrom_110 : decode cX9_worthFrom 110 = .ok (.iload 5, 2) := dk_21 5 (dk_at dksX9_worthFrom_4 18 rfl rfl)
theorem dX9_worthFrom_112 : decode cX9_worthFrom 112 = .ok (.iload 6, 2) := dk_21 6 (dk_at dksX9_worthFrom_4 20 rfl rfl)
theorem dX9_worthFrom_114 : decode cX9_worthFrom 114 = .ok (.iastore, 1) := dk_79 (dk_at dksX9_worthFrom_4 22 rfl rfl)
theorem dX9_worthFrom_115 : decode cX9_worthFrom 115 = .ok (.aload_n 0, 1) := dk_42 (dk_at dksX9_worthFrom_4 23 rfl rfl)
theorem dX9_worthFrom_116 : decode cX9_worthFrom 116 = .ok (.getfield 113, 3) := dk_180 0 113 (dk_at dksX9_worthFrom_5 0 rfl rfl)
theorem dX9_worthFrom_119 : decode cX9_worthFrom 119 = .ok (.iload 5, 2) := dk_21 5 (dk_at dksX9_worthFrom_5 3 rfl rfl)
theorem dX9_worthFrom_121 : decode cX9_worthFrom 121 = .ok (.aload_n 0, 1) := dk_42 (dk_at dksX9_worthFrom_5 5 rfl rfl)
theorem dX9_worthFrom_122 : decode cX9_worthFrom 122 = .ok (.getfield 359, 3) := dk_180 1 103 (dk_at dksX9_worthFrom_5 6 rfl rfl)
theorem dX9_worthFrom_125 : decode cX9_worthFrom 125 = .ok (.iastore, 1) := dk_79 (dk_at dksX9_worthFrom_5 9 rfl rfl)
theorem dX9_worthFrom_126 : decode cX9_worthFrom 126 = .ok (.aload_n 0, 1) := dk_42 (dk_at dksX9_worthFrom_5 10 rfl rfl)
theorem dX9_worthFrom_127 : decode cX9_worthFrom 127 = .ok (.getfield 110, 3) := dk_180 0 110 (dk_at dksX9_worthFrom_5 11 rfl rfl)
theorem dX9_worthFrom_130 : decode cX9_worthFrom 130 = .ok (.iload 5, 2) := dk_21 5 (dk_at dksX9_worthFrom_5 14 rfl rfl)
theorem dX9_worthFrom_132 : decode cX9_worthFrom 132 = .ok (.iaload, 1) := dk_46 (dk_at dksX9_worthFrom_5 16 rfl rfl)
theorem dX9_worthFrom_133 : decode cX9_worthFrom 133 = .ok (.ireturn, 1) := dk_172 (dk_at dksX9_worthFrom_5 17 rfl rfl)
abbrev cX9_isUnknown : ByteArray := prog_23_method_74_code
def yX9_isUnknown : MethodName := ⟨RX9, "isUnknown", "(II)Z"⟩
def dkwX9_isUnknown_1 : List UInt8 := [96, 42, 180, 0, 119, 159, 0, 7, 4, 167, 0, 4, 3, 172]
abbrev dktX9_isUnknown_1 : List UInt8 := dkwX9_isUnknown_1 ++ []
def dkwX9_isUnknown_0 : List UInt8 := [42, 27, 28, 182, 1, 26, 4, 160, 0, 29, 42, 27, 28, 182, 1, 46, 154, 0, 20, 16, 6, 28, 104, 27]
abbrev dktX9_isUnknown_0 : List UInt8 := dkwX9_isUnknown_0 ++ dktX9_isUnknown_1
theorem dksX9_isUnknown_0 : cX9_isUnknown.data.toList.drop 0 = dktX9_isUnknown_0 := by decide +kernel
theorem dksX9_isUnknown_1 : cX9_isUnknown.data.toList.drop 24 = dktX9_isUnknown_1 := dk_seg dksX9_isUnknown_0 24 rfl rfl
theorem dX9_isUnknown_0 : decode cX9_isUnknown 0 = .ok (.aload_n 0, 1) := dk_42 (dk_at dksX9_isUnknown_0 0 rfl rfl)
theorem dX9_isUnknown_1 : decode cX9_isUnknown 1 = .ok (.iload_n 1, 1) := dk_27 (dk_at dksX9_isUnknown_0 1 rfl rfl)
theorem dX9_isUnknown_2 : decode cX9_isUnknown 2 = .ok (.iload_n 2, 1) := dk_28 (dk_at dksX9_isUnknown_0 2 rfl rfl)
theorem dX9_isUnknown_3 : decode cX9_isUnknown 3 = .ok (.invokevirtual 282, 3) := dk_182 1 26 (dk_at dksX9_isUnknown_0 3 rfl rfl)
theorem dX9_isUnknown_6 : decode cX9_isUnknown 6 = .ok (.iconst 1, 1) := dk_4 (dk_at dksX9_isUnknown_0 6 rfl rfl)
theorem dX9_isUnknown_7 : decode cX9_isUnknown 7 = .ok (.if_icmp .ne 29, 3) := dk_160 0 29 (dk_at dksX9_isUnknown_0 7 rfl rfl)
theorem dX9_isUnknown_10 : decode cX9_isUnknown 10 = .ok (.aload_n 0, 1) := dk_42 (dk_at dksX9_isUnknown_0 10 rfl rfl)
theorem dX9_isUnknown_11 : decode cX9_isUnknown 11 = .ok (.iload_n 1, 1) := dk_27 (dk_at dksX9_isUnknown_0 11 rfl rfl)
theorem dX9_isUnknown_12 : decode cX9_isUnknown 12 = .ok (.iload_n 2, 1) := dk_28 (dk_at dksX9_isUnknown_0 12 rfl rfl)
theorem dX9_isUnknown_13 : decode cX9_isUnknown 13 = .ok (.invokevirtual 302, 3) := dk_182 1 46 (dk_at dksX9_isUnknown_0 13 rfl rfl)
theorem dX9_isUnknown_16 : decode cX9_isUnknown 16 = .ok (.ifCond .ne 20, 3) := dk_154 0 20 (dk_at dksX9_isUnknown_0 16 rfl rfl)
theorem dX9_isUnknown_19 : decode cX9_isUnknown 19 = .ok (.bipush 6, 2) := dk_16 6 (dk_at dksX9_isUnknown_0 19 rfl rfl)
theorem dX9_isUnknown_21 : decode cX9_isUnknown 21 = .ok (.iload_n 2, 1) := dk_28 (dk_at dksX9_isUnknown_0 21 rfl rfl)
theorem dX9_isUnknown_22 : decode cX9_isUnknown 22 = .ok (.imul, 1) := dk_104 (dk_at dksX9_isUnknown_0 22 rfl rfl)
theorem dX9_isUnknown_23 : decode cX9_isUnknown 23 = .ok (.iload_n 1, 1) := dk_27 (dk_at dksX9_isUnknown_0 23 rfl rfl)
theorem dX9_isUnknown_24 : decode cX9_isUnknown 24 = .ok (.iadd, 1) := dk_96 (dk_at dksX9_isUnknown_1 0 rfl rfl)
theorem dX9_isUnknown_25 : decode cX9_isUnknown 25 = .ok (.aload_n 0, 1) := dk_42 (dk_at dksX9_isUnknown_1 1 rfl rfl)
theorem dX9_isUnknown_26 : decode cX9_isUnknown 26 = .ok (.getfield 119, 3) := dk_180 0 119 (dk_at dksX9_isUnknown_1 2 rfl rfl)
theorem dX9_isUnknown_29 : decode cX9_isUnknown 29 = .ok (.if_icmp .eq 7, 3) := dk_159 0 7 (dk_at dksX9_isUnknown_1 5 rfl rfl)
theorem dX9_isUnknown_32 : decode cX9_isUnknown 32 = .ok (.iconst 1, 1) := dk_4 (dk_at dksX9_isUnknown_1 8 rfl rfl)
theorem dX9_isUnknown_33 : decode cX9_isUnknown 33 = .ok (.goto 4, 3) := dk_167 0 4 (dk_at dksX9_isUnknown_1 9 rfl rfl)
theorem dX9_isUnknown_36 : decode cX9_isUnknown 36 = .ok (.iconst 0, 1) := dk_3 (dk_at dksX9_isUnknown_1 12 rfl rfl)
theorem dX9_isUnknown_37 : decode cX9_isUnknown 37 = .ok (.ireturn, 1) := dk_172 (dk_at dksX9_isUnknown_1 13 rfl rfl)
abbrev cX9_worthHidden : ByteArray := prog_23_method_76_code
def yX9_worthHidden : MethodName := ⟨RX9, "worthHidden", "(III)I"⟩
def dkwX9_worthHidden_4 : List UInt8 := [136, 172]
abbrev dktX9_worthHidden_4 : List UInt8 := dkwX9_worthHidden_4 ++ []
def dkwX9_worthHidden_3 : List UInt8 := [132, 8, 1, 167, 255, 204, 42, 180, 1, 93, 153, 0, 8, 21, 6, 167, 0, 10, 22, 4, 21, 7, 133, 109]
abbrev dktX9_worthHidden_3 : List UInt8 := dkwX9_worthHidden_3 ++ dktX9_worthHidden_4
def dkwX9_worthHidden_2 : List UInt8 := [21, 9, 133, 97, 55, 4, 21, 9, 21, 6, 164, 0, 8, 21, 9, 167, 0, 5, 21, 6, 54, 6]
abbrev dktX9_worthHidden_2 : List UInt8 := dkwX9_worthHidden_2 ++ dktX9_worthHidden_3
def dkwX9_worthHidden_1 : List UInt8 := [162, 0, 51, 42, 27, 28, 29, 21, 8, 182, 1, 112, 54, 9, 21, 9, 156, 0, 5, 2, 172, 22, 4]
abbrev dktX9_worthHidden_1 : List UInt8 := dkwX9_worthHidden_1 ++ dktX9_worthHidden_2
def dkwX9_worthHidden_0 : List UInt8 := [9, 55, 4, 3, 54, 6, 42, 27, 28, 4, 182, 1, 33, 54, 7, 3, 54, 8, 21, 8, 21, 7]
abbrev dktX9_worthHidden_0 : List UInt8 := dkwX9_worthHidden_0 ++ dktX9_worthHidden_1
theorem dksX9_worthHidden_0 : cX9_worthHidden.data.toList.drop 0 = dktX9_worthHidden_0 := by decide +kernel
theorem dksX9_worthHidden_1 : cX9_worthHidden.data.toList.drop 22 = dktX9_worthHidden_1 := dk_seg dksX9_worthHidden_0 22 rfl rfl
theorem dksX9_worthHidden_2 : cX9_worthHidden.data.toList.drop 45 = dktX9_worthHidden_2 := dk_seg dksX9_worthHidden_1 23 rfl rfl
theorem dksX9_worthHidden_3 : cX9_worthHidden.data.toList.drop 67 = dktX9_worthHidden_3 := dk_seg dksX9_worthHidden_2 22 rfl rfl
theorem dksX9_worthHidden_4 : cX9_worthHidden.data.toList.drop 91 = dktX9_worthHidden_4 := dk_seg dksX9_worthHidden_3 24 rfl rfl
theorem dX9_worthHidden_0 : decode cX9_worthHidden 0 = .ok (.lconst 0, 1) := dk_9 (dk_at dksX9_worthHidden_0 0 rfl rfl)
theorem dX9_worthHidden_1 : decode cX9_worthHidden 1 = .ok (.lstore 4, 2) := dk_55 4 (dk_at dksX9_worthHidden_0 1 rfl rfl)
theorem dX9_worthHidden_3 : decode cX9_worthHidden 3 = .ok (.iconst 0, 1) := dk_3 (dk_at dksX9_worthHidden_0 3 rfl rfl)
theorem dX9_worthHidden_4 : decode cX9_worthHidden 4 = .ok (.istore 6, 2) := dk_54 6 (dk_at dksX9_worthHidden_0 4 rfl rfl)
theorem dX9_worthHidden_6 : decode cX9_worthHidden 6 = .ok (.aload_n 0, 1) := dk_42 (dk_at dksX9_worthHidden_0 6 rfl rfl)
theorem dX9_worthHidden_7 : decode cX9_worthHidden 7 = .ok (.iload_n 1, 1) := dk_27 (dk_at dksX9_worthHidden_0 7 rfl rfl)
theorem dX9_worthHidden_8 : decode cX9_worthHidden 8 = .ok (.iload_n 2, 1) := dk_28 (dk_at dksX9_worthHidden_0 8 rfl rfl)
theorem dX9_worthHidden_9 : decode cX9_worthHidden 9 = .ok (.iconst 1, 1) := dk_4 (dk_at dksX9_worthHidden_0 9 rfl rfl)
theorem dX9_worthHidden_10 : decode cX9_worthHidden 10 = .ok (.invokevirtual 289, 3) := dk_182 1 33 (dk_at dksX9_worthHidden_0 10 rfl rfl)
theorem dX9_worthHidden_13 : decode cX9_worthHidden 13 = .ok (.istore 7, 2) := dk_54 7 (dk_at dksX9_worthHidden_0 13 rfl rfl)
theorem dX9_worthHidden_15 : decode cX9_worthHidden 15 = .ok (.iconst 0, 1) := dk_3 (dk_at dksX9_worthHidden_0 15 rfl rfl)
theorem dX9_worthHidden_16 : decode cX9_worthHidden 16 = .ok (.istore 8, 2) := dk_54 8 (dk_at dksX9_worthHidden_0 16 rfl rfl)
theorem dX9_worthHidden_18 : decode cX9_worthHidden 18 = .ok (.iload 8, 2) := dk_21 8 (dk_at dksX9_worthHidden_0 18 rfl rfl)
theorem dX9_worthHidden_20 : decode cX9_worthHidden 20 = .ok (.iload 7, 2) := dk_21 7 (dk_at dksX9_worthHidden_0 20 rfl rfl)
theorem dX9_worthHidden_22 : decode cX9_worthHidden 22 = .ok (.if_icmp .ge 51, 3) := dk_162 0 51 (dk_at dksX9_worthHidden_1 0 rfl rfl)
theorem dX9_worthHidden_25 : decode cX9_worthHidden 25 = .ok (.aload_n 0, 1) := dk_42 (dk_at dksX9_worthHidden_1 3 rfl rfl)
theorem dX9_worthHidden_26 : decode cX9_worthHidden 26 = .ok (.iload_n 1, 1) := dk_27 (dk_at dksX9_worthHidden_1 4 rfl rfl)
theorem dX9_worthHidden_27 : decode cX9_worthHidden 27 = .ok (.iload_n 2, 1) := dk_28 (dk_at dksX9_worthHidden_1 5 rfl rfl)
theorem dX9_worthHidden_28 : decode cX9_worthHidden 28 = .ok (.iload_n 3, 1) := dk_29 (dk_at dksX9_worthHidden_1 6 rfl rfl)
theorem dX9_worthHidden_29 : decode cX9_worthHidden 29 = .ok (.iload 8, 2) := dk_21 8 (dk_at dksX9_worthHidden_1 7 rfl rfl)
theorem dX9_worthHidden_31 : decode cX9_worthHidden 31 = .ok (.invokevirtual 368, 3) := dk_182 1 112 (dk_at dksX9_worthHidden_1 9 rfl rfl)
theorem dX9_worthHidden_34 : decode cX9_worthHidden 34 = .ok (.istore 9, 2) := dk_54 9 (dk_at dksX9_worthHidden_1 12 rfl rfl)
theorem dX9_worthHidden_36 : decode cX9_worthHidden 36 = .ok (.iload 9, 2) := dk_21 9 (dk_at dksX9_worthHidden_1 14 rfl rfl)
theorem dX9_worthHidden_38 : decode cX9_worthHidden 38 = .ok (.ifCond .ge 5, 3) := dk_156 0 5 (dk_at dksX9_worthHidden_1 16 rfl rfl)
theorem dX9_worthHidden_41 : decode cX9_worthHidden 41 = .ok (.iconst (-1), 1) := dk_2 (dk_at dksX9_worthHidden_1 19 rfl rfl)
theorem dX9_worthHidden_42 : decode cX9_worthHidden 42 = .ok (.ireturn, 1) := dk_172 (dk_at dksX9_worthHidden_1 20 rfl rfl)
theorem dX9_worthHidden_43 : decode cX9_worthHidden 43 = .ok (.lload 4, 2) := dk_22 4 (dk_at dksX9_worthHidden_1 21 rfl rfl)
theorem dX9_worthHidden_45 : decode cX9_worthHidden 45 = .ok (.iload 9, 2) := dk_21 9 (dk_at dksX9_worthHidden_2 0 rfl rfl)
theorem dX9_worthHidden_47 : decode cX9_worthHidden 47 = .ok (.i2l, 1) := dk_133 (dk_at dksX9_worthHidden_2 2 rfl rfl)
theorem dX9_worthHidden_48 : decode cX9_worthHidden 48 = .ok (.ladd, 1) := dk_97 (dk_at dksX9_worthHidden_2 3 rfl rfl)
theorem dX9_worthHidden_49 : decode cX9_worthHidden 49 = .ok (.lstore 4, 2) := dk_55 4 (dk_at dksX9_worthHidden_2 4 rfl rfl)
theorem dX9_worthHidden_51 : decode cX9_worthHidden 51 = .ok (.iload 9, 2) := dk_21 9 (dk_at dksX9_worthHidden_2 6 rfl rfl)
theorem dX9_worthHidden_53 : decode cX9_worthHidden 53 = .ok (.iload 6, 2) := dk_21 6 (dk_at dksX9_worthHidden_2 8 rfl rfl)
theorem dX9_worthHidden_55 : decode cX9_worthHidden 55 = .ok (.if_icmp .le 8, 3) := dk_164 0 8 (dk_at dksX9_worthHidden_2 10 rfl rfl)
theorem dX9_worthHidden_58 : decode cX9_worthHidden 58 = .ok (.iload 9, 2) := dk_21 9 (dk_at dksX9_worthHidden_2 13 rfl rfl)
theorem dX9_worthHidden_60 : decode cX9_worthHidden 60 = .ok (.goto 5, 3) := dk_167 0 5 (dk_at dksX9_worthHidden_2 15 rfl rfl)
theorem dX9_worthHidden_63 : decode cX9_worthHidden 63 = .ok (.iload 6, 2) := dk_21 6 (dk_at dksX9_worthHidden_2 18 rfl rfl)
theorem dX9_worthHidden_65 : decode cX9_worthHidden 65 = .ok (.istore 6, 2) := dk_54 6 (dk_at dksX9_worthHidden_2 20 rfl rfl)
theorem dX9_worthHidden_67 : decode cX9_worthHidden 67 = .ok (.iinc 8 1, 3) := dk_132 8 1 (dk_at dksX9_worthHidden_3 0 rfl rfl)
theorem dX9_worthHidden_70 : decode cX9_worthHidden 70 = .ok (.goto (-52), 3) := dk_167 255 204 (dk_at dksX9_worthHidden_3 3 rfl rfl)
theorem dX9_worthHidden_73 : decode cX9_worthHidden 73 = .ok (.aload_n 0, 1) := dk_42 (dk_at dksX9_worthHidden_3 6 rfl rfl)
theorem dX9_worthHidden_74 : decode cX9_worthHidden 74 = .ok (.getfield 349, 3) := dk_180 1 93 (dk_at dksX9_worthHidden_3 7 rfl rfl)
theorem dX9_worthHidden_77 : decode cX9_worthHidden 77 = .ok (.ifCond .eq 8, 3) := dk_153 0 8 (dk_at dksX9_worthHidden_3 10 rfl rfl)
theorem dX9_worthHidden_80 : decode cX9_worthHidden 80 = .ok (.iload 6, 2) := dk_21 6 (dk_at dksX9_worthHidden_3 13 rfl rfl)
theorem dX9_worthHidden_82 : decode cX9_worthHidden 82 = .ok (.goto 10, 3) := dk_167 0 10 (dk_at dksX9_worthHidden_3 15 rfl rfl)
theorem dX9_worthHidden_85 : decode cX9_worthHidden 85 = .ok (.lload 4, 2) := dk_22 4 (dk_at dksX9_worthHidden_3 18 rfl rfl)
theorem dX9_worthHidden_87 : decode cX9_worthHidden 87 = .ok (.iload 7, 2) := dk_21 7 (dk_at dksX9_worthHidden_3 20 rfl rfl)
theorem dX9_worthHidden_89 : decode cX9_worthHidden 89 = .ok (.i2l, 1) := dk_133 (dk_at dksX9_worthHidden_3 22 rfl rfl)
theorem dX9_worthHidden_90 : decode cX9_worthHidden 90 = .ok (.ldiv, 1) := dk_109 (dk_at dksX9_worthHidden_3 23 rfl rfl)
theorem dX9_worthHidden_91 : decode cX9_worthHidden 91 = .ok (.l2i, 1) := dk_136 (dk_at dksX9_worthHidden_4 0 rfl rfl)
theorem dX9_worthHidden_92 : decode cX9_worthHidden 92 = .ok (.ireturn, 1) := dk_172 (dk_at dksX9_worthHidden_4 1 rfl rfl)
abbrev cX9_worthSeen : ByteArray := prog_23_method_77_code
def yX9_worthSeen : MethodName := ⟨RX9, "worthSeen", "(IIII)I"⟩
def dkwX9_worthSeen_1 : List UInt8 := [21, 5, 29, 21, 4, 182, 1, 118, 172]
abbrev dktX9_worthSeen_1 : List UInt8 := dkwX9_worthSeen_1 ++ []
def dkwX9_worthSeen_0 : List UInt8 := [42, 27, 28, 29, 21, 4, 182, 1, 115, 54, 5, 21, 5, 156, 0, 7, 2, 167, 0, 14, 42, 27, 28]
abbrev dktX9_worthSeen_0 : List UInt8 := dkwX9_worthSeen_0 ++ dktX9_worthSeen_1
theorem dksX9_worthSeen_0 : cX9_worthSeen.data.toList.drop 0 = dktX9_worthSeen_0 := by decide +kernel
theorem dksX9_worthSeen_1 : cX9_worthSeen.data.toList.drop 23 = dktX9_worthSeen_1 := dk_seg dksX9_worthSeen_0 23 rfl rfl
theorem dX9_worthSeen_0 : decode cX9_worthSeen 0 = .ok (.aload_n 0, 1) := dk_42 (dk_at dksX9_worthSeen_0 0 rfl rfl)
theorem dX9_worthSeen_1 : decode cX9_worthSeen 1 = .ok (.iload_n 1, 1) := dk_27 (dk_at dksX9_worthSeen_0 1 rfl rfl)
theorem dX9_worthSeen_2 : decode cX9_worthSeen 2 = .ok (.iload_n 2, 1) := dk_28 (dk_at dksX9_worthSeen_0 2 rfl rfl)
theorem dX9_worthSeen_3 : decode cX9_worthSeen 3 = .ok (.iload_n 3, 1) := dk_29 (dk_at dksX9_worthSeen_0 3 rfl rfl)
theorem dX9_worthSeen_4 : decode cX9_worthSeen 4 = .ok (.iload 4, 2) := dk_21 4 (dk_at dksX9_worthSeen_0 4 rfl rfl)
theorem dX9_worthSeen_6 : decode cX9_worthSeen 6 = .ok (.invokevirtual 371, 3) := dk_182 1 115 (dk_at dksX9_worthSeen_0 6 rfl rfl)
theorem dX9_worthSeen_9 : decode cX9_worthSeen 9 = .ok (.istore 5, 2) := dk_54 5 (dk_at dksX9_worthSeen_0 9 rfl rfl)
theorem dX9_worthSeen_11 : decode cX9_worthSeen 11 = .ok (.iload 5, 2) := dk_21 5 (dk_at dksX9_worthSeen_0 11 rfl rfl)
theorem dX9_worthSeen_13 : decode cX9_worthSeen 13 = .ok (.ifCond .ge 7, 3) := dk_156 0 7 (dk_at dksX9_worthSeen_0 13 rfl rfl)
theorem dX9_worthSeen_16 : decode cX9_worthSeen 16 = .ok (.iconst (-1), 1) := dk_2 (dk_at dksX9_worthSeen_0 16 rfl rfl)
theorem dX9_worthSeen_17 : decode cX9_worthSeen 17 = .ok (.goto 14, 3) := dk_167 0 14 (dk_at dksX9_worthSeen_0 17 rfl rfl)
theorem dX9_worthSeen_20 : decode cX9_worthSeen 20 = .ok (.aload_n 0, 1) := dk_42 (dk_at dksX9_worthSeen_0 20 rfl rfl)
theorem dX9_worthSeen_21 : decode cX9_worthSeen 21 = .ok (.iload_n 1, 1) := dk_27 (dk_at dksX9_worthSeen_0 21 rfl rfl)
theorem dX9_worthSeen_22 : decode cX9_worthSeen 22 = .ok (.iload_n 2, 1) := dk_28 (dk_at dksX9_worthSeen_0 22 rfl rfl)
theorem dX9_worthSeen_23 : decode cX9_worthSeen 23 = .ok (.iload 5, 2) := dk_21 5 (dk_at dksX9_worthSeen_1 0 rfl rfl)
theorem dX9_worthSeen_25 : decode cX9_worthSeen 25 = .ok (.iload_n 3, 1) := dk_29 (dk_at dksX9_worthSeen_1 2 rfl rfl)
theorem dX9_worthSeen_26 : decode cX9_worthSeen 26 = .ok (.iload 4, 2) := dk_21 4 (dk_at dksX9_worthSeen_1 3 rfl rfl)
theorem dX9_worthSeen_28 : decode cX9_worthSeen 28 = .ok (.invokevirtual 374, 3) := dk_182 1 118 (dk_at dksX9_worthSeen_1 5 rfl rfl)
theorem dX9_worthSeen_31 : decode cX9_worthSeen 31 = .ok (.ireturn, 1) := dk_172 (dk_at dksX9_worthSeen_1 8 rfl rfl)
abbrev cX9_wayOf : ByteArray := prog_23_method_79_code
def yX9_wayOf : MethodName := ⟨RX9, "wayOf", "(IIII)I"⟩
def dkwX9_wayOf_11 : List UInt8 := [153, 0, 7, 3, 167, 0, 4, 4, 172]
abbrev dktX9_wayOf_11 : List UInt8 := dkwX9_wayOf_11 ++ []
def dkwX9_wayOf_10 : List UInt8 := [28, 100, 79, 42, 42, 180, 0, 81, 17, 1, 24, 42, 180, 0, 116, 96, 7, 100, 46, 182, 1, 124]
abbrev dktX9_wayOf_10 : List UInt8 := dkwX9_wayOf_10 ++ dktX9_wayOf_11
def dkwX9_wayOf_9 : List UInt8 := [180, 0, 96, 5, 42, 182, 1, 19, 4, 100, 27, 100, 79, 42, 180, 0, 96, 6, 42, 182, 1, 23, 4, 100]
abbrev dktX9_wayOf_9 : List UInt8 := dkwX9_wayOf_9 ++ dktX9_wayOf_10
def dkwX9_wayOf_8 : List UInt8 := [167, 0, 4, 4, 172, 42, 180, 0, 96, 3, 21, 7, 79, 42, 180, 0, 96, 4, 21, 8, 79, 42]
abbrev dktX9_wayOf_8 : List UInt8 := dkwX9_wayOf_8 ++ dktX9_wayOf_9
def dkwX9_wayOf_7 : List UInt8 := [180, 0, 116, 5, 162, 0, 10, 42, 180, 0, 116, 167, 0, 15, 21, 7, 21, 8, 163, 0, 7, 3]
abbrev dktX9_wayOf_7 : List UInt8 := dkwX9_wayOf_7 ++ dktX9_wayOf_8
def dkwX9_wayOf_6 : List UInt8 := [54, 7, 42, 27, 28, 4, 21, 4, 182, 1, 59, 54, 8, 42, 180, 0, 116, 6, 162, 0, 31, 42]
abbrev dktX9_wayOf_6 : List UInt8 := dkwX9_wayOf_6 ++ dktX9_wayOf_7
def dkwX9_wayOf_5 : List UInt8 := [167, 0, 13, 21, 6, 153, 0, 7, 4, 167, 0, 4, 2, 172, 42, 27, 28, 3, 21, 4, 182, 1, 59]
abbrev dktX9_wayOf_5 : List UInt8 := dkwX9_wayOf_5 ++ dktX9_wayOf_6
def dkwX9_wayOf_4 : List UInt8 := [4, 167, 0, 4, 2, 172, 21, 5, 153, 0, 8, 21, 6, 154, 0, 23, 21, 5, 153, 0, 7, 3]
abbrev dktX9_wayOf_4 : List UInt8 := dkwX9_wayOf_4 ++ dktX9_wayOf_5
def dkwX9_wayOf_3 : List UInt8 := [155, 0, 19, 21, 8, 155, 0, 10, 21, 7, 21, 8, 163, 0, 7, 3, 167, 0, 13, 21, 8, 155, 0, 7]
abbrev dktX9_wayOf_3 : List UInt8 := dkwX9_wayOf_3 ++ dktX9_wayOf_4
def dkwX9_wayOf_2 : List UInt8 := [21, 6, 153, 0, 16, 42, 27, 28, 4, 29, 21, 4, 182, 1, 118, 167, 0, 4, 2, 54, 8, 21, 7]
abbrev dktX9_wayOf_2 : List UInt8 := dkwX9_wayOf_2 ++ dktX9_wayOf_3
def dkwX9_wayOf_1 : List UInt8 := [160, 0, 77, 21, 5, 153, 0, 16, 42, 27, 28, 3, 29, 21, 4, 182, 1, 118, 167, 0, 4, 2, 54, 7]
abbrev dktX9_wayOf_1 : List UInt8 := dkwX9_wayOf_1 ++ dktX9_wayOf_2
def dkwX9_wayOf_0 : List UInt8 := [42, 27, 28, 3, 182, 1, 53, 54, 5, 42, 27, 28, 4, 182, 1, 53, 54, 6, 42, 180, 0, 116, 6]
abbrev dktX9_wayOf_0 : List UInt8 := dkwX9_wayOf_0 ++ dktX9_wayOf_1
theorem dksX9_wayOf_0 : cX9_wayOf.data.toList.drop 0 = dktX9_wayOf_0 := by decide +kernel
theorem dksX9_wayOf_1 : cX9_wayOf.data.toList.drop 23 = dktX9_wayOf_1 := dk_seg dksX9_wayOf_0 23 rfl rfl
theorem dksX9_wayOf_2 : cX9_wayOf.data.toList.drop 47 = dktX9_wayOf_2 := dk_seg dksX9_wayOf_1 24 rfl rfl
theorem dksX9_wayOf_3 : cX9_wayOf.data.toList.drop 70 = dktX9_wayOf_3 := dk_seg dksX9_wayOf_2 23 rfl rfl
theorem dksX9_wayOf_4 : cX9_wayOf.data.toList.drop 94 = dktX9_wayOf_4 := dk_seg dksX9_wayOf_3 24 rfl rfl
theorem dksX9_wayOf_5 : cX9_wayOf.data.toList.drop 116 = dktX9_wayOf_5 := dk_seg dksX9_wayOf_4 22 rfl rfl
theorem dksX9_wayOf_6 : cX9_wayOf.data.toList.drop 139 = dktX9_wayOf_6 := dk_seg dksX9_wayOf_5 23 rfl rfl
theorem dksX9_wayOf_7 : cX9_wayOf.data.toList.drop 161 = dktX9_wayOf_7 := dk_seg dksX9_wayOf_6 22 rfl rfl
theorem dksX9_wayOf_8 : cX9_wayOf.data.toList.drop 183 = dktX9_wayOf_8 := dk_seg dksX9_wayOf_7 22 rfl rfl
theorem dksX9_wayOf_9 : cX9_wayOf.data.toList.drop 205 = dktX9_wayOf_9 := dk_seg dksX9_wayOf_8 22 rfl rfl
theorem dksX9_wayOf_10 : cX9_wayOf.data.toList.drop 229 = dktX9_wayOf_10 := dk_seg dksX9_wayOf_9 24 rfl rfl
theorem dksX9_wayOf_11 : cX9_wayOf.data.toList.drop 251 = dktX9_wayOf_11 := dk_seg dksX9_wayOf_10 22 rfl rfl
theorem dX9_wayOf_0 : decode cX9_wayOf 0 = .ok (.aload_n 0, 1) := dk_42 (dk_at dksX9_wayOf_0 0 rfl rfl)
theorem dX9_wayOf_1 : decode cX9_wayOf 1 = .ok (.iload_n 1, 1) := dk_27 (dk_at dksX9_wayOf_0 1 rfl rfl)
theorem dX9_wayOf_2 : decode cX9_wayOf 2 = .ok (.iload_n 2, 1) := dk_28 (dk_at dksX9_wayOf_0 2 rfl rfl)
theorem dX9_wayOf_3 : decode cX9_wayOf 3 = .ok (.iconst 0, 1) := dk_3 (dk_at dksX9_wayOf_0 3 rfl rfl)
theorem dX9_wayOf_4 : decode cX9_wayOf 4 = .ok (.invokevirtual 309, 3) := dk_182 1 53 (dk_at dksX9_wayOf_0 4 rfl rfl)
theorem dX9_wayOf_7 : decode cX9_wayOf 7 = .ok (.istore 5, 2) := dk_54 5 (dk_at dksX9_wayOf_0 7 rfl rfl)
theorem dX9_wayOf_9 : decode cX9_wayOf 9 = .ok (.aload_n 0, 1) := dk_42 (dk_at dksX9_wayOf_0 9 rfl rfl)
theorem dX9_wayOf_10 : decode cX9_wayOf 10 = .ok (.iload_n 1, 1) := dk_27 (dk_at dksX9_wayOf_0 10 rfl rfl)
theorem dX9_wayOf_11 : decode cX9_wayOf 11 = .ok (.iload_n 2, 1) := dk_28 (dk_at dksX9_wayOf_0 11 rfl rfl)
theorem dX9_wayOf_12 : decode cX9_wayOf 12 = .ok (.iconst 1, 1) := dk_4 (dk_at dksX9_wayOf_0 12 rfl rfl)
theorem dX9_wayOf_13 : decode cX9_wayOf 13 = .ok (.invokevirtual 309, 3) := dk_182 1 53 (dk_at dksX9_wayOf_0 13 rfl rfl)
theorem dX9_wayOf_16 : decode cX9_wayOf 16 = .ok (.istore 6, 2) := dk_54 6 (dk_at dksX9_wayOf_0 16 rfl rfl)
theorem dX9_wayOf_18 : decode cX9_wayOf 18 = .ok (.aload_n 0, 1) := dk_42 (dk_at dksX9_wayOf_0 18 rfl rfl)
theorem dX9_wayOf_19 : decode cX9_wayOf 19 = .ok (.getfield 116, 3) := dk_180 0 116 (dk_at dksX9_wayOf_0 19 rfl rfl)
theorem dX9_wayOf_22 : decode cX9_wayOf 22 = .ok (.iconst 3, 1) := dk_6 (dk_at dksX9_wayOf_0 22 rfl rfl)
theorem dX9_wayOf_23 : decode cX9_wayOf 23 = .ok (.if_icmp .ne 77, 3) := dk_160 0 77 (dk_at dksX9_wayOf_1 0 rfl rfl)
theorem dX9_wayOf_26 : decode cX9_wayOf 26 = .ok (.iload 5, 2) := dk_21 5 (dk_at dksX9_wayOf_1 3 rfl rfl)
theorem dX9_wayOf_28 : decode cX9_wayOf 28 = .ok (.ifCond .eq 16, 3) := dk_153 0 16 (dk_at dksX9_wayOf_1 5 rfl rfl)
theorem dX9_wayOf_31 : decode cX9_wayOf 31 = .ok (.aload_n 0, 1) := dk_42 (dk_at dksX9_wayOf_1 8 rfl rfl)
theorem dX9_wayOf_32 : decode cX9_wayOf 32 = .ok (.iload_n 1, 1) := dk_27 (dk_at dksX9_wayOf_1 9 rfl rfl)
theorem dX9_wayOf_33 : decode cX9_wayOf 33 = .ok (.iload_n 2, 1) := dk_28 (dk_at dksX9_wayOf_1 10 rfl rfl)
theorem dX9_wayOf_34 : decode cX9_wayOf 34 = .ok (.iconst 0, 1) := dk_3 (dk_at dksX9_wayOf_1 11 rfl rfl)
theorem dX9_wayOf_35 : decode cX9_wayOf 35 = .ok (.iload_n 3, 1) := dk_29 (dk_at dksX9_wayOf_1 12 rfl rfl)
theorem dX9_wayOf_36 : decode cX9_wayOf 36 = .ok (.iload 4, 2) := dk_21 4 (dk_at dksX9_wayOf_1 13 rfl rfl)
theorem dX9_wayOf_38 : decode cX9_wayOf 38 = .ok (.invokevirtual 374, 3) := dk_182 1 118 (dk_at dksX9_wayOf_1 15 rfl rfl)
theorem dX9_wayOf_41 : decode cX9_wayOf 41 = .ok (.goto 4, 3) := dk_167 0 4 (dk_at dksX9_wayOf_1 18 rfl rfl)
theorem dX9_wayOf_44 : decode cX9_wayOf 44 = .ok (.iconst (-1), 1) := dk_2 (dk_at dksX9_wayOf_1 21 rfl rfl)
theorem dX9_wayOf_45 : decode cX9_wayOf 45 = .ok (.istore 7, 2) := dk_54 7 (dk_at dksX9_wayOf_1 22 rfl rfl)
theorem dX9_wayOf_47 : decode cX9_wayOf 47 = .ok (.iload 6, 2) := dk_21 6 (dk_at dksX9_wayOf_2 0 rfl rfl)
theorem dX9_wayOf_49 : decode cX9_wayOf 49 = .ok (.ifCond .eq 16, 3) := dk_153 0 16 (dk_at dksX9_wayOf_2 2 rfl rfl)
theorem dX9_wayOf_52 : decode cX9_wayOf 52 = .ok (.aload_n 0, 1) := dk_42 (dk_at dksX9_wayOf_2 5 rfl rfl)
theorem dX9_wayOf_53 : decode cX9_wayOf 53 = .ok (.iload_n 1, 1) := dk_27 (dk_at dksX9_wayOf_2 6 rfl rfl)
theorem dX9_wayOf_54 : decode cX9_wayOf 54 = .ok (.iload_n 2, 1) := dk_28 (dk_at dksX9_wayOf_2 7 rfl rfl)
theorem dX9_wayOf_55 : decode cX9_wayOf 55 = .ok (.iconst 1, 1) := dk_4 (dk_at dksX9_wayOf_2 8 rfl rfl)
theorem dX9_wayOf_56 : decode cX9_wayOf 56 = .ok (.iload_n 3, 1) := dk_29 (dk_at dksX9_wayOf_2 9 rfl rfl)
theorem dX9_wayOf_57 : decode cX9_wayOf 57 = .ok (.iload 4, 2) := dk_21 4 (dk_at dksX9_wayOf_2 10 rfl rfl)
theorem dX9_wayOf_59 : decode cX9_wayOf 59 = .ok (.invokevirtual 374, 3) := dk_182 1 118 (dk_at dksX9_wayOf_2 12 rfl rfl)
theorem dX9_wayOf_62 : decode cX9_wayOf 62 = .ok (.goto 4, 3) := dk_167 0 4 (dk_at dksX9_wayOf_2 15 rfl rfl)
theorem dX9_wayOf_65 : decode cX9_wayOf 65 = .ok (.iconst (-1), 1) := dk_2 (dk_at dksX9_wayOf_2 18 rfl rfl)
theorem dX9_wayOf_66 : decode cX9_wayOf 66 = .ok (.istore 8, 2) := dk_54 8 (dk_at dksX9_wayOf_2 19 rfl rfl)
theorem dX9_wayOf_68 : decode cX9_wayOf 68 = .ok (.iload 7, 2) := dk_21 7 (dk_at dksX9_wayOf_2 21 rfl rfl)
theorem dX9_wayOf_70 : decode cX9_wayOf 70 = .ok (.ifCond .lt 19, 3) := dk_155 0 19 (dk_at dksX9_wayOf_3 0 rfl rfl)
theorem dX9_wayOf_73 : decode cX9_wayOf 73 = .ok (.iload 8, 2) := dk_21 8 (dk_at dksX9_wayOf_3 3 rfl rfl)
theorem dX9_wayOf_75 : decode cX9_wayOf 75 = .ok (.ifCond .lt 10, 3) := dk_155 0 10 (dk_at dksX9_wayOf_3 5 rfl rfl)
theorem dX9_wayOf_78 : decode cX9_wayOf 78 = .ok (.iload 7, 2) := dk_21 7 (dk_at dksX9_wayOf_3 8 rfl rfl)
theorem dX9_wayOf_80 : decode cX9_wayOf 80 = .ok (.iload 8, 2) := dk_21 8 (dk_at dksX9_wayOf_3 10 rfl rfl)
theorem dX9_wayOf_82 : decode cX9_wayOf 82 = .ok (.if_icmp .gt 7, 3) := dk_163 0 7 (dk_at dksX9_wayOf_3 12 rfl rfl)
theorem dX9_wayOf_85 : decode cX9_wayOf 85 = .ok (.iconst 0, 1) := dk_3 (dk_at dksX9_wayOf_3 15 rfl rfl)
theorem dX9_wayOf_86 : decode cX9_wayOf 86 = .ok (.goto 13, 3) := dk_167 0 13 (dk_at dksX9_wayOf_3 16 rfl rfl)
theorem dX9_wayOf_89 : decode cX9_wayOf 89 = .ok (.iload 8, 2) := dk_21 8 (dk_at dksX9_wayOf_3 19 rfl rfl)
theorem dX9_wayOf_91 : decode cX9_wayOf 91 = .ok (.ifCond .lt 7, 3) := dk_155 0 7 (dk_at dksX9_wayOf_3 21 rfl rfl)
theorem dX9_wayOf_94 : decode cX9_wayOf 94 = .ok (.iconst 1, 1) := dk_4 (dk_at dksX9_wayOf_4 0 rfl rfl)
theorem dX9_wayOf_95 : decode cX9_wayOf 95 = .ok (.goto 4, 3) := dk_167 0 4 (dk_at dksX9_wayOf_4 1 rfl rfl)
theorem dX9_wayOf_98 : decode cX9_wayOf 98 = .ok (.iconst (-1), 1) := dk_2 (dk_at dksX9_wayOf_4 4 rfl rfl)
theorem dX9_wayOf_99 : decode cX9_wayOf 99 = .ok (.ireturn, 1) := dk_172 (dk_at dksX9_wayOf_4 5 rfl rfl)
theorem dX9_wayOf_100 : decode cX9_wayOf 100 = .ok (.iload 5, 2) := dk_21 5 (dk_at dksX9_wayOf_4 6 rfl rfl)
theorem dX9_wayOf_102 : decode cX9_wayOf 102 = .ok (.ifCond .eq 8, 3) := dk_153 0 8 (dk_at dksX9_wayOf_4 8 rfl rfl)
theorem dX9_wayOf_105 : decode cX9_wayOf 105 = .ok (.iload 6, 2) := dk_21 6 (dk_at dksX9_wayOf_4 11 rfl rfl)
theorem dX9_wayOf_107 : decode cX9_wayOf 107 = .ok (.ifCond .ne 23, 3) := dk_154 0 23 (dk_at dksX9_wayOf_4 13 rfl rfl)
theorem dX9_wayOf_110 : decode cX9_wayOf 110 = .ok (.iload 5, 2) := dk_21 5 (dk_at dksX9_wayOf_4 16 rfl rfl)
theorem dX9_wayOf_112 : decode cX9_wayOf 112 = .ok (.ifCond .eq 7, 3) := dk_153 0 7 (dk_at dksX9_wayOf_4 18 rfl rfl)
theorem dX9_wayOf_115 : decode cX9_wayOf 115 = .ok (.iconst 0, 1) := dk_3 (dk_at dksX9_wayOf_4 21 rfl rfl)
theorem dX9_wayOf_116 : decode cX9_wayOf 116 = .ok (.goto 13, 3) := dk_167 0 13 (dk_at dksX9_wayOf_5 0 rfl rfl)
theorem dX9_wayOf_119 : decode cX9_wayOf 119 = .ok (.iload 6, 2) := dk_21 6 (dk_at dksX9_wayOf_5 3 rfl rfl)
theorem dX9_wayOf_121 : decode cX9_wayOf 121 = .ok (.ifCond .eq 7, 3) := dk_153 0 7 (dk_at dksX9_wayOf_5 5 rfl rfl)
theorem dX9_wayOf_124 : decode cX9_wayOf 124 = .ok (.iconst 1, 1) := dk_4 (dk_at dksX9_wayOf_5 8 rfl rfl)
theorem dX9_wayOf_125 : decode cX9_wayOf 125 = .ok (.goto 4, 3) := dk_167 0 4 (dk_at dksX9_wayOf_5 9 rfl rfl)
theorem dX9_wayOf_128 : decode cX9_wayOf 128 = .ok (.iconst (-1), 1) := dk_2 (dk_at dksX9_wayOf_5 12 rfl rfl)
theorem dX9_wayOf_129 : decode cX9_wayOf 129 = .ok (.ireturn, 1) := dk_172 (dk_at dksX9_wayOf_5 13 rfl rfl)
theorem dX9_wayOf_130 : decode cX9_wayOf 130 = .ok (.aload_n 0, 1) := dk_42 (dk_at dksX9_wayOf_5 14 rfl rfl)
theorem dX9_wayOf_131 : decode cX9_wayOf 131 = .ok (.iload_n 1, 1) := dk_27 (dk_at dksX9_wayOf_5 15 rfl rfl)
theorem dX9_wayOf_132 : decode cX9_wayOf 132 = .ok (.iload_n 2, 1) := dk_28 (dk_at dksX9_wayOf_5 16 rfl rfl)
theorem dX9_wayOf_133 : decode cX9_wayOf 133 = .ok (.iconst 0, 1) := dk_3 (dk_at dksX9_wayOf_5 17 rfl rfl)
theorem dX9_wayOf_134 : decode cX9_wayOf 134 = .ok (.iload 4, 2) := dk_21 4 (dk_at dksX9_wayOf_5 18 rfl rfl)
theorem dX9_wayOf_136 : decode cX9_wayOf 136 = .ok (.invokevirtual 315, 3) := dk_182 1 59 (dk_at dksX9_wayOf_5 20 rfl rfl)
theorem dX9_wayOf_139 : decode cX9_wayOf 139 = .ok (.istore 7, 2) := dk_54 7 (dk_at dksX9_wayOf_6 0 rfl rfl)
theorem dX9_wayOf_141 : decode cX9_wayOf 141 = .ok (.aload_n 0, 1) := dk_42 (dk_at dksX9_wayOf_6 2 rfl rfl)
theorem dX9_wayOf_142 : decode cX9_wayOf 142 = .ok (.iload_n 1, 1) := dk_27 (dk_at dksX9_wayOf_6 3 rfl rfl)
theorem dX9_wayOf_143 : decode cX9_wayOf 143 = .ok (.iload_n 2, 1) := dk_28 (dk_at dksX9_wayOf_6 4 rfl rfl)
theorem dX9_wayOf_144 : decode cX9_wayOf 144 = .ok (.iconst 1, 1) := dk_4 (dk_at dksX9_wayOf_6 5 rfl rfl)
theorem dX9_wayOf_145 : decode cX9_wayOf 145 = .ok (.iload 4, 2) := dk_21 4 (dk_at dksX9_wayOf_6 6 rfl rfl)
theorem dX9_wayOf_147 : decode cX9_wayOf 147 = .ok (.invokevirtual 315, 3) := dk_182 1 59 (dk_at dksX9_wayOf_6 8 rfl rfl)
theorem dX9_wayOf_150 : decode cX9_wayOf 150 = .ok (.istore 8, 2) := dk_54 8 (dk_at dksX9_wayOf_6 11 rfl rfl)
theorem dX9_wayOf_152 : decode cX9_wayOf 152 = .ok (.aload_n 0, 1) := dk_42 (dk_at dksX9_wayOf_6 13 rfl rfl)
theorem dX9_wayOf_153 : decode cX9_wayOf 153 = .ok (.getfield 116, 3) := dk_180 0 116 (dk_at dksX9_wayOf_6 14 rfl rfl)
theorem dX9_wayOf_156 : decode cX9_wayOf 156 = .ok (.iconst 3, 1) := dk_6 (dk_at dksX9_wayOf_6 17 rfl rfl)
theorem dX9_wayOf_157 : decode cX9_wayOf 157 = .ok (.if_icmp .ge 31, 3) := dk_162 0 31 (dk_at dksX9_wayOf_6 18 rfl rfl)
theorem dX9_wayOf_160 : decode cX9_wayOf 160 = .ok (.aload_n 0, 1) := dk_42 (dk_at dksX9_wayOf_6 21 rfl rfl)
theorem dX9_wayOf_161 : decode cX9_wayOf 161 = .ok (.getfield 116, 3) := dk_180 0 116 (dk_at dksX9_wayOf_7 0 rfl rfl)
theorem dX9_wayOf_164 : decode cX9_wayOf 164 = .ok (.iconst 2, 1) := dk_5 (dk_at dksX9_wayOf_7 3 rfl rfl)
theorem dX9_wayOf_165 : decode cX9_wayOf 165 = .ok (.if_icmp .ge 10, 3) := dk_162 0 10 (dk_at dksX9_wayOf_7 4 rfl rfl)
theorem dX9_wayOf_168 : decode cX9_wayOf 168 = .ok (.aload_n 0, 1) := dk_42 (dk_at dksX9_wayOf_7 7 rfl rfl)
theorem dX9_wayOf_169 : decode cX9_wayOf 169 = .ok (.getfield 116, 3) := dk_180 0 116 (dk_at dksX9_wayOf_7 8 rfl rfl)
theorem dX9_wayOf_172 : decode cX9_wayOf 172 = .ok (.goto 15, 3) := dk_167 0 15 (dk_at dksX9_wayOf_7 11 rfl rfl)
theorem dX9_wayOf_175 : decode cX9_wayOf 175 = .ok (.iload 7, 2) := dk_21 7 (dk_at dksX9_wayOf_7 14 rfl rfl)
theorem dX9_wayOf_177 : decode cX9_wayOf 177 = .ok (.iload 8, 2) := dk_21 8 (dk_at dksX9_wayOf_7 16 rfl rfl)
theorem dX9_wayOf_179 : decode cX9_wayOf 179 = .ok (.if_icmp .gt 7, 3) := dk_163 0 7 (dk_at dksX9_wayOf_7 18 rfl rfl)
theorem dX9_wayOf_182 : decode cX9_wayOf 182 = .ok (.iconst 0, 1) := dk_3 (dk_at dksX9_wayOf_7 21 rfl rfl)
theorem dX9_wayOf_183 : decode cX9_wayOf 183 = .ok (.goto 4, 3) := dk_167 0 4 (dk_at dksX9_wayOf_8 0 rfl rfl)
theorem dX9_wayOf_186 : decode cX9_wayOf 186 = .ok (.iconst 1, 1) := dk_4 (dk_at dksX9_wayOf_8 3 rfl rfl)
theorem dX9_wayOf_187 : decode cX9_wayOf 187 = .ok (.ireturn, 1) := dk_172 (dk_at dksX9_wayOf_8 4 rfl rfl)
theorem dX9_wayOf_188 : decode cX9_wayOf 188 = .ok (.aload_n 0, 1) := dk_42 (dk_at dksX9_wayOf_8 5 rfl rfl)
theorem dX9_wayOf_189 : decode cX9_wayOf 189 = .ok (.getfield 96, 3) := dk_180 0 96 (dk_at dksX9_wayOf_8 6 rfl rfl)
theorem dX9_wayOf_192 : decode cX9_wayOf 192 = .ok (.iconst 0, 1) := dk_3 (dk_at dksX9_wayOf_8 9 rfl rfl)
theorem dX9_wayOf_193 : decode cX9_wayOf 193 = .ok (.iload 7, 2) := dk_21 7 (dk_at dksX9_wayOf_8 10 rfl rfl)
theorem dX9_wayOf_195 : decode cX9_wayOf 195 = .ok (.iastore, 1) := dk_79 (dk_at dksX9_wayOf_8 12 rfl rfl)
theorem dX9_wayOf_196 : decode cX9_wayOf 196 = .ok (.aload_n 0, 1) := dk_42 (dk_at dksX9_wayOf_8 13 rfl rfl)
theorem dX9_wayOf_197 : decode cX9_wayOf 197 = .ok (.getfield 96, 3) := dk_180 0 96 (dk_at dksX9_wayOf_8 14 rfl rfl)
theorem dX9_wayOf_200 : decode cX9_wayOf 200 = .ok (.iconst 1, 1) := dk_4 (dk_at dksX9_wayOf_8 17 rfl rfl)
theorem dX9_wayOf_201 : decode cX9_wayOf 201 = .ok (.iload 8, 2) := dk_21 8 (dk_at dksX9_wayOf_8 18 rfl rfl)
theorem dX9_wayOf_203 : decode cX9_wayOf 203 = .ok (.iastore, 1) := dk_79 (dk_at dksX9_wayOf_8 20 rfl rfl)
theorem dX9_wayOf_204 : decode cX9_wayOf 204 = .ok (.aload_n 0, 1) := dk_42 (dk_at dksX9_wayOf_8 21 rfl rfl)
theorem dX9_wayOf_205 : decode cX9_wayOf 205 = .ok (.getfield 96, 3) := dk_180 0 96 (dk_at dksX9_wayOf_9 0 rfl rfl)
theorem dX9_wayOf_208 : decode cX9_wayOf 208 = .ok (.iconst 2, 1) := dk_5 (dk_at dksX9_wayOf_9 3 rfl rfl)
theorem dX9_wayOf_209 : decode cX9_wayOf 209 = .ok (.aload_n 0, 1) := dk_42 (dk_at dksX9_wayOf_9 4 rfl rfl)
theorem dX9_wayOf_210 : decode cX9_wayOf 210 = .ok (.invokevirtual 275, 3) := dk_182 1 19 (dk_at dksX9_wayOf_9 5 rfl rfl)
theorem dX9_wayOf_213 : decode cX9_wayOf 213 = .ok (.iconst 1, 1) := dk_4 (dk_at dksX9_wayOf_9 8 rfl rfl)
theorem dX9_wayOf_214 : decode cX9_wayOf 214 = .ok (.isub, 1) := dk_100 (dk_at dksX9_wayOf_9 9 rfl rfl)
theorem dX9_wayOf_215 : decode cX9_wayOf 215 = .ok (.iload_n 1, 1) := dk_27 (dk_at dksX9_wayOf_9 10 rfl rfl)
theorem dX9_wayOf_216 : decode cX9_wayOf 216 = .ok (.isub, 1) := dk_100 (dk_at dksX9_wayOf_9 11 rfl rfl)
theorem dX9_wayOf_217 : decode cX9_wayOf 217 = .ok (.iastore, 1) := dk_79 (dk_at dksX9_wayOf_9 12 rfl rfl)
theorem dX9_wayOf_218 : decode cX9_wayOf 218 = .ok (.aload_n 0, 1) := dk_42 (dk_at dksX9_wayOf_9 13 rfl rfl)
theorem dX9_wayOf_219 : decode cX9_wayOf 219 = .ok (.getfield 96, 3) := dk_180 0 96 (dk_at dksX9_wayOf_9 14 rfl rfl)
theorem dX9_wayOf_222 : decode cX9_wayOf 222 = .ok (.iconst 3, 1) := dk_6 (dk_at dksX9_wayOf_9 17 rfl rfl)
theorem dX9_wayOf_223 : decode cX9_wayOf 223 = .ok (.aload_n 0, 1) := dk_42 (dk_at dksX9_wayOf_9 18 rfl rfl)
theorem dX9_wayOf_224 : decode cX9_wayOf 224 = .ok (.invokevirtual 279, 3) := dk_182 1 23 (dk_at dksX9_wayOf_9 19 rfl rfl)
theorem dX9_wayOf_227 : decode cX9_wayOf 227 = .ok (.iconst 1, 1) := dk_4 (dk_at dksX9_wayOf_9 22 rfl rfl)
theorem dX9_wayOf_228 : decode cX9_wayOf 228 = .ok (.isub, 1) := dk_100 (dk_at dksX9_wayOf_9 23 rfl rfl)
theorem dX9_wayOf_229 : decode cX9_wayOf 229 = .ok (.iload_n 2, 1) := dk_28 (dk_at dksX9_wayOf_10 0 rfl rfl)
theorem dX9_wayOf_230 : decode cX9_wayOf 230 = .ok (.isub, 1) := dk_100 (dk_at dksX9_wayOf_10 1 rfl rfl)
theorem dX9_wayOf_231 : decode cX9_wayOf 231 = .ok (.iastore, 1) := dk_79 (dk_at dksX9_wayOf_10 2 rfl rfl)
theorem dX9_wayOf_232 : decode cX9_wayOf 232 = .ok (.aload_n 0, 1) := dk_42 (dk_at dksX9_wayOf_10 3 rfl rfl)
theorem dX9_wayOf_233 : decode cX9_wayOf 233 = .ok (.aload_n 0, 1) := dk_42 (dk_at dksX9_wayOf_10 4 rfl rfl)
theorem dX9_wayOf_234 : decode cX9_wayOf 234 = .ok (.getfield 81, 3) := dk_180 0 81 (dk_at dksX9_wayOf_10 5 rfl rfl)
theorem dX9_wayOf_237 : decode cX9_wayOf 237 = .ok (.sipush 280, 3) := dk_17 1 24 (dk_at dksX9_wayOf_10 8 rfl rfl)
theorem dX9_wayOf_240 : decode cX9_wayOf 240 = .ok (.aload_n 0, 1) := dk_42 (dk_at dksX9_wayOf_10 11 rfl rfl)
theorem dX9_wayOf_241 : decode cX9_wayOf 241 = .ok (.getfield 116, 3) := dk_180 0 116 (dk_at dksX9_wayOf_10 12 rfl rfl)
theorem dX9_wayOf_244 : decode cX9_wayOf 244 = .ok (.iadd, 1) := dk_96 (dk_at dksX9_wayOf_10 15 rfl rfl)
theorem dX9_wayOf_245 : decode cX9_wayOf 245 = .ok (.iconst 4, 1) := dk_7 (dk_at dksX9_wayOf_10 16 rfl rfl)
theorem dX9_wayOf_246 : decode cX9_wayOf 246 = .ok (.isub, 1) := dk_100 (dk_at dksX9_wayOf_10 17 rfl rfl)
theorem dX9_wayOf_247 : decode cX9_wayOf 247 = .ok (.iaload, 1) := dk_46 (dk_at dksX9_wayOf_10 18 rfl rfl)
theorem dX9_wayOf_248 : decode cX9_wayOf 248 = .ok (.invokevirtual 380, 3) := dk_182 1 124 (dk_at dksX9_wayOf_10 19 rfl rfl)
theorem dX9_wayOf_251 : decode cX9_wayOf 251 = .ok (.ifCond .eq 7, 3) := dk_153 0 7 (dk_at dksX9_wayOf_11 0 rfl rfl)
theorem dX9_wayOf_254 : decode cX9_wayOf 254 = .ok (.iconst 0, 1) := dk_3 (dk_at dksX9_wayOf_11 3 rfl rfl)
theorem dX9_wayOf_255 : decode cX9_wayOf 255 = .ok (.goto 4, 3) := dk_167 0 4 (dk_at dksX9_wayOf_11 4 rfl rfl)
theorem dX9_wayOf_258 : decode cX9_wayOf 258 = .ok (.iconst 1, 1) := dk_4 (dk_at dksX9_wayOf_11 7 rfl rfl)
theorem dX9_wayOf_259 : decode cX9_wayOf 259 = .ok (.ireturn, 1) := dk_172 (dk_at dksX9_wayOf_11 8 rfl rfl)
abbrev cX9_worthBy : ByteArray := prog_23_method_78_code
def yX9_worthBy : MethodName := ⟨RX9, "worthBy", "(IIIII)I"⟩
def dkwX9_worthBy_2 : List UInt8 := [42, 180, 1, 93, 153, 0, 8, 21, 6, 167, 0, 9, 17, 3, 232, 21, 6, 104, 96, 172]
abbrev dktX9_worthBy_2 : List UInt8 := dkwX9_worthBy_2 ++ []
def dkwX9_worthBy_1 : List UInt8 := [28, 29, 96, 21, 4, 21, 6, 96, 182, 1, 121, 54, 7, 21, 7, 156, 0, 7, 2, 167, 0, 24, 21, 7]
abbrev dktX9_worthBy_1 : List UInt8 := dkwX9_worthBy_1 ++ dktX9_worthBy_2
def dkwX9_worthBy_0 : List UInt8 := [42, 27, 28, 29, 21, 5, 182, 1, 59, 42, 180, 0, 81, 5, 46, 96, 54, 6, 42, 27, 4, 96, 29, 100]
abbrev dktX9_worthBy_0 : List UInt8 := dkwX9_worthBy_0 ++ dktX9_worthBy_1
theorem dksX9_worthBy_0 : cX9_worthBy.data.toList.drop 0 = dktX9_worthBy_0 := by decide +kernel
theorem dksX9_worthBy_1 : cX9_worthBy.data.toList.drop 24 = dktX9_worthBy_1 := dk_seg dksX9_worthBy_0 24 rfl rfl
theorem dksX9_worthBy_2 : cX9_worthBy.data.toList.drop 48 = dktX9_worthBy_2 := dk_seg dksX9_worthBy_1 24 rfl rfl
theorem dX9_worthBy_0 : decode cX9_worthBy 0 = .ok (.aload_n 0, 1) := dk_42 (dk_at dksX9_worthBy_0 0 rfl rfl)
theorem dX9_worthBy_1 : decode cX9_worthBy 1 = .ok (.iload_n 1, 1) := dk_27 (dk_at dksX9_worthBy_0 1 rfl rfl)
theorem dX9_worthBy_2 : decode cX9_worthBy 2 = .ok (.iload_n 2, 1) := dk_28 (dk_at dksX9_worthBy_0 2 rfl rfl)
theorem dX9_worthBy_3 : decode cX9_worthBy 3 = .ok (.iload_n 3, 1) := dk_29 (dk_at dksX9_worthBy_0 3 rfl rfl)
theorem dX9_worthBy_4 : decode cX9_worthBy 4 = .ok (.iload 5, 2) := dk_21 5 (dk_at dksX9_worthBy_0 4 rfl rfl)
theorem dX9_worthBy_6 : decode cX9_worthBy 6 = .ok (.invokevirtual 315, 3) := dk_182 1 59 (dk_at dksX9_worthBy_0 6 rfl rfl)
theorem dX9_worthBy_9 : decode cX9_worthBy 9 = .ok (.aload_n 0, 1) := dk_42 (dk_at dksX9_worthBy_0 9 rfl rfl)
theorem dX9_worthBy_10 : decode cX9_worthBy 10 = .ok (.getfield 81, 3) := dk_180 0 81 (dk_at dksX9_worthBy_0 10 rfl rfl)
theorem dX9_worthBy_13 : decode cX9_worthBy 13 = .ok (.iconst 2, 1) := dk_5 (dk_at dksX9_worthBy_0 13 rfl rfl)
theorem dX9_worthBy_14 : decode cX9_worthBy 14 = .ok (.iaload, 1) := dk_46 (dk_at dksX9_worthBy_0 14 rfl rfl)
theorem dX9_worthBy_15 : decode cX9_worthBy 15 = .ok (.iadd, 1) := dk_96 (dk_at dksX9_worthBy_0 15 rfl rfl)
theorem dX9_worthBy_16 : decode cX9_worthBy 16 = .ok (.istore 6, 2) := dk_54 6 (dk_at dksX9_worthBy_0 16 rfl rfl)
theorem dX9_worthBy_18 : decode cX9_worthBy 18 = .ok (.aload_n 0, 1) := dk_42 (dk_at dksX9_worthBy_0 18 rfl rfl)
theorem dX9_worthBy_19 : decode cX9_worthBy 19 = .ok (.iload_n 1, 1) := dk_27 (dk_at dksX9_worthBy_0 19 rfl rfl)
theorem dX9_worthBy_20 : decode cX9_worthBy 20 = .ok (.iconst 1, 1) := dk_4 (dk_at dksX9_worthBy_0 20 rfl rfl)
theorem dX9_worthBy_21 : decode cX9_worthBy 21 = .ok (.iadd, 1) := dk_96 (dk_at dksX9_worthBy_0 21 rfl rfl)
theorem dX9_worthBy_22 : decode cX9_worthBy 22 = .ok (.iload_n 3, 1) := dk_29 (dk_at dksX9_worthBy_0 22 rfl rfl)
theorem dX9_worthBy_23 : decode cX9_worthBy 23 = .ok (.isub, 1) := dk_100 (dk_at dksX9_worthBy_0 23 rfl rfl)
theorem dX9_worthBy_24 : decode cX9_worthBy 24 = .ok (.iload_n 2, 1) := dk_28 (dk_at dksX9_worthBy_1 0 rfl rfl)
theorem dX9_worthBy_25 : decode cX9_worthBy 25 = .ok (.iload_n 3, 1) := dk_29 (dk_at dksX9_worthBy_1 1 rfl rfl)
theorem dX9_worthBy_26 : decode cX9_worthBy 26 = .ok (.iadd, 1) := dk_96 (dk_at dksX9_worthBy_1 2 rfl rfl)
theorem dX9_worthBy_27 : decode cX9_worthBy 27 = .ok (.iload 4, 2) := dk_21 4 (dk_at dksX9_worthBy_1 3 rfl rfl)
theorem dX9_worthBy_29 : decode cX9_worthBy 29 = .ok (.iload 6, 2) := dk_21 6 (dk_at dksX9_worthBy_1 5 rfl rfl)
theorem dX9_worthBy_31 : decode cX9_worthBy 31 = .ok (.iadd, 1) := dk_96 (dk_at dksX9_worthBy_1 7 rfl rfl)
theorem dX9_worthBy_32 : decode cX9_worthBy 32 = .ok (.invokevirtual 377, 3) := dk_182 1 121 (dk_at dksX9_worthBy_1 8 rfl rfl)
theorem dX9_worthBy_35 : decode cX9_worthBy 35 = .ok (.istore 7, 2) := dk_54 7 (dk_at dksX9_worthBy_1 11 rfl rfl)
theorem dX9_worthBy_37 : decode cX9_worthBy 37 = .ok (.iload 7, 2) := dk_21 7 (dk_at dksX9_worthBy_1 13 rfl rfl)
theorem dX9_worthBy_39 : decode cX9_worthBy 39 = .ok (.ifCond .ge 7, 3) := dk_156 0 7 (dk_at dksX9_worthBy_1 15 rfl rfl)
theorem dX9_worthBy_42 : decode cX9_worthBy 42 = .ok (.iconst (-1), 1) := dk_2 (dk_at dksX9_worthBy_1 18 rfl rfl)
theorem dX9_worthBy_43 : decode cX9_worthBy 43 = .ok (.goto 24, 3) := dk_167 0 24 (dk_at dksX9_worthBy_1 19 rfl rfl)
theorem dX9_worthBy_46 : decode cX9_worthBy 46 = .ok (.iload 7, 2) := dk_21 7 (dk_at dksX9_worthBy_1 22 rfl rfl)
theorem dX9_worthBy_48 : decode cX9_worthBy 48 = .ok (.aload_n 0, 1) := dk_42 (dk_at dksX9_worthBy_2 0 rfl rfl)
theorem dX9_worthBy_49 : decode cX9_worthBy 49 = .ok (.getfield 349, 3) := dk_180 1 93 (dk_at dksX9_worthBy_2 1 rfl rfl)
theorem dX9_worthBy_52 : decode cX9_worthBy 52 = .ok (.ifCond .eq 8, 3) := dk_153 0 8 (dk_at dksX9_worthBy_2 4 rfl rfl)
theorem dX9_worthBy_55 : decode cX9_worthBy 55 = .ok (.iload 6, 2) := dk_21 6 (dk_at dksX9_worthBy_2 7 rfl rfl)
theorem dX9_worthBy_57 : decode cX9_worthBy 57 = .ok (.goto 9, 3) := dk_167 0 9 (dk_at dksX9_worthBy_2 9 rfl rfl)
theorem dX9_worthBy_60 : decode cX9_worthBy 60 = .ok (.sipush 1000, 3) := dk_17 3 232 (dk_at dksX9_worthBy_2 12 rfl rfl)
theorem dX9_worthBy_63 : decode cX9_worthBy 63 = .ok (.iload 6, 2) := dk_21 6 (dk_at dksX9_worthBy_2 15 rfl rfl)
theorem dX9_worthBy_65 : decode cX9_worthBy 65 = .ok (.imul, 1) := dk_104 (dk_at dksX9_worthBy_2 17 rfl rfl)
theorem dX9_worthBy_66 : decode cX9_worthBy 66 = .ok (.iadd, 1) := dk_96 (dk_at dksX9_worthBy_2 18 rfl rfl)
theorem dX9_worthBy_67 : decode cX9_worthBy 67 = .ok (.ireturn, 1) := dk_172 (dk_at dksX9_worthBy_2 19 rfl rfl)
abbrev cX9_worthAt : ByteArray := prog_23_method_37_code
def yX9_worthAt : MethodName := ⟨RX9, "worthAt", "(I)I"⟩
def dkwX9_worthAt_6 : List UInt8 := [180, 0, 99, 3, 46, 172]
abbrev dktX9_worthAt_6 : List UInt8 := dkwX9_worthAt_6 ++ []
def dkwX9_worthAt_5 : List UInt8 := [180, 0, 99, 28, 4, 100, 46, 42, 180, 0, 99, 28, 46, 184, 1, 16, 79, 132, 3, 1, 167, 255, 123, 42]
abbrev dktX9_worthAt_5 : List UInt8 := dkwX9_worthAt_5 ++ dktX9_worthAt_6
def dkwX9_worthAt_4 : List UInt8 := [4, 167, 0, 4, 3, 79, 167, 0, 33, 132, 2, 255, 42, 180, 0, 99, 28, 4, 100, 21, 4, 42]
abbrev dktX9_worthAt_4 : List UInt8 := dkwX9_worthAt_4 ++ dktX9_worthAt_5
def dkwX9_worthAt_3 : List UInt8 := [21, 4, 6, 160, 0, 30, 42, 180, 0, 99, 28, 4, 100, 42, 180, 0, 99, 28, 4, 100, 46, 154, 0, 7]
abbrev dktX9_worthAt_3 : List UInt8 := dkwX9_worthAt_3 ++ dktX9_worthAt_4
def dkwX9_worthAt_2 : List UInt8 := [29, 46, 167, 0, 14, 42, 180, 0, 96, 42, 180, 0, 87, 29, 46, 46, 79, 132, 2, 1, 167, 0, 66]
abbrev dktX9_worthAt_2 : List UInt8 := dkwX9_worthAt_2 ++ dktX9_worthAt_3
def dkwX9_worthAt_1 : List UInt8 := [159, 0, 9, 21, 4, 5, 160, 0, 41, 42, 180, 0, 99, 28, 21, 4, 4, 160, 0, 12, 42, 180, 0, 87]
abbrev dktX9_worthAt_1 : List UInt8 := dkwX9_worthAt_1 ++ dktX9_worthAt_2
def dkwX9_worthAt_0 : List UInt8 := [3, 61, 27, 62, 42, 180, 0, 84, 29, 46, 153, 0, 130, 42, 180, 0, 84, 29, 46, 54, 4, 21, 4, 4]
abbrev dktX9_worthAt_0 : List UInt8 := dkwX9_worthAt_0 ++ dktX9_worthAt_1
theorem dksX9_worthAt_0 : cX9_worthAt.data.toList.drop 0 = dktX9_worthAt_0 := by decide +kernel
theorem dksX9_worthAt_1 : cX9_worthAt.data.toList.drop 24 = dktX9_worthAt_1 := dk_seg dksX9_worthAt_0 24 rfl rfl
theorem dksX9_worthAt_2 : cX9_worthAt.data.toList.drop 48 = dktX9_worthAt_2 := dk_seg dksX9_worthAt_1 24 rfl rfl
theorem dksX9_worthAt_3 : cX9_worthAt.data.toList.drop 71 = dktX9_worthAt_3 := dk_seg dksX9_worthAt_2 23 rfl rfl
theorem dksX9_worthAt_4 : cX9_worthAt.data.toList.drop 95 = dktX9_worthAt_4 := dk_seg dksX9_worthAt_3 24 rfl rfl
theorem dksX9_worthAt_5 : cX9_worthAt.data.toList.drop 117 = dktX9_worthAt_5 := dk_seg dksX9_worthAt_4 22 rfl rfl
theorem dksX9_worthAt_6 : cX9_worthAt.data.toList.drop 141 = dktX9_worthAt_6 := dk_seg dksX9_worthAt_5 24 rfl rfl
theorem dX9_worthAt_0 : decode cX9_worthAt 0 = .ok (.iconst 0, 1) := dk_3 (dk_at dksX9_worthAt_0 0 rfl rfl)
theorem dX9_worthAt_1 : decode cX9_worthAt 1 = .ok (.istore_n 2, 1) := dk_61 (dk_at dksX9_worthAt_0 1 rfl rfl)
theorem dX9_worthAt_2 : decode cX9_worthAt 2 = .ok (.iload_n 1, 1) := dk_27 (dk_at dksX9_worthAt_0 2 rfl rfl)
theorem dX9_worthAt_3 : decode cX9_worthAt 3 = .ok (.istore_n 3, 1) := dk_62 (dk_at dksX9_worthAt_0 3 rfl rfl)
theorem dX9_worthAt_4 : decode cX9_worthAt 4 = .ok (.aload_n 0, 1) := dk_42 (dk_at dksX9_worthAt_0 4 rfl rfl)
theorem dX9_worthAt_5 : decode cX9_worthAt 5 = .ok (.getfield 84, 3) := dk_180 0 84 (dk_at dksX9_worthAt_0 5 rfl rfl)
theorem dX9_worthAt_8 : decode cX9_worthAt 8 = .ok (.iload_n 3, 1) := dk_29 (dk_at dksX9_worthAt_0 8 rfl rfl)
theorem dX9_worthAt_9 : decode cX9_worthAt 9 = .ok (.iaload, 1) := dk_46 (dk_at dksX9_worthAt_0 9 rfl rfl)
theorem dX9_worthAt_10 : decode cX9_worthAt 10 = .ok (.ifCond .eq 130, 3) := dk_153 0 130 (dk_at dksX9_worthAt_0 10 rfl rfl)
theorem dX9_worthAt_13 : decode cX9_worthAt 13 = .ok (.aload_n 0, 1) := dk_42 (dk_at dksX9_worthAt_0 13 rfl rfl)
theorem dX9_worthAt_14 : decode cX9_worthAt 14 = .ok (.getfield 84, 3) := dk_180 0 84 (dk_at dksX9_worthAt_0 14 rfl rfl)
theorem dX9_worthAt_17 : decode cX9_worthAt 17 = .ok (.iload_n 3, 1) := dk_29 (dk_at dksX9_worthAt_0 17 rfl rfl)
theorem dX9_worthAt_18 : decode cX9_worthAt 18 = .ok (.iaload, 1) := dk_46 (dk_at dksX9_worthAt_0 18 rfl rfl)
theorem dX9_worthAt_19 : decode cX9_worthAt 19 = .ok (.istore 4, 2) := dk_54 4 (dk_at dksX9_worthAt_0 19 rfl rfl)
theorem dX9_worthAt_21 : decode cX9_worthAt 21 = .ok (.iload 4, 2) := dk_21 4 (dk_at dksX9_worthAt_0 21 rfl rfl)
theorem dX9_worthAt_23 : decode cX9_worthAt 23 = .ok (.iconst 1, 1) := dk_4 (dk_at dksX9_worthAt_0 23 rfl rfl)
theorem dX9_worthAt_24 : decode cX9_worthAt 24 = .ok (.if_icmp .eq 9, 3) := dk_159 0 9 (dk_at dksX9_worthAt_1 0 rfl rfl)
theorem dX9_worthAt_27 : decode cX9_worthAt 27 = .ok (.iload 4, 2) := dk_21 4 (dk_at dksX9_worthAt_1 3 rfl rfl)
theorem dX9_worthAt_29 : decode cX9_worthAt 29 = .ok (.iconst 2, 1) := dk_5 (dk_at dksX9_worthAt_1 5 rfl rfl)
theorem dX9_worthAt_30 : decode cX9_worthAt 30 = .ok (.if_icmp .ne 41, 3) := dk_160 0 41 (dk_at dksX9_worthAt_1 6 rfl rfl)
theorem dX9_worthAt_33 : decode cX9_worthAt 33 = .ok (.aload_n 0, 1) := dk_42 (dk_at dksX9_worthAt_1 9 rfl rfl)
theorem dX9_worthAt_34 : decode cX9_worthAt 34 = .ok (.getfield 99, 3) := dk_180 0 99 (dk_at dksX9_worthAt_1 10 rfl rfl)
theorem dX9_worthAt_37 : decode cX9_worthAt 37 = .ok (.iload_n 2, 1) := dk_28 (dk_at dksX9_worthAt_1 13 rfl rfl)
theorem dX9_worthAt_38 : decode cX9_worthAt 38 = .ok (.iload 4, 2) := dk_21 4 (dk_at dksX9_worthAt_1 14 rfl rfl)
theorem dX9_worthAt_40 : decode cX9_worthAt 40 = .ok (.iconst 1, 1) := dk_4 (dk_at dksX9_worthAt_1 16 rfl rfl)
theorem dX9_worthAt_41 : decode cX9_worthAt 41 = .ok (.if_icmp .ne 12, 3) := dk_160 0 12 (dk_at dksX9_worthAt_1 17 rfl rfl)
theorem dX9_worthAt_44 : decode cX9_worthAt 44 = .ok (.aload_n 0, 1) := dk_42 (dk_at dksX9_worthAt_1 20 rfl rfl)
theorem dX9_worthAt_45 : decode cX9_worthAt 45 = .ok (.getfield 87, 3) := dk_180 0 87 (dk_at dksX9_worthAt_1 21 rfl rfl)
theorem dX9_worthAt_48 : decode cX9_worthAt 48 = .ok (.iload_n 3, 1) := dk_29 (dk_at dksX9_worthAt_2 0 rfl rfl)
theorem dX9_worthAt_49 : decode cX9_worthAt 49 = .ok (.iaload, 1) := dk_46 (dk_at dksX9_worthAt_2 1 rfl rfl)
theorem dX9_worthAt_50 : decode cX9_worthAt 50 = .ok (.goto 14, 3) := dk_167 0 14 (dk_at dksX9_worthAt_2 2 rfl rfl)
theorem dX9_worthAt_53 : decode cX9_worthAt 53 = .ok (.aload_n 0, 1) := dk_42 (dk_at dksX9_worthAt_2 5 rfl rfl)
theorem dX9_worthAt_54 : decode cX9_worthAt 54 = .ok (.getfield 96, 3) := dk_180 0 96 (dk_at dksX9_worthAt_2 6 rfl rfl)
theorem dX9_worthAt_57 : decode cX9_worthAt 57 = .ok (.aload_n 0, 1) := dk_42 (dk_at dksX9_worthAt_2 9 rfl rfl)
theorem dX9_worthAt_58 : decode cX9_worthAt 58 = .ok (.getfield 87, 3) := dk_180 0 87 (dk_at dksX9_worthAt_2 10 rfl rfl)
theorem dX9_worthAt_61 : decode cX9_worthAt 61 = .ok (.iload_n 3, 1) := dk_29 (dk_at dksX9_worthAt_2 13 rfl rfl)
theorem dX9_worthAt_62 : decode cX9_worthAt 62 = .ok (.iaload, 1) := dk_46 (dk_at dksX9_worthAt_2 14 rfl rfl)
theorem dX9_worthAt_63 : decode cX9_worthAt 63 = .ok (.iaload, 1) := dk_46 (dk_at dksX9_worthAt_2 15 rfl rfl)
theorem dX9_worthAt_64 : decode cX9_worthAt 64 = .ok (.iastore, 1) := dk_79 (dk_at dksX9_worthAt_2 16 rfl rfl)
theorem dX9_worthAt_65 : decode cX9_worthAt 65 = .ok (.iinc 2 1, 3) := dk_132 2 1 (dk_at dksX9_worthAt_2 17 rfl rfl)
theorem dX9_worthAt_68 : decode cX9_worthAt 68 = .ok (.goto 66, 3) := dk_167 0 66 (dk_at dksX9_worthAt_2 20 rfl rfl)
theorem dX9_worthAt_71 : decode cX9_worthAt 71 = .ok (.iload 4, 2) := dk_21 4 (dk_at dksX9_worthAt_3 0 rfl rfl)
theorem dX9_worthAt_73 : decode cX9_worthAt 73 = .ok (.iconst 3, 1) := dk_6 (dk_at dksX9_worthAt_3 2 rfl rfl)
theorem dX9_worthAt_74 : decode cX9_worthAt 74 = .ok (.if_icmp .ne 30, 3) := dk_160 0 30 (dk_at dksX9_worthAt_3 3 rfl rfl)
theorem dX9_worthAt_77 : decode cX9_worthAt 77 = .ok (.aload_n 0, 1) := dk_42 (dk_at dksX9_worthAt_3 6 rfl rfl)
theorem dX9_worthAt_78 : decode cX9_worthAt 78 = .ok (.getfield 99, 3) := dk_180 0 99 (dk_at dksX9_worthAt_3 7 rfl rfl)
theorem dX9_worthAt_81 : decode cX9_worthAt 81 = .ok (.iload_n 2, 1) := dk_28 (dk_at dksX9_worthAt_3 10 rfl rfl)
theorem dX9_worthAt_82 : decode cX9_worthAt 82 = .ok (.iconst 1, 1) := dk_4 (dk_at dksX9_worthAt_3 11 rfl rfl)
theorem dX9_worthAt_83 : decode cX9_worthAt 83 = .ok (.isub, 1) := dk_100 (dk_at dksX9_worthAt_3 12 rfl rfl)
theorem dX9_worthAt_84 : decode cX9_worthAt 84 = .ok (.aload_n 0, 1) := dk_42 (dk_at dksX9_worthAt_3 13 rfl rfl)
theorem dX9_worthAt_85 : decode cX9_worthAt 85 = .ok (.getfield 99, 3) := dk_180 0 99 (dk_at dksX9_worthAt_3 14 rfl rfl)
theorem dX9_worthAt_88 : decode cX9_worthAt 88 = .ok (.iload_n 2, 1) := dk_28 (dk_at dksX9_worthAt_3 17 rfl rfl)
theorem dX9_worthAt_89 : decode cX9_worthAt 89 = .ok (.iconst 1, 1) := dk_4 (dk_at dksX9_worthAt_3 18 rfl rfl)
theorem dX9_worthAt_90 : decode cX9_worthAt 90 = .ok (.isub, 1) := dk_100 (dk_at dksX9_worthAt_3 19 rfl rfl)
theorem dX9_worthAt_91 : decode cX9_worthAt 91 = .ok (.iaload, 1) := dk_46 (dk_at dksX9_worthAt_3 20 rfl rfl)
theorem dX9_worthAt_92 : decode cX9_worthAt 92 = .ok (.ifCond .ne 7, 3) := dk_154 0 7 (dk_at dksX9_worthAt_3 21 rfl rfl)
theorem dX9_worthAt_95 : decode cX9_worthAt 95 = .ok (.iconst 1, 1) := dk_4 (dk_at dksX9_worthAt_4 0 rfl rfl)
theorem dX9_worthAt_96 : decode cX9_worthAt 96 = .ok (.goto 4, 3) := dk_167 0 4 (dk_at dksX9_worthAt_4 1 rfl rfl)
theorem dX9_worthAt_99 : decode cX9_worthAt 99 = .ok (.iconst 0, 1) := dk_3 (dk_at dksX9_worthAt_4 4 rfl rfl)
theorem dX9_worthAt_100 : decode cX9_worthAt 100 = .ok (.iastore, 1) := dk_79 (dk_at dksX9_worthAt_4 5 rfl rfl)
theorem dX9_worthAt_101 : decode cX9_worthAt 101 = .ok (.goto 33, 3) := dk_167 0 33 (dk_at dksX9_worthAt_4 6 rfl rfl)
theorem dX9_worthAt_104 : decode cX9_worthAt 104 = .ok (.iinc 2 (-1), 3) := dk_132 2 255 (dk_at dksX9_worthAt_4 9 rfl rfl)
theorem dX9_worthAt_107 : decode cX9_worthAt 107 = .ok (.aload_n 0, 1) := dk_42 (dk_at dksX9_worthAt_4 12 rfl rfl)
theorem dX9_worthAt_108 : decode cX9_worthAt 108 = .ok (.getfield 99, 3) := dk_180 0 99 (dk_at dksX9_worthAt_4 13 rfl rfl)
theorem dX9_worthAt_111 : decode cX9_worthAt 111 = .ok (.iload_n 2, 1) := dk_28 (dk_at dksX9_worthAt_4 16 rfl rfl)
theorem dX9_worthAt_112 : decode cX9_worthAt 112 = .ok (.iconst 1, 1) := dk_4 (dk_at dksX9_worthAt_4 17 rfl rfl)
theorem dX9_worthAt_113 : decode cX9_worthAt 113 = .ok (.isub, 1) := dk_100 (dk_at dksX9_worthAt_4 18 rfl rfl)
theorem dX9_worthAt_114 : decode cX9_worthAt 114 = .ok (.iload 4, 2) := dk_21 4 (dk_at dksX9_worthAt_4 19 rfl rfl)
theorem dX9_worthAt_116 : decode cX9_worthAt 116 = .ok (.aload_n 0, 1) := dk_42 (dk_at dksX9_worthAt_4 21 rfl rfl)
theorem dX9_worthAt_117 : decode cX9_worthAt 117 = .ok (.getfield 99, 3) := dk_180 0 99 (dk_at dksX9_worthAt_5 0 rfl rfl)
theorem dX9_worthAt_120 : decode cX9_worthAt 120 = .ok (.iload_n 2, 1) := dk_28 (dk_at dksX9_worthAt_5 3 rfl rfl)
theorem dX9_worthAt_121 : decode cX9_worthAt 121 = .ok (.iconst 1, 1) := dk_4 (dk_at dksX9_worthAt_5 4 rfl rfl)
theorem dX9_worthAt_122 : decode cX9_worthAt 122 = .ok (.isub, 1) := dk_100 (dk_at dksX9_worthAt_5 5 rfl rfl)
theorem dX9_worthAt_123 : decode cX9_worthAt 123 = .ok (.iaload, 1) := dk_46 (dk_at dksX9_worthAt_5 6 rfl rfl)
theorem dX9_worthAt_124 : decode cX9_worthAt 124 = .ok (.aload_n 0, 1) := dk_42 (dk_at dksX9_worthAt_5 7 rfl rfl)
theorem dX9_worthAt_125 : decode cX9_worthAt 125 = .ok (.getfield 99, 3) := dk_180 0 99 (dk_at dksX9_worthAt_5 8 rfl rfl)
theorem dX9_worthAt_128 : decode cX9_worthAt 128 = .ok (.iload_n 2, 1) := dk_28 (dk_at dksX9_worthAt_5 11 rfl rfl)
theorem dX9_worthAt_129 : decode cX9_worthAt 129 = .ok (.iaload, 1) := dk_46 (dk_at dksX9_worthAt_5 12 rfl rfl)
theorem dX9_worthAt_130 : decode cX9_worthAt 130 = .ok (.invokestatic 272, 3) := dk_184 1 16 (dk_at dksX9_worthAt_5 13 rfl rfl)
theorem dX9_worthAt_133 : decode cX9_worthAt 133 = .ok (.iastore, 1) := dk_79 (dk_at dksX9_worthAt_5 16 rfl rfl)
theorem dX9_worthAt_134 : decode cX9_worthAt 134 = .ok (.iinc 3 1, 3) := dk_132 3 1 (dk_at dksX9_worthAt_5 17 rfl rfl)
theorem dX9_worthAt_137 : decode cX9_worthAt 137 = .ok (.goto (-133), 3) := dk_167 255 123 (dk_at dksX9_worthAt_5 20 rfl rfl)
theorem dX9_worthAt_140 : decode cX9_worthAt 140 = .ok (.aload_n 0, 1) := dk_42 (dk_at dksX9_worthAt_5 23 rfl rfl)
theorem dX9_worthAt_141 : decode cX9_worthAt 141 = .ok (.getfield 99, 3) := dk_180 0 99 (dk_at dksX9_worthAt_6 0 rfl rfl)
theorem dX9_worthAt_144 : decode cX9_worthAt 144 = .ok (.iconst 0, 1) := dk_3 (dk_at dksX9_worthAt_6 3 rfl rfl)
theorem dX9_worthAt_145 : decode cX9_worthAt 145 = .ok (.iaload, 1) := dk_46 (dk_at dksX9_worthAt_6 4 rfl rfl)
theorem dX9_worthAt_146 : decode cX9_worthAt 146 = .ok (.ireturn, 1) := dk_172 (dk_at dksX9_worthAt_6 5 rfl rfl)
abbrev cX9_both : ByteArray := prog_23_method_38_code
def yX9_both : MethodName := ⟨RX9, "both", "(III)I"⟩
def dkwX9_both_4 : List UInt8 := [27, 154, 0, 7, 28, 153, 0, 7, 4, 167, 0, 4, 3, 172]
abbrev dktX9_both_4 : List UInt8 := dkwX9_both_4 ++ []
def dkwX9_both_3 : List UInt8 := [28, 160, 0, 7, 4, 167, 0, 4, 3, 172, 27, 153, 0, 11, 28, 153, 0, 7, 4, 167, 0, 4, 3, 172]
abbrev dktX9_both_3 : List UInt8 := dkwX9_both_3 ++ dktX9_both_4
def dkwX9_both_2 : List UInt8 := [27, 28, 96, 172, 27, 28, 100, 172, 27, 28, 104, 172, 27, 28, 162, 0, 7, 4, 167, 0, 4, 3, 172, 27]
abbrev dktX9_both_2 : List UInt8 := dkwX9_both_2 ++ dktX9_both_3
def dkwX9_both_1 : List UInt8 := [170, 0, 0, 0, 0, 0, 87, 0, 0, 0, 4, 0, 0, 0, 9, 0, 0, 0, 39, 0, 0, 0, 43, 0, 0, 0, 47, 0, 0, 0, 51, 0, 0, 0, 62, 0, 0, 0, 73]
abbrev dktX9_both_1 : List UInt8 := dkwX9_both_1 ++ dktX9_both_2
def dkwX9_both_0 : List UInt8 := [26]
abbrev dktX9_both_0 : List UInt8 := dkwX9_both_0 ++ dktX9_both_1
theorem dksX9_both_0 : cX9_both.data.toList.drop 0 = dktX9_both_0 := by decide +kernel
theorem dksX9_both_1 : cX9_both.data.toList.drop 1 = dktX9_both_1 := dk_seg dksX9_both_0 1 rfl rfl
theorem dksX9_both_2 : cX9_both.data.toList.drop 40 = dktX9_both_2 := dk_seg dksX9_both_1 39 rfl rfl
theorem dksX9_both_3 : cX9_both.data.toList.drop 64 = dktX9_both_3 := dk_seg dksX9_both_2 24 rfl rfl
theorem dksX9_both_4 : cX9_both.data.toList.drop 88 = dktX9_both_4 := dk_seg dksX9_both_3 24 rfl rfl
theorem dX9_both_0 : decode cX9_both 0 = .ok (.iload_n 0, 1) := dk_26 (dk_at dksX9_both_0 0 rfl rfl)
theorem dX9_both_1 : decode cX9_both 1 = .ok (.tableswitch 87 4 9 #[39, 43, 47, 51, 62, 73], 39) := by decide +kernel
theorem dX9_both_40 : decode cX9_both 40 = .ok (.iload_n 1, 1) := dk_27 (dk_at dksX9_both_2 0 rfl rfl)
theorem dX9_both_41 : decode cX9_both 41 = .ok (.iload_n 2, 1) := dk_28 (dk_at dksX9_both_2 1 rfl rfl)
theorem dX9_both_42 : decode cX9_both 42 = .ok (.iadd, 1) := dk_96 (dk_at dksX9_both_2 2 rfl rfl)
theorem dX9_both_43 : decode cX9_both 43 = .ok (.ireturn, 1) := dk_172 (dk_at dksX9_both_2 3 rfl rfl)
theorem dX9_both_44 : decode cX9_both 44 = .ok (.iload_n 1, 1) := dk_27 (dk_at dksX9_both_2 4 rfl rfl)
theorem dX9_both_45 : decode cX9_both 45 = .ok (.iload_n 2, 1) := dk_28 (dk_at dksX9_both_2 5 rfl rfl)
theorem dX9_both_46 : decode cX9_both 46 = .ok (.isub, 1) := dk_100 (dk_at dksX9_both_2 6 rfl rfl)
theorem dX9_both_47 : decode cX9_both 47 = .ok (.ireturn, 1) := dk_172 (dk_at dksX9_both_2 7 rfl rfl)
theorem dX9_both_48 : decode cX9_both 48 = .ok (.iload_n 1, 1) := dk_27 (dk_at dksX9_both_2 8 rfl rfl)
theorem dX9_both_49 : decode cX9_both 49 = .ok (.iload_n 2, 1) := dk_28 (dk_at dksX9_both_2 9 rfl rfl)
theorem dX9_both_50 : decode cX9_both 50 = .ok (.imul, 1) := dk_104 (dk_at dksX9_both_2 10 rfl rfl)
theorem dX9_both_51 : decode cX9_both 51 = .ok (.ireturn, 1) := dk_172 (dk_at dksX9_both_2 11 rfl rfl)
theorem dX9_both_52 : decode cX9_both 52 = .ok (.iload_n 1, 1) := dk_27 (dk_at dksX9_both_2 12 rfl rfl)
theorem dX9_both_53 : decode cX9_both 53 = .ok (.iload_n 2, 1) := dk_28 (dk_at dksX9_both_2 13 rfl rfl)
theorem dX9_both_54 : decode cX9_both 54 = .ok (.if_icmp .ge 7, 3) := dk_162 0 7 (dk_at dksX9_both_2 14 rfl rfl)
theorem dX9_both_57 : decode cX9_both 57 = .ok (.iconst 1, 1) := dk_4 (dk_at dksX9_both_2 17 rfl rfl)
theorem dX9_both_58 : decode cX9_both 58 = .ok (.goto 4, 3) := dk_167 0 4 (dk_at dksX9_both_2 18 rfl rfl)
theorem dX9_both_61 : decode cX9_both 61 = .ok (.iconst 0, 1) := dk_3 (dk_at dksX9_both_2 21 rfl rfl)
theorem dX9_both_62 : decode cX9_both 62 = .ok (.ireturn, 1) := dk_172 (dk_at dksX9_both_2 22 rfl rfl)
theorem dX9_both_63 : decode cX9_both 63 = .ok (.iload_n 1, 1) := dk_27 (dk_at dksX9_both_2 23 rfl rfl)
theorem dX9_both_64 : decode cX9_both 64 = .ok (.iload_n 2, 1) := dk_28 (dk_at dksX9_both_3 0 rfl rfl)
theorem dX9_both_65 : decode cX9_both 65 = .ok (.if_icmp .ne 7, 3) := dk_160 0 7 (dk_at dksX9_both_3 1 rfl rfl)
theorem dX9_both_68 : decode cX9_both 68 = .ok (.iconst 1, 1) := dk_4 (dk_at dksX9_both_3 4 rfl rfl)
theorem dX9_both_69 : decode cX9_both 69 = .ok (.goto 4, 3) := dk_167 0 4 (dk_at dksX9_both_3 5 rfl rfl)
theorem dX9_both_72 : decode cX9_both 72 = .ok (.iconst 0, 1) := dk_3 (dk_at dksX9_both_3 8 rfl rfl)
theorem dX9_both_73 : decode cX9_both 73 = .ok (.ireturn, 1) := dk_172 (dk_at dksX9_both_3 9 rfl rfl)
theorem dX9_both_74 : decode cX9_both 74 = .ok (.iload_n 1, 1) := dk_27 (dk_at dksX9_both_3 10 rfl rfl)
theorem dX9_both_75 : decode cX9_both 75 = .ok (.ifCond .eq 11, 3) := dk_153 0 11 (dk_at dksX9_both_3 11 rfl rfl)
theorem dX9_both_78 : decode cX9_both 78 = .ok (.iload_n 2, 1) := dk_28 (dk_at dksX9_both_3 14 rfl rfl)
theorem dX9_both_79 : decode cX9_both 79 = .ok (.ifCond .eq 7, 3) := dk_153 0 7 (dk_at dksX9_both_3 15 rfl rfl)
theorem dX9_both_82 : decode cX9_both 82 = .ok (.iconst 1, 1) := dk_4 (dk_at dksX9_both_3 18 rfl rfl)
theorem dX9_both_83 : decode cX9_both 83 = .ok (.goto 4, 3) := dk_167 0 4 (dk_at dksX9_both_3 19 rfl rfl)
theorem dX9_both_86 : decode cX9_both 86 = .ok (.iconst 0, 1) := dk_3 (dk_at dksX9_both_3 22 rfl rfl)
theorem dX9_both_87 : decode cX9_both 87 = .ok (.ireturn, 1) := dk_172 (dk_at dksX9_both_3 23 rfl rfl)
theorem dX9_both_88 : decode cX9_both 88 = .ok (.iload_n 1, 1) := dk_27 (dk_at dksX9_both_4 0 rfl rfl)
theorem dX9_both_89 : decode cX9_both 89 = .ok (.ifCond .ne 7, 3) := dk_154 0 7 (dk_at dksX9_both_4 1 rfl rfl)
theorem dX9_both_92 : decode cX9_both 92 = .ok (.iload_n 2, 1) := dk_28 (dk_at dksX9_both_4 4 rfl rfl)
theorem dX9_both_93 : decode cX9_both 93 = .ok (.ifCond .eq 7, 3) := dk_153 0 7 (dk_at dksX9_both_4 5 rfl rfl)
theorem dX9_both_96 : decode cX9_both 96 = .ok (.iconst 1, 1) := dk_4 (dk_at dksX9_both_4 8 rfl rfl)
theorem dX9_both_97 : decode cX9_both 97 = .ok (.goto 4, 3) := dk_167 0 4 (dk_at dksX9_both_4 9 rfl rfl)
theorem dX9_both_100 : decode cX9_both 100 = .ok (.iconst 0, 1) := dk_3 (dk_at dksX9_both_4 12 rfl rfl)
theorem dX9_both_101 : decode cX9_both 101 = .ok (.ireturn, 1) := dk_172 (dk_at dksX9_both_4 13 rfl rfl)
abbrev cX9_worst : ByteArray := prog_23_method_83_code
def yX9_worst : MethodName := ⟨RX9, "worst", "(IIII)I"⟩
def dkwX9_worst_1 : List UInt8 := [2, 172, 42, 27, 4, 2, 3, 182, 1, 133, 42, 28, 29, 21, 4, 182, 1, 121, 172]
abbrev dktX9_worst_1 : List UInt8 := dkwX9_worst_1 ++ []
def dkwX9_worst_0 : List UInt8 := [42, 3, 181, 0, 1, 42, 27, 182, 1, 127, 153, 0, 14, 42, 28, 29, 21, 4, 182, 1, 130, 154, 0, 5]
abbrev dktX9_worst_0 : List UInt8 := dkwX9_worst_0 ++ dktX9_worst_1
theorem dksX9_worst_0 : cX9_worst.data.toList.drop 0 = dktX9_worst_0 := by decide +kernel
theorem dksX9_worst_1 : cX9_worst.data.toList.drop 24 = dktX9_worst_1 := dk_seg dksX9_worst_0 24 rfl rfl
theorem dX9_worst_0 : decode cX9_worst 0 = .ok (.aload_n 0, 1) := dk_42 (dk_at dksX9_worst_0 0 rfl rfl)
theorem dX9_worst_1 : decode cX9_worst 1 = .ok (.iconst 0, 1) := dk_3 (dk_at dksX9_worst_0 1 rfl rfl)
theorem dX9_worst_2 : decode cX9_worst 2 = .ok (.putfield 1, 3) := dk_181 0 1 (dk_at dksX9_worst_0 2 rfl rfl)
theorem dX9_worst_5 : decode cX9_worst 5 = .ok (.aload_n 0, 1) := dk_42 (dk_at dksX9_worst_0 5 rfl rfl)
theorem dX9_worst_6 : decode cX9_worst 6 = .ok (.iload_n 1, 1) := dk_27 (dk_at dksX9_worst_0 6 rfl rfl)
theorem dX9_worst_7 : decode cX9_worst 7 = .ok (.invokevirtual 383, 3) := dk_182 1 127 (dk_at dksX9_worst_0 7 rfl rfl)
theorem dX9_worst_10 : decode cX9_worst 10 = .ok (.ifCond .eq 14, 3) := dk_153 0 14 (dk_at dksX9_worst_0 10 rfl rfl)
theorem dX9_worst_13 : decode cX9_worst 13 = .ok (.aload_n 0, 1) := dk_42 (dk_at dksX9_worst_0 13 rfl rfl)
theorem dX9_worst_14 : decode cX9_worst 14 = .ok (.iload_n 2, 1) := dk_28 (dk_at dksX9_worst_0 14 rfl rfl)
theorem dX9_worst_15 : decode cX9_worst 15 = .ok (.iload_n 3, 1) := dk_29 (dk_at dksX9_worst_0 15 rfl rfl)
theorem dX9_worst_16 : decode cX9_worst 16 = .ok (.iload 4, 2) := dk_21 4 (dk_at dksX9_worst_0 16 rfl rfl)
theorem dX9_worst_18 : decode cX9_worst 18 = .ok (.invokevirtual 386, 3) := dk_182 1 130 (dk_at dksX9_worst_0 18 rfl rfl)
theorem dX9_worst_21 : decode cX9_worst 21 = .ok (.ifCond .ne 5, 3) := dk_154 0 5 (dk_at dksX9_worst_0 21 rfl rfl)
theorem dX9_worst_24 : decode cX9_worst 24 = .ok (.iconst (-1), 1) := dk_2 (dk_at dksX9_worst_1 0 rfl rfl)
theorem dX9_worst_25 : decode cX9_worst 25 = .ok (.ireturn, 1) := dk_172 (dk_at dksX9_worst_1 1 rfl rfl)
theorem dX9_worst_26 : decode cX9_worst 26 = .ok (.aload_n 0, 1) := dk_42 (dk_at dksX9_worst_1 2 rfl rfl)
theorem dX9_worst_27 : decode cX9_worst 27 = .ok (.iload_n 1, 1) := dk_27 (dk_at dksX9_worst_1 3 rfl rfl)
theorem dX9_worst_28 : decode cX9_worst 28 = .ok (.iconst 1, 1) := dk_4 (dk_at dksX9_worst_1 4 rfl rfl)
theorem dX9_worst_29 : decode cX9_worst 29 = .ok (.iconst (-1), 1) := dk_2 (dk_at dksX9_worst_1 5 rfl rfl)
theorem dX9_worst_30 : decode cX9_worst 30 = .ok (.iconst 0, 1) := dk_3 (dk_at dksX9_worst_1 6 rfl rfl)
theorem dX9_worst_31 : decode cX9_worst 31 = .ok (.invokevirtual 389, 3) := dk_182 1 133 (dk_at dksX9_worst_1 7 rfl rfl)
theorem dX9_worst_34 : decode cX9_worst 34 = .ok (.aload_n 0, 1) := dk_42 (dk_at dksX9_worst_1 10 rfl rfl)
theorem dX9_worst_35 : decode cX9_worst 35 = .ok (.iload_n 2, 1) := dk_28 (dk_at dksX9_worst_1 11 rfl rfl)
theorem dX9_worst_36 : decode cX9_worst 36 = .ok (.iload_n 3, 1) := dk_29 (dk_at dksX9_worst_1 12 rfl rfl)
theorem dX9_worst_37 : decode cX9_worst 37 = .ok (.iload 4, 2) := dk_21 4 (dk_at dksX9_worst_1 13 rfl rfl)
theorem dX9_worst_39 : decode cX9_worst 39 = .ok (.invokevirtual 377, 3) := dk_182 1 121 (dk_at dksX9_worst_1 15 rfl rfl)
theorem dX9_worst_42 : decode cX9_worst 42 = .ok (.ireturn, 1) := dk_172 (dk_at dksX9_worst_1 18 rfl rfl)
abbrev cX9_choice : ByteArray := prog_23_method_84_code
def yX9_choice : MethodName := ⟨RX9, "choice", "(IIII)I"⟩
def dkwX9_choice_4 : List UInt8 := [182, 1, 106, 153, 0, 8, 21, 4, 167, 0, 5, 21, 5, 182, 1, 115, 172]
abbrev dktX9_choice_4 : List UInt8 := dkwX9_choice_4 ++ []
def dkwX9_choice_3 : List UInt8 := [42, 27, 28, 29, 182, 1, 121, 156, 0, 7, 2, 167, 0, 27, 42, 27, 28, 21, 5, 42, 27, 28]
abbrev dktX9_choice_3 : List UInt8 := dkwX9_choice_3 ++ dktX9_choice_4
def dkwX9_choice_2 : List UInt8 := [182, 1, 33, 4, 100, 184, 1, 43, 154, 0, 5, 2, 172, 29, 42, 180, 0, 81, 16, 9, 46, 112, 54, 5]
abbrev dktX9_choice_2 : List UInt8 := dkwX9_choice_2 ++ dktX9_choice_3
def dkwX9_choice_1 : List UInt8 := [27, 28, 182, 1, 79, 154, 0, 30, 42, 27, 28, 182, 1, 106, 153, 0, 23, 21, 4, 3, 42, 27, 28, 4]
abbrev dktX9_choice_1 : List UInt8 := dkwX9_choice_1 ++ dktX9_choice_2
def dkwX9_choice_0 : List UInt8 := [42, 3, 181, 0, 1, 42, 6, 3, 2, 3, 182, 1, 133, 42, 27, 28, 29, 182, 1, 130, 153, 0, 39, 42]
abbrev dktX9_choice_0 : List UInt8 := dkwX9_choice_0 ++ dktX9_choice_1
theorem dksX9_choice_0 : cX9_choice.data.toList.drop 0 = dktX9_choice_0 := by decide +kernel
theorem dksX9_choice_1 : cX9_choice.data.toList.drop 24 = dktX9_choice_1 := dk_seg dksX9_choice_0 24 rfl rfl
theorem dksX9_choice_2 : cX9_choice.data.toList.drop 48 = dktX9_choice_2 := dk_seg dksX9_choice_1 24 rfl rfl
theorem dksX9_choice_3 : cX9_choice.data.toList.drop 72 = dktX9_choice_3 := dk_seg dksX9_choice_2 24 rfl rfl
theorem dksX9_choice_4 : cX9_choice.data.toList.drop 94 = dktX9_choice_4 := dk_seg dksX9_choice_3 22 rfl rfl
theorem dX9_choice_0 : decode cX9_choice 0 = .ok (.aload_n 0, 1) := dk_42 (dk_at dksX9_choice_0 0 rfl rfl)
theorem dX9_choice_1 : decode cX9_choice 1 = .ok (.iconst 0, 1) := dk_3 (dk_at dksX9_choice_0 1 rfl rfl)
theorem dX9_choice_2 : decode cX9_choice 2 = .ok (.putfield 1, 3) := dk_181 0 1 (dk_at dksX9_choice_0 2 rfl rfl)
theorem dX9_choice_5 : decode cX9_choice 5 = .ok (.aload_n 0, 1) := dk_42 (dk_at dksX9_choice_0 5 rfl rfl)
theorem dX9_choice_6 : decode cX9_choice 6 = .ok (.iconst 3, 1) := dk_6 (dk_at dksX9_choice_0 6 rfl rfl)
theorem dX9_choice_7 : decode cX9_choice 7 = .ok (.iconst 0, 1) := dk_3 (dk_at dksX9_choice_0 7 rfl rfl)
theorem dX9_choice_8 : decode cX9_choice 8 = .ok (.iconst (-1), 1) := dk_2 (dk_at dksX9_choice_0 8 rfl rfl)
theorem dX9_choice_9 : decode cX9_choice 9 = .ok (.iconst 0, 1) := dk_3 (dk_at dksX9_choice_0 9 rfl rfl)
theorem dX9_choice_10 : decode cX9_choice 10 = .ok (.invokevirtual 389, 3) := dk_182 1 133 (dk_at dksX9_choice_0 10 rfl rfl)
theorem dX9_choice_13 : decode cX9_choice 13 = .ok (.aload_n 0, 1) := dk_42 (dk_at dksX9_choice_0 13 rfl rfl)
theorem dX9_choice_14 : decode cX9_choice 14 = .ok (.iload_n 1, 1) := dk_27 (dk_at dksX9_choice_0 14 rfl rfl)
theorem dX9_choice_15 : decode cX9_choice 15 = .ok (.iload_n 2, 1) := dk_28 (dk_at dksX9_choice_0 15 rfl rfl)
theorem dX9_choice_16 : decode cX9_choice 16 = .ok (.iload_n 3, 1) := dk_29 (dk_at dksX9_choice_0 16 rfl rfl)
theorem dX9_choice_17 : decode cX9_choice 17 = .ok (.invokevirtual 386, 3) := dk_182 1 130 (dk_at dksX9_choice_0 17 rfl rfl)
theorem dX9_choice_20 : decode cX9_choice 20 = .ok (.ifCond .eq 39, 3) := dk_153 0 39 (dk_at dksX9_choice_0 20 rfl rfl)
theorem dX9_choice_23 : decode cX9_choice 23 = .ok (.aload_n 0, 1) := dk_42 (dk_at dksX9_choice_0 23 rfl rfl)
theorem dX9_choice_24 : decode cX9_choice 24 = .ok (.iload_n 1, 1) := dk_27 (dk_at dksX9_choice_1 0 rfl rfl)
theorem dX9_choice_25 : decode cX9_choice 25 = .ok (.iload_n 2, 1) := dk_28 (dk_at dksX9_choice_1 1 rfl rfl)
theorem dX9_choice_26 : decode cX9_choice 26 = .ok (.invokevirtual 335, 3) := dk_182 1 79 (dk_at dksX9_choice_1 2 rfl rfl)
theorem dX9_choice_29 : decode cX9_choice 29 = .ok (.ifCond .ne 30, 3) := dk_154 0 30 (dk_at dksX9_choice_1 5 rfl rfl)
theorem dX9_choice_32 : decode cX9_choice 32 = .ok (.aload_n 0, 1) := dk_42 (dk_at dksX9_choice_1 8 rfl rfl)
theorem dX9_choice_33 : decode cX9_choice 33 = .ok (.iload_n 1, 1) := dk_27 (dk_at dksX9_choice_1 9 rfl rfl)
theorem dX9_choice_34 : decode cX9_choice 34 = .ok (.iload_n 2, 1) := dk_28 (dk_at dksX9_choice_1 10 rfl rfl)
theorem dX9_choice_35 : decode cX9_choice 35 = .ok (.invokevirtual 362, 3) := dk_182 1 106 (dk_at dksX9_choice_1 11 rfl rfl)
theorem dX9_choice_38 : decode cX9_choice 38 = .ok (.ifCond .eq 23, 3) := dk_153 0 23 (dk_at dksX9_choice_1 14 rfl rfl)
theorem dX9_choice_41 : decode cX9_choice 41 = .ok (.iload 4, 2) := dk_21 4 (dk_at dksX9_choice_1 17 rfl rfl)
theorem dX9_choice_43 : decode cX9_choice 43 = .ok (.iconst 0, 1) := dk_3 (dk_at dksX9_choice_1 19 rfl rfl)
theorem dX9_choice_44 : decode cX9_choice 44 = .ok (.aload_n 0, 1) := dk_42 (dk_at dksX9_choice_1 20 rfl rfl)
theorem dX9_choice_45 : decode cX9_choice 45 = .ok (.iload_n 1, 1) := dk_27 (dk_at dksX9_choice_1 21 rfl rfl)
theorem dX9_choice_46 : decode cX9_choice 46 = .ok (.iload_n 2, 1) := dk_28 (dk_at dksX9_choice_1 22 rfl rfl)
theorem dX9_choice_47 : decode cX9_choice 47 = .ok (.iconst 1, 1) := dk_4 (dk_at dksX9_choice_1 23 rfl rfl)
theorem dX9_choice_48 : decode cX9_choice 48 = .ok (.invokevirtual 289, 3) := dk_182 1 33 (dk_at dksX9_choice_2 0 rfl rfl)
theorem dX9_choice_51 : decode cX9_choice 51 = .ok (.iconst 1, 1) := dk_4 (dk_at dksX9_choice_2 3 rfl rfl)
theorem dX9_choice_52 : decode cX9_choice 52 = .ok (.isub, 1) := dk_100 (dk_at dksX9_choice_2 4 rfl rfl)
theorem dX9_choice_53 : decode cX9_choice 53 = .ok (.invokestatic 299, 3) := dk_184 1 43 (dk_at dksX9_choice_2 5 rfl rfl)
theorem dX9_choice_56 : decode cX9_choice 56 = .ok (.ifCond .ne 5, 3) := dk_154 0 5 (dk_at dksX9_choice_2 8 rfl rfl)
theorem dX9_choice_59 : decode cX9_choice 59 = .ok (.iconst (-1), 1) := dk_2 (dk_at dksX9_choice_2 11 rfl rfl)
theorem dX9_choice_60 : decode cX9_choice 60 = .ok (.ireturn, 1) := dk_172 (dk_at dksX9_choice_2 12 rfl rfl)
theorem dX9_choice_61 : decode cX9_choice 61 = .ok (.iload_n 3, 1) := dk_29 (dk_at dksX9_choice_2 13 rfl rfl)
theorem dX9_choice_62 : decode cX9_choice 62 = .ok (.aload_n 0, 1) := dk_42 (dk_at dksX9_choice_2 14 rfl rfl)
theorem dX9_choice_63 : decode cX9_choice 63 = .ok (.getfield 81, 3) := dk_180 0 81 (dk_at dksX9_choice_2 15 rfl rfl)
theorem dX9_choice_66 : decode cX9_choice 66 = .ok (.bipush 9, 2) := dk_16 9 (dk_at dksX9_choice_2 18 rfl rfl)
theorem dX9_choice_68 : decode cX9_choice 68 = .ok (.iaload, 1) := dk_46 (dk_at dksX9_choice_2 20 rfl rfl)
theorem dX9_choice_69 : decode cX9_choice 69 = .ok (.irem, 1) := dk_112 (dk_at dksX9_choice_2 21 rfl rfl)
theorem dX9_choice_70 : decode cX9_choice 70 = .ok (.istore 5, 2) := dk_54 5 (dk_at dksX9_choice_2 22 rfl rfl)
theorem dX9_choice_72 : decode cX9_choice 72 = .ok (.aload_n 0, 1) := dk_42 (dk_at dksX9_choice_3 0 rfl rfl)
theorem dX9_choice_73 : decode cX9_choice 73 = .ok (.iload_n 1, 1) := dk_27 (dk_at dksX9_choice_3 1 rfl rfl)
theorem dX9_choice_74 : decode cX9_choice 74 = .ok (.iload_n 2, 1) := dk_28 (dk_at dksX9_choice_3 2 rfl rfl)
theorem dX9_choice_75 : decode cX9_choice 75 = .ok (.iload_n 3, 1) := dk_29 (dk_at dksX9_choice_3 3 rfl rfl)
theorem dX9_choice_76 : decode cX9_choice 76 = .ok (.invokevirtual 377, 3) := dk_182 1 121 (dk_at dksX9_choice_3 4 rfl rfl)
theorem dX9_choice_79 : decode cX9_choice 79 = .ok (.ifCond .ge 7, 3) := dk_156 0 7 (dk_at dksX9_choice_3 7 rfl rfl)
theorem dX9_choice_82 : decode cX9_choice 82 = .ok (.iconst (-1), 1) := dk_2 (dk_at dksX9_choice_3 10 rfl rfl)
theorem dX9_choice_83 : decode cX9_choice 83 = .ok (.goto 27, 3) := dk_167 0 27 (dk_at dksX9_choice_3 11 rfl rfl)
theorem dX9_choice_86 : decode cX9_choice 86 = .ok (.aload_n 0, 1) := dk_42 (dk_at dksX9_choice_3 14 rfl rfl)
theorem dX9_choice_87 : decode cX9_choice 87 = .ok (.iload_n 1, 1) := dk_27 (dk_at dksX9_choice_3 15 rfl rfl)
theorem dX9_choice_88 : decode cX9_choice 88 = .ok (.iload_n 2, 1) := dk_28 (dk_at dksX9_choice_3 16 rfl rfl)
theorem dX9_choice_89 : decode cX9_choice 89 = .ok (.iload 5, 2) := dk_21 5 (dk_at dksX9_choice_3 17 rfl rfl)
theorem dX9_choice_91 : decode cX9_choice 91 = .ok (.aload_n 0, 1) := dk_42 (dk_at dksX9_choice_3 19 rfl rfl)
theorem dX9_choice_92 : decode cX9_choice 92 = .ok (.iload_n 1, 1) := dk_27 (dk_at dksX9_choice_3 20 rfl rfl)
theorem dX9_choice_93 : decode cX9_choice 93 = .ok (.iload_n 2, 1) := dk_28 (dk_at dksX9_choice_3 21 rfl rfl)
theorem dX9_choice_94 : decode cX9_choice 94 = .ok (.invokevirtual 362, 3) := dk_182 1 106 (dk_at dksX9_choice_4 0 rfl rfl)
theorem dX9_choice_97 : decode cX9_choice 97 = .ok (.ifCond .eq 8, 3) := dk_153 0 8 (dk_at dksX9_choice_4 3 rfl rfl)
theorem dX9_choice_100 : decode cX9_choice 100 = .ok (.iload 4, 2) := dk_21 4 (dk_at dksX9_choice_4 6 rfl rfl)
theorem dX9_choice_102 : decode cX9_choice 102 = .ok (.goto 5, 3) := dk_167 0 5 (dk_at dksX9_choice_4 8 rfl rfl)
theorem dX9_choice_105 : decode cX9_choice 105 = .ok (.iload 5, 2) := dk_21 5 (dk_at dksX9_choice_4 11 rfl rfl)
theorem dX9_choice_107 : decode cX9_choice 107 = .ok (.invokevirtual 371, 3) := dk_182 1 115 (dk_at dksX9_choice_4 13 rfl rfl)
theorem dX9_choice_110 : decode cX9_choice 110 = .ok (.ireturn, 1) := dk_172 (dk_at dksX9_choice_4 16 rfl rfl)
abbrev cX9_gap : ByteArray := prog_23_method_85_code
def yX9_gap : MethodName := ⟨RX9, "gap", "(III)I"⟩
def dkwX9_gap_3 : List UInt8 := [172]
abbrev dktX9_gap_3 : List UInt8 := dkwX9_gap_3 ++ []
def dkwX9_gap_2 : List UInt8 := [182, 1, 121, 54, 5, 21, 4, 155, 0, 8, 21, 5, 156, 0, 7, 2, 167, 0, 8, 21, 4, 21, 5, 100]
abbrev dktX9_gap_2 : List UInt8 := dkwX9_gap_2 ++ dktX9_gap_3
def dkwX9_gap_1 : List UInt8 := [182, 1, 133, 42, 27, 28, 29, 182, 1, 121, 54, 4, 42, 6, 3, 2, 3, 182, 1, 133, 42, 27, 28, 29]
abbrev dktX9_gap_1 : List UInt8 := dkwX9_gap_1 ++ dktX9_gap_2
def dkwX9_gap_0 : List UInt8 := [42, 3, 181, 0, 1, 42, 27, 28, 29, 182, 1, 130, 154, 0, 5, 2, 172, 42, 5, 3, 2, 3]
abbrev dktX9_gap_0 : List UInt8 := dkwX9_gap_0 ++ dktX9_gap_1
theorem dksX9_gap_0 : cX9_gap.data.toList.drop 0 = dktX9_gap_0 := by decide +kernel
theorem dksX9_gap_1 : cX9_gap.data.toList.drop 22 = dktX9_gap_1 := dk_seg dksX9_gap_0 22 rfl rfl
theorem dksX9_gap_2 : cX9_gap.data.toList.drop 46 = dktX9_gap_2 := dk_seg dksX9_gap_1 24 rfl rfl
theorem dksX9_gap_3 : cX9_gap.data.toList.drop 70 = dktX9_gap_3 := dk_seg dksX9_gap_2 24 rfl rfl
theorem dX9_gap_0 : decode cX9_gap 0 = .ok (.aload_n 0, 1) := dk_42 (dk_at dksX9_gap_0 0 rfl rfl)
theorem dX9_gap_1 : decode cX9_gap 1 = .ok (.iconst 0, 1) := dk_3 (dk_at dksX9_gap_0 1 rfl rfl)
theorem dX9_gap_2 : decode cX9_gap 2 = .ok (.putfield 1, 3) := dk_181 0 1 (dk_at dksX9_gap_0 2 rfl rfl)
theorem dX9_gap_5 : decode cX9_gap 5 = .ok (.aload_n 0, 1) := dk_42 (dk_at dksX9_gap_0 5 rfl rfl)
theorem dX9_gap_6 : decode cX9_gap 6 = .ok (.iload_n 1, 1) := dk_27 (dk_at dksX9_gap_0 6 rfl rfl)
theorem dX9_gap_7 : decode cX9_gap 7 = .ok (.iload_n 2, 1) := dk_28 (dk_at dksX9_gap_0 7 rfl rfl)
theorem dX9_gap_8 : decode cX9_gap 8 = .ok (.iload_n 3, 1) := dk_29 (dk_at dksX9_gap_0 8 rfl rfl)
theorem dX9_gap_9 : decode cX9_gap 9 = .ok (.invokevirtual 386, 3) := dk_182 1 130 (dk_at dksX9_gap_0 9 rfl rfl)
theorem dX9_gap_12 : decode cX9_gap 12 = .ok (.ifCond .ne 5, 3) := dk_154 0 5 (dk_at dksX9_gap_0 12 rfl rfl)
theorem dX9_gap_15 : decode cX9_gap 15 = .ok (.iconst (-1), 1) := dk_2 (dk_at dksX9_gap_0 15 rfl rfl)
theorem dX9_gap_16 : decode cX9_gap 16 = .ok (.ireturn, 1) := dk_172 (dk_at dksX9_gap_0 16 rfl rfl)
theorem dX9_gap_17 : decode cX9_gap 17 = .ok (.aload_n 0, 1) := dk_42 (dk_at dksX9_gap_0 17 rfl rfl)
theorem dX9_gap_18 : decode cX9_gap 18 = .ok (.iconst 2, 1) := dk_5 (dk_at dksX9_gap_0 18 rfl rfl)
theorem dX9_gap_19 : decode cX9_gap 19 = .ok (.iconst 0, 1) := dk_3 (dk_at dksX9_gap_0 19 rfl rfl)
theorem dX9_gap_20 : decode cX9_gap 20 = .ok (.iconst (-1), 1) := dk_2 (dk_at dksX9_gap_0 20 rfl rfl)
theorem dX9_gap_21 : decode cX9_gap 21 = .ok (.iconst 0, 1) := dk_3 (dk_at dksX9_gap_0 21 rfl rfl)
theorem dX9_gap_22 : decode cX9_gap 22 = .ok (.invokevirtual 389, 3) := dk_182 1 133 (dk_at dksX9_gap_1 0 rfl rfl)
theorem dX9_gap_25 : decode cX9_gap 25 = .ok (.aload_n 0, 1) := dk_42 (dk_at dksX9_gap_1 3 rfl rfl)
theorem dX9_gap_26 : decode cX9_gap 26 = .ok (.iload_n 1, 1) := dk_27 (dk_at dksX9_gap_1 4 rfl rfl)
theorem dX9_gap_27 : decode cX9_gap 27 = .ok (.iload_n 2, 1) := dk_28 (dk_at dksX9_gap_1 5 rfl rfl)
theorem dX9_gap_28 : decode cX9_gap 28 = .ok (.iload_n 3, 1) := dk_29 (dk_at dksX9_gap_1 6 rfl rfl)
theorem dX9_gap_29 : decode cX9_gap 29 = .ok (.invokevirtual 377, 3) := dk_182 1 121 (dk_at dksX9_gap_1 7 rfl rfl)
theorem dX9_gap_32 : decode cX9_gap 32 = .ok (.istore 4, 2) := dk_54 4 (dk_at dksX9_gap_1 10 rfl rfl)
theorem dX9_gap_34 : decode cX9_gap 34 = .ok (.aload_n 0, 1) := dk_42 (dk_at dksX9_gap_1 12 rfl rfl)
theorem dX9_gap_35 : decode cX9_gap 35 = .ok (.iconst 3, 1) := dk_6 (dk_at dksX9_gap_1 13 rfl rfl)
theorem dX9_gap_36 : decode cX9_gap 36 = .ok (.iconst 0, 1) := dk_3 (dk_at dksX9_gap_1 14 rfl rfl)
theorem dX9_gap_37 : decode cX9_gap 37 = .ok (.iconst (-1), 1) := dk_2 (dk_at dksX9_gap_1 15 rfl rfl)
theorem dX9_gap_38 : decode cX9_gap 38 = .ok (.iconst 0, 1) := dk_3 (dk_at dksX9_gap_1 16 rfl rfl)
theorem dX9_gap_39 : decode cX9_gap 39 = .ok (.invokevirtual 389, 3) := dk_182 1 133 (dk_at dksX9_gap_1 17 rfl rfl)
theorem dX9_gap_42 : decode cX9_gap 42 = .ok (.aload_n 0, 1) := dk_42 (dk_at dksX9_gap_1 20 rfl rfl)
theorem dX9_gap_43 : decode cX9_gap 43 = .ok (.iload_n 1, 1) := dk_27 (dk_at dksX9_gap_1 21 rfl rfl)
theorem dX9_gap_44 : decode cX9_gap 44 = .ok (.iload_n 2, 1) := dk_28 (dk_at dksX9_gap_1 22 rfl rfl)
theorem dX9_gap_45 : decode cX9_gap 45 = .ok (.iload_n 3, 1) := dk_29 (dk_at dksX9_gap_1 23 rfl rfl)
theorem dX9_gap_46 : decode cX9_gap 46 = .ok (.invokevirtual 377, 3) := dk_182 1 121 (dk_at dksX9_gap_2 0 rfl rfl)
theorem dX9_gap_49 : decode cX9_gap 49 = .ok (.istore 5, 2) := dk_54 5 (dk_at dksX9_gap_2 3 rfl rfl)
theorem dX9_gap_51 : decode cX9_gap 51 = .ok (.iload 4, 2) := dk_21 4 (dk_at dksX9_gap_2 5 rfl rfl)
theorem dX9_gap_53 : decode cX9_gap 53 = .ok (.ifCond .lt 8, 3) := dk_155 0 8 (dk_at dksX9_gap_2 7 rfl rfl)
theorem dX9_gap_56 : decode cX9_gap 56 = .ok (.iload 5, 2) := dk_21 5 (dk_at dksX9_gap_2 10 rfl rfl)
theorem dX9_gap_58 : decode cX9_gap 58 = .ok (.ifCond .ge 7, 3) := dk_156 0 7 (dk_at dksX9_gap_2 12 rfl rfl)
theorem dX9_gap_61 : decode cX9_gap 61 = .ok (.iconst (-1), 1) := dk_2 (dk_at dksX9_gap_2 15 rfl rfl)
theorem dX9_gap_62 : decode cX9_gap 62 = .ok (.goto 8, 3) := dk_167 0 8 (dk_at dksX9_gap_2 16 rfl rfl)
theorem dX9_gap_65 : decode cX9_gap 65 = .ok (.iload 4, 2) := dk_21 4 (dk_at dksX9_gap_2 19 rfl rfl)
theorem dX9_gap_67 : decode cX9_gap 67 = .ok (.iload 5, 2) := dk_21 5 (dk_at dksX9_gap_2 21 rfl rfl)
theorem dX9_gap_69 : decode cX9_gap 69 = .ok (.isub, 1) := dk_100 (dk_at dksX9_gap_2 23 rfl rfl)
theorem dX9_gap_70 : decode cX9_gap 70 = .ok (.ireturn, 1) := dk_172 (dk_at dksX9_gap_3 0 rfl rfl)
abbrev cX9_watch : ByteArray := prog_23_method_86_code
def yX9_watch : MethodName := ⟨RX9, "watch", "(III)I"⟩
def dkwX9_watch_5 : List UInt8 := [167, 0, 18, 21, 4, 22, 5, 42, 27, 28, 4, 182, 1, 33, 133, 109, 136, 100, 172]
abbrev dktX9_watch_5 : List UInt8 := dkwX9_watch_5 ++ []
def dkwX9_watch_4 : List UInt8 := [42, 3, 3, 29, 182, 1, 121, 133, 97, 55, 5, 132, 7, 1, 167, 255, 209, 21, 4, 156, 0, 7, 2]
abbrev dktX9_watch_4 : List UInt8 := dkwX9_watch_4 ++ dktX9_watch_5
def dkwX9_watch_3 : List UInt8 := [162, 0, 41, 21, 4, 155, 0, 36, 42, 6, 3, 16, 6, 28, 104, 27, 96, 21, 7, 182, 1, 133, 22, 5]
abbrev dktX9_watch_3 : List UInt8 := dkwX9_watch_3 ++ dktX9_watch_4
def dkwX9_watch_2 : List UInt8 := [3, 29, 182, 1, 121, 54, 4, 9, 55, 5, 3, 54, 7, 21, 7, 42, 27, 28, 4, 182, 1, 33]
abbrev dktX9_watch_2 : List UInt8 := dkwX9_watch_2 ++ dktX9_watch_3
def dkwX9_watch_1 : List UInt8 := [160, 0, 12, 42, 27, 28, 182, 1, 46, 153, 0, 5, 2, 172, 42, 6, 3, 2, 3, 182, 1, 133, 42, 3]
abbrev dktX9_watch_1 : List UInt8 := dkwX9_watch_1 ++ dktX9_watch_2
def dkwX9_watch_0 : List UInt8 := [42, 3, 181, 0, 1, 42, 27, 28, 29, 182, 1, 130, 153, 0, 22, 42, 27, 28, 182, 1, 26, 4]
abbrev dktX9_watch_0 : List UInt8 := dkwX9_watch_0 ++ dktX9_watch_1
theorem dksX9_watch_0 : cX9_watch.data.toList.drop 0 = dktX9_watch_0 := by decide +kernel
theorem dksX9_watch_1 : cX9_watch.data.toList.drop 22 = dktX9_watch_1 := dk_seg dksX9_watch_0 22 rfl rfl
theorem dksX9_watch_2 : cX9_watch.data.toList.drop 46 = dktX9_watch_2 := dk_seg dksX9_watch_1 24 rfl rfl
theorem dksX9_watch_3 : cX9_watch.data.toList.drop 68 = dktX9_watch_3 := dk_seg dksX9_watch_2 22 rfl rfl
theorem dksX9_watch_4 : cX9_watch.data.toList.drop 92 = dktX9_watch_4 := dk_seg dksX9_watch_3 24 rfl rfl
theorem dksX9_watch_5 : cX9_watch.data.toList.drop 115 = dktX9_watch_5 := dk_seg dksX9_watch_4 23 rfl rfl
theorem dX9_watch_0 : decode cX9_watch 0 = .ok (.aload_n 0, 1) := dk_42 (dk_at dksX9_watch_0 0 rfl rfl)
theorem dX9_watch_1 : decode cX9_watch 1 = .ok (.iconst 0, 1) := dk_3 (dk_at dksX9_watch_0 1 rfl rfl)
theorem dX9_watch_2 : decode cX9_watch 2 = .ok (.putfield 1, 3) := dk_181 0 1 (dk_at dksX9_watch_0 2 rfl rfl)
theorem dX9_watch_5 : decode cX9_watch 5 = .ok (.aload_n 0, 1) := dk_42 (dk_at dksX9_watch_0 5 rfl rfl)
theorem dX9_watch_6 : decode cX9_watch 6 = .ok (.iload_n 1, 1) := dk_27 (dk_at dksX9_watch_0 6 rfl rfl)
theorem dX9_watch_7 : decode cX9_watch 7 = .ok (.iload_n 2, 1) := dk_28 (dk_at dksX9_watch_0 7 rfl rfl)
theorem dX9_watch_8 : decode cX9_watch 8 = .ok (.iload_n 3, 1) := dk_29 (dk_at dksX9_watch_0 8 rfl rfl)
theorem dX9_watch_9 : decode cX9_watch 9 = .ok (.invokevirtual 386, 3) := dk_182 1 130 (dk_at dksX9_watch_0 9 rfl rfl)
theorem dX9_watch_12 : decode cX9_watch 12 = .ok (.ifCond .eq 22, 3) := dk_153 0 22 (dk_at dksX9_watch_0 12 rfl rfl)
theorem dX9_watch_15 : decode cX9_watch 15 = .ok (.aload_n 0, 1) := dk_42 (dk_at dksX9_watch_0 15 rfl rfl)
theorem dX9_watch_16 : decode cX9_watch 16 = .ok (.iload_n 1, 1) := dk_27 (dk_at dksX9_watch_0 16 rfl rfl)
theorem dX9_watch_17 : decode cX9_watch 17 = .ok (.iload_n 2, 1) := dk_28 (dk_at dksX9_watch_0 17 rfl rfl)
theorem dX9_watch_18 : decode cX9_watch 18 = .ok (.invokevirtual 282, 3) := dk_182 1 26 (dk_at dksX9_watch_0 18 rfl rfl)
theorem dX9_watch_21 : decode cX9_watch 21 = .ok (.iconst 1, 1) := dk_4 (dk_at dksX9_watch_0 21 rfl rfl)
theorem dX9_watch_22 : decode cX9_watch 22 = .ok (.if_icmp .ne 12, 3) := dk_160 0 12 (dk_at dksX9_watch_1 0 rfl rfl)
theorem dX9_watch_25 : decode cX9_watch 25 = .ok (.aload_n 0, 1) := dk_42 (dk_at dksX9_watch_1 3 rfl rfl)
theorem dX9_watch_26 : decode cX9_watch 26 = .ok (.iload_n 1, 1) := dk_27 (dk_at dksX9_watch_1 4 rfl rfl)
theorem dX9_watch_27 : decode cX9_watch 27 = .ok (.iload_n 2, 1) := dk_28 (dk_at dksX9_watch_1 5 rfl rfl)
theorem dX9_watch_28 : decode cX9_watch 28 = .ok (.invokevirtual 302, 3) := dk_182 1 46 (dk_at dksX9_watch_1 6 rfl rfl)
theorem dX9_watch_31 : decode cX9_watch 31 = .ok (.ifCond .eq 5, 3) := dk_153 0 5 (dk_at dksX9_watch_1 9 rfl rfl)
theorem dX9_watch_34 : decode cX9_watch 34 = .ok (.iconst (-1), 1) := dk_2 (dk_at dksX9_watch_1 12 rfl rfl)
theorem dX9_watch_35 : decode cX9_watch 35 = .ok (.ireturn, 1) := dk_172 (dk_at dksX9_watch_1 13 rfl rfl)
theorem dX9_watch_36 : decode cX9_watch 36 = .ok (.aload_n 0, 1) := dk_42 (dk_at dksX9_watch_1 14 rfl rfl)
theorem dX9_watch_37 : decode cX9_watch 37 = .ok (.iconst 3, 1) := dk_6 (dk_at dksX9_watch_1 15 rfl rfl)
theorem dX9_watch_38 : decode cX9_watch 38 = .ok (.iconst 0, 1) := dk_3 (dk_at dksX9_watch_1 16 rfl rfl)
theorem dX9_watch_39 : decode cX9_watch 39 = .ok (.iconst (-1), 1) := dk_2 (dk_at dksX9_watch_1 17 rfl rfl)
theorem dX9_watch_40 : decode cX9_watch 40 = .ok (.iconst 0, 1) := dk_3 (dk_at dksX9_watch_1 18 rfl rfl)
theorem dX9_watch_41 : decode cX9_watch 41 = .ok (.invokevirtual 389, 3) := dk_182 1 133 (dk_at dksX9_watch_1 19 rfl rfl)
theorem dX9_watch_44 : decode cX9_watch 44 = .ok (.aload_n 0, 1) := dk_42 (dk_at dksX9_watch_1 22 rfl rfl)
theorem dX9_watch_45 : decode cX9_watch 45 = .ok (.iconst 0, 1) := dk_3 (dk_at dksX9_watch_1 23 rfl rfl)
theorem dX9_watch_46 : decode cX9_watch 46 = .ok (.iconst 0, 1) := dk_3 (dk_at dksX9_watch_2 0 rfl rfl)
theorem dX9_watch_47 : decode cX9_watch 47 = .ok (.iload_n 3, 1) := dk_29 (dk_at dksX9_watch_2 1 rfl rfl)
theorem dX9_watch_48 : decode cX9_watch 48 = .ok (.invokevirtual 377, 3) := dk_182 1 121 (dk_at dksX9_watch_2 2 rfl rfl)
theorem dX9_watch_51 : decode cX9_watch 51 = .ok (.istore 4, 2) := dk_54 4 (dk_at dksX9_watch_2 5 rfl rfl)
theorem dX9_watch_53 : decode cX9_watch 53 = .ok (.lconst 0, 1) := dk_9 (dk_at dksX9_watch_2 7 rfl rfl)
theorem dX9_watch_54 : decode cX9_watch 54 = .ok (.lstore 5, 2) := dk_55 5 (dk_at dksX9_watch_2 8 rfl rfl)
theorem dX9_watch_56 : decode cX9_watch 56 = .ok (.iconst 0, 1) := dk_3 (dk_at dksX9_watch_2 10 rfl rfl)
theorem dX9_watch_57 : decode cX9_watch 57 = .ok (.istore 7, 2) := dk_54 7 (dk_at dksX9_watch_2 11 rfl rfl)
theorem dX9_watch_59 : decode cX9_watch 59 = .ok (.iload 7, 2) := dk_21 7 (dk_at dksX9_watch_2 13 rfl rfl)
theorem dX9_watch_61 : decode cX9_watch 61 = .ok (.aload_n 0, 1) := dk_42 (dk_at dksX9_watch_2 15 rfl rfl)
theorem dX9_watch_62 : decode cX9_watch 62 = .ok (.iload_n 1, 1) := dk_27 (dk_at dksX9_watch_2 16 rfl rfl)
theorem dX9_watch_63 : decode cX9_watch 63 = .ok (.iload_n 2, 1) := dk_28 (dk_at dksX9_watch_2 17 rfl rfl)
theorem dX9_watch_64 : decode cX9_watch 64 = .ok (.iconst 1, 1) := dk_4 (dk_at dksX9_watch_2 18 rfl rfl)
theorem dX9_watch_65 : decode cX9_watch 65 = .ok (.invokevirtual 289, 3) := dk_182 1 33 (dk_at dksX9_watch_2 19 rfl rfl)
theorem dX9_watch_68 : decode cX9_watch 68 = .ok (.if_icmp .ge 41, 3) := dk_162 0 41 (dk_at dksX9_watch_3 0 rfl rfl)
theorem dX9_watch_71 : decode cX9_watch 71 = .ok (.iload 4, 2) := dk_21 4 (dk_at dksX9_watch_3 3 rfl rfl)
theorem dX9_watch_73 : decode cX9_watch 73 = .ok (.ifCond .lt 36, 3) := dk_155 0 36 (dk_at dksX9_watch_3 5 rfl rfl)
theorem dX9_watch_76 : decode cX9_watch 76 = .ok (.aload_n 0, 1) := dk_42 (dk_at dksX9_watch_3 8 rfl rfl)
theorem dX9_watch_77 : decode cX9_watch 77 = .ok (.iconst 3, 1) := dk_6 (dk_at dksX9_watch_3 9 rfl rfl)
theorem dX9_watch_78 : decode cX9_watch 78 = .ok (.iconst 0, 1) := dk_3 (dk_at dksX9_watch_3 10 rfl rfl)
theorem dX9_watch_79 : decode cX9_watch 79 = .ok (.bipush 6, 2) := dk_16 6 (dk_at dksX9_watch_3 11 rfl rfl)
theorem dX9_watch_81 : decode cX9_watch 81 = .ok (.iload_n 2, 1) := dk_28 (dk_at dksX9_watch_3 13 rfl rfl)
theorem dX9_watch_82 : decode cX9_watch 82 = .ok (.imul, 1) := dk_104 (dk_at dksX9_watch_3 14 rfl rfl)
theorem dX9_watch_83 : decode cX9_watch 83 = .ok (.iload_n 1, 1) := dk_27 (dk_at dksX9_watch_3 15 rfl rfl)
theorem dX9_watch_84 : decode cX9_watch 84 = .ok (.iadd, 1) := dk_96 (dk_at dksX9_watch_3 16 rfl rfl)
theorem dX9_watch_85 : decode cX9_watch 85 = .ok (.iload 7, 2) := dk_21 7 (dk_at dksX9_watch_3 17 rfl rfl)
theorem dX9_watch_87 : decode cX9_watch 87 = .ok (.invokevirtual 389, 3) := dk_182 1 133 (dk_at dksX9_watch_3 19 rfl rfl)
theorem dX9_watch_90 : decode cX9_watch 90 = .ok (.lload 5, 2) := dk_22 5 (dk_at dksX9_watch_3 22 rfl rfl)
theorem dX9_watch_92 : decode cX9_watch 92 = .ok (.aload_n 0, 1) := dk_42 (dk_at dksX9_watch_4 0 rfl rfl)
theorem dX9_watch_93 : decode cX9_watch 93 = .ok (.iconst 0, 1) := dk_3 (dk_at dksX9_watch_4 1 rfl rfl)
theorem dX9_watch_94 : decode cX9_watch 94 = .ok (.iconst 0, 1) := dk_3 (dk_at dksX9_watch_4 2 rfl rfl)
theorem dX9_watch_95 : decode cX9_watch 95 = .ok (.iload_n 3, 1) := dk_29 (dk_at dksX9_watch_4 3 rfl rfl)
theorem dX9_watch_96 : decode cX9_watch 96 = .ok (.invokevirtual 377, 3) := dk_182 1 121 (dk_at dksX9_watch_4 4 rfl rfl)
theorem dX9_watch_99 : decode cX9_watch 99 = .ok (.i2l, 1) := dk_133 (dk_at dksX9_watch_4 7 rfl rfl)
theorem dX9_watch_100 : decode cX9_watch 100 = .ok (.ladd, 1) := dk_97 (dk_at dksX9_watch_4 8 rfl rfl)
theorem dX9_watch_101 : decode cX9_watch 101 = .ok (.lstore 5, 2) := dk_55 5 (dk_at dksX9_watch_4 9 rfl rfl)
theorem dX9_watch_103 : decode cX9_watch 103 = .ok (.iinc 7 1, 3) := dk_132 7 1 (dk_at dksX9_watch_4 11 rfl rfl)
theorem dX9_watch_106 : decode cX9_watch 106 = .ok (.goto (-47), 3) := dk_167 255 209 (dk_at dksX9_watch_4 14 rfl rfl)
theorem dX9_watch_109 : decode cX9_watch 109 = .ok (.iload 4, 2) := dk_21 4 (dk_at dksX9_watch_4 17 rfl rfl)
theorem dX9_watch_111 : decode cX9_watch 111 = .ok (.ifCond .ge 7, 3) := dk_156 0 7 (dk_at dksX9_watch_4 19 rfl rfl)
theorem dX9_watch_114 : decode cX9_watch 114 = .ok (.iconst (-1), 1) := dk_2 (dk_at dksX9_watch_4 22 rfl rfl)
theorem dX9_watch_115 : decode cX9_watch 115 = .ok (.goto 18, 3) := dk_167 0 18 (dk_at dksX9_watch_5 0 rfl rfl)
theorem dX9_watch_118 : decode cX9_watch 118 = .ok (.iload 4, 2) := dk_21 4 (dk_at dksX9_watch_5 3 rfl rfl)
theorem dX9_watch_120 : decode cX9_watch 120 = .ok (.lload 5, 2) := dk_22 5 (dk_at dksX9_watch_5 5 rfl rfl)
theorem dX9_watch_122 : decode cX9_watch 122 = .ok (.aload_n 0, 1) := dk_42 (dk_at dksX9_watch_5 7 rfl rfl)
theorem dX9_watch_123 : decode cX9_watch 123 = .ok (.iload_n 1, 1) := dk_27 (dk_at dksX9_watch_5 8 rfl rfl)
theorem dX9_watch_124 : decode cX9_watch 124 = .ok (.iload_n 2, 1) := dk_28 (dk_at dksX9_watch_5 9 rfl rfl)
theorem dX9_watch_125 : decode cX9_watch 125 = .ok (.iconst 1, 1) := dk_4 (dk_at dksX9_watch_5 10 rfl rfl)
theorem dX9_watch_126 : decode cX9_watch 126 = .ok (.invokevirtual 289, 3) := dk_182 1 33 (dk_at dksX9_watch_5 11 rfl rfl)
theorem dX9_watch_129 : decode cX9_watch 129 = .ok (.i2l, 1) := dk_133 (dk_at dksX9_watch_5 14 rfl rfl)
theorem dX9_watch_130 : decode cX9_watch 130 = .ok (.ldiv, 1) := dk_109 (dk_at dksX9_watch_5 15 rfl rfl)
theorem dX9_watch_131 : decode cX9_watch 131 = .ok (.l2i, 1) := dk_136 (dk_at dksX9_watch_5 16 rfl rfl)
theorem dX9_watch_132 : decode cX9_watch 132 = .ok (.isub, 1) := dk_100 (dk_at dksX9_watch_5 17 rfl rfl)
theorem dX9_watch_133 : decode cX9_watch 133 = .ok (.ireturn, 1) := dk_172 (dk_at dksX9_watch_5 18 rfl rfl)
abbrev cX9_worthiest : ByteArray := prog_23_method_87_code
def yX9_worthiest : MethodName := ⟨RX9, "worthiest", "(I)I"⟩
def dkwX9_worthiest_5 : List UInt8 := [21, 6, 104, 21, 5, 96, 61, 21, 8, 62, 132, 4, 1, 167, 255, 135, 42, 3, 181, 0, 1, 28, 172]
abbrev dktX9_worthiest_5 : List UInt8 := dkwX9_worthiest_5 ++ []
def dkwX9_worthiest_4 : List UInt8 := [167, 0, 4, 3, 54, 8, 21, 7, 153, 0, 25, 28, 155, 0, 9, 21, 8, 29, 164, 0, 15, 16, 8]
abbrev dktX9_worthiest_4 : List UInt8 := dkwX9_worthiest_4 ++ dktX9_worthiest_5
def dkwX9_worthiest_3 : List UInt8 := [155, 0, 7, 4, 167, 0, 4, 3, 54, 7, 21, 7, 153, 0, 15, 42, 21, 5, 21, 6, 27, 182, 1, 140]
abbrev dktX9_worthiest_3 : List UInt8 := dkwX9_worthiest_3 ++ dktX9_worthiest_4
def dkwX9_worthiest_2 : List UInt8 := [182, 1, 26, 4, 160, 0, 26, 42, 21, 5, 21, 6, 182, 1, 46, 154, 0, 15, 42, 27, 182, 1, 137]
abbrev dktX9_worthiest_2 : List UInt8 := dkwX9_worthiest_2 ++ dktX9_worthiest_3
def dkwX9_worthiest_1 : List UInt8 := [16, 6, 108, 54, 6, 42, 21, 5, 21, 6, 27, 182, 1, 130, 153, 0, 38, 42, 21, 5, 21, 6]
abbrev dktX9_worthiest_1 : List UInt8 := dkwX9_worthiest_1 ++ dktX9_worthiest_2
def dkwX9_worthiest_0 : List UInt8 := [2, 61, 3, 62, 3, 54, 4, 21, 4, 16, 54, 162, 0, 120, 21, 4, 16, 6, 112, 54, 5, 21, 4]
abbrev dktX9_worthiest_0 : List UInt8 := dkwX9_worthiest_0 ++ dktX9_worthiest_1
theorem dksX9_worthiest_0 : cX9_worthiest.data.toList.drop 0 = dktX9_worthiest_0 := by decide +kernel
theorem dksX9_worthiest_1 : cX9_worthiest.data.toList.drop 23 = dktX9_worthiest_1 := dk_seg dksX9_worthiest_0 23 rfl rfl
theorem dksX9_worthiest_2 : cX9_worthiest.data.toList.drop 45 = dktX9_worthiest_2 := dk_seg dksX9_worthiest_1 22 rfl rfl
theorem dksX9_worthiest_3 : cX9_worthiest.data.toList.drop 68 = dktX9_worthiest_3 := dk_seg dksX9_worthiest_2 23 rfl rfl
theorem dksX9_worthiest_4 : cX9_worthiest.data.toList.drop 92 = dktX9_worthiest_4 := dk_seg dksX9_worthiest_3 24 rfl rfl
theorem dksX9_worthiest_5 : cX9_worthiest.data.toList.drop 115 = dktX9_worthiest_5 := dk_seg dksX9_worthiest_4 23 rfl rfl
theorem dX9_worthiest_0 : decode cX9_worthiest 0 = .ok (.iconst (-1), 1) := dk_2 (dk_at dksX9_worthiest_0 0 rfl rfl)
theorem dX9_worthiest_1 : decode cX9_worthiest 1 = .ok (.istore_n 2, 1) := dk_61 (dk_at dksX9_worthiest_0 1 rfl rfl)
theorem dX9_worthiest_2 : decode cX9_worthiest 2 = .ok (.iconst 0, 1) := dk_3 (dk_at dksX9_worthiest_0 2 rfl rfl)
theorem dX9_worthiest_3 : decode cX9_worthiest 3 = .ok (.istore_n 3, 1) := dk_62 (dk_at dksX9_worthiest_0 3 rfl rfl)
theorem dX9_worthiest_4 : decode cX9_worthiest 4 = .ok (.iconst 0, 1) := dk_3 (dk_at dksX9_worthiest_0 4 rfl rfl)
theorem dX9_worthiest_5 : decode cX9_worthiest 5 = .ok (.istore 4, 2) := dk_54 4 (dk_at dksX9_worthiest_0 5 rfl rfl)
theorem dX9_worthiest_7 : decode cX9_worthiest 7 = .ok (.iload 4, 2) := dk_21 4 (dk_at dksX9_worthiest_0 7 rfl rfl)
theorem dX9_worthiest_9 : decode cX9_worthiest 9 = .ok (.bipush 54, 2) := dk_16 54 (dk_at dksX9_worthiest_0 9 rfl rfl)
theorem dX9_worthiest_11 : decode cX9_worthiest 11 = .ok (.if_icmp .ge 120, 3) := dk_162 0 120 (dk_at dksX9_worthiest_0 11 rfl rfl)
theorem dX9_worthiest_14 : decode cX9_worthiest 14 = .ok (.iload 4, 2) := dk_21 4 (dk_at dksX9_worthiest_0 14 rfl rfl)
theorem dX9_worthiest_16 : decode cX9_worthiest 16 = .ok (.bipush 6, 2) := dk_16 6 (dk_at dksX9_worthiest_0 16 rfl rfl)
theorem dX9_worthiest_18 : decode cX9_worthiest 18 = .ok (.irem, 1) := dk_112 (dk_at dksX9_worthiest_0 18 rfl rfl)
theorem dX9_worthiest_19 : decode cX9_worthiest 19 = .ok (.istore 5, 2) := dk_54 5 (dk_at dksX9_worthiest_0 19 rfl rfl)
theorem dX9_worthiest_21 : decode cX9_worthiest 21 = .ok (.iload 4, 2) := dk_21 4 (dk_at dksX9_worthiest_0 21 rfl rfl)
theorem dX9_worthiest_23 : decode cX9_worthiest 23 = .ok (.bipush 6, 2) := dk_16 6 (dk_at dksX9_worthiest_1 0 rfl rfl)
theorem dX9_worthiest_25 : decode cX9_worthiest 25 = .ok (.idiv, 1) := dk_108 (dk_at dksX9_worthiest_1 2 rfl rfl)
theorem dX9_worthiest_26 : decode cX9_worthiest 26 = .ok (.istore 6, 2) := dk_54 6 (dk_at dksX9_worthiest_1 3 rfl rfl)
theorem dX9_worthiest_28 : decode cX9_worthiest 28 = .ok (.aload_n 0, 1) := dk_42 (dk_at dksX9_worthiest_1 5 rfl rfl)
theorem dX9_worthiest_29 : decode cX9_worthiest 29 = .ok (.iload 5, 2) := dk_21 5 (dk_at dksX9_worthiest_1 6 rfl rfl)
theorem dX9_worthiest_31 : decode cX9_worthiest 31 = .ok (.iload 6, 2) := dk_21 6 (dk_at dksX9_worthiest_1 8 rfl rfl)
theorem dX9_worthiest_33 : decode cX9_worthiest 33 = .ok (.iload_n 1, 1) := dk_27 (dk_at dksX9_worthiest_1 10 rfl rfl)
theorem dX9_worthiest_34 : decode cX9_worthiest 34 = .ok (.invokevirtual 386, 3) := dk_182 1 130 (dk_at dksX9_worthiest_1 11 rfl rfl)
theorem dX9_worthiest_37 : decode cX9_worthiest 37 = .ok (.ifCond .eq 38, 3) := dk_153 0 38 (dk_at dksX9_worthiest_1 14 rfl rfl)
theorem dX9_worthiest_40 : decode cX9_worthiest 40 = .ok (.aload_n 0, 1) := dk_42 (dk_at dksX9_worthiest_1 17 rfl rfl)
theorem dX9_worthiest_41 : decode cX9_worthiest 41 = .ok (.iload 5, 2) := dk_21 5 (dk_at dksX9_worthiest_1 18 rfl rfl)
theorem dX9_worthiest_43 : decode cX9_worthiest 43 = .ok (.iload 6, 2) := dk_21 6 (dk_at dksX9_worthiest_1 20 rfl rfl)
theorem dX9_worthiest_45 : decode cX9_worthiest 45 = .ok (.invokevirtual 282, 3) := dk_182 1 26 (dk_at dksX9_worthiest_2 0 rfl rfl)
theorem dX9_worthiest_48 : decode cX9_worthiest 48 = .ok (.iconst 1, 1) := dk_4 (dk_at dksX9_worthiest_2 3 rfl rfl)
theorem dX9_worthiest_49 : decode cX9_worthiest 49 = .ok (.if_icmp .ne 26, 3) := dk_160 0 26 (dk_at dksX9_worthiest_2 4 rfl rfl)
theorem dX9_worthiest_52 : decode cX9_worthiest 52 = .ok (.aload_n 0, 1) := dk_42 (dk_at dksX9_worthiest_2 7 rfl rfl)
theorem dX9_worthiest_53 : decode cX9_worthiest 53 = .ok (.iload 5, 2) := dk_21 5 (dk_at dksX9_worthiest_2 8 rfl rfl)
theorem dX9_worthiest_55 : decode cX9_worthiest 55 = .ok (.iload 6, 2) := dk_21 6 (dk_at dksX9_worthiest_2 10 rfl rfl)
theorem dX9_worthiest_57 : decode cX9_worthiest 57 = .ok (.invokevirtual 302, 3) := dk_182 1 46 (dk_at dksX9_worthiest_2 12 rfl rfl)
theorem dX9_worthiest_60 : decode cX9_worthiest 60 = .ok (.ifCond .ne 15, 3) := dk_154 0 15 (dk_at dksX9_worthiest_2 15 rfl rfl)
theorem dX9_worthiest_63 : decode cX9_worthiest 63 = .ok (.aload_n 0, 1) := dk_42 (dk_at dksX9_worthiest_2 18 rfl rfl)
theorem dX9_worthiest_64 : decode cX9_worthiest 64 = .ok (.iload_n 1, 1) := dk_27 (dk_at dksX9_worthiest_2 19 rfl rfl)
theorem dX9_worthiest_65 : decode cX9_worthiest 65 = .ok (.invokevirtual 393, 3) := dk_182 1 137 (dk_at dksX9_worthiest_2 20 rfl rfl)
theorem dX9_worthiest_68 : decode cX9_worthiest 68 = .ok (.ifCond .lt 7, 3) := dk_155 0 7 (dk_at dksX9_worthiest_3 0 rfl rfl)
theorem dX9_worthiest_71 : decode cX9_worthiest 71 = .ok (.iconst 1, 1) := dk_4 (dk_at dksX9_worthiest_3 3 rfl rfl)
theorem dX9_worthiest_72 : decode cX9_worthiest 72 = .ok (.goto 4, 3) := dk_167 0 4 (dk_at dksX9_worthiest_3 4 rfl rfl)
theorem dX9_worthiest_75 : decode cX9_worthiest 75 = .ok (.iconst 0, 1) := dk_3 (dk_at dksX9_worthiest_3 7 rfl rfl)
theorem dX9_worthiest_76 : decode cX9_worthiest 76 = .ok (.istore 7, 2) := dk_54 7 (dk_at dksX9_worthiest_3 8 rfl rfl)
theorem dX9_worthiest_78 : decode cX9_worthiest 78 = .ok (.iload 7, 2) := dk_21 7 (dk_at dksX9_worthiest_3 10 rfl rfl)
theorem dX9_worthiest_80 : decode cX9_worthiest 80 = .ok (.ifCond .eq 15, 3) := dk_153 0 15 (dk_at dksX9_worthiest_3 12 rfl rfl)
theorem dX9_worthiest_83 : decode cX9_worthiest 83 = .ok (.aload_n 0, 1) := dk_42 (dk_at dksX9_worthiest_3 15 rfl rfl)
theorem dX9_worthiest_84 : decode cX9_worthiest 84 = .ok (.iload 5, 2) := dk_21 5 (dk_at dksX9_worthiest_3 16 rfl rfl)
theorem dX9_worthiest_86 : decode cX9_worthiest 86 = .ok (.iload 6, 2) := dk_21 6 (dk_at dksX9_worthiest_3 18 rfl rfl)
theorem dX9_worthiest_88 : decode cX9_worthiest 88 = .ok (.iload_n 1, 1) := dk_27 (dk_at dksX9_worthiest_3 20 rfl rfl)
theorem dX9_worthiest_89 : decode cX9_worthiest 89 = .ok (.invokevirtual 396, 3) := dk_182 1 140 (dk_at dksX9_worthiest_3 21 rfl rfl)
theorem dX9_worthiest_92 : decode cX9_worthiest 92 = .ok (.goto 4, 3) := dk_167 0 4 (dk_at dksX9_worthiest_4 0 rfl rfl)
theorem dX9_worthiest_95 : decode cX9_worthiest 95 = .ok (.iconst 0, 1) := dk_3 (dk_at dksX9_worthiest_4 3 rfl rfl)
theorem dX9_worthiest_96 : decode cX9_worthiest 96 = .ok (.istore 8, 2) := dk_54 8 (dk_at dksX9_worthiest_4 4 rfl rfl)
theorem dX9_worthiest_98 : decode cX9_worthiest 98 = .ok (.iload 7, 2) := dk_21 7 (dk_at dksX9_worthiest_4 6 rfl rfl)
theorem dX9_worthiest_100 : decode cX9_worthiest 100 = .ok (.ifCond .eq 25, 3) := dk_153 0 25 (dk_at dksX9_worthiest_4 8 rfl rfl)
theorem dX9_worthiest_103 : decode cX9_worthiest 103 = .ok (.iload_n 2, 1) := dk_28 (dk_at dksX9_worthiest_4 11 rfl rfl)
theorem dX9_worthiest_104 : decode cX9_worthiest 104 = .ok (.ifCond .lt 9, 3) := dk_155 0 9 (dk_at dksX9_worthiest_4 12 rfl rfl)
theorem dX9_worthiest_107 : decode cX9_worthiest 107 = .ok (.iload 8, 2) := dk_21 8 (dk_at dksX9_worthiest_4 15 rfl rfl)
theorem dX9_worthiest_109 : decode cX9_worthiest 109 = .ok (.iload_n 3, 1) := dk_29 (dk_at dksX9_worthiest_4 17 rfl rfl)
theorem dX9_worthiest_110 : decode cX9_worthiest 110 = .ok (.if_icmp .le 15, 3) := dk_164 0 15 (dk_at dksX9_worthiest_4 18 rfl rfl)
theorem dX9_worthiest_113 : decode cX9_worthiest 113 = .ok (.bipush 8, 2) := dk_16 8 (dk_at dksX9_worthiest_4 21 rfl rfl)
theorem dX9_worthiest_115 : decode cX9_worthiest 115 = .ok (.iload 6, 2) := dk_21 6 (dk_at dksX9_worthiest_5 0 rfl rfl)
theorem dX9_worthiest_117 : decode cX9_worthiest 117 = .ok (.imul, 1) := dk_104 (dk_at dksX9_worthiest_5 2 rfl rfl)
theorem dX9_worthiest_118 : decode cX9_worthiest 118 = .ok (.iload 5, 2) := dk_21 5 (dk_at dksX9_worthiest_5 3 rfl rfl)
theorem dX9_worthiest_120 : decode cX9_worthiest 120 = .ok (.iadd, 1) := dk_96 (dk_at dksX9_worthiest_5 5 rfl rfl)
theorem dX9_worthiest_121 : decode cX9_worthiest 121 = .ok (.istore_n 2, 1) := dk_61 (dk_at dksX9_worthiest_5 6 rfl rfl)
theorem dX9_worthiest_122 : decode cX9_worthiest 122 = .ok (.iload 8, 2) := dk_21 8 (dk_at dksX9_worthiest_5 7 rfl rfl)
theorem dX9_worthiest_124 : decode cX9_worthiest 124 = .ok (.istore_n 3, 1) := dk_62 (dk_at dksX9_worthiest_5 9 rfl rfl)
theorem dX9_worthiest_125 : decode cX9_worthiest 125 = .ok (.iinc 4 1, 3) := dk_132 4 1 (dk_at dksX9_worthiest_5 10 rfl rfl)
theorem dX9_worthiest_128 : decode cX9_worthiest 128 = .ok (.goto (-121), 3) := dk_167 255 135 (dk_at dksX9_worthiest_5 13 rfl rfl)
theorem dX9_worthiest_131 : decode cX9_worthiest 131 = .ok (.aload_n 0, 1) := dk_42 (dk_at dksX9_worthiest_5 16 rfl rfl)
theorem dX9_worthiest_132 : decode cX9_worthiest 132 = .ok (.iconst 0, 1) := dk_3 (dk_at dksX9_worthiest_5 17 rfl rfl)
theorem dX9_worthiest_133 : decode cX9_worthiest 133 = .ok (.putfield 1, 3) := dk_181 0 1 (dk_at dksX9_worthiest_5 18 rfl rfl)
theorem dX9_worthiest_136 : decode cX9_worthiest 136 = .ok (.iload_n 2, 1) := dk_28 (dk_at dksX9_worthiest_5 21 rfl rfl)
theorem dX9_worthiest_137 : decode cX9_worthiest 137 = .ok (.ireturn, 1) := dk_172 (dk_at dksX9_worthiest_5 22 rfl rfl)
abbrev cX9_meanFrom0 : ByteArray := prog_23_method_88_code
def yX9_meanFrom0 : MethodName := ⟨RX9, "meanFrom0", "(I)I"⟩
def dkwX9_meanFrom0_0 : List UInt8 := [42, 6, 3, 2, 3, 182, 1, 133, 42, 3, 3, 27, 182, 1, 121, 172]
abbrev dktX9_meanFrom0_0 : List UInt8 := dkwX9_meanFrom0_0 ++ []
theorem dksX9_meanFrom0_0 : cX9_meanFrom0.data.toList.drop 0 = dktX9_meanFrom0_0 := by decide +kernel
theorem dX9_meanFrom0_0 : decode cX9_meanFrom0 0 = .ok (.aload_n 0, 1) := dk_42 (dk_at dksX9_meanFrom0_0 0 rfl rfl)
theorem dX9_meanFrom0_1 : decode cX9_meanFrom0 1 = .ok (.iconst 3, 1) := dk_6 (dk_at dksX9_meanFrom0_0 1 rfl rfl)
theorem dX9_meanFrom0_2 : decode cX9_meanFrom0 2 = .ok (.iconst 0, 1) := dk_3 (dk_at dksX9_meanFrom0_0 2 rfl rfl)
theorem dX9_meanFrom0_3 : decode cX9_meanFrom0 3 = .ok (.iconst (-1), 1) := dk_2 (dk_at dksX9_meanFrom0_0 3 rfl rfl)
theorem dX9_meanFrom0_4 : decode cX9_meanFrom0 4 = .ok (.iconst 0, 1) := dk_3 (dk_at dksX9_meanFrom0_0 4 rfl rfl)
theorem dX9_meanFrom0_5 : decode cX9_meanFrom0 5 = .ok (.invokevirtual 389, 3) := dk_182 1 133 (dk_at dksX9_meanFrom0_0 5 rfl rfl)
theorem dX9_meanFrom0_8 : decode cX9_meanFrom0 8 = .ok (.aload_n 0, 1) := dk_42 (dk_at dksX9_meanFrom0_0 8 rfl rfl)
theorem dX9_meanFrom0_9 : decode cX9_meanFrom0 9 = .ok (.iconst 0, 1) := dk_3 (dk_at dksX9_meanFrom0_0 9 rfl rfl)
theorem dX9_meanFrom0_10 : decode cX9_meanFrom0 10 = .ok (.iconst 0, 1) := dk_3 (dk_at dksX9_meanFrom0_0 10 rfl rfl)
theorem dX9_meanFrom0_11 : decode cX9_meanFrom0 11 = .ok (.iload_n 1, 1) := dk_27 (dk_at dksX9_meanFrom0_0 11 rfl rfl)
theorem dX9_meanFrom0_12 : decode cX9_meanFrom0 12 = .ok (.invokevirtual 377, 3) := dk_182 1 121 (dk_at dksX9_meanFrom0_0 12 rfl rfl)
theorem dX9_meanFrom0_15 : decode cX9_meanFrom0 15 = .ok (.ireturn, 1) := dk_172 (dk_at dksX9_meanFrom0_0 15 rfl rfl)
abbrev cX9_odds : ByteArray := prog_23_method_90_code
def yX9_odds : MethodName := ⟨RX9, "odds", "(III)I"⟩
def dkwX9_odds_3 : List UInt8 := [181, 1, 146, 42, 3, 3, 3, 182, 1, 152, 172]
abbrev dktX9_odds_3 : List UInt8 := dkwX9_odds_3 ++ []
def dkwX9_odds_2 : List UInt8 := [156, 0, 5, 2, 172, 42, 89, 180, 1, 149, 4, 96, 181, 1, 149, 42, 28, 181, 1, 143, 42, 29]
abbrev dktX9_odds_2 : List UInt8 := dkwX9_odds_2 ++ dktX9_odds_3
def dkwX9_odds_1 : List UInt8 := [182, 1, 50, 154, 0, 5, 2, 172, 42, 27, 3, 2, 3, 182, 1, 133, 42, 3, 3, 28, 182, 1, 121]
abbrev dktX9_odds_1 : List UInt8 := dkwX9_odds_1 ++ dktX9_odds_2
def dkwX9_odds_0 : List UInt8 := [42, 3, 181, 0, 1, 42, 27, 182, 1, 127, 153, 0, 19, 42, 28, 182, 1, 50, 153, 0, 11, 42, 29]
abbrev dktX9_odds_0 : List UInt8 := dkwX9_odds_0 ++ dktX9_odds_1
theorem dksX9_odds_0 : cX9_odds.data.toList.drop 0 = dktX9_odds_0 := by decide +kernel
theorem dksX9_odds_1 : cX9_odds.data.toList.drop 23 = dktX9_odds_1 := dk_seg dksX9_odds_0 23 rfl rfl
theorem dksX9_odds_2 : cX9_odds.data.toList.drop 46 = dktX9_odds_2 := dk_seg dksX9_odds_1 23 rfl rfl
theorem dksX9_odds_3 : cX9_odds.data.toList.drop 68 = dktX9_odds_3 := dk_seg dksX9_odds_2 22 rfl rfl
theorem dX9_odds_0 : decode cX9_odds 0 = .ok (.aload_n 0, 1) := dk_42 (dk_at dksX9_odds_0 0 rfl rfl)
theorem dX9_odds_1 : decode cX9_odds 1 = .ok (.iconst 0, 1) := dk_3 (dk_at dksX9_odds_0 1 rfl rfl)
theorem dX9_odds_2 : decode cX9_odds 2 = .ok (.putfield 1, 3) := dk_181 0 1 (dk_at dksX9_odds_0 2 rfl rfl)
theorem dX9_odds_5 : decode cX9_odds 5 = .ok (.aload_n 0, 1) := dk_42 (dk_at dksX9_odds_0 5 rfl rfl)
theorem dX9_odds_6 : decode cX9_odds 6 = .ok (.iload_n 1, 1) := dk_27 (dk_at dksX9_odds_0 6 rfl rfl)
theorem dX9_odds_7 : decode cX9_odds 7 = .ok (.invokevirtual 383, 3) := dk_182 1 127 (dk_at dksX9_odds_0 7 rfl rfl)
theorem dX9_odds_10 : decode cX9_odds 10 = .ok (.ifCond .eq 19, 3) := dk_153 0 19 (dk_at dksX9_odds_0 10 rfl rfl)
theorem dX9_odds_13 : decode cX9_odds 13 = .ok (.aload_n 0, 1) := dk_42 (dk_at dksX9_odds_0 13 rfl rfl)
theorem dX9_odds_14 : decode cX9_odds 14 = .ok (.iload_n 2, 1) := dk_28 (dk_at dksX9_odds_0 14 rfl rfl)
theorem dX9_odds_15 : decode cX9_odds 15 = .ok (.invokevirtual 306, 3) := dk_182 1 50 (dk_at dksX9_odds_0 15 rfl rfl)
theorem dX9_odds_18 : decode cX9_odds 18 = .ok (.ifCond .eq 11, 3) := dk_153 0 11 (dk_at dksX9_odds_0 18 rfl rfl)
theorem dX9_odds_21 : decode cX9_odds 21 = .ok (.aload_n 0, 1) := dk_42 (dk_at dksX9_odds_0 21 rfl rfl)
theorem dX9_odds_22 : decode cX9_odds 22 = .ok (.iload_n 3, 1) := dk_29 (dk_at dksX9_odds_0 22 rfl rfl)
theorem dX9_odds_23 : decode cX9_odds 23 = .ok (.invokevirtual 306, 3) := dk_182 1 50 (dk_at dksX9_odds_1 0 rfl rfl)
theorem dX9_odds_26 : decode cX9_odds 26 = .ok (.ifCond .ne 5, 3) := dk_154 0 5 (dk_at dksX9_odds_1 3 rfl rfl)
theorem dX9_odds_29 : decode cX9_odds 29 = .ok (.iconst (-1), 1) := dk_2 (dk_at dksX9_odds_1 6 rfl rfl)
theorem dX9_odds_30 : decode cX9_odds 30 = .ok (.ireturn, 1) := dk_172 (dk_at dksX9_odds_1 7 rfl rfl)
theorem dX9_odds_31 : decode cX9_odds 31 = .ok (.aload_n 0, 1) := dk_42 (dk_at dksX9_odds_1 8 rfl rfl)
theorem dX9_odds_32 : decode cX9_odds 32 = .ok (.iload_n 1, 1) := dk_27 (dk_at dksX9_odds_1 9 rfl rfl)
theorem dX9_odds_33 : decode cX9_odds 33 = .ok (.iconst 0, 1) := dk_3 (dk_at dksX9_odds_1 10 rfl rfl)
theorem dX9_odds_34 : decode cX9_odds 34 = .ok (.iconst (-1), 1) := dk_2 (dk_at dksX9_odds_1 11 rfl rfl)
theorem dX9_odds_35 : decode cX9_odds 35 = .ok (.iconst 0, 1) := dk_3 (dk_at dksX9_odds_1 12 rfl rfl)
theorem dX9_odds_36 : decode cX9_odds 36 = .ok (.invokevirtual 389, 3) := dk_182 1 133 (dk_at dksX9_odds_1 13 rfl rfl)
theorem dX9_odds_39 : decode cX9_odds 39 = .ok (.aload_n 0, 1) := dk_42 (dk_at dksX9_odds_1 16 rfl rfl)
theorem dX9_odds_40 : decode cX9_odds 40 = .ok (.iconst 0, 1) := dk_3 (dk_at dksX9_odds_1 17 rfl rfl)
theorem dX9_odds_41 : decode cX9_odds 41 = .ok (.iconst 0, 1) := dk_3 (dk_at dksX9_odds_1 18 rfl rfl)
theorem dX9_odds_42 : decode cX9_odds 42 = .ok (.iload_n 2, 1) := dk_28 (dk_at dksX9_odds_1 19 rfl rfl)
theorem dX9_odds_43 : decode cX9_odds 43 = .ok (.invokevirtual 377, 3) := dk_182 1 121 (dk_at dksX9_odds_1 20 rfl rfl)
theorem dX9_odds_46 : decode cX9_odds 46 = .ok (.ifCond .ge 5, 3) := dk_156 0 5 (dk_at dksX9_odds_2 0 rfl rfl)
theorem dX9_odds_49 : decode cX9_odds 49 = .ok (.iconst (-1), 1) := dk_2 (dk_at dksX9_odds_2 3 rfl rfl)
theorem dX9_odds_50 : decode cX9_odds 50 = .ok (.ireturn, 1) := dk_172 (dk_at dksX9_odds_2 4 rfl rfl)
theorem dX9_odds_51 : decode cX9_odds 51 = .ok (.aload_n 0, 1) := dk_42 (dk_at dksX9_odds_2 5 rfl rfl)
theorem dX9_odds_52 : decode cX9_odds 52 = .ok (.dup, 1) := dk_89 (dk_at dksX9_odds_2 6 rfl rfl)
theorem dX9_odds_53 : decode cX9_odds 53 = .ok (.getfield 405, 3) := dk_180 1 149 (dk_at dksX9_odds_2 7 rfl rfl)
theorem dX9_odds_56 : decode cX9_odds 56 = .ok (.iconst 1, 1) := dk_4 (dk_at dksX9_odds_2 10 rfl rfl)
theorem dX9_odds_57 : decode cX9_odds 57 = .ok (.iadd, 1) := dk_96 (dk_at dksX9_odds_2 11 rfl rfl)
theorem dX9_odds_58 : decode cX9_odds 58 = .ok (.putfield 405, 3) := dk_181 1 149 (dk_at dksX9_odds_2 12 rfl rfl)
theorem dX9_odds_61 : decode cX9_odds 61 = .ok (.aload_n 0, 1) := dk_42 (dk_at dksX9_odds_2 15 rfl rfl)
theorem dX9_odds_62 : decode cX9_odds 62 = .ok (.iload_n 2, 1) := dk_28 (dk_at dksX9_odds_2 16 rfl rfl)
theorem dX9_odds_63 : decode cX9_odds 63 = .ok (.putfield 399, 3) := dk_181 1 143 (dk_at dksX9_odds_2 17 rfl rfl)
theorem dX9_odds_66 : decode cX9_odds 66 = .ok (.aload_n 0, 1) := dk_42 (dk_at dksX9_odds_2 20 rfl rfl)
theorem dX9_odds_67 : decode cX9_odds 67 = .ok (.iload_n 3, 1) := dk_29 (dk_at dksX9_odds_2 21 rfl rfl)
theorem dX9_odds_68 : decode cX9_odds 68 = .ok (.putfield 402, 3) := dk_181 1 146 (dk_at dksX9_odds_3 0 rfl rfl)
theorem dX9_odds_71 : decode cX9_odds 71 = .ok (.aload_n 0, 1) := dk_42 (dk_at dksX9_odds_3 3 rfl rfl)
theorem dX9_odds_72 : decode cX9_odds 72 = .ok (.iconst 0, 1) := dk_3 (dk_at dksX9_odds_3 4 rfl rfl)
theorem dX9_odds_73 : decode cX9_odds 73 = .ok (.iconst 0, 1) := dk_3 (dk_at dksX9_odds_3 5 rfl rfl)
theorem dX9_odds_74 : decode cX9_odds 74 = .ok (.iconst 0, 1) := dk_3 (dk_at dksX9_odds_3 6 rfl rfl)
theorem dX9_odds_75 : decode cX9_odds 75 = .ok (.invokevirtual 408, 3) := dk_182 1 152 (dk_at dksX9_odds_3 7 rfl rfl)
theorem dX9_odds_78 : decode cX9_odds 78 = .ok (.ireturn, 1) := dk_172 (dk_at dksX9_odds_3 10 rfl rfl)
abbrev cX9_chanceFrom : ByteArray := prog_23_method_89_code
def yX9_chanceFrom : MethodName := ⟨RX9, "chanceFrom", "(III)I"⟩
def dkwX9_chanceFrom_9 : List UInt8 := [180, 1, 149, 79, 42, 180, 0, 122, 21, 4, 46, 172]
abbrev dktX9_chanceFrom_9 : List UInt8 := dkwX9_chanceFrom_9 ++ []
def dkwX9_chanceFrom_8 : List UInt8 := [167, 255, 178, 42, 180, 0, 122, 21, 4, 21, 6, 21, 7, 108, 79, 42, 180, 0, 125, 21, 4, 42]
abbrev dktX9_chanceFrom_8 : List UInt8 := dkwX9_chanceFrom_8 ++ dktX9_chanceFrom_9
def dkwX9_chanceFrom_7 : List UInt8 := [21, 9, 182, 1, 59, 96, 42, 180, 0, 81, 5, 46, 96, 182, 1, 152, 96, 54, 6, 132, 8, 1]
abbrev dktX9_chanceFrom_7 : List UInt8 := dkwX9_chanceFrom_7 ++ dktX9_chanceFrom_8
def dkwX9_chanceFrom_6 : List UInt8 := [182, 1, 115, 54, 10, 21, 6, 42, 27, 4, 96, 21, 10, 100, 28, 21, 10, 96, 29, 42, 27, 28, 21, 10]
abbrev dktX9_chanceFrom_6 : List UInt8 := dkwX9_chanceFrom_6 ++ dktX9_chanceFrom_7
def dkwX9_chanceFrom_5 : List UInt8 := [182, 1, 106, 153, 0, 8, 21, 8, 167, 0, 5, 21, 5, 54, 9, 42, 27, 28, 21, 5, 21, 9]
abbrev dktX9_chanceFrom_5 : List UInt8 := dkwX9_chanceFrom_5 ++ dktX9_chanceFrom_6
def dkwX9_chanceFrom_4 : List UInt8 := [182, 1, 33, 167, 0, 4, 4, 54, 7, 3, 54, 8, 21, 8, 21, 7, 162, 0, 77, 42, 27, 28]
abbrev dktX9_chanceFrom_4 : List UInt8 := dkwX9_chanceFrom_4 ++ dktX9_chanceFrom_5
def dkwX9_chanceFrom_3 : List UInt8 := [16, 9, 46, 112, 54, 5, 3, 54, 6, 42, 27, 28, 182, 1, 106, 153, 0, 13, 42, 27, 28, 4]
abbrev dktX9_chanceFrom_3 : List UInt8 := dkwX9_chanceFrom_3 ++ dktX9_chanceFrom_4
def dkwX9_chanceFrom_2 : List UInt8 := [180, 0, 125, 21, 4, 46, 42, 180, 1, 149, 159, 0, 151, 42, 180, 1, 143, 29, 96, 42, 180, 0, 81]
abbrev dktX9_chanceFrom_2 : List UInt8 := dkwX9_chanceFrom_2 ++ dktX9_chanceFrom_3
def dkwX9_chanceFrom_1 : List UInt8 := [19, 1, 49, 167, 0, 4, 3, 172, 17, 4, 176, 16, 6, 28, 104, 27, 96, 104, 29, 96, 54, 4, 42]
abbrev dktX9_chanceFrom_1 : List UInt8 := dkwX9_chanceFrom_1 ++ dktX9_chanceFrom_2
def dkwX9_chanceFrom_0 : List UInt8 := [42, 27, 28, 182, 1, 79, 153, 0, 24, 42, 180, 1, 143, 29, 96, 42, 180, 1, 146, 163, 0, 9]
abbrev dktX9_chanceFrom_0 : List UInt8 := dkwX9_chanceFrom_0 ++ dktX9_chanceFrom_1
theorem dksX9_chanceFrom_0 : cX9_chanceFrom.data.toList.drop 0 = dktX9_chanceFrom_0 := by decide +kernel
theorem dksX9_chanceFrom_1 : cX9_chanceFrom.data.toList.drop 22 = dktX9_chanceFrom_1 := dk_seg dksX9_chanceFrom_0 22 rfl rfl
theorem dksX9_chanceFrom_2 : cX9_chanceFrom.data.toList.drop 45 = dktX9_chanceFrom_2 := dk_seg dksX9_chanceFrom_1 23 rfl rfl
theorem dksX9_chanceFrom_3 : cX9_chanceFrom.data.toList.drop 68 = dktX9_chanceFrom_3 := dk_seg dksX9_chanceFrom_2 23 rfl rfl
theorem dksX9_chanceFrom_4 : cX9_chanceFrom.data.toList.drop 90 = dktX9_chanceFrom_4 := dk_seg dksX9_chanceFrom_3 22 rfl rfl
theorem dksX9_chanceFrom_5 : cX9_chanceFrom.data.toList.drop 112 = dktX9_chanceFrom_5 := dk_seg dksX9_chanceFrom_4 22 rfl rfl
theorem dksX9_chanceFrom_6 : cX9_chanceFrom.data.toList.drop 134 = dktX9_chanceFrom_6 := dk_seg dksX9_chanceFrom_5 22 rfl rfl
theorem dksX9_chanceFrom_7 : cX9_chanceFrom.data.toList.drop 158 = dktX9_chanceFrom_7 := dk_seg dksX9_chanceFrom_6 24 rfl rfl
theorem dksX9_chanceFrom_8 : cX9_chanceFrom.data.toList.drop 180 = dktX9_chanceFrom_8 := dk_seg dksX9_chanceFrom_7 22 rfl rfl
theorem dksX9_chanceFrom_9 : cX9_chanceFrom.data.toList.drop 202 = dktX9_chanceFrom_9 := dk_seg dksX9_chanceFrom_8 22 rfl rfl
theorem dX9_chanceFrom_0 : decode cX9_chanceFrom 0 = .ok (.aload_n 0, 1) := dk_42 (dk_at dksX9_chanceFrom_0 0 rfl rfl)
theorem dX9_chanceFrom_1 : decode cX9_chanceFrom 1 = .ok (.iload_n 1, 1) := dk_27 (dk_at dksX9_chanceFrom_0 1 rfl rfl)
theorem dX9_chanceFrom_2 : decode cX9_chanceFrom 2 = .ok (.iload_n 2, 1) := dk_28 (dk_at dksX9_chanceFrom_0 2 rfl rfl)
theorem dX9_chanceFrom_3 : decode cX9_chanceFrom 3 = .ok (.invokevirtual 335, 3) := dk_182 1 79 (dk_at dksX9_chanceFrom_0 3 rfl rfl)
theorem dX9_chanceFrom_6 : decode cX9_chanceFrom 6 = .ok (.ifCond .eq 24, 3) := dk_153 0 24 (dk_at dksX9_chanceFrom_0 6 rfl rfl)
theorem dX9_chanceFrom_9 : decode cX9_chanceFrom 9 = .ok (.aload_n 0, 1) := dk_42 (dk_at dksX9_chanceFrom_0 9 rfl rfl)
theorem dX9_chanceFrom_10 : decode cX9_chanceFrom 10 = .ok (.getfield 399, 3) := dk_180 1 143 (dk_at dksX9_chanceFrom_0 10 rfl rfl)
theorem dX9_chanceFrom_13 : decode cX9_chanceFrom 13 = .ok (.iload_n 3, 1) := dk_29 (dk_at dksX9_chanceFrom_0 13 rfl rfl)
theorem dX9_chanceFrom_14 : decode cX9_chanceFrom 14 = .ok (.iadd, 1) := dk_96 (dk_at dksX9_chanceFrom_0 14 rfl rfl)
theorem dX9_chanceFrom_15 : decode cX9_chanceFrom 15 = .ok (.aload_n 0, 1) := dk_42 (dk_at dksX9_chanceFrom_0 15 rfl rfl)
theorem dX9_chanceFrom_16 : decode cX9_chanceFrom 16 = .ok (.getfield 402, 3) := dk_180 1 146 (dk_at dksX9_chanceFrom_0 16 rfl rfl)
theorem dX9_chanceFrom_19 : decode cX9_chanceFrom 19 = .ok (.if_icmp .gt 9, 3) := dk_163 0 9 (dk_at dksX9_chanceFrom_0 19 rfl rfl)
theorem dX9_chanceFrom_22 : decode cX9_chanceFrom 22 = .ok (.ldc_w 305, 3) := dk_19 1 49 (dk_at dksX9_chanceFrom_1 0 rfl rfl)
theorem dX9_chanceFrom_25 : decode cX9_chanceFrom 25 = .ok (.goto 4, 3) := dk_167 0 4 (dk_at dksX9_chanceFrom_1 3 rfl rfl)
theorem dX9_chanceFrom_28 : decode cX9_chanceFrom 28 = .ok (.iconst 0, 1) := dk_3 (dk_at dksX9_chanceFrom_1 6 rfl rfl)
theorem dX9_chanceFrom_29 : decode cX9_chanceFrom 29 = .ok (.ireturn, 1) := dk_172 (dk_at dksX9_chanceFrom_1 7 rfl rfl)
theorem dX9_chanceFrom_30 : decode cX9_chanceFrom 30 = .ok (.sipush 1200, 3) := dk_17 4 176 (dk_at dksX9_chanceFrom_1 8 rfl rfl)
theorem dX9_chanceFrom_33 : decode cX9_chanceFrom 33 = .ok (.bipush 6, 2) := dk_16 6 (dk_at dksX9_chanceFrom_1 11 rfl rfl)
theorem dX9_chanceFrom_35 : decode cX9_chanceFrom 35 = .ok (.iload_n 2, 1) := dk_28 (dk_at dksX9_chanceFrom_1 13 rfl rfl)
theorem dX9_chanceFrom_36 : decode cX9_chanceFrom 36 = .ok (.imul, 1) := dk_104 (dk_at dksX9_chanceFrom_1 14 rfl rfl)
theorem dX9_chanceFrom_37 : decode cX9_chanceFrom 37 = .ok (.iload_n 1, 1) := dk_27 (dk_at dksX9_chanceFrom_1 15 rfl rfl)
theorem dX9_chanceFrom_38 : decode cX9_chanceFrom 38 = .ok (.iadd, 1) := dk_96 (dk_at dksX9_chanceFrom_1 16 rfl rfl)
theorem dX9_chanceFrom_39 : decode cX9_chanceFrom 39 = .ok (.imul, 1) := dk_104 (dk_at dksX9_chanceFrom_1 17 rfl rfl)
theorem dX9_chanceFrom_40 : decode cX9_chanceFrom 40 = .ok (.iload_n 3, 1) := dk_29 (dk_at dksX9_chanceFrom_1 18 rfl rfl)
theorem dX9_chanceFrom_41 : decode cX9_chanceFrom 41 = .ok (.iadd, 1) := dk_96 (dk_at dksX9_chanceFrom_1 19 rfl rfl)
theorem dX9_chanceFrom_42 : decode cX9_chanceFrom 42 = .ok (.istore 4, 2) := dk_54 4 (dk_at dksX9_chanceFrom_1 20 rfl rfl)
theorem dX9_chanceFrom_44 : decode cX9_chanceFrom 44 = .ok (.aload_n 0, 1) := dk_42 (dk_at dksX9_chanceFrom_1 22 rfl rfl)
theorem dX9_chanceFrom_45 : decode cX9_chanceFrom 45 = .ok (.getfield 125, 3) := dk_180 0 125 (dk_at dksX9_chanceFrom_2 0 rfl rfl)
theorem dX9_chanceFrom_48 : decode cX9_chanceFrom 48 = .ok (.iload 4, 2) := dk_21 4 (dk_at dksX9_chanceFrom_2 3 rfl rfl)
theorem dX9_chanceFrom_50 : decode cX9_chanceFrom 50 = .ok (.iaload, 1) := dk_46 (dk_at dksX9_chanceFrom_2 5 rfl rfl)
theorem dX9_chanceFrom_51 : decode cX9_chanceFrom 51 = .ok (.aload_n 0, 1) := dk_42 (dk_at dksX9_chanceFrom_2 6 rfl rfl)
theorem dX9_chanceFrom_52 : decode cX9_chanceFrom 52 = .ok (.getfield 405, 3) := dk_180 1 149 (dk_at dksX9_chanceFrom_2 7 rfl rfl)
theorem dX9_chanceFrom_55 : decode cX9_chanceFrom 55 = .ok (.if_icmp .eq 151, 3) := dk_159 0 151 (dk_at dksX9_chanceFrom_2 10 rfl rfl)
theorem dX9_chanceFrom_58 : decode cX9_chanceFrom 58 = .ok (.aload_n 0, 1) := dk_42 (dk_at dksX9_chanceFrom_2 13 rfl rfl)
theorem dX9_chanceFrom_59 : decode cX9_chanceFrom 59 = .ok (.getfield 399, 3) := dk_180 1 143 (dk_at dksX9_chanceFrom_2 14 rfl rfl)
theorem dX9_chanceFrom_62 : decode cX9_chanceFrom 62 = .ok (.iload_n 3, 1) := dk_29 (dk_at dksX9_chanceFrom_2 17 rfl rfl)
theorem dX9_chanceFrom_63 : decode cX9_chanceFrom 63 = .ok (.iadd, 1) := dk_96 (dk_at dksX9_chanceFrom_2 18 rfl rfl)
theorem dX9_chanceFrom_64 : decode cX9_chanceFrom 64 = .ok (.aload_n 0, 1) := dk_42 (dk_at dksX9_chanceFrom_2 19 rfl rfl)
theorem dX9_chanceFrom_65 : decode cX9_chanceFrom 65 = .ok (.getfield 81, 3) := dk_180 0 81 (dk_at dksX9_chanceFrom_2 20 rfl rfl)
theorem dX9_chanceFrom_68 : decode cX9_chanceFrom 68 = .ok (.bipush 9, 2) := dk_16 9 (dk_at dksX9_chanceFrom_3 0 rfl rfl)
theorem dX9_chanceFrom_70 : decode cX9_chanceFrom 70 = .ok (.iaload, 1) := dk_46 (dk_at dksX9_chanceFrom_3 2 rfl rfl)
theorem dX9_chanceFrom_71 : decode cX9_chanceFrom 71 = .ok (.irem, 1) := dk_112 (dk_at dksX9_chanceFrom_3 3 rfl rfl)
theorem dX9_chanceFrom_72 : decode cX9_chanceFrom 72 = .ok (.istore 5, 2) := dk_54 5 (dk_at dksX9_chanceFrom_3 4 rfl rfl)
theorem dX9_chanceFrom_74 : decode cX9_chanceFrom 74 = .ok (.iconst 0, 1) := dk_3 (dk_at dksX9_chanceFrom_3 6 rfl rfl)
theorem dX9_chanceFrom_75 : decode cX9_chanceFrom 75 = .ok (.istore 6, 2) := dk_54 6 (dk_at dksX9_chanceFrom_3 7 rfl rfl)
theorem dX9_chanceFrom_77 : decode cX9_chanceFrom 77 = .ok (.aload_n 0, 1) := dk_42 (dk_at dksX9_chanceFrom_3 9 rfl rfl)
theorem dX9_chanceFrom_78 : decode cX9_chanceFrom 78 = .ok (.iload_n 1, 1) := dk_27 (dk_at dksX9_chanceFrom_3 10 rfl rfl)
theorem dX9_chanceFrom_79 : decode cX9_chanceFrom 79 = .ok (.iload_n 2, 1) := dk_28 (dk_at dksX9_chanceFrom_3 11 rfl rfl)
theorem dX9_chanceFrom_80 : decode cX9_chanceFrom 80 = .ok (.invokevirtual 362, 3) := dk_182 1 106 (dk_at dksX9_chanceFrom_3 12 rfl rfl)
theorem dX9_chanceFrom_83 : decode cX9_chanceFrom 83 = .ok (.ifCond .eq 13, 3) := dk_153 0 13 (dk_at dksX9_chanceFrom_3 15 rfl rfl)
theorem dX9_chanceFrom_86 : decode cX9_chanceFrom 86 = .ok (.aload_n 0, 1) := dk_42 (dk_at dksX9_chanceFrom_3 18 rfl rfl)
theorem dX9_chanceFrom_87 : decode cX9_chanceFrom 87 = .ok (.iload_n 1, 1) := dk_27 (dk_at dksX9_chanceFrom_3 19 rfl rfl)
theorem dX9_chanceFrom_88 : decode cX9_chanceFrom 88 = .ok (.iload_n 2, 1) := dk_28 (dk_at dksX9_chanceFrom_3 20 rfl rfl)
theorem dX9_chanceFrom_89 : decode cX9_chanceFrom 89 = .ok (.iconst 1, 1) := dk_4 (dk_at dksX9_chanceFrom_3 21 rfl rfl)
theorem dX9_chanceFrom_90 : decode cX9_chanceFrom 90 = .ok (.invokevirtual 289, 3) := dk_182 1 33 (dk_at dksX9_chanceFrom_4 0 rfl rfl)
theorem dX9_chanceFrom_93 : decode cX9_chanceFrom 93 = .ok (.goto 4, 3) := dk_167 0 4 (dk_at dksX9_chanceFrom_4 3 rfl rfl)
theorem dX9_chanceFrom_96 : decode cX9_chanceFrom 96 = .ok (.iconst 1, 1) := dk_4 (dk_at dksX9_chanceFrom_4 6 rfl rfl)
theorem dX9_chanceFrom_97 : decode cX9_chanceFrom 97 = .ok (.istore 7, 2) := dk_54 7 (dk_at dksX9_chanceFrom_4 7 rfl rfl)
theorem dX9_chanceFrom_99 : decode cX9_chanceFrom 99 = .ok (.iconst 0, 1) := dk_3 (dk_at dksX9_chanceFrom_4 9 rfl rfl)
theorem dX9_chanceFrom_100 : decode cX9_chanceFrom 100 = .ok (.istore 8, 2) := dk_54 8 (dk_at dksX9_chanceFrom_4 10 rfl rfl)
theorem dX9_chanceFrom_102 : decode cX9_chanceFrom 102 = .ok (.iload 8, 2) := dk_21 8 (dk_at dksX9_chanceFrom_4 12 rfl rfl)
theorem dX9_chanceFrom_104 : decode cX9_chanceFrom 104 = .ok (.iload 7, 2) := dk_21 7 (dk_at dksX9_chanceFrom_4 14 rfl rfl)
theorem dX9_chanceFrom_106 : decode cX9_chanceFrom 106 = .ok (.if_icmp .ge 77, 3) := dk_162 0 77 (dk_at dksX9_chanceFrom_4 16 rfl rfl)
theorem dX9_chanceFrom_109 : decode cX9_chanceFrom 109 = .ok (.aload_n 0, 1) := dk_42 (dk_at dksX9_chanceFrom_4 19 rfl rfl)
theorem dX9_chanceFrom_110 : decode cX9_chanceFrom 110 = .ok (.iload_n 1, 1) := dk_27 (dk_at dksX9_chanceFrom_4 20 rfl rfl)
theorem dX9_chanceFrom_111 : decode cX9_chanceFrom 111 = .ok (.iload_n 2, 1) := dk_28 (dk_at dksX9_chanceFrom_4 21 rfl rfl)
theorem dX9_chanceFrom_112 : decode cX9_chanceFrom 112 = .ok (.invokevirtual 362, 3) := dk_182 1 106 (dk_at dksX9_chanceFrom_5 0 rfl rfl)
theorem dX9_chanceFrom_115 : decode cX9_chanceFrom 115 = .ok (.ifCond .eq 8, 3) := dk_153 0 8 (dk_at dksX9_chanceFrom_5 3 rfl rfl)
theorem dX9_chanceFrom_118 : decode cX9_chanceFrom 118 = .ok (.iload 8, 2) := dk_21 8 (dk_at dksX9_chanceFrom_5 6 rfl rfl)
theorem dX9_chanceFrom_120 : decode cX9_chanceFrom 120 = .ok (.goto 5, 3) := dk_167 0 5 (dk_at dksX9_chanceFrom_5 8 rfl rfl)
theorem dX9_chanceFrom_123 : decode cX9_chanceFrom 123 = .ok (.iload 5, 2) := dk_21 5 (dk_at dksX9_chanceFrom_5 11 rfl rfl)
theorem dX9_chanceFrom_125 : decode cX9_chanceFrom 125 = .ok (.istore 9, 2) := dk_54 9 (dk_at dksX9_chanceFrom_5 13 rfl rfl)
theorem dX9_chanceFrom_127 : decode cX9_chanceFrom 127 = .ok (.aload_n 0, 1) := dk_42 (dk_at dksX9_chanceFrom_5 15 rfl rfl)
theorem dX9_chanceFrom_128 : decode cX9_chanceFrom 128 = .ok (.iload_n 1, 1) := dk_27 (dk_at dksX9_chanceFrom_5 16 rfl rfl)
theorem dX9_chanceFrom_129 : decode cX9_chanceFrom 129 = .ok (.iload_n 2, 1) := dk_28 (dk_at dksX9_chanceFrom_5 17 rfl rfl)
theorem dX9_chanceFrom_130 : decode cX9_chanceFrom 130 = .ok (.iload 5, 2) := dk_21 5 (dk_at dksX9_chanceFrom_5 18 rfl rfl)
theorem dX9_chanceFrom_132 : decode cX9_chanceFrom 132 = .ok (.iload 9, 2) := dk_21 9 (dk_at dksX9_chanceFrom_5 20 rfl rfl)
theorem dX9_chanceFrom_134 : decode cX9_chanceFrom 134 = .ok (.invokevirtual 371, 3) := dk_182 1 115 (dk_at dksX9_chanceFrom_6 0 rfl rfl)
theorem dX9_chanceFrom_137 : decode cX9_chanceFrom 137 = .ok (.istore 10, 2) := dk_54 10 (dk_at dksX9_chanceFrom_6 3 rfl rfl)
theorem dX9_chanceFrom_139 : decode cX9_chanceFrom 139 = .ok (.iload 6, 2) := dk_21 6 (dk_at dksX9_chanceFrom_6 5 rfl rfl)
theorem dX9_chanceFrom_141 : decode cX9_chanceFrom 141 = .ok (.aload_n 0, 1) := dk_42 (dk_at dksX9_chanceFrom_6 7 rfl rfl)
theorem dX9_chanceFrom_142 : decode cX9_chanceFrom 142 = .ok (.iload_n 1, 1) := dk_27 (dk_at dksX9_chanceFrom_6 8 rfl rfl)
theorem dX9_chanceFrom_143 : decode cX9_chanceFrom 143 = .ok (.iconst 1, 1) := dk_4 (dk_at dksX9_chanceFrom_6 9 rfl rfl)
theorem dX9_chanceFrom_144 : decode cX9_chanceFrom 144 = .ok (.iadd, 1) := dk_96 (dk_at dksX9_chanceFrom_6 10 rfl rfl)
theorem dX9_chanceFrom_145 : decode cX9_chanceFrom 145 = .ok (.iload 10, 2) := dk_21 10 (dk_at dksX9_chanceFrom_6 11 rfl rfl)
theorem dX9_chanceFrom_147 : decode cX9_chanceFrom 147 = .ok (.isub, 1) := dk_100 (dk_at dksX9_chanceFrom_6 13 rfl rfl)
theorem dX9_chanceFrom_148 : decode cX9_chanceFrom 148 = .ok (.iload_n 2, 1) := dk_28 (dk_at dksX9_chanceFrom_6 14 rfl rfl)
theorem dX9_chanceFrom_149 : decode cX9_chanceFrom 149 = .ok (.iload 10, 2) := dk_21 10 (dk_at dksX9_chanceFrom_6 15 rfl rfl)
theorem dX9_chanceFrom_151 : decode cX9_chanceFrom 151 = .ok (.iadd, 1) := dk_96 (dk_at dksX9_chanceFrom_6 17 rfl rfl)
theorem dX9_chanceFrom_152 : decode cX9_chanceFrom 152 = .ok (.iload_n 3, 1) := dk_29 (dk_at dksX9_chanceFrom_6 18 rfl rfl)
theorem dX9_chanceFrom_153 : decode cX9_chanceFrom 153 = .ok (.aload_n 0, 1) := dk_42 (dk_at dksX9_chanceFrom_6 19 rfl rfl)
theorem dX9_chanceFrom_154 : decode cX9_chanceFrom 154 = .ok (.iload_n 1, 1) := dk_27 (dk_at dksX9_chanceFrom_6 20 rfl rfl)
theorem dX9_chanceFrom_155 : decode cX9_chanceFrom 155 = .ok (.iload_n 2, 1) := dk_28 (dk_at dksX9_chanceFrom_6 21 rfl rfl)
theorem dX9_chanceFrom_156 : decode cX9_chanceFrom 156 = .ok (.iload 10, 2) := dk_21 10 (dk_at dksX9_chanceFrom_6 22 rfl rfl)
theorem dX9_chanceFrom_158 : decode cX9_chanceFrom 158 = .ok (.iload 9, 2) := dk_21 9 (dk_at dksX9_chanceFrom_7 0 rfl rfl)
theorem dX9_chanceFrom_160 : decode cX9_chanceFrom 160 = .ok (.invokevirtual 315, 3) := dk_182 1 59 (dk_at dksX9_chanceFrom_7 2 rfl rfl)
theorem dX9_chanceFrom_163 : decode cX9_chanceFrom 163 = .ok (.iadd, 1) := dk_96 (dk_at dksX9_chanceFrom_7 5 rfl rfl)
theorem dX9_chanceFrom_164 : decode cX9_chanceFrom 164 = .ok (.aload_n 0, 1) := dk_42 (dk_at dksX9_chanceFrom_7 6 rfl rfl)
theorem dX9_chanceFrom_165 : decode cX9_chanceFrom 165 = .ok (.getfield 81, 3) := dk_180 0 81 (dk_at dksX9_chanceFrom_7 7 rfl rfl)
theorem dX9_chanceFrom_168 : decode cX9_chanceFrom 168 = .ok (.iconst 2, 1) := dk_5 (dk_at dksX9_chanceFrom_7 10 rfl rfl)
theorem dX9_chanceFrom_169 : decode cX9_chanceFrom 169 = .ok (.iaload, 1) := dk_46 (dk_at dksX9_chanceFrom_7 11 rfl rfl)
theorem dX9_chanceFrom_170 : decode cX9_chanceFrom 170 = .ok (.iadd, 1) := dk_96 (dk_at dksX9_chanceFrom_7 12 rfl rfl)
theorem dX9_chanceFrom_171 : decode cX9_chanceFrom 171 = .ok (.invokevirtual 408, 3) := dk_182 1 152 (dk_at dksX9_chanceFrom_7 13 rfl rfl)
theorem dX9_chanceFrom_174 : decode cX9_chanceFrom 174 = .ok (.iadd, 1) := dk_96 (dk_at dksX9_chanceFrom_7 16 rfl rfl)
theorem dX9_chanceFrom_175 : decode cX9_chanceFrom 175 = .ok (.istore 6, 2) := dk_54 6 (dk_at dksX9_chanceFrom_7 17 rfl rfl)
theorem dX9_chanceFrom_177 : decode cX9_chanceFrom 177 = .ok (.iinc 8 1, 3) := dk_132 8 1 (dk_at dksX9_chanceFrom_7 19 rfl rfl)
theorem dX9_chanceFrom_180 : decode cX9_chanceFrom 180 = .ok (.goto (-78), 3) := dk_167 255 178 (dk_at dksX9_chanceFrom_8 0 rfl rfl)
theorem dX9_chanceFrom_183 : decode cX9_chanceFrom 183 = .ok (.aload_n 0, 1) := dk_42 (dk_at dksX9_chanceFrom_8 3 rfl rfl)
theorem dX9_chanceFrom_184 : decode cX9_chanceFrom 184 = .ok (.getfield 122, 3) := dk_180 0 122 (dk_at dksX9_chanceFrom_8 4 rfl rfl)
theorem dX9_chanceFrom_187 : decode cX9_chanceFrom 187 = .ok (.iload 4, 2) := dk_21 4 (dk_at dksX9_chanceFrom_8 7 rfl rfl)
theorem dX9_chanceFrom_189 : decode cX9_chanceFrom 189 = .ok (.iload 6, 2) := dk_21 6 (dk_at dksX9_chanceFrom_8 9 rfl rfl)
theorem dX9_chanceFrom_191 : decode cX9_chanceFrom 191 = .ok (.iload 7, 2) := dk_21 7 (dk_at dksX9_chanceFrom_8 11 rfl rfl)
theorem dX9_chanceFrom_193 : decode cX9_chanceFrom 193 = .ok (.idiv, 1) := dk_108 (dk_at dksX9_chanceFrom_8 13 rfl rfl)
theorem dX9_chanceFrom_194 : decode cX9_chanceFrom 194 = .ok (.iastore, 1) := dk_79 (dk_at dksX9_chanceFrom_8 14 rfl rfl)
theorem dX9_chanceFrom_195 : decode cX9_chanceFrom 195 = .ok (.aload_n 0, 1) := dk_42 (dk_at dksX9_chanceFrom_8 15 rfl rfl)
theorem dX9_chanceFrom_196 : decode cX9_chanceFrom 196 = .ok (.getfield 125, 3) := dk_180 0 125 (dk_at dksX9_chanceFrom_8 16 rfl rfl)
theorem dX9_chanceFrom_199 : decode cX9_chanceFrom 199 = .ok (.iload 4, 2) := dk_21 4 (dk_at dksX9_chanceFrom_8 19 rfl rfl)
theorem dX9_chanceFrom_201 : decode cX9_chanceFrom 201 = .ok (.aload_n 0, 1) := dk_42 (dk_at dksX9_chanceFrom_8 21 rfl rfl)
theorem dX9_chanceFrom_202 : decode cX9_chanceFrom 202 = .ok (.getfield 405, 3) := dk_180 1 149 (dk_at dksX9_chanceFrom_9 0 rfl rfl)
theorem dX9_chanceFrom_205 : decode cX9_chanceFrom 205 = .ok (.iastore, 1) := dk_79 (dk_at dksX9_chanceFrom_9 3 rfl rfl)
theorem dX9_chanceFrom_206 : decode cX9_chanceFrom 206 = .ok (.aload_n 0, 1) := dk_42 (dk_at dksX9_chanceFrom_9 4 rfl rfl)
theorem dX9_chanceFrom_207 : decode cX9_chanceFrom 207 = .ok (.getfield 122, 3) := dk_180 0 122 (dk_at dksX9_chanceFrom_9 5 rfl rfl)
theorem dX9_chanceFrom_210 : decode cX9_chanceFrom 210 = .ok (.iload 4, 2) := dk_21 4 (dk_at dksX9_chanceFrom_9 8 rfl rfl)
theorem dX9_chanceFrom_212 : decode cX9_chanceFrom 212 = .ok (.iaload, 1) := dk_46 (dk_at dksX9_chanceFrom_9 10 rfl rfl)
theorem dX9_chanceFrom_213 : decode cX9_chanceFrom 213 = .ok (.ireturn, 1) := dk_172 (dk_at dksX9_chanceFrom_9 11 rfl rfl)
abbrev cX9_pace : ByteArray := prog_23_method_96_code
def yX9_pace : MethodName := ⟨RX9, "pace", "(II)I"⟩
def dkwX9_pace_11 : List UInt8 := [167, 0, 4, 3, 100, 62, 132, 7, 1, 167, 255, 149, 21, 6, 172]
abbrev dktX9_pace_11 : List UInt8 := dkwX9_pace_11 ++ []
def dkwX9_pace_10 : List UInt8 := [96, 182, 1, 59, 21, 6, 96, 96, 54, 5, 29, 21, 6, 42, 180, 0, 81, 5, 46, 162, 0, 7, 4]
abbrev dktX9_pace_10 : List UInt8 := dkwX9_pace_10 ++ dktX9_pace_11
def dkwX9_pace_9 : List UInt8 := [21, 5, 42, 21, 8, 21, 7, 21, 8, 100, 42, 180, 0, 93, 4, 5, 21, 7, 104, 96, 46, 27, 21, 5]
abbrev dktX9_pace_9 : List UInt8 := dkwX9_pace_9 ++ dktX9_pace_10
def dkwX9_pace_8 : List UInt8 := [21, 5, 29, 182, 1, 173, 159, 0, 9, 132, 6, 1, 167, 255, 230, 42, 21, 7, 182, 1, 167, 54, 8]
abbrev dktX9_pace_8 : List UInt8 := dkwX9_pace_8 ++ dktX9_pace_9
def dkwX9_pace_7 : List UInt8 := [163, 0, 105, 42, 182, 1, 158, 54, 6, 42, 21, 7, 21, 5, 29, 21, 6, 182, 1, 164, 42, 21, 7]
abbrev dktX9_pace_7 : List UInt8 := dkwX9_pace_7 ++ dktX9_pace_8
def dkwX9_pace_6 : List UInt8 := [19, 1, 176, 112, 96, 4, 100, 172, 3, 54, 5, 3, 54, 6, 3, 54, 7, 21, 7, 28, 5, 100]
abbrev dktX9_pace_6 : List UInt8 := dkwX9_pace_6 ++ dktX9_pace_7
def dkwX9_pace_5 : List UInt8 := [160, 0, 7, 2, 167, 0, 26, 28, 154, 0, 12, 21, 4, 19, 1, 176, 108, 167, 0, 13, 27, 21, 4]
abbrev dktX9_pace_5 : List UInt8 := dkwX9_pace_5 ++ dktX9_pace_6
def dkwX9_pace_4 : List UInt8 := [29, 182, 1, 173, 54, 4, 21, 4, 19, 1, 82, 159, 0, 8, 28, 5, 162, 0, 39, 21, 4, 19, 1, 82]
abbrev dktX9_pace_4 : List UInt8 := dkwX9_pace_4 ++ dktX9_pace_5
def dkwX9_pace_3 : List UInt8 := [180, 0, 81, 16, 6, 46, 4, 160, 0, 7, 3, 167, 0, 9, 42, 180, 0, 81, 8, 46, 62, 42, 3, 3]
abbrev dktX9_pace_3 : List UInt8 := dkwX9_pace_3 ++ dktX9_pace_4
def dkwX9_pace_2 : List UInt8 := [162, 0, 16, 42, 180, 0, 129, 29, 3, 79, 132, 3, 1, 167, 255, 240, 42, 27, 181, 1, 170, 42]
abbrev dktX9_pace_2 : List UInt8 := dkwX9_pace_2 ++ dktX9_pace_3
def dkwX9_pace_1 : List UInt8 := [184, 1, 43, 153, 0, 12, 42, 180, 0, 93, 3, 46, 154, 0, 5, 2, 172, 3, 62, 29, 18, 128]
abbrev dktX9_pace_1 : List UInt8 := dkwX9_pace_1 ++ dktX9_pace_2
def dkwX9_pace_0 : List UInt8 := [42, 3, 181, 0, 1, 42, 27, 182, 1, 50, 153, 0, 28, 28, 3, 4, 42, 180, 0, 93, 3, 46, 96]
abbrev dktX9_pace_0 : List UInt8 := dkwX9_pace_0 ++ dktX9_pace_1
theorem dksX9_pace_0 : cX9_pace.data.toList.drop 0 = dktX9_pace_0 := by decide +kernel
theorem dksX9_pace_1 : cX9_pace.data.toList.drop 23 = dktX9_pace_1 := dk_seg dksX9_pace_0 23 rfl rfl
theorem dksX9_pace_2 : cX9_pace.data.toList.drop 45 = dktX9_pace_2 := dk_seg dksX9_pace_1 22 rfl rfl
theorem dksX9_pace_3 : cX9_pace.data.toList.drop 67 = dktX9_pace_3 := dk_seg dksX9_pace_2 22 rfl rfl
theorem dksX9_pace_4 : cX9_pace.data.toList.drop 91 = dktX9_pace_4 := dk_seg dksX9_pace_3 24 rfl rfl
theorem dksX9_pace_5 : cX9_pace.data.toList.drop 115 = dktX9_pace_5 := dk_seg dksX9_pace_4 24 rfl rfl
theorem dksX9_pace_6 : cX9_pace.data.toList.drop 138 = dktX9_pace_6 := dk_seg dksX9_pace_5 23 rfl rfl
theorem dksX9_pace_7 : cX9_pace.data.toList.drop 160 = dktX9_pace_7 := dk_seg dksX9_pace_6 22 rfl rfl
theorem dksX9_pace_8 : cX9_pace.data.toList.drop 183 = dktX9_pace_8 := dk_seg dksX9_pace_7 23 rfl rfl
theorem dksX9_pace_9 : cX9_pace.data.toList.drop 206 = dktX9_pace_9 := dk_seg dksX9_pace_8 23 rfl rfl
theorem dksX9_pace_10 : cX9_pace.data.toList.drop 230 = dktX9_pace_10 := dk_seg dksX9_pace_9 24 rfl rfl
theorem dksX9_pace_11 : cX9_pace.data.toList.drop 253 = dktX9_pace_11 := dk_seg dksX9_pace_10 23 rfl rfl
theorem dX9_pace_0 : decode cX9_pace 0 = .ok (.aload_n 0, 1) := dk_42 (dk_at dksX9_pace_0 0 rfl rfl)
theorem dX9_pace_1 : decode cX9_pace 1 = .ok (.iconst 0, 1) := dk_3 (dk_at dksX9_pace_0 1 rfl rfl)
theorem dX9_pace_2 : decode cX9_pace 2 = .ok (.putfield 1, 3) := dk_181 0 1 (dk_at dksX9_pace_0 2 rfl rfl)
theorem dX9_pace_5 : decode cX9_pace 5 = .ok (.aload_n 0, 1) := dk_42 (dk_at dksX9_pace_0 5 rfl rfl)
theorem dX9_pace_6 : decode cX9_pace 6 = .ok (.iload_n 1, 1) := dk_27 (dk_at dksX9_pace_0 6 rfl rfl)
theorem dX9_pace_7 : decode cX9_pace 7 = .ok (.invokevirtual 306, 3) := dk_182 1 50 (dk_at dksX9_pace_0 7 rfl rfl)
theorem dX9_pace_10 : decode cX9_pace 10 = .ok (.ifCond .eq 28, 3) := dk_153 0 28 (dk_at dksX9_pace_0 10 rfl rfl)
theorem dX9_pace_13 : decode cX9_pace 13 = .ok (.iload_n 2, 1) := dk_28 (dk_at dksX9_pace_0 13 rfl rfl)
theorem dX9_pace_14 : decode cX9_pace 14 = .ok (.iconst 0, 1) := dk_3 (dk_at dksX9_pace_0 14 rfl rfl)
theorem dX9_pace_15 : decode cX9_pace 15 = .ok (.iconst 1, 1) := dk_4 (dk_at dksX9_pace_0 15 rfl rfl)
theorem dX9_pace_16 : decode cX9_pace 16 = .ok (.aload_n 0, 1) := dk_42 (dk_at dksX9_pace_0 16 rfl rfl)
theorem dX9_pace_17 : decode cX9_pace 17 = .ok (.getfield 93, 3) := dk_180 0 93 (dk_at dksX9_pace_0 17 rfl rfl)
theorem dX9_pace_20 : decode cX9_pace 20 = .ok (.iconst 0, 1) := dk_3 (dk_at dksX9_pace_0 20 rfl rfl)
theorem dX9_pace_21 : decode cX9_pace 21 = .ok (.iaload, 1) := dk_46 (dk_at dksX9_pace_0 21 rfl rfl)
theorem dX9_pace_22 : decode cX9_pace 22 = .ok (.iadd, 1) := dk_96 (dk_at dksX9_pace_0 22 rfl rfl)
theorem dX9_pace_23 : decode cX9_pace 23 = .ok (.invokestatic 299, 3) := dk_184 1 43 (dk_at dksX9_pace_1 0 rfl rfl)
theorem dX9_pace_26 : decode cX9_pace 26 = .ok (.ifCond .eq 12, 3) := dk_153 0 12 (dk_at dksX9_pace_1 3 rfl rfl)
theorem dX9_pace_29 : decode cX9_pace 29 = .ok (.aload_n 0, 1) := dk_42 (dk_at dksX9_pace_1 6 rfl rfl)
theorem dX9_pace_30 : decode cX9_pace 30 = .ok (.getfield 93, 3) := dk_180 0 93 (dk_at dksX9_pace_1 7 rfl rfl)
theorem dX9_pace_33 : decode cX9_pace 33 = .ok (.iconst 0, 1) := dk_3 (dk_at dksX9_pace_1 10 rfl rfl)
theorem dX9_pace_34 : decode cX9_pace 34 = .ok (.iaload, 1) := dk_46 (dk_at dksX9_pace_1 11 rfl rfl)
theorem dX9_pace_35 : decode cX9_pace 35 = .ok (.ifCond .ne 5, 3) := dk_154 0 5 (dk_at dksX9_pace_1 12 rfl rfl)
theorem dX9_pace_38 : decode cX9_pace 38 = .ok (.iconst (-1), 1) := dk_2 (dk_at dksX9_pace_1 15 rfl rfl)
theorem dX9_pace_39 : decode cX9_pace 39 = .ok (.ireturn, 1) := dk_172 (dk_at dksX9_pace_1 16 rfl rfl)
theorem dX9_pace_40 : decode cX9_pace 40 = .ok (.iconst 0, 1) := dk_3 (dk_at dksX9_pace_1 17 rfl rfl)
theorem dX9_pace_41 : decode cX9_pace 41 = .ok (.istore_n 3, 1) := dk_62 (dk_at dksX9_pace_1 18 rfl rfl)
theorem dX9_pace_42 : decode cX9_pace 42 = .ok (.iload_n 3, 1) := dk_29 (dk_at dksX9_pace_1 19 rfl rfl)
theorem dX9_pace_43 : decode cX9_pace 43 = .ok (.ldc 128, 2) := dk_18 128 (dk_at dksX9_pace_1 20 rfl rfl)
theorem dX9_pace_45 : decode cX9_pace 45 = .ok (.if_icmp .ge 16, 3) := dk_162 0 16 (dk_at dksX9_pace_2 0 rfl rfl)
theorem dX9_pace_48 : decode cX9_pace 48 = .ok (.aload_n 0, 1) := dk_42 (dk_at dksX9_pace_2 3 rfl rfl)
theorem dX9_pace_49 : decode cX9_pace 49 = .ok (.getfield 129, 3) := dk_180 0 129 (dk_at dksX9_pace_2 4 rfl rfl)
theorem dX9_pace_52 : decode cX9_pace 52 = .ok (.iload_n 3, 1) := dk_29 (dk_at dksX9_pace_2 7 rfl rfl)
theorem dX9_pace_53 : decode cX9_pace 53 = .ok (.iconst 0, 1) := dk_3 (dk_at dksX9_pace_2 8 rfl rfl)
theorem dX9_pace_54 : decode cX9_pace 54 = .ok (.iastore, 1) := dk_79 (dk_at dksX9_pace_2 9 rfl rfl)
theorem dX9_pace_55 : decode cX9_pace 55 = .ok (.iinc 3 1, 3) := dk_132 3 1 (dk_at dksX9_pace_2 10 rfl rfl)
theorem dX9_pace_58 : decode cX9_pace 58 = .ok (.goto (-16), 3) := dk_167 255 240 (dk_at dksX9_pace_2 13 rfl rfl)
theorem dX9_pace_61 : decode cX9_pace 61 = .ok (.aload_n 0, 1) := dk_42 (dk_at dksX9_pace_2 16 rfl rfl)
theorem dX9_pace_62 : decode cX9_pace 62 = .ok (.iload_n 1, 1) := dk_27 (dk_at dksX9_pace_2 17 rfl rfl)
theorem dX9_pace_63 : decode cX9_pace 63 = .ok (.putfield 426, 3) := dk_181 1 170 (dk_at dksX9_pace_2 18 rfl rfl)
theorem dX9_pace_66 : decode cX9_pace 66 = .ok (.aload_n 0, 1) := dk_42 (dk_at dksX9_pace_2 21 rfl rfl)
theorem dX9_pace_67 : decode cX9_pace 67 = .ok (.getfield 81, 3) := dk_180 0 81 (dk_at dksX9_pace_3 0 rfl rfl)
theorem dX9_pace_70 : decode cX9_pace 70 = .ok (.bipush 6, 2) := dk_16 6 (dk_at dksX9_pace_3 3 rfl rfl)
theorem dX9_pace_72 : decode cX9_pace 72 = .ok (.iaload, 1) := dk_46 (dk_at dksX9_pace_3 5 rfl rfl)
theorem dX9_pace_73 : decode cX9_pace 73 = .ok (.iconst 1, 1) := dk_4 (dk_at dksX9_pace_3 6 rfl rfl)
theorem dX9_pace_74 : decode cX9_pace 74 = .ok (.if_icmp .ne 7, 3) := dk_160 0 7 (dk_at dksX9_pace_3 7 rfl rfl)
theorem dX9_pace_77 : decode cX9_pace 77 = .ok (.iconst 0, 1) := dk_3 (dk_at dksX9_pace_3 10 rfl rfl)
theorem dX9_pace_78 : decode cX9_pace 78 = .ok (.goto 9, 3) := dk_167 0 9 (dk_at dksX9_pace_3 11 rfl rfl)
theorem dX9_pace_81 : decode cX9_pace 81 = .ok (.aload_n 0, 1) := dk_42 (dk_at dksX9_pace_3 14 rfl rfl)
theorem dX9_pace_82 : decode cX9_pace 82 = .ok (.getfield 81, 3) := dk_180 0 81 (dk_at dksX9_pace_3 15 rfl rfl)
theorem dX9_pace_85 : decode cX9_pace 85 = .ok (.iconst 5, 1) := dk_8 (dk_at dksX9_pace_3 18 rfl rfl)
theorem dX9_pace_86 : decode cX9_pace 86 = .ok (.iaload, 1) := dk_46 (dk_at dksX9_pace_3 19 rfl rfl)
theorem dX9_pace_87 : decode cX9_pace 87 = .ok (.istore_n 3, 1) := dk_62 (dk_at dksX9_pace_3 20 rfl rfl)
theorem dX9_pace_88 : decode cX9_pace 88 = .ok (.aload_n 0, 1) := dk_42 (dk_at dksX9_pace_3 21 rfl rfl)
theorem dX9_pace_89 : decode cX9_pace 89 = .ok (.iconst 0, 1) := dk_3 (dk_at dksX9_pace_3 22 rfl rfl)
theorem dX9_pace_90 : decode cX9_pace 90 = .ok (.iconst 0, 1) := dk_3 (dk_at dksX9_pace_3 23 rfl rfl)
theorem dX9_pace_91 : decode cX9_pace 91 = .ok (.iload_n 3, 1) := dk_29 (dk_at dksX9_pace_4 0 rfl rfl)
theorem dX9_pace_92 : decode cX9_pace 92 = .ok (.invokevirtual 429, 3) := dk_182 1 173 (dk_at dksX9_pace_4 1 rfl rfl)
theorem dX9_pace_95 : decode cX9_pace 95 = .ok (.istore 4, 2) := dk_54 4 (dk_at dksX9_pace_4 4 rfl rfl)
theorem dX9_pace_97 : decode cX9_pace 97 = .ok (.iload 4, 2) := dk_21 4 (dk_at dksX9_pace_4 6 rfl rfl)
theorem dX9_pace_99 : decode cX9_pace 99 = .ok (.ldc_w 338, 3) := dk_19 1 82 (dk_at dksX9_pace_4 8 rfl rfl)
theorem dX9_pace_102 : decode cX9_pace 102 = .ok (.if_icmp .eq 8, 3) := dk_159 0 8 (dk_at dksX9_pace_4 11 rfl rfl)
theorem dX9_pace_105 : decode cX9_pace 105 = .ok (.iload_n 2, 1) := dk_28 (dk_at dksX9_pace_4 14 rfl rfl)
theorem dX9_pace_106 : decode cX9_pace 106 = .ok (.iconst 2, 1) := dk_5 (dk_at dksX9_pace_4 15 rfl rfl)
theorem dX9_pace_107 : decode cX9_pace 107 = .ok (.if_icmp .ge 39, 3) := dk_162 0 39 (dk_at dksX9_pace_4 16 rfl rfl)
theorem dX9_pace_110 : decode cX9_pace 110 = .ok (.iload 4, 2) := dk_21 4 (dk_at dksX9_pace_4 19 rfl rfl)
theorem dX9_pace_112 : decode cX9_pace 112 = .ok (.ldc_w 338, 3) := dk_19 1 82 (dk_at dksX9_pace_4 21 rfl rfl)
theorem dX9_pace_115 : decode cX9_pace 115 = .ok (.if_icmp .ne 7, 3) := dk_160 0 7 (dk_at dksX9_pace_5 0 rfl rfl)
theorem dX9_pace_118 : decode cX9_pace 118 = .ok (.iconst (-1), 1) := dk_2 (dk_at dksX9_pace_5 3 rfl rfl)
theorem dX9_pace_119 : decode cX9_pace 119 = .ok (.goto 26, 3) := dk_167 0 26 (dk_at dksX9_pace_5 4 rfl rfl)
theorem dX9_pace_122 : decode cX9_pace 122 = .ok (.iload_n 2, 1) := dk_28 (dk_at dksX9_pace_5 7 rfl rfl)
theorem dX9_pace_123 : decode cX9_pace 123 = .ok (.ifCond .ne 12, 3) := dk_154 0 12 (dk_at dksX9_pace_5 8 rfl rfl)
theorem dX9_pace_126 : decode cX9_pace 126 = .ok (.iload 4, 2) := dk_21 4 (dk_at dksX9_pace_5 11 rfl rfl)
theorem dX9_pace_128 : decode cX9_pace 128 = .ok (.ldc_w 432, 3) := dk_19 1 176 (dk_at dksX9_pace_5 13 rfl rfl)
theorem dX9_pace_131 : decode cX9_pace 131 = .ok (.idiv, 1) := dk_108 (dk_at dksX9_pace_5 16 rfl rfl)
theorem dX9_pace_132 : decode cX9_pace 132 = .ok (.goto 13, 3) := dk_167 0 13 (dk_at dksX9_pace_5 17 rfl rfl)
theorem dX9_pace_135 : decode cX9_pace 135 = .ok (.iload_n 1, 1) := dk_27 (dk_at dksX9_pace_5 20 rfl rfl)
theorem dX9_pace_136 : decode cX9_pace 136 = .ok (.iload 4, 2) := dk_21 4 (dk_at dksX9_pace_5 21 rfl rfl)
theorem dX9_pace_138 : decode cX9_pace 138 = .ok (.ldc_w 432, 3) := dk_19 1 176 (dk_at dksX9_pace_6 0 rfl rfl)
theorem dX9_pace_141 : decode cX9_pace 141 = .ok (.irem, 1) := dk_112 (dk_at dksX9_pace_6 3 rfl rfl)
theorem dX9_pace_142 : decode cX9_pace 142 = .ok (.iadd, 1) := dk_96 (dk_at dksX9_pace_6 4 rfl rfl)
theorem dX9_pace_143 : decode cX9_pace 143 = .ok (.iconst 1, 1) := dk_4 (dk_at dksX9_pace_6 5 rfl rfl)
theorem dX9_pace_144 : decode cX9_pace 144 = .ok (.isub, 1) := dk_100 (dk_at dksX9_pace_6 6 rfl rfl)
theorem dX9_pace_145 : decode cX9_pace 145 = .ok (.ireturn, 1) := dk_172 (dk_at dksX9_pace_6 7 rfl rfl)
theorem dX9_pace_146 : decode cX9_pace 146 = .ok (.iconst 0, 1) := dk_3 (dk_at dksX9_pace_6 8 rfl rfl)
theorem dX9_pace_147 : decode cX9_pace 147 = .ok (.istore 5, 2) := dk_54 5 (dk_at dksX9_pace_6 9 rfl rfl)
theorem dX9_pace_149 : decode cX9_pace 149 = .ok (.iconst 0, 1) := dk_3 (dk_at dksX9_pace_6 11 rfl rfl)
theorem dX9_pace_150 : decode cX9_pace 150 = .ok (.istore 6, 2) := dk_54 6 (dk_at dksX9_pace_6 12 rfl rfl)
theorem dX9_pace_152 : decode cX9_pace 152 = .ok (.iconst 0, 1) := dk_3 (dk_at dksX9_pace_6 14 rfl rfl)
theorem dX9_pace_153 : decode cX9_pace 153 = .ok (.istore 7, 2) := dk_54 7 (dk_at dksX9_pace_6 15 rfl rfl)
theorem dX9_pace_155 : decode cX9_pace 155 = .ok (.iload 7, 2) := dk_21 7 (dk_at dksX9_pace_6 17 rfl rfl)
theorem dX9_pace_157 : decode cX9_pace 157 = .ok (.iload_n 2, 1) := dk_28 (dk_at dksX9_pace_6 19 rfl rfl)
theorem dX9_pace_158 : decode cX9_pace 158 = .ok (.iconst 2, 1) := dk_5 (dk_at dksX9_pace_6 20 rfl rfl)
theorem dX9_pace_159 : decode cX9_pace 159 = .ok (.isub, 1) := dk_100 (dk_at dksX9_pace_6 21 rfl rfl)
theorem dX9_pace_160 : decode cX9_pace 160 = .ok (.if_icmp .gt 105, 3) := dk_163 0 105 (dk_at dksX9_pace_7 0 rfl rfl)
theorem dX9_pace_163 : decode cX9_pace 163 = .ok (.aload_n 0, 1) := dk_42 (dk_at dksX9_pace_7 3 rfl rfl)
theorem dX9_pace_164 : decode cX9_pace 164 = .ok (.invokevirtual 414, 3) := dk_182 1 158 (dk_at dksX9_pace_7 4 rfl rfl)
theorem dX9_pace_167 : decode cX9_pace 167 = .ok (.istore 6, 2) := dk_54 6 (dk_at dksX9_pace_7 7 rfl rfl)
theorem dX9_pace_169 : decode cX9_pace 169 = .ok (.aload_n 0, 1) := dk_42 (dk_at dksX9_pace_7 9 rfl rfl)
theorem dX9_pace_170 : decode cX9_pace 170 = .ok (.iload 7, 2) := dk_21 7 (dk_at dksX9_pace_7 10 rfl rfl)
theorem dX9_pace_172 : decode cX9_pace 172 = .ok (.iload 5, 2) := dk_21 5 (dk_at dksX9_pace_7 12 rfl rfl)
theorem dX9_pace_174 : decode cX9_pace 174 = .ok (.iload_n 3, 1) := dk_29 (dk_at dksX9_pace_7 14 rfl rfl)
theorem dX9_pace_175 : decode cX9_pace 175 = .ok (.iload 6, 2) := dk_21 6 (dk_at dksX9_pace_7 15 rfl rfl)
theorem dX9_pace_177 : decode cX9_pace 177 = .ok (.invokevirtual 420, 3) := dk_182 1 164 (dk_at dksX9_pace_7 17 rfl rfl)
theorem dX9_pace_180 : decode cX9_pace 180 = .ok (.aload_n 0, 1) := dk_42 (dk_at dksX9_pace_7 20 rfl rfl)
theorem dX9_pace_181 : decode cX9_pace 181 = .ok (.iload 7, 2) := dk_21 7 (dk_at dksX9_pace_7 21 rfl rfl)
theorem dX9_pace_183 : decode cX9_pace 183 = .ok (.iload 5, 2) := dk_21 5 (dk_at dksX9_pace_8 0 rfl rfl)
theorem dX9_pace_185 : decode cX9_pace 185 = .ok (.iload_n 3, 1) := dk_29 (dk_at dksX9_pace_8 2 rfl rfl)
theorem dX9_pace_186 : decode cX9_pace 186 = .ok (.invokevirtual 429, 3) := dk_182 1 173 (dk_at dksX9_pace_8 3 rfl rfl)
theorem dX9_pace_189 : decode cX9_pace 189 = .ok (.if_icmp .eq 9, 3) := dk_159 0 9 (dk_at dksX9_pace_8 6 rfl rfl)
theorem dX9_pace_192 : decode cX9_pace 192 = .ok (.iinc 6 1, 3) := dk_132 6 1 (dk_at dksX9_pace_8 9 rfl rfl)
theorem dX9_pace_195 : decode cX9_pace 195 = .ok (.goto (-26), 3) := dk_167 255 230 (dk_at dksX9_pace_8 12 rfl rfl)
theorem dX9_pace_198 : decode cX9_pace 198 = .ok (.aload_n 0, 1) := dk_42 (dk_at dksX9_pace_8 15 rfl rfl)
theorem dX9_pace_199 : decode cX9_pace 199 = .ok (.iload 7, 2) := dk_21 7 (dk_at dksX9_pace_8 16 rfl rfl)
theorem dX9_pace_201 : decode cX9_pace 201 = .ok (.invokevirtual 423, 3) := dk_182 1 167 (dk_at dksX9_pace_8 18 rfl rfl)
theorem dX9_pace_204 : decode cX9_pace 204 = .ok (.istore 8, 2) := dk_54 8 (dk_at dksX9_pace_8 21 rfl rfl)
theorem dX9_pace_206 : decode cX9_pace 206 = .ok (.iload 5, 2) := dk_21 5 (dk_at dksX9_pace_9 0 rfl rfl)
theorem dX9_pace_208 : decode cX9_pace 208 = .ok (.aload_n 0, 1) := dk_42 (dk_at dksX9_pace_9 2 rfl rfl)
theorem dX9_pace_209 : decode cX9_pace 209 = .ok (.iload 8, 2) := dk_21 8 (dk_at dksX9_pace_9 3 rfl rfl)
theorem dX9_pace_211 : decode cX9_pace 211 = .ok (.iload 7, 2) := dk_21 7 (dk_at dksX9_pace_9 5 rfl rfl)
theorem dX9_pace_213 : decode cX9_pace 213 = .ok (.iload 8, 2) := dk_21 8 (dk_at dksX9_pace_9 7 rfl rfl)
theorem dX9_pace_215 : decode cX9_pace 215 = .ok (.isub, 1) := dk_100 (dk_at dksX9_pace_9 9 rfl rfl)
theorem dX9_pace_216 : decode cX9_pace 216 = .ok (.aload_n 0, 1) := dk_42 (dk_at dksX9_pace_9 10 rfl rfl)
theorem dX9_pace_217 : decode cX9_pace 217 = .ok (.getfield 93, 3) := dk_180 0 93 (dk_at dksX9_pace_9 11 rfl rfl)
theorem dX9_pace_220 : decode cX9_pace 220 = .ok (.iconst 1, 1) := dk_4 (dk_at dksX9_pace_9 14 rfl rfl)
theorem dX9_pace_221 : decode cX9_pace 221 = .ok (.iconst 2, 1) := dk_5 (dk_at dksX9_pace_9 15 rfl rfl)
theorem dX9_pace_222 : decode cX9_pace 222 = .ok (.iload 7, 2) := dk_21 7 (dk_at dksX9_pace_9 16 rfl rfl)
theorem dX9_pace_224 : decode cX9_pace 224 = .ok (.imul, 1) := dk_104 (dk_at dksX9_pace_9 18 rfl rfl)
theorem dX9_pace_225 : decode cX9_pace 225 = .ok (.iadd, 1) := dk_96 (dk_at dksX9_pace_9 19 rfl rfl)
theorem dX9_pace_226 : decode cX9_pace 226 = .ok (.iaload, 1) := dk_46 (dk_at dksX9_pace_9 20 rfl rfl)
theorem dX9_pace_227 : decode cX9_pace 227 = .ok (.iload_n 1, 1) := dk_27 (dk_at dksX9_pace_9 21 rfl rfl)
theorem dX9_pace_228 : decode cX9_pace 228 = .ok (.iload 5, 2) := dk_21 5 (dk_at dksX9_pace_9 22 rfl rfl)
theorem dX9_pace_230 : decode cX9_pace 230 = .ok (.iadd, 1) := dk_96 (dk_at dksX9_pace_10 0 rfl rfl)
theorem dX9_pace_231 : decode cX9_pace 231 = .ok (.invokevirtual 315, 3) := dk_182 1 59 (dk_at dksX9_pace_10 1 rfl rfl)
theorem dX9_pace_234 : decode cX9_pace 234 = .ok (.iload 6, 2) := dk_21 6 (dk_at dksX9_pace_10 4 rfl rfl)
theorem dX9_pace_236 : decode cX9_pace 236 = .ok (.iadd, 1) := dk_96 (dk_at dksX9_pace_10 6 rfl rfl)
theorem dX9_pace_237 : decode cX9_pace 237 = .ok (.iadd, 1) := dk_96 (dk_at dksX9_pace_10 7 rfl rfl)
theorem dX9_pace_238 : decode cX9_pace 238 = .ok (.istore 5, 2) := dk_54 5 (dk_at dksX9_pace_10 8 rfl rfl)
theorem dX9_pace_240 : decode cX9_pace 240 = .ok (.iload_n 3, 1) := dk_29 (dk_at dksX9_pace_10 10 rfl rfl)
theorem dX9_pace_241 : decode cX9_pace 241 = .ok (.iload 6, 2) := dk_21 6 (dk_at dksX9_pace_10 11 rfl rfl)
theorem dX9_pace_243 : decode cX9_pace 243 = .ok (.aload_n 0, 1) := dk_42 (dk_at dksX9_pace_10 13 rfl rfl)
theorem dX9_pace_244 : decode cX9_pace 244 = .ok (.getfield 81, 3) := dk_180 0 81 (dk_at dksX9_pace_10 14 rfl rfl)
theorem dX9_pace_247 : decode cX9_pace 247 = .ok (.iconst 2, 1) := dk_5 (dk_at dksX9_pace_10 17 rfl rfl)
theorem dX9_pace_248 : decode cX9_pace 248 = .ok (.iaload, 1) := dk_46 (dk_at dksX9_pace_10 18 rfl rfl)
theorem dX9_pace_249 : decode cX9_pace 249 = .ok (.if_icmp .ge 7, 3) := dk_162 0 7 (dk_at dksX9_pace_10 19 rfl rfl)
theorem dX9_pace_252 : decode cX9_pace 252 = .ok (.iconst 1, 1) := dk_4 (dk_at dksX9_pace_10 22 rfl rfl)
theorem dX9_pace_253 : decode cX9_pace 253 = .ok (.goto 4, 3) := dk_167 0 4 (dk_at dksX9_pace_11 0 rfl rfl)
theorem dX9_pace_256 : decode cX9_pace 256 = .ok (.iconst 0, 1) := dk_3 (dk_at dksX9_pace_11 3 rfl rfl)
theorem dX9_pace_257 : decode cX9_pace 257 = .ok (.isub, 1) := dk_100 (dk_at dksX9_pace_11 4 rfl rfl)
theorem dX9_pace_258 : decode cX9_pace 258 = .ok (.istore_n 3, 1) := dk_62 (dk_at dksX9_pace_11 5 rfl rfl)
theorem dX9_pace_259 : decode cX9_pace 259 = .ok (.iinc 7 1, 3) := dk_132 7 1 (dk_at dksX9_pace_11 6 rfl rfl)
theorem dX9_pace_262 : decode cX9_pace 262 = .ok (.goto (-107), 3) := dk_167 255 149 (dk_at dksX9_pace_11 9 rfl rfl)
theorem dX9_pace_265 : decode cX9_pace 265 = .ok (.iload 6, 2) := dk_21 6 (dk_at dksX9_pace_11 12 rfl rfl)
theorem dX9_pace_267 : decode cX9_pace 267 = .ok (.ireturn, 1) := dk_172 (dk_at dksX9_pace_11 14 rfl rfl)
abbrev cX9_bestPace : ByteArray := prog_23_method_94_code
def yX9_bestPace : MethodName := ⟨RX9, "bestPace", "(III)I"⟩
def dkwX9_bestPace_4 : List UInt8 := [21, 4, 21, 5, 79, 42, 180, 0, 129, 21, 4, 46, 172]
abbrev dktX9_bestPace_4 : List UInt8 := dkwX9_bestPace_4 ++ []
def dkwX9_bestPace_3 : List UInt8 := [21, 5, 162, 0, 8, 21, 7, 167, 0, 5, 21, 5, 54, 5, 132, 6, 1, 167, 255, 217, 42, 180, 0, 129]
abbrev dktX9_bestPace_3 : List UInt8 := dkwX9_bestPace_3 ++ dktX9_bestPace_4
def dkwX9_bestPace_2 : List UInt8 := [54, 6, 21, 6, 42, 182, 1, 161, 163, 0, 36, 42, 27, 28, 29, 21, 6, 182, 1, 164, 54, 7, 21, 7]
abbrev dktX9_bestPace_2 : List UInt8 := dkwX9_bestPace_2 ++ dktX9_bestPace_3
def dkwX9_bestPace_1 : List UInt8 := [29, 96, 54, 4, 42, 180, 0, 129, 21, 4, 46, 154, 0, 65, 19, 1, 82, 54, 5, 42, 182, 1, 158]
abbrev dktX9_bestPace_1 : List UInt8 := dkwX9_bestPace_1 ++ dktX9_bestPace_2
def dkwX9_bestPace_0 : List UInt8 := [27, 42, 180, 0, 93, 3, 46, 160, 0, 7, 4, 28, 96, 172, 27, 17, 4, 176, 104, 28, 96, 16, 10, 104]
abbrev dktX9_bestPace_0 : List UInt8 := dkwX9_bestPace_0 ++ dktX9_bestPace_1
theorem dksX9_bestPace_0 : cX9_bestPace.data.toList.drop 0 = dktX9_bestPace_0 := by decide +kernel
theorem dksX9_bestPace_1 : cX9_bestPace.data.toList.drop 24 = dktX9_bestPace_1 := dk_seg dksX9_bestPace_0 24 rfl rfl
theorem dksX9_bestPace_2 : cX9_bestPace.data.toList.drop 47 = dktX9_bestPace_2 := dk_seg dksX9_bestPace_1 23 rfl rfl
theorem dksX9_bestPace_3 : cX9_bestPace.data.toList.drop 71 = dktX9_bestPace_3 := dk_seg dksX9_bestPace_2 24 rfl rfl
theorem dksX9_bestPace_4 : cX9_bestPace.data.toList.drop 95 = dktX9_bestPace_4 := dk_seg dksX9_bestPace_3 24 rfl rfl
theorem dX9_bestPace_0 : decode cX9_bestPace 0 = .ok (.iload_n 1, 1) := dk_27 (dk_at dksX9_bestPace_0 0 rfl rfl)
theorem dX9_bestPace_1 : decode cX9_bestPace 1 = .ok (.aload_n 0, 1) := dk_42 (dk_at dksX9_bestPace_0 1 rfl rfl)
theorem dX9_bestPace_2 : decode cX9_bestPace 2 = .ok (.getfield 93, 3) := dk_180 0 93 (dk_at dksX9_bestPace_0 2 rfl rfl)
theorem dX9_bestPace_5 : decode cX9_bestPace 5 = .ok (.iconst 0, 1) := dk_3 (dk_at dksX9_bestPace_0 5 rfl rfl)
theorem dX9_bestPace_6 : decode cX9_bestPace 6 = .ok (.iaload, 1) := dk_46 (dk_at dksX9_bestPace_0 6 rfl rfl)
theorem dX9_bestPace_7 : decode cX9_bestPace 7 = .ok (.if_icmp .ne 7, 3) := dk_160 0 7 (dk_at dksX9_bestPace_0 7 rfl rfl)
theorem dX9_bestPace_10 : decode cX9_bestPace 10 = .ok (.iconst 1, 1) := dk_4 (dk_at dksX9_bestPace_0 10 rfl rfl)
theorem dX9_bestPace_11 : decode cX9_bestPace 11 = .ok (.iload_n 2, 1) := dk_28 (dk_at dksX9_bestPace_0 11 rfl rfl)
theorem dX9_bestPace_12 : decode cX9_bestPace 12 = .ok (.iadd, 1) := dk_96 (dk_at dksX9_bestPace_0 12 rfl rfl)
theorem dX9_bestPace_13 : decode cX9_bestPace 13 = .ok (.ireturn, 1) := dk_172 (dk_at dksX9_bestPace_0 13 rfl rfl)
theorem dX9_bestPace_14 : decode cX9_bestPace 14 = .ok (.iload_n 1, 1) := dk_27 (dk_at dksX9_bestPace_0 14 rfl rfl)
theorem dX9_bestPace_15 : decode cX9_bestPace 15 = .ok (.sipush 1200, 3) := dk_17 4 176 (dk_at dksX9_bestPace_0 15 rfl rfl)
theorem dX9_bestPace_18 : decode cX9_bestPace 18 = .ok (.imul, 1) := dk_104 (dk_at dksX9_bestPace_0 18 rfl rfl)
theorem dX9_bestPace_19 : decode cX9_bestPace 19 = .ok (.iload_n 2, 1) := dk_28 (dk_at dksX9_bestPace_0 19 rfl rfl)
theorem dX9_bestPace_20 : decode cX9_bestPace 20 = .ok (.iadd, 1) := dk_96 (dk_at dksX9_bestPace_0 20 rfl rfl)
theorem dX9_bestPace_21 : decode cX9_bestPace 21 = .ok (.bipush 10, 2) := dk_16 10 (dk_at dksX9_bestPace_0 21 rfl rfl)
theorem dX9_bestPace_23 : decode cX9_bestPace 23 = .ok (.imul, 1) := dk_104 (dk_at dksX9_bestPace_0 23 rfl rfl)
theorem dX9_bestPace_24 : decode cX9_bestPace 24 = .ok (.iload_n 3, 1) := dk_29 (dk_at dksX9_bestPace_1 0 rfl rfl)
theorem dX9_bestPace_25 : decode cX9_bestPace 25 = .ok (.iadd, 1) := dk_96 (dk_at dksX9_bestPace_1 1 rfl rfl)
theorem dX9_bestPace_26 : decode cX9_bestPace 26 = .ok (.istore 4, 2) := dk_54 4 (dk_at dksX9_bestPace_1 2 rfl rfl)
theorem dX9_bestPace_28 : decode cX9_bestPace 28 = .ok (.aload_n 0, 1) := dk_42 (dk_at dksX9_bestPace_1 4 rfl rfl)
theorem dX9_bestPace_29 : decode cX9_bestPace 29 = .ok (.getfield 129, 3) := dk_180 0 129 (dk_at dksX9_bestPace_1 5 rfl rfl)
theorem dX9_bestPace_32 : decode cX9_bestPace 32 = .ok (.iload 4, 2) := dk_21 4 (dk_at dksX9_bestPace_1 8 rfl rfl)
theorem dX9_bestPace_34 : decode cX9_bestPace 34 = .ok (.iaload, 1) := dk_46 (dk_at dksX9_bestPace_1 10 rfl rfl)
theorem dX9_bestPace_35 : decode cX9_bestPace 35 = .ok (.ifCond .ne 65, 3) := dk_154 0 65 (dk_at dksX9_bestPace_1 11 rfl rfl)
theorem dX9_bestPace_38 : decode cX9_bestPace 38 = .ok (.ldc_w 338, 3) := dk_19 1 82 (dk_at dksX9_bestPace_1 14 rfl rfl)
theorem dX9_bestPace_41 : decode cX9_bestPace 41 = .ok (.istore 5, 2) := dk_54 5 (dk_at dksX9_bestPace_1 17 rfl rfl)
theorem dX9_bestPace_43 : decode cX9_bestPace 43 = .ok (.aload_n 0, 1) := dk_42 (dk_at dksX9_bestPace_1 19 rfl rfl)
theorem dX9_bestPace_44 : decode cX9_bestPace 44 = .ok (.invokevirtual 414, 3) := dk_182 1 158 (dk_at dksX9_bestPace_1 20 rfl rfl)
theorem dX9_bestPace_47 : decode cX9_bestPace 47 = .ok (.istore 6, 2) := dk_54 6 (dk_at dksX9_bestPace_2 0 rfl rfl)
theorem dX9_bestPace_49 : decode cX9_bestPace 49 = .ok (.iload 6, 2) := dk_21 6 (dk_at dksX9_bestPace_2 2 rfl rfl)
theorem dX9_bestPace_51 : decode cX9_bestPace 51 = .ok (.aload_n 0, 1) := dk_42 (dk_at dksX9_bestPace_2 4 rfl rfl)
theorem dX9_bestPace_52 : decode cX9_bestPace 52 = .ok (.invokevirtual 417, 3) := dk_182 1 161 (dk_at dksX9_bestPace_2 5 rfl rfl)
theorem dX9_bestPace_55 : decode cX9_bestPace 55 = .ok (.if_icmp .gt 36, 3) := dk_163 0 36 (dk_at dksX9_bestPace_2 8 rfl rfl)
theorem dX9_bestPace_58 : decode cX9_bestPace 58 = .ok (.aload_n 0, 1) := dk_42 (dk_at dksX9_bestPace_2 11 rfl rfl)
theorem dX9_bestPace_59 : decode cX9_bestPace 59 = .ok (.iload_n 1, 1) := dk_27 (dk_at dksX9_bestPace_2 12 rfl rfl)
theorem dX9_bestPace_60 : decode cX9_bestPace 60 = .ok (.iload_n 2, 1) := dk_28 (dk_at dksX9_bestPace_2 13 rfl rfl)
theorem dX9_bestPace_61 : decode cX9_bestPace 61 = .ok (.iload_n 3, 1) := dk_29 (dk_at dksX9_bestPace_2 14 rfl rfl)
theorem dX9_bestPace_62 : decode cX9_bestPace 62 = .ok (.iload 6, 2) := dk_21 6 (dk_at dksX9_bestPace_2 15 rfl rfl)
theorem dX9_bestPace_64 : decode cX9_bestPace 64 = .ok (.invokevirtual 420, 3) := dk_182 1 164 (dk_at dksX9_bestPace_2 17 rfl rfl)
theorem dX9_bestPace_67 : decode cX9_bestPace 67 = .ok (.istore 7, 2) := dk_54 7 (dk_at dksX9_bestPace_2 20 rfl rfl)
theorem dX9_bestPace_69 : decode cX9_bestPace 69 = .ok (.iload 7, 2) := dk_21 7 (dk_at dksX9_bestPace_2 22 rfl rfl)
theorem dX9_bestPace_71 : decode cX9_bestPace 71 = .ok (.iload 5, 2) := dk_21 5 (dk_at dksX9_bestPace_3 0 rfl rfl)
theorem dX9_bestPace_73 : decode cX9_bestPace 73 = .ok (.if_icmp .ge 8, 3) := dk_162 0 8 (dk_at dksX9_bestPace_3 2 rfl rfl)
theorem dX9_bestPace_76 : decode cX9_bestPace 76 = .ok (.iload 7, 2) := dk_21 7 (dk_at dksX9_bestPace_3 5 rfl rfl)
theorem dX9_bestPace_78 : decode cX9_bestPace 78 = .ok (.goto 5, 3) := dk_167 0 5 (dk_at dksX9_bestPace_3 7 rfl rfl)
theorem dX9_bestPace_81 : decode cX9_bestPace 81 = .ok (.iload 5, 2) := dk_21 5 (dk_at dksX9_bestPace_3 10 rfl rfl)
theorem dX9_bestPace_83 : decode cX9_bestPace 83 = .ok (.istore 5, 2) := dk_54 5 (dk_at dksX9_bestPace_3 12 rfl rfl)
theorem dX9_bestPace_85 : decode cX9_bestPace 85 = .ok (.iinc 6 1, 3) := dk_132 6 1 (dk_at dksX9_bestPace_3 14 rfl rfl)
theorem dX9_bestPace_88 : decode cX9_bestPace 88 = .ok (.goto (-39), 3) := dk_167 255 217 (dk_at dksX9_bestPace_3 17 rfl rfl)
theorem dX9_bestPace_91 : decode cX9_bestPace 91 = .ok (.aload_n 0, 1) := dk_42 (dk_at dksX9_bestPace_3 20 rfl rfl)
theorem dX9_bestPace_92 : decode cX9_bestPace 92 = .ok (.getfield 129, 3) := dk_180 0 129 (dk_at dksX9_bestPace_3 21 rfl rfl)
theorem dX9_bestPace_95 : decode cX9_bestPace 95 = .ok (.iload 4, 2) := dk_21 4 (dk_at dksX9_bestPace_4 0 rfl rfl)
theorem dX9_bestPace_97 : decode cX9_bestPace 97 = .ok (.iload 5, 2) := dk_21 5 (dk_at dksX9_bestPace_4 2 rfl rfl)
theorem dX9_bestPace_99 : decode cX9_bestPace 99 = .ok (.iastore, 1) := dk_79 (dk_at dksX9_bestPace_4 4 rfl rfl)
theorem dX9_bestPace_100 : decode cX9_bestPace 100 = .ok (.aload_n 0, 1) := dk_42 (dk_at dksX9_bestPace_4 5 rfl rfl)
theorem dX9_bestPace_101 : decode cX9_bestPace 101 = .ok (.getfield 129, 3) := dk_180 0 129 (dk_at dksX9_bestPace_4 6 rfl rfl)
theorem dX9_bestPace_104 : decode cX9_bestPace 104 = .ok (.iload 4, 2) := dk_21 4 (dk_at dksX9_bestPace_4 9 rfl rfl)
theorem dX9_bestPace_106 : decode cX9_bestPace 106 = .ok (.iaload, 1) := dk_46 (dk_at dksX9_bestPace_4 11 rfl rfl)
theorem dX9_bestPace_107 : decode cX9_bestPace 107 = .ok (.ireturn, 1) := dk_172 (dk_at dksX9_bestPace_4 12 rfl rfl)
abbrev cX9_fastest : ByteArray := prog_23_method_91_code
def yX9_fastest : MethodName := ⟨RX9, "fastest", "()I"⟩
def dkwX9_fastest_1 : List UInt8 := [172]
abbrev dktX9_fastest_1 : List UInt8 := dkwX9_fastest_1 ++ []
def dkwX9_fastest_0 : List UInt8 := [42, 182, 1, 76, 42, 182, 1, 155, 164, 0, 12, 42, 180, 0, 81, 5, 46, 167, 0, 7, 42, 182, 1, 76]
abbrev dktX9_fastest_0 : List UInt8 := dkwX9_fastest_0 ++ dktX9_fastest_1
theorem dksX9_fastest_0 : cX9_fastest.data.toList.drop 0 = dktX9_fastest_0 := by decide +kernel
theorem dksX9_fastest_1 : cX9_fastest.data.toList.drop 24 = dktX9_fastest_1 := dk_seg dksX9_fastest_0 24 rfl rfl
theorem dX9_fastest_0 : decode cX9_fastest 0 = .ok (.aload_n 0, 1) := dk_42 (dk_at dksX9_fastest_0 0 rfl rfl)
theorem dX9_fastest_1 : decode cX9_fastest 1 = .ok (.invokevirtual 332, 3) := dk_182 1 76 (dk_at dksX9_fastest_0 1 rfl rfl)
theorem dX9_fastest_4 : decode cX9_fastest 4 = .ok (.aload_n 0, 1) := dk_42 (dk_at dksX9_fastest_0 4 rfl rfl)
theorem dX9_fastest_5 : decode cX9_fastest 5 = .ok (.invokevirtual 411, 3) := dk_182 1 155 (dk_at dksX9_fastest_0 5 rfl rfl)
theorem dX9_fastest_8 : decode cX9_fastest 8 = .ok (.if_icmp .le 12, 3) := dk_164 0 12 (dk_at dksX9_fastest_0 8 rfl rfl)
theorem dX9_fastest_11 : decode cX9_fastest 11 = .ok (.aload_n 0, 1) := dk_42 (dk_at dksX9_fastest_0 11 rfl rfl)
theorem dX9_fastest_12 : decode cX9_fastest 12 = .ok (.getfield 81, 3) := dk_180 0 81 (dk_at dksX9_fastest_0 12 rfl rfl)
theorem dX9_fastest_15 : decode cX9_fastest 15 = .ok (.iconst 2, 1) := dk_5 (dk_at dksX9_fastest_0 15 rfl rfl)
theorem dX9_fastest_16 : decode cX9_fastest 16 = .ok (.iaload, 1) := dk_46 (dk_at dksX9_fastest_0 16 rfl rfl)
theorem dX9_fastest_17 : decode cX9_fastest 17 = .ok (.goto 7, 3) := dk_167 0 7 (dk_at dksX9_fastest_0 17 rfl rfl)
theorem dX9_fastest_20 : decode cX9_fastest 20 = .ok (.aload_n 0, 1) := dk_42 (dk_at dksX9_fastest_0 20 rfl rfl)
theorem dX9_fastest_21 : decode cX9_fastest 21 = .ok (.invokevirtual 332, 3) := dk_182 1 76 (dk_at dksX9_fastest_0 21 rfl rfl)
theorem dX9_fastest_24 : decode cX9_fastest 24 = .ok (.ireturn, 1) := dk_172 (dk_at dksX9_fastest_1 0 rfl rfl)
abbrev cX9_slowTime : ByteArray := prog_23_method_61_code
def yX9_slowTime : MethodName := ⟨RX9, "slowTime", "()I"⟩
def dkwX9_slowTime_1 : List UInt8 := [172]
abbrev dktX9_slowTime_1 : List UInt8 := dkwX9_slowTime_1 ++ []
def dkwX9_slowTime_0 : List UInt8 := [42, 180, 0, 81, 7, 46, 156, 0, 12, 42, 180, 0, 81, 5, 46, 167, 0, 9, 42, 180, 0, 81, 7, 46]
abbrev dktX9_slowTime_0 : List UInt8 := dkwX9_slowTime_0 ++ dktX9_slowTime_1
theorem dksX9_slowTime_0 : cX9_slowTime.data.toList.drop 0 = dktX9_slowTime_0 := by decide +kernel
theorem dksX9_slowTime_1 : cX9_slowTime.data.toList.drop 24 = dktX9_slowTime_1 := dk_seg dksX9_slowTime_0 24 rfl rfl
theorem dX9_slowTime_0 : decode cX9_slowTime 0 = .ok (.aload_n 0, 1) := dk_42 (dk_at dksX9_slowTime_0 0 rfl rfl)
theorem dX9_slowTime_1 : decode cX9_slowTime 1 = .ok (.getfield 81, 3) := dk_180 0 81 (dk_at dksX9_slowTime_0 1 rfl rfl)
theorem dX9_slowTime_4 : decode cX9_slowTime 4 = .ok (.iconst 4, 1) := dk_7 (dk_at dksX9_slowTime_0 4 rfl rfl)
theorem dX9_slowTime_5 : decode cX9_slowTime 5 = .ok (.iaload, 1) := dk_46 (dk_at dksX9_slowTime_0 5 rfl rfl)
theorem dX9_slowTime_6 : decode cX9_slowTime 6 = .ok (.ifCond .ge 12, 3) := dk_156 0 12 (dk_at dksX9_slowTime_0 6 rfl rfl)
theorem dX9_slowTime_9 : decode cX9_slowTime 9 = .ok (.aload_n 0, 1) := dk_42 (dk_at dksX9_slowTime_0 9 rfl rfl)
theorem dX9_slowTime_10 : decode cX9_slowTime 10 = .ok (.getfield 81, 3) := dk_180 0 81 (dk_at dksX9_slowTime_0 10 rfl rfl)
theorem dX9_slowTime_13 : decode cX9_slowTime 13 = .ok (.iconst 2, 1) := dk_5 (dk_at dksX9_slowTime_0 13 rfl rfl)
theorem dX9_slowTime_14 : decode cX9_slowTime 14 = .ok (.iaload, 1) := dk_46 (dk_at dksX9_slowTime_0 14 rfl rfl)
theorem dX9_slowTime_15 : decode cX9_slowTime 15 = .ok (.goto 9, 3) := dk_167 0 9 (dk_at dksX9_slowTime_0 15 rfl rfl)
theorem dX9_slowTime_18 : decode cX9_slowTime 18 = .ok (.aload_n 0, 1) := dk_42 (dk_at dksX9_slowTime_0 18 rfl rfl)
theorem dX9_slowTime_19 : decode cX9_slowTime 19 = .ok (.getfield 81, 3) := dk_180 0 81 (dk_at dksX9_slowTime_0 19 rfl rfl)
theorem dX9_slowTime_22 : decode cX9_slowTime 22 = .ok (.iconst 4, 1) := dk_7 (dk_at dksX9_slowTime_0 22 rfl rfl)
theorem dX9_slowTime_23 : decode cX9_slowTime 23 = .ok (.iaload, 1) := dk_46 (dk_at dksX9_slowTime_0 23 rfl rfl)
theorem dX9_slowTime_24 : decode cX9_slowTime 24 = .ok (.ireturn, 1) := dk_172 (dk_at dksX9_slowTime_1 0 rfl rfl)
abbrev cX9_slowest : ByteArray := prog_23_method_92_code
def yX9_slowest : MethodName := ⟨RX9, "slowest", "()I"⟩
def dkwX9_slowest_1 : List UInt8 := [172]
abbrev dktX9_slowest_1 : List UInt8 := dkwX9_slowest_1 ++ []
def dkwX9_slowest_0 : List UInt8 := [42, 182, 1, 76, 42, 182, 1, 155, 164, 0, 12, 42, 180, 0, 81, 5, 46, 167, 0, 7, 42, 182, 1, 155]
abbrev dktX9_slowest_0 : List UInt8 := dkwX9_slowest_0 ++ dktX9_slowest_1
theorem dksX9_slowest_0 : cX9_slowest.data.toList.drop 0 = dktX9_slowest_0 := by decide +kernel
theorem dksX9_slowest_1 : cX9_slowest.data.toList.drop 24 = dktX9_slowest_1 := dk_seg dksX9_slowest_0 24 rfl rfl
theorem dX9_slowest_0 : decode cX9_slowest 0 = .ok (.aload_n 0, 1) := dk_42 (dk_at dksX9_slowest_0 0 rfl rfl)
theorem dX9_slowest_1 : decode cX9_slowest 1 = .ok (.invokevirtual 332, 3) := dk_182 1 76 (dk_at dksX9_slowest_0 1 rfl rfl)
theorem dX9_slowest_4 : decode cX9_slowest 4 = .ok (.aload_n 0, 1) := dk_42 (dk_at dksX9_slowest_0 4 rfl rfl)
theorem dX9_slowest_5 : decode cX9_slowest 5 = .ok (.invokevirtual 411, 3) := dk_182 1 155 (dk_at dksX9_slowest_0 5 rfl rfl)
theorem dX9_slowest_8 : decode cX9_slowest 8 = .ok (.if_icmp .le 12, 3) := dk_164 0 12 (dk_at dksX9_slowest_0 8 rfl rfl)
theorem dX9_slowest_11 : decode cX9_slowest 11 = .ok (.aload_n 0, 1) := dk_42 (dk_at dksX9_slowest_0 11 rfl rfl)
theorem dX9_slowest_12 : decode cX9_slowest 12 = .ok (.getfield 81, 3) := dk_180 0 81 (dk_at dksX9_slowest_0 12 rfl rfl)
theorem dX9_slowest_15 : decode cX9_slowest 15 = .ok (.iconst 2, 1) := dk_5 (dk_at dksX9_slowest_0 15 rfl rfl)
theorem dX9_slowest_16 : decode cX9_slowest 16 = .ok (.iaload, 1) := dk_46 (dk_at dksX9_slowest_0 16 rfl rfl)
theorem dX9_slowest_17 : decode cX9_slowest 17 = .ok (.goto 7, 3) := dk_167 0 7 (dk_at dksX9_slowest_0 17 rfl rfl)
theorem dX9_slowest_20 : decode cX9_slowest 20 = .ok (.aload_n 0, 1) := dk_42 (dk_at dksX9_slowest_0 20 rfl rfl)
theorem dX9_slowest_21 : decode cX9_slowest 21 = .ok (.invokevirtual 411, 3) := dk_182 1 155 (dk_at dksX9_slowest_0 21 rfl rfl)
theorem dX9_slowest_24 : decode cX9_slowest 24 = .ok (.ireturn, 1) := dk_172 (dk_at dksX9_slowest_1 0 rfl rfl)
abbrev cX9_paceBy : ByteArray := prog_23_method_95_code
def yX9_paceBy : MethodName := ⟨RX9, "paceBy", "(IIII)I"⟩
def dkwX9_paceBy_5 : List UInt8 := [19, 1, 82, 159, 0, 8, 21, 9, 154, 0, 8, 21, 10, 167, 0, 9, 21, 10, 19, 1, 176, 96, 172]
abbrev dktX9_paceBy_5 : List UInt8 := dkwX9_paceBy_5 ++ []
def dkwX9_paceBy_4 : List UInt8 := [96, 21, 4, 96, 21, 8, 153, 0, 9, 29, 4, 100, 167, 0, 4, 29, 182, 1, 173, 54, 10, 21, 10]
abbrev dktX9_paceBy_4 : List UInt8 := dkwX9_paceBy_4 ++ dktX9_paceBy_5
def dkwX9_paceBy_3 : List UInt8 := [21, 5, 21, 6, 21, 7, 42, 180, 1, 170, 28, 96, 182, 1, 59, 54, 9, 42, 27, 4, 96, 28, 21, 9]
abbrev dktX9_paceBy_3 : List UInt8 := dkwX9_paceBy_3 ++ dktX9_paceBy_4
def dkwX9_paceBy_2 : List UInt8 := [21, 6, 21, 7, 182, 1, 53, 153, 0, 12, 21, 8, 153, 0, 11, 29, 154, 0, 7, 19, 1, 82, 172, 42]
abbrev dktX9_paceBy_2 : List UInt8 := dkwX9_paceBy_2 ++ dktX9_paceBy_3
def dkwX9_paceBy_1 : List UInt8 := [54, 7, 21, 4, 42, 180, 0, 81, 5, 46, 162, 0, 7, 4, 167, 0, 4, 3, 54, 8, 42, 21, 5]
abbrev dktX9_paceBy_1 : List UInt8 := dkwX9_paceBy_1 ++ dktX9_paceBy_2
def dkwX9_paceBy_0 : List UInt8 := [42, 27, 182, 1, 167, 54, 5, 27, 21, 5, 100, 54, 6, 42, 180, 0, 93, 4, 5, 27, 104, 96, 46]
abbrev dktX9_paceBy_0 : List UInt8 := dkwX9_paceBy_0 ++ dktX9_paceBy_1
theorem dksX9_paceBy_0 : cX9_paceBy.data.toList.drop 0 = dktX9_paceBy_0 := by decide +kernel
theorem dksX9_paceBy_1 : cX9_paceBy.data.toList.drop 23 = dktX9_paceBy_1 := dk_seg dksX9_paceBy_0 23 rfl rfl
theorem dksX9_paceBy_2 : cX9_paceBy.data.toList.drop 46 = dktX9_paceBy_2 := dk_seg dksX9_paceBy_1 23 rfl rfl
theorem dksX9_paceBy_3 : cX9_paceBy.data.toList.drop 70 = dktX9_paceBy_3 := dk_seg dksX9_paceBy_2 24 rfl rfl
theorem dksX9_paceBy_4 : cX9_paceBy.data.toList.drop 94 = dktX9_paceBy_4 := dk_seg dksX9_paceBy_3 24 rfl rfl
theorem dksX9_paceBy_5 : cX9_paceBy.data.toList.drop 117 = dktX9_paceBy_5 := dk_seg dksX9_paceBy_4 23 rfl rfl
theorem dX9_paceBy_0 : decode cX9_paceBy 0 = .ok (.aload_n 0, 1) := dk_42 (dk_at dksX9_paceBy_0 0 rfl rfl)
theorem dX9_paceBy_1 : decode cX9_paceBy 1 = .ok (.iload_n 1, 1) := dk_27 (dk_at dksX9_paceBy_0 1 rfl rfl)
theorem dX9_paceBy_2 : decode cX9_paceBy 2 = .ok (.invokevirtual 423, 3) := dk_182 1 167 (dk_at dksX9_paceBy_0 2 rfl rfl)
theorem dX9_paceBy_5 : decode cX9_paceBy 5 = .ok (.istore 5, 2) := dk_54 5 (dk_at dksX9_paceBy_0 5 rfl rfl)
theorem dX9_paceBy_7 : decode cX9_paceBy 7 = .ok (.iload_n 1, 1) := dk_27 (dk_at dksX9_paceBy_0 7 rfl rfl)
theorem dX9_paceBy_8 : decode cX9_paceBy 8 = .ok (.iload 5, 2) := dk_21 5 (dk_at dksX9_paceBy_0 8 rfl rfl)
theorem dX9_paceBy_10 : decode cX9_paceBy 10 = .ok (.isub, 1) := dk_100 (dk_at dksX9_paceBy_0 10 rfl rfl)
theorem dX9_paceBy_11 : decode cX9_paceBy 11 = .ok (.istore 6, 2) := dk_54 6 (dk_at dksX9_paceBy_0 11 rfl rfl)
theorem dX9_paceBy_13 : decode cX9_paceBy 13 = .ok (.aload_n 0, 1) := dk_42 (dk_at dksX9_paceBy_0 13 rfl rfl)
theorem dX9_paceBy_14 : decode cX9_paceBy 14 = .ok (.getfield 93, 3) := dk_180 0 93 (dk_at dksX9_paceBy_0 14 rfl rfl)
theorem dX9_paceBy_17 : decode cX9_paceBy 17 = .ok (.iconst 1, 1) := dk_4 (dk_at dksX9_paceBy_0 17 rfl rfl)
theorem dX9_paceBy_18 : decode cX9_paceBy 18 = .ok (.iconst 2, 1) := dk_5 (dk_at dksX9_paceBy_0 18 rfl rfl)
theorem dX9_paceBy_19 : decode cX9_paceBy 19 = .ok (.iload_n 1, 1) := dk_27 (dk_at dksX9_paceBy_0 19 rfl rfl)
theorem dX9_paceBy_20 : decode cX9_paceBy 20 = .ok (.imul, 1) := dk_104 (dk_at dksX9_paceBy_0 20 rfl rfl)
theorem dX9_paceBy_21 : decode cX9_paceBy 21 = .ok (.iadd, 1) := dk_96 (dk_at dksX9_paceBy_0 21 rfl rfl)
theorem dX9_paceBy_22 : decode cX9_paceBy 22 = .ok (.iaload, 1) := dk_46 (dk_at dksX9_paceBy_0 22 rfl rfl)
theorem dX9_paceBy_23 : decode cX9_paceBy 23 = .ok (.istore 7, 2) := dk_54 7 (dk_at dksX9_paceBy_1 0 rfl rfl)
theorem dX9_paceBy_25 : decode cX9_paceBy 25 = .ok (.iload 4, 2) := dk_21 4 (dk_at dksX9_paceBy_1 2 rfl rfl)
theorem dX9_paceBy_27 : decode cX9_paceBy 27 = .ok (.aload_n 0, 1) := dk_42 (dk_at dksX9_paceBy_1 4 rfl rfl)
theorem dX9_paceBy_28 : decode cX9_paceBy 28 = .ok (.getfield 81, 3) := dk_180 0 81 (dk_at dksX9_paceBy_1 5 rfl rfl)
theorem dX9_paceBy_31 : decode cX9_paceBy 31 = .ok (.iconst 2, 1) := dk_5 (dk_at dksX9_paceBy_1 8 rfl rfl)
theorem dX9_paceBy_32 : decode cX9_paceBy 32 = .ok (.iaload, 1) := dk_46 (dk_at dksX9_paceBy_1 9 rfl rfl)
theorem dX9_paceBy_33 : decode cX9_paceBy 33 = .ok (.if_icmp .ge 7, 3) := dk_162 0 7 (dk_at dksX9_paceBy_1 10 rfl rfl)
theorem dX9_paceBy_36 : decode cX9_paceBy 36 = .ok (.iconst 1, 1) := dk_4 (dk_at dksX9_paceBy_1 13 rfl rfl)
theorem dX9_paceBy_37 : decode cX9_paceBy 37 = .ok (.goto 4, 3) := dk_167 0 4 (dk_at dksX9_paceBy_1 14 rfl rfl)
theorem dX9_paceBy_40 : decode cX9_paceBy 40 = .ok (.iconst 0, 1) := dk_3 (dk_at dksX9_paceBy_1 17 rfl rfl)
theorem dX9_paceBy_41 : decode cX9_paceBy 41 = .ok (.istore 8, 2) := dk_54 8 (dk_at dksX9_paceBy_1 18 rfl rfl)
theorem dX9_paceBy_43 : decode cX9_paceBy 43 = .ok (.aload_n 0, 1) := dk_42 (dk_at dksX9_paceBy_1 20 rfl rfl)
theorem dX9_paceBy_44 : decode cX9_paceBy 44 = .ok (.iload 5, 2) := dk_21 5 (dk_at dksX9_paceBy_1 21 rfl rfl)
theorem dX9_paceBy_46 : decode cX9_paceBy 46 = .ok (.iload 6, 2) := dk_21 6 (dk_at dksX9_paceBy_2 0 rfl rfl)
theorem dX9_paceBy_48 : decode cX9_paceBy 48 = .ok (.iload 7, 2) := dk_21 7 (dk_at dksX9_paceBy_2 2 rfl rfl)
theorem dX9_paceBy_50 : decode cX9_paceBy 50 = .ok (.invokevirtual 309, 3) := dk_182 1 53 (dk_at dksX9_paceBy_2 4 rfl rfl)
theorem dX9_paceBy_53 : decode cX9_paceBy 53 = .ok (.ifCond .eq 12, 3) := dk_153 0 12 (dk_at dksX9_paceBy_2 7 rfl rfl)
theorem dX9_paceBy_56 : decode cX9_paceBy 56 = .ok (.iload 8, 2) := dk_21 8 (dk_at dksX9_paceBy_2 10 rfl rfl)
theorem dX9_paceBy_58 : decode cX9_paceBy 58 = .ok (.ifCond .eq 11, 3) := dk_153 0 11 (dk_at dksX9_paceBy_2 12 rfl rfl)
theorem dX9_paceBy_61 : decode cX9_paceBy 61 = .ok (.iload_n 3, 1) := dk_29 (dk_at dksX9_paceBy_2 15 rfl rfl)
theorem dX9_paceBy_62 : decode cX9_paceBy 62 = .ok (.ifCond .ne 7, 3) := dk_154 0 7 (dk_at dksX9_paceBy_2 16 rfl rfl)
theorem dX9_paceBy_65 : decode cX9_paceBy 65 = .ok (.ldc_w 338, 3) := dk_19 1 82 (dk_at dksX9_paceBy_2 19 rfl rfl)
theorem dX9_paceBy_68 : decode cX9_paceBy 68 = .ok (.ireturn, 1) := dk_172 (dk_at dksX9_paceBy_2 22 rfl rfl)
theorem dX9_paceBy_69 : decode cX9_paceBy 69 = .ok (.aload_n 0, 1) := dk_42 (dk_at dksX9_paceBy_2 23 rfl rfl)
theorem dX9_paceBy_70 : decode cX9_paceBy 70 = .ok (.iload 5, 2) := dk_21 5 (dk_at dksX9_paceBy_3 0 rfl rfl)
theorem dX9_paceBy_72 : decode cX9_paceBy 72 = .ok (.iload 6, 2) := dk_21 6 (dk_at dksX9_paceBy_3 2 rfl rfl)
theorem dX9_paceBy_74 : decode cX9_paceBy 74 = .ok (.iload 7, 2) := dk_21 7 (dk_at dksX9_paceBy_3 4 rfl rfl)
theorem dX9_paceBy_76 : decode cX9_paceBy 76 = .ok (.aload_n 0, 1) := dk_42 (dk_at dksX9_paceBy_3 6 rfl rfl)
theorem dX9_paceBy_77 : decode cX9_paceBy 77 = .ok (.getfield 426, 3) := dk_180 1 170 (dk_at dksX9_paceBy_3 7 rfl rfl)
theorem dX9_paceBy_80 : decode cX9_paceBy 80 = .ok (.iload_n 2, 1) := dk_28 (dk_at dksX9_paceBy_3 10 rfl rfl)
theorem dX9_paceBy_81 : decode cX9_paceBy 81 = .ok (.iadd, 1) := dk_96 (dk_at dksX9_paceBy_3 11 rfl rfl)
theorem dX9_paceBy_82 : decode cX9_paceBy 82 = .ok (.invokevirtual 315, 3) := dk_182 1 59 (dk_at dksX9_paceBy_3 12 rfl rfl)
theorem dX9_paceBy_85 : decode cX9_paceBy 85 = .ok (.istore 9, 2) := dk_54 9 (dk_at dksX9_paceBy_3 15 rfl rfl)
theorem dX9_paceBy_87 : decode cX9_paceBy 87 = .ok (.aload_n 0, 1) := dk_42 (dk_at dksX9_paceBy_3 17 rfl rfl)
theorem dX9_paceBy_88 : decode cX9_paceBy 88 = .ok (.iload_n 1, 1) := dk_27 (dk_at dksX9_paceBy_3 18 rfl rfl)
theorem dX9_paceBy_89 : decode cX9_paceBy 89 = .ok (.iconst 1, 1) := dk_4 (dk_at dksX9_paceBy_3 19 rfl rfl)
theorem dX9_paceBy_90 : decode cX9_paceBy 90 = .ok (.iadd, 1) := dk_96 (dk_at dksX9_paceBy_3 20 rfl rfl)
theorem dX9_paceBy_91 : decode cX9_paceBy 91 = .ok (.iload_n 2, 1) := dk_28 (dk_at dksX9_paceBy_3 21 rfl rfl)
theorem dX9_paceBy_92 : decode cX9_paceBy 92 = .ok (.iload 9, 2) := dk_21 9 (dk_at dksX9_paceBy_3 22 rfl rfl)
theorem dX9_paceBy_94 : decode cX9_paceBy 94 = .ok (.iadd, 1) := dk_96 (dk_at dksX9_paceBy_4 0 rfl rfl)
theorem dX9_paceBy_95 : decode cX9_paceBy 95 = .ok (.iload 4, 2) := dk_21 4 (dk_at dksX9_paceBy_4 1 rfl rfl)
theorem dX9_paceBy_97 : decode cX9_paceBy 97 = .ok (.iadd, 1) := dk_96 (dk_at dksX9_paceBy_4 3 rfl rfl)
theorem dX9_paceBy_98 : decode cX9_paceBy 98 = .ok (.iload 8, 2) := dk_21 8 (dk_at dksX9_paceBy_4 4 rfl rfl)
theorem dX9_paceBy_100 : decode cX9_paceBy 100 = .ok (.ifCond .eq 9, 3) := dk_153 0 9 (dk_at dksX9_paceBy_4 6 rfl rfl)
theorem dX9_paceBy_103 : decode cX9_paceBy 103 = .ok (.iload_n 3, 1) := dk_29 (dk_at dksX9_paceBy_4 9 rfl rfl)
theorem dX9_paceBy_104 : decode cX9_paceBy 104 = .ok (.iconst 1, 1) := dk_4 (dk_at dksX9_paceBy_4 10 rfl rfl)
theorem dX9_paceBy_105 : decode cX9_paceBy 105 = .ok (.isub, 1) := dk_100 (dk_at dksX9_paceBy_4 11 rfl rfl)
theorem dX9_paceBy_106 : decode cX9_paceBy 106 = .ok (.goto 4, 3) := dk_167 0 4 (dk_at dksX9_paceBy_4 12 rfl rfl)
theorem dX9_paceBy_109 : decode cX9_paceBy 109 = .ok (.iload_n 3, 1) := dk_29 (dk_at dksX9_paceBy_4 15 rfl rfl)
theorem dX9_paceBy_110 : decode cX9_paceBy 110 = .ok (.invokevirtual 429, 3) := dk_182 1 173 (dk_at dksX9_paceBy_4 16 rfl rfl)
theorem dX9_paceBy_113 : decode cX9_paceBy 113 = .ok (.istore 10, 2) := dk_54 10 (dk_at dksX9_paceBy_4 19 rfl rfl)
theorem dX9_paceBy_115 : decode cX9_paceBy 115 = .ok (.iload 10, 2) := dk_21 10 (dk_at dksX9_paceBy_4 21 rfl rfl)
theorem dX9_paceBy_117 : decode cX9_paceBy 117 = .ok (.ldc_w 338, 3) := dk_19 1 82 (dk_at dksX9_paceBy_5 0 rfl rfl)
theorem dX9_paceBy_120 : decode cX9_paceBy 120 = .ok (.if_icmp .eq 8, 3) := dk_159 0 8 (dk_at dksX9_paceBy_5 3 rfl rfl)
theorem dX9_paceBy_123 : decode cX9_paceBy 123 = .ok (.iload 9, 2) := dk_21 9 (dk_at dksX9_paceBy_5 6 rfl rfl)
theorem dX9_paceBy_125 : decode cX9_paceBy 125 = .ok (.ifCond .ne 8, 3) := dk_154 0 8 (dk_at dksX9_paceBy_5 8 rfl rfl)
theorem dX9_paceBy_128 : decode cX9_paceBy 128 = .ok (.iload 10, 2) := dk_21 10 (dk_at dksX9_paceBy_5 11 rfl rfl)
theorem dX9_paceBy_130 : decode cX9_paceBy 130 = .ok (.goto 9, 3) := dk_167 0 9 (dk_at dksX9_paceBy_5 13 rfl rfl)
theorem dX9_paceBy_133 : decode cX9_paceBy 133 = .ok (.iload 10, 2) := dk_21 10 (dk_at dksX9_paceBy_5 16 rfl rfl)
theorem dX9_paceBy_135 : decode cX9_paceBy 135 = .ok (.ldc_w 432, 3) := dk_19 1 176 (dk_at dksX9_paceBy_5 18 rfl rfl)
theorem dX9_paceBy_138 : decode cX9_paceBy 138 = .ok (.iadd, 1) := dk_96 (dk_at dksX9_paceBy_5 21 rfl rfl)
theorem dX9_paceBy_139 : decode cX9_paceBy 139 = .ok (.ireturn, 1) := dk_172 (dk_at dksX9_paceBy_5 22 rfl rfl)
abbrev cX9_xAt : ByteArray := prog_23_method_93_code
def yX9_xAt : MethodName := ⟨RX9, "xAt", "(I)I"⟩
def dkwX9_xAt_1 : List UInt8 := [132, 3, 1, 167, 255, 233, 28, 172]
abbrev dktX9_xAt_1 : List UInt8 := dkwX9_xAt_1 ++ []
def dkwX9_xAt_0 : List UInt8 := [3, 61, 3, 62, 29, 27, 162, 0, 24, 28, 4, 42, 180, 0, 93, 4, 5, 29, 104, 96, 46, 100, 96, 61]
abbrev dktX9_xAt_0 : List UInt8 := dkwX9_xAt_0 ++ dktX9_xAt_1
theorem dksX9_xAt_0 : cX9_xAt.data.toList.drop 0 = dktX9_xAt_0 := by decide +kernel
theorem dksX9_xAt_1 : cX9_xAt.data.toList.drop 24 = dktX9_xAt_1 := dk_seg dksX9_xAt_0 24 rfl rfl
theorem dX9_xAt_0 : decode cX9_xAt 0 = .ok (.iconst 0, 1) := dk_3 (dk_at dksX9_xAt_0 0 rfl rfl)
theorem dX9_xAt_1 : decode cX9_xAt 1 = .ok (.istore_n 2, 1) := dk_61 (dk_at dksX9_xAt_0 1 rfl rfl)
theorem dX9_xAt_2 : decode cX9_xAt 2 = .ok (.iconst 0, 1) := dk_3 (dk_at dksX9_xAt_0 2 rfl rfl)
theorem dX9_xAt_3 : decode cX9_xAt 3 = .ok (.istore_n 3, 1) := dk_62 (dk_at dksX9_xAt_0 3 rfl rfl)
theorem dX9_xAt_4 : decode cX9_xAt 4 = .ok (.iload_n 3, 1) := dk_29 (dk_at dksX9_xAt_0 4 rfl rfl)
theorem dX9_xAt_5 : decode cX9_xAt 5 = .ok (.iload_n 1, 1) := dk_27 (dk_at dksX9_xAt_0 5 rfl rfl)
theorem dX9_xAt_6 : decode cX9_xAt 6 = .ok (.if_icmp .ge 24, 3) := dk_162 0 24 (dk_at dksX9_xAt_0 6 rfl rfl)
theorem dX9_xAt_9 : decode cX9_xAt 9 = .ok (.iload_n 2, 1) := dk_28 (dk_at dksX9_xAt_0 9 rfl rfl)
theorem dX9_xAt_10 : decode cX9_xAt 10 = .ok (.iconst 1, 1) := dk_4 (dk_at dksX9_xAt_0 10 rfl rfl)
theorem dX9_xAt_11 : decode cX9_xAt 11 = .ok (.aload_n 0, 1) := dk_42 (dk_at dksX9_xAt_0 11 rfl rfl)
theorem dX9_xAt_12 : decode cX9_xAt 12 = .ok (.getfield 93, 3) := dk_180 0 93 (dk_at dksX9_xAt_0 12 rfl rfl)
theorem dX9_xAt_15 : decode cX9_xAt 15 = .ok (.iconst 1, 1) := dk_4 (dk_at dksX9_xAt_0 15 rfl rfl)
theorem dX9_xAt_16 : decode cX9_xAt 16 = .ok (.iconst 2, 1) := dk_5 (dk_at dksX9_xAt_0 16 rfl rfl)
theorem dX9_xAt_17 : decode cX9_xAt 17 = .ok (.iload_n 3, 1) := dk_29 (dk_at dksX9_xAt_0 17 rfl rfl)
theorem dX9_xAt_18 : decode cX9_xAt 18 = .ok (.imul, 1) := dk_104 (dk_at dksX9_xAt_0 18 rfl rfl)
theorem dX9_xAt_19 : decode cX9_xAt 19 = .ok (.iadd, 1) := dk_96 (dk_at dksX9_xAt_0 19 rfl rfl)
theorem dX9_xAt_20 : decode cX9_xAt 20 = .ok (.iaload, 1) := dk_46 (dk_at dksX9_xAt_0 20 rfl rfl)
theorem dX9_xAt_21 : decode cX9_xAt 21 = .ok (.isub, 1) := dk_100 (dk_at dksX9_xAt_0 21 rfl rfl)
theorem dX9_xAt_22 : decode cX9_xAt 22 = .ok (.iadd, 1) := dk_96 (dk_at dksX9_xAt_0 22 rfl rfl)
theorem dX9_xAt_23 : decode cX9_xAt 23 = .ok (.istore_n 2, 1) := dk_61 (dk_at dksX9_xAt_0 23 rfl rfl)
theorem dX9_xAt_24 : decode cX9_xAt 24 = .ok (.iinc 3 1, 3) := dk_132 3 1 (dk_at dksX9_xAt_1 0 rfl rfl)
theorem dX9_xAt_27 : decode cX9_xAt 27 = .ok (.goto (-23), 3) := dk_167 255 233 (dk_at dksX9_xAt_1 3 rfl rfl)
theorem dX9_xAt_30 : decode cX9_xAt 30 = .ok (.iload_n 2, 1) := dk_28 (dk_at dksX9_xAt_1 6 rfl rfl)
theorem dX9_xAt_31 : decode cX9_xAt 31 = .ok (.ireturn, 1) := dk_172 (dk_at dksX9_xAt_1 7 rfl rfl)
abbrev cX9_tried : ByteArray := prog_23_method_97_code
def yX9_tried : MethodName := ⟨RX9, "tried", "(IIZI)Z"⟩
def dkwX9_tried_4 : List UInt8 := [180, 0, 102, 21, 5, 5, 96, 21, 4, 79, 42, 180, 0, 102, 16, 58, 92, 46, 4, 96, 79, 4, 172]
abbrev dktX9_tried_4 : List UInt8 := dkwX9_tried_4 ++ []
def dkwX9_tried_3 : List UInt8 := [104, 27, 96, 79, 42, 180, 0, 102, 21, 5, 4, 96, 29, 153, 0, 7, 4, 167, 0, 4, 3, 79, 42]
abbrev dktX9_tried_3 : List UInt8 := dkwX9_tried_3 ++ dktX9_tried_4
def dkwX9_tried_2 : List UInt8 := [172, 16, 60, 6, 42, 180, 0, 102, 16, 58, 46, 104, 96, 54, 5, 42, 180, 0, 102, 21, 5, 16, 6, 28]
abbrev dktX9_tried_2 : List UInt8 := dkwX9_tried_2 ++ dktX9_tried_3
def dkwX9_tried_1 : List UInt8 := [21, 4, 3, 16, 59, 184, 1, 43, 153, 0, 15, 42, 180, 0, 102, 16, 58, 46, 16, 10, 160, 0, 5, 3]
abbrev dktX9_tried_1 : List UInt8 := dkwX9_tried_1 ++ dktX9_tried_2
def dkwX9_tried_0 : List UInt8 := [42, 3, 181, 0, 1, 42, 27, 28, 182, 1, 40, 153, 0, 36, 42, 27, 28, 182, 1, 26, 5, 160, 0, 26]
abbrev dktX9_tried_0 : List UInt8 := dkwX9_tried_0 ++ dktX9_tried_1
theorem dksX9_tried_0 : cX9_tried.data.toList.drop 0 = dktX9_tried_0 := by decide +kernel
theorem dksX9_tried_1 : cX9_tried.data.toList.drop 24 = dktX9_tried_1 := dk_seg dksX9_tried_0 24 rfl rfl
theorem dksX9_tried_2 : cX9_tried.data.toList.drop 48 = dktX9_tried_2 := dk_seg dksX9_tried_1 24 rfl rfl
theorem dksX9_tried_3 : cX9_tried.data.toList.drop 72 = dktX9_tried_3 := dk_seg dksX9_tried_2 24 rfl rfl
theorem dksX9_tried_4 : cX9_tried.data.toList.drop 95 = dktX9_tried_4 := dk_seg dksX9_tried_3 23 rfl rfl
theorem dX9_tried_0 : decode cX9_tried 0 = .ok (.aload_n 0, 1) := dk_42 (dk_at dksX9_tried_0 0 rfl rfl)
theorem dX9_tried_1 : decode cX9_tried 1 = .ok (.iconst 0, 1) := dk_3 (dk_at dksX9_tried_0 1 rfl rfl)
theorem dX9_tried_2 : decode cX9_tried 2 = .ok (.putfield 1, 3) := dk_181 0 1 (dk_at dksX9_tried_0 2 rfl rfl)
theorem dX9_tried_5 : decode cX9_tried 5 = .ok (.aload_n 0, 1) := dk_42 (dk_at dksX9_tried_0 5 rfl rfl)
theorem dX9_tried_6 : decode cX9_tried 6 = .ok (.iload_n 1, 1) := dk_27 (dk_at dksX9_tried_0 6 rfl rfl)
theorem dX9_tried_7 : decode cX9_tried 7 = .ok (.iload_n 2, 1) := dk_28 (dk_at dksX9_tried_0 7 rfl rfl)
theorem dX9_tried_8 : decode cX9_tried 8 = .ok (.invokevirtual 296, 3) := dk_182 1 40 (dk_at dksX9_tried_0 8 rfl rfl)
theorem dX9_tried_11 : decode cX9_tried 11 = .ok (.ifCond .eq 36, 3) := dk_153 0 36 (dk_at dksX9_tried_0 11 rfl rfl)
theorem dX9_tried_14 : decode cX9_tried 14 = .ok (.aload_n 0, 1) := dk_42 (dk_at dksX9_tried_0 14 rfl rfl)
theorem dX9_tried_15 : decode cX9_tried 15 = .ok (.iload_n 1, 1) := dk_27 (dk_at dksX9_tried_0 15 rfl rfl)
theorem dX9_tried_16 : decode cX9_tried 16 = .ok (.iload_n 2, 1) := dk_28 (dk_at dksX9_tried_0 16 rfl rfl)
theorem dX9_tried_17 : decode cX9_tried 17 = .ok (.invokevirtual 282, 3) := dk_182 1 26 (dk_at dksX9_tried_0 17 rfl rfl)
theorem dX9_tried_20 : decode cX9_tried 20 = .ok (.iconst 2, 1) := dk_5 (dk_at dksX9_tried_0 20 rfl rfl)
theorem dX9_tried_21 : decode cX9_tried 21 = .ok (.if_icmp .ne 26, 3) := dk_160 0 26 (dk_at dksX9_tried_0 21 rfl rfl)
theorem dX9_tried_24 : decode cX9_tried 24 = .ok (.iload 4, 2) := dk_21 4 (dk_at dksX9_tried_1 0 rfl rfl)
theorem dX9_tried_26 : decode cX9_tried 26 = .ok (.iconst 0, 1) := dk_3 (dk_at dksX9_tried_1 2 rfl rfl)
theorem dX9_tried_27 : decode cX9_tried 27 = .ok (.bipush 59, 2) := dk_16 59 (dk_at dksX9_tried_1 3 rfl rfl)
theorem dX9_tried_29 : decode cX9_tried 29 = .ok (.invokestatic 299, 3) := dk_184 1 43 (dk_at dksX9_tried_1 5 rfl rfl)
theorem dX9_tried_32 : decode cX9_tried 32 = .ok (.ifCond .eq 15, 3) := dk_153 0 15 (dk_at dksX9_tried_1 8 rfl rfl)
theorem dX9_tried_35 : decode cX9_tried 35 = .ok (.aload_n 0, 1) := dk_42 (dk_at dksX9_tried_1 11 rfl rfl)
theorem dX9_tried_36 : decode cX9_tried 36 = .ok (.getfield 102, 3) := dk_180 0 102 (dk_at dksX9_tried_1 12 rfl rfl)
theorem dX9_tried_39 : decode cX9_tried 39 = .ok (.bipush 58, 2) := dk_16 58 (dk_at dksX9_tried_1 15 rfl rfl)
theorem dX9_tried_41 : decode cX9_tried 41 = .ok (.iaload, 1) := dk_46 (dk_at dksX9_tried_1 17 rfl rfl)
theorem dX9_tried_42 : decode cX9_tried 42 = .ok (.bipush 10, 2) := dk_16 10 (dk_at dksX9_tried_1 18 rfl rfl)
theorem dX9_tried_44 : decode cX9_tried 44 = .ok (.if_icmp .ne 5, 3) := dk_160 0 5 (dk_at dksX9_tried_1 20 rfl rfl)
theorem dX9_tried_47 : decode cX9_tried 47 = .ok (.iconst 0, 1) := dk_3 (dk_at dksX9_tried_1 23 rfl rfl)
theorem dX9_tried_48 : decode cX9_tried 48 = .ok (.ireturn, 1) := dk_172 (dk_at dksX9_tried_2 0 rfl rfl)
theorem dX9_tried_49 : decode cX9_tried 49 = .ok (.bipush 60, 2) := dk_16 60 (dk_at dksX9_tried_2 1 rfl rfl)
theorem dX9_tried_51 : decode cX9_tried 51 = .ok (.iconst 3, 1) := dk_6 (dk_at dksX9_tried_2 3 rfl rfl)
theorem dX9_tried_52 : decode cX9_tried 52 = .ok (.aload_n 0, 1) := dk_42 (dk_at dksX9_tried_2 4 rfl rfl)
theorem dX9_tried_53 : decode cX9_tried 53 = .ok (.getfield 102, 3) := dk_180 0 102 (dk_at dksX9_tried_2 5 rfl rfl)
theorem dX9_tried_56 : decode cX9_tried 56 = .ok (.bipush 58, 2) := dk_16 58 (dk_at dksX9_tried_2 8 rfl rfl)
theorem dX9_tried_58 : decode cX9_tried 58 = .ok (.iaload, 1) := dk_46 (dk_at dksX9_tried_2 10 rfl rfl)
theorem dX9_tried_59 : decode cX9_tried 59 = .ok (.imul, 1) := dk_104 (dk_at dksX9_tried_2 11 rfl rfl)
theorem dX9_tried_60 : decode cX9_tried 60 = .ok (.iadd, 1) := dk_96 (dk_at dksX9_tried_2 12 rfl rfl)
theorem dX9_tried_61 : decode cX9_tried 61 = .ok (.istore 5, 2) := dk_54 5 (dk_at dksX9_tried_2 13 rfl rfl)
theorem dX9_tried_63 : decode cX9_tried 63 = .ok (.aload_n 0, 1) := dk_42 (dk_at dksX9_tried_2 15 rfl rfl)
theorem dX9_tried_64 : decode cX9_tried 64 = .ok (.getfield 102, 3) := dk_180 0 102 (dk_at dksX9_tried_2 16 rfl rfl)
theorem dX9_tried_67 : decode cX9_tried 67 = .ok (.iload 5, 2) := dk_21 5 (dk_at dksX9_tried_2 19 rfl rfl)
theorem dX9_tried_69 : decode cX9_tried 69 = .ok (.bipush 6, 2) := dk_16 6 (dk_at dksX9_tried_2 21 rfl rfl)
theorem dX9_tried_71 : decode cX9_tried 71 = .ok (.iload_n 2, 1) := dk_28 (dk_at dksX9_tried_2 23 rfl rfl)
theorem dX9_tried_72 : decode cX9_tried 72 = .ok (.imul, 1) := dk_104 (dk_at dksX9_tried_3 0 rfl rfl)
theorem dX9_tried_73 : decode cX9_tried 73 = .ok (.iload_n 1, 1) := dk_27 (dk_at dksX9_tried_3 1 rfl rfl)
theorem dX9_tried_74 : decode cX9_tried 74 = .ok (.iadd, 1) := dk_96 (dk_at dksX9_tried_3 2 rfl rfl)
theorem dX9_tried_75 : decode cX9_tried 75 = .ok (.iastore, 1) := dk_79 (dk_at dksX9_tried_3 3 rfl rfl)
theorem dX9_tried_76 : decode cX9_tried 76 = .ok (.aload_n 0, 1) := dk_42 (dk_at dksX9_tried_3 4 rfl rfl)
theorem dX9_tried_77 : decode cX9_tried 77 = .ok (.getfield 102, 3) := dk_180 0 102 (dk_at dksX9_tried_3 5 rfl rfl)
theorem dX9_tried_80 : decode cX9_tried 80 = .ok (.iload 5, 2) := dk_21 5 (dk_at dksX9_tried_3 8 rfl rfl)
theorem dX9_tried_82 : decode cX9_tried 82 = .ok (.iconst 1, 1) := dk_4 (dk_at dksX9_tried_3 10 rfl rfl)
theorem dX9_tried_83 : decode cX9_tried 83 = .ok (.iadd, 1) := dk_96 (dk_at dksX9_tried_3 11 rfl rfl)
theorem dX9_tried_84 : decode cX9_tried 84 = .ok (.iload_n 3, 1) := dk_29 (dk_at dksX9_tried_3 12 rfl rfl)
theorem dX9_tried_85 : decode cX9_tried 85 = .ok (.ifCond .eq 7, 3) := dk_153 0 7 (dk_at dksX9_tried_3 13 rfl rfl)
theorem dX9_tried_88 : decode cX9_tried 88 = .ok (.iconst 1, 1) := dk_4 (dk_at dksX9_tried_3 16 rfl rfl)
theorem dX9_tried_89 : decode cX9_tried 89 = .ok (.goto 4, 3) := dk_167 0 4 (dk_at dksX9_tried_3 17 rfl rfl)
theorem dX9_tried_92 : decode cX9_tried 92 = .ok (.iconst 0, 1) := dk_3 (dk_at dksX9_tried_3 20 rfl rfl)
theorem dX9_tried_93 : decode cX9_tried 93 = .ok (.iastore, 1) := dk_79 (dk_at dksX9_tried_3 21 rfl rfl)
theorem dX9_tried_94 : decode cX9_tried 94 = .ok (.aload_n 0, 1) := dk_42 (dk_at dksX9_tried_3 22 rfl rfl)
theorem dX9_tried_95 : decode cX9_tried 95 = .ok (.getfield 102, 3) := dk_180 0 102 (dk_at dksX9_tried_4 0 rfl rfl)
theorem dX9_tried_98 : decode cX9_tried 98 = .ok (.iload 5, 2) := dk_21 5 (dk_at dksX9_tried_4 3 rfl rfl)
theorem dX9_tried_100 : decode cX9_tried 100 = .ok (.iconst 2, 1) := dk_5 (dk_at dksX9_tried_4 5 rfl rfl)
theorem dX9_tried_101 : decode cX9_tried 101 = .ok (.iadd, 1) := dk_96 (dk_at dksX9_tried_4 6 rfl rfl)
theorem dX9_tried_102 : decode cX9_tried 102 = .ok (.iload 4, 2) := dk_21 4 (dk_at dksX9_tried_4 7 rfl rfl)
theorem dX9_tried_104 : decode cX9_tried 104 = .ok (.iastore, 1) := dk_79 (dk_at dksX9_tried_4 9 rfl rfl)
theorem dX9_tried_105 : decode cX9_tried 105 = .ok (.aload_n 0, 1) := dk_42 (dk_at dksX9_tried_4 10 rfl rfl)
theorem dX9_tried_106 : decode cX9_tried 106 = .ok (.getfield 102, 3) := dk_180 0 102 (dk_at dksX9_tried_4 11 rfl rfl)
theorem dX9_tried_109 : decode cX9_tried 109 = .ok (.bipush 58, 2) := dk_16 58 (dk_at dksX9_tried_4 14 rfl rfl)
theorem dX9_tried_111 : decode cX9_tried 111 = .ok (.dup2, 1) := dk_92 (dk_at dksX9_tried_4 16 rfl rfl)
theorem dX9_tried_112 : decode cX9_tried 112 = .ok (.iaload, 1) := dk_46 (dk_at dksX9_tried_4 17 rfl rfl)
theorem dX9_tried_113 : decode cX9_tried 113 = .ok (.iconst 1, 1) := dk_4 (dk_at dksX9_tried_4 18 rfl rfl)
theorem dX9_tried_114 : decode cX9_tried 114 = .ok (.iadd, 1) := dk_96 (dk_at dksX9_tried_4 19 rfl rfl)
theorem dX9_tried_115 : decode cX9_tried 115 = .ok (.iastore, 1) := dk_79 (dk_at dksX9_tried_4 20 rfl rfl)
theorem dX9_tried_116 : decode cX9_tried 116 = .ok (.iconst 1, 1) := dk_4 (dk_at dksX9_tried_4 21 rfl rfl)
theorem dX9_tried_117 : decode cX9_tried 117 = .ok (.ireturn, 1) := dk_172 (dk_at dksX9_tried_4 22 rfl rfl)
abbrev cX9_does : ByteArray := prog_23_method_98_code
def yX9_does : MethodName := ⟨RX9, "does", "(III)J"⟩
def dkwX9_does_10 : List UInt8 := [167, 0, 8, 22, 8, 22, 10, 97, 22, 12, 109, 173]
abbrev dktX9_does_10 : List UInt8 := dkwX9_does_10 ++ []
def dkwX9_does_9 : List UInt8 := [22, 14, 113, 55, 16, 22, 14, 55, 12, 22, 16, 55, 14, 167, 255, 234, 29, 154, 0, 8, 22, 8]
abbrev dktX9_does_9 : List UInt8 := dkwX9_does_9 ++ dktX9_does_10
def dkwX9_does_8 : List UInt8 := [20, 1, 177, 173, 22, 8, 55, 12, 22, 8, 22, 10, 97, 55, 14, 22, 14, 9, 148, 153, 0, 21, 22, 12]
abbrev dktX9_does_8 : List UInt8 := dkwX9_does_8 ++ dktX9_does_9
def dkwX9_does_7 : List UInt8 := [167, 0, 4, 9, 55, 10, 132, 12, 1, 167, 255, 149, 22, 8, 22, 10, 97, 9, 148, 154, 0, 7]
abbrev dktX9_does_7 : List UInt8 := dkwX9_does_7 ++ dktX9_does_8
def dkwX9_does_6 : List UInt8 := [55, 8, 42, 180, 0, 102, 21, 13, 5, 96, 46, 133, 22, 4, 148, 156, 0, 11, 22, 10, 22, 6, 105]
abbrev dktX9_does_6 : List UInt8 := dkwX9_does_6 ++ dktX9_does_7
def dkwX9_does_5 : List UInt8 := [180, 0, 102, 21, 13, 5, 96, 46, 133, 22, 6, 148, 156, 0, 11, 22, 8, 22, 4, 105, 167, 0, 4, 9]
abbrev dktX9_does_5 : List UInt8 := dkwX9_does_5 ++ dktX9_does_6
def dkwX9_does_4 : List UInt8 := [46, 16, 6, 28, 104, 27, 96, 160, 0, 70, 42, 180, 0, 102, 21, 13, 4, 96, 46, 4, 160, 0, 57, 42]
abbrev dktX9_does_4 : List UInt8 := dkwX9_does_4 ++ dktX9_does_5
def dkwX9_does_3 : List UInt8 := [180, 0, 102, 16, 58, 46, 162, 0, 101, 16, 60, 6, 21, 12, 104, 96, 54, 13, 42, 180, 0, 102, 21, 13]
abbrev dktX9_does_3 : List UInt8 := dkwX9_does_3 ++ dktX9_does_4
def dkwX9_does_2 : List UInt8 := [27, 28, 5, 182, 1, 33, 133, 10, 97, 55, 6, 10, 55, 8, 10, 55, 10, 3, 54, 12, 21, 12, 42]
abbrev dktX9_does_2 : List UInt8 := dkwX9_does_2 ++ dktX9_does_3
def dkwX9_does_1 : List UInt8 := [29, 3, 4, 184, 1, 43, 154, 0, 7, 20, 1, 177, 173, 42, 27, 28, 4, 182, 1, 33, 133, 55, 4, 42]
abbrev dktX9_does_1 : List UInt8 := dkwX9_does_1 ++ dktX9_does_2
def dkwX9_does_0 : List UInt8 := [42, 3, 181, 0, 1, 42, 27, 28, 182, 1, 40, 153, 0, 22, 42, 27, 28, 182, 1, 26, 5, 160, 0, 12]
abbrev dktX9_does_0 : List UInt8 := dkwX9_does_0 ++ dktX9_does_1
theorem dksX9_does_0 : cX9_does.data.toList.drop 0 = dktX9_does_0 := by decide +kernel
theorem dksX9_does_1 : cX9_does.data.toList.drop 24 = dktX9_does_1 := dk_seg dksX9_does_0 24 rfl rfl
theorem dksX9_does_2 : cX9_does.data.toList.drop 48 = dktX9_does_2 := dk_seg dksX9_does_1 24 rfl rfl
theorem dksX9_does_3 : cX9_does.data.toList.drop 71 = dktX9_does_3 := dk_seg dksX9_does_2 23 rfl rfl
theorem dksX9_does_4 : cX9_does.data.toList.drop 95 = dktX9_does_4 := dk_seg dksX9_does_3 24 rfl rfl
theorem dksX9_does_5 : cX9_does.data.toList.drop 119 = dktX9_does_5 := dk_seg dksX9_does_4 24 rfl rfl
theorem dksX9_does_6 : cX9_does.data.toList.drop 143 = dktX9_does_6 := dk_seg dksX9_does_5 24 rfl rfl
theorem dksX9_does_7 : cX9_does.data.toList.drop 166 = dktX9_does_7 := dk_seg dksX9_does_6 23 rfl rfl
theorem dksX9_does_8 : cX9_does.data.toList.drop 188 = dktX9_does_8 := dk_seg dksX9_does_7 22 rfl rfl
theorem dksX9_does_9 : cX9_does.data.toList.drop 212 = dktX9_does_9 := dk_seg dksX9_does_8 24 rfl rfl
theorem dksX9_does_10 : cX9_does.data.toList.drop 234 = dktX9_does_10 := dk_seg dksX9_does_9 22 rfl rfl
theorem dX9_does_0 : decode cX9_does 0 = .ok (.aload_n 0, 1) := dk_42 (dk_at dksX9_does_0 0 rfl rfl)
theorem dX9_does_1 : decode cX9_does 1 = .ok (.iconst 0, 1) := dk_3 (dk_at dksX9_does_0 1 rfl rfl)
theorem dX9_does_2 : decode cX9_does 2 = .ok (.putfield 1, 3) := dk_181 0 1 (dk_at dksX9_does_0 2 rfl rfl)
theorem dX9_does_5 : decode cX9_does 5 = .ok (.aload_n 0, 1) := dk_42 (dk_at dksX9_does_0 5 rfl rfl)
theorem dX9_does_6 : decode cX9_does 6 = .ok (.iload_n 1, 1) := dk_27 (dk_at dksX9_does_0 6 rfl rfl)
theorem dX9_does_7 : decode cX9_does 7 = .ok (.iload_n 2, 1) := dk_28 (dk_at dksX9_does_0 7 rfl rfl)
theorem dX9_does_8 : decode cX9_does 8 = .ok (.invokevirtual 296, 3) := dk_182 1 40 (dk_at dksX9_does_0 8 rfl rfl)
theorem dX9_does_11 : decode cX9_does 11 = .ok (.ifCond .eq 22, 3) := dk_153 0 22 (dk_at dksX9_does_0 11 rfl rfl)
theorem dX9_does_14 : decode cX9_does 14 = .ok (.aload_n 0, 1) := dk_42 (dk_at dksX9_does_0 14 rfl rfl)
theorem dX9_does_15 : decode cX9_does 15 = .ok (.iload_n 1, 1) := dk_27 (dk_at dksX9_does_0 15 rfl rfl)
theorem dX9_does_16 : decode cX9_does 16 = .ok (.iload_n 2, 1) := dk_28 (dk_at dksX9_does_0 16 rfl rfl)
theorem dX9_does_17 : decode cX9_does 17 = .ok (.invokevirtual 282, 3) := dk_182 1 26 (dk_at dksX9_does_0 17 rfl rfl)
theorem dX9_does_20 : decode cX9_does 20 = .ok (.iconst 2, 1) := dk_5 (dk_at dksX9_does_0 20 rfl rfl)
theorem dX9_does_21 : decode cX9_does 21 = .ok (.if_icmp .ne 12, 3) := dk_160 0 12 (dk_at dksX9_does_0 21 rfl rfl)
theorem dX9_does_24 : decode cX9_does 24 = .ok (.iload_n 3, 1) := dk_29 (dk_at dksX9_does_1 0 rfl rfl)
theorem dX9_does_25 : decode cX9_does 25 = .ok (.iconst 0, 1) := dk_3 (dk_at dksX9_does_1 1 rfl rfl)
theorem dX9_does_26 : decode cX9_does 26 = .ok (.iconst 1, 1) := dk_4 (dk_at dksX9_does_1 2 rfl rfl)
theorem dX9_does_27 : decode cX9_does 27 = .ok (.invokestatic 299, 3) := dk_184 1 43 (dk_at dksX9_does_1 3 rfl rfl)
theorem dX9_does_30 : decode cX9_does 30 = .ok (.ifCond .ne 7, 3) := dk_154 0 7 (dk_at dksX9_does_1 6 rfl rfl)
theorem dX9_does_33 : decode cX9_does 33 = .ok (.ldc2_w 433, 3) := dk_20 1 177 (dk_at dksX9_does_1 9 rfl rfl)
theorem dX9_does_36 : decode cX9_does 36 = .ok (.lreturn, 1) := dk_173 (dk_at dksX9_does_1 12 rfl rfl)
theorem dX9_does_37 : decode cX9_does 37 = .ok (.aload_n 0, 1) := dk_42 (dk_at dksX9_does_1 13 rfl rfl)
theorem dX9_does_38 : decode cX9_does 38 = .ok (.iload_n 1, 1) := dk_27 (dk_at dksX9_does_1 14 rfl rfl)
theorem dX9_does_39 : decode cX9_does 39 = .ok (.iload_n 2, 1) := dk_28 (dk_at dksX9_does_1 15 rfl rfl)
theorem dX9_does_40 : decode cX9_does 40 = .ok (.iconst 1, 1) := dk_4 (dk_at dksX9_does_1 16 rfl rfl)
theorem dX9_does_41 : decode cX9_does 41 = .ok (.invokevirtual 289, 3) := dk_182 1 33 (dk_at dksX9_does_1 17 rfl rfl)
theorem dX9_does_44 : decode cX9_does 44 = .ok (.i2l, 1) := dk_133 (dk_at dksX9_does_1 20 rfl rfl)
theorem dX9_does_45 : decode cX9_does 45 = .ok (.lstore 4, 2) := dk_55 4 (dk_at dksX9_does_1 21 rfl rfl)
theorem dX9_does_47 : decode cX9_does 47 = .ok (.aload_n 0, 1) := dk_42 (dk_at dksX9_does_1 23 rfl rfl)
theorem dX9_does_48 : decode cX9_does 48 = .ok (.iload_n 1, 1) := dk_27 (dk_at dksX9_does_2 0 rfl rfl)
theorem dX9_does_49 : decode cX9_does 49 = .ok (.iload_n 2, 1) := dk_28 (dk_at dksX9_does_2 1 rfl rfl)
theorem dX9_does_50 : decode cX9_does 50 = .ok (.iconst 2, 1) := dk_5 (dk_at dksX9_does_2 2 rfl rfl)
theorem dX9_does_51 : decode cX9_does 51 = .ok (.invokevirtual 289, 3) := dk_182 1 33 (dk_at dksX9_does_2 3 rfl rfl)
theorem dX9_does_54 : decode cX9_does 54 = .ok (.i2l, 1) := dk_133 (dk_at dksX9_does_2 6 rfl rfl)
theorem dX9_does_55 : decode cX9_does 55 = .ok (.lconst 1, 1) := dk_10 (dk_at dksX9_does_2 7 rfl rfl)
theorem dX9_does_56 : decode cX9_does 56 = .ok (.ladd, 1) := dk_97 (dk_at dksX9_does_2 8 rfl rfl)
theorem dX9_does_57 : decode cX9_does 57 = .ok (.lstore 6, 2) := dk_55 6 (dk_at dksX9_does_2 9 rfl rfl)
theorem dX9_does_59 : decode cX9_does 59 = .ok (.lconst 1, 1) := dk_10 (dk_at dksX9_does_2 11 rfl rfl)
theorem dX9_does_60 : decode cX9_does 60 = .ok (.lstore 8, 2) := dk_55 8 (dk_at dksX9_does_2 12 rfl rfl)
theorem dX9_does_62 : decode cX9_does 62 = .ok (.lconst 1, 1) := dk_10 (dk_at dksX9_does_2 14 rfl rfl)
theorem dX9_does_63 : decode cX9_does 63 = .ok (.lstore 10, 2) := dk_55 10 (dk_at dksX9_does_2 15 rfl rfl)
theorem dX9_does_65 : decode cX9_does 65 = .ok (.iconst 0, 1) := dk_3 (dk_at dksX9_does_2 17 rfl rfl)
theorem dX9_does_66 : decode cX9_does 66 = .ok (.istore 12, 2) := dk_54 12 (dk_at dksX9_does_2 18 rfl rfl)
theorem dX9_does_68 : decode cX9_does 68 = .ok (.iload 12, 2) := dk_21 12 (dk_at dksX9_does_2 20 rfl rfl)
theorem dX9_does_70 : decode cX9_does 70 = .ok (.aload_n 0, 1) := dk_42 (dk_at dksX9_does_2 22 rfl rfl)
theorem dX9_does_71 : decode cX9_does 71 = .ok (.getfield 102, 3) := dk_180 0 102 (dk_at dksX9_does_3 0 rfl rfl)
theorem dX9_does_74 : decode cX9_does 74 = .ok (.bipush 58, 2) := dk_16 58 (dk_at dksX9_does_3 3 rfl rfl)
theorem dX9_does_76 : decode cX9_does 76 = .ok (.iaload, 1) := dk_46 (dk_at dksX9_does_3 5 rfl rfl)
theorem dX9_does_77 : decode cX9_does 77 = .ok (.if_icmp .ge 101, 3) := dk_162 0 101 (dk_at dksX9_does_3 6 rfl rfl)
theorem dX9_does_80 : decode cX9_does 80 = .ok (.bipush 60, 2) := dk_16 60 (dk_at dksX9_does_3 9 rfl rfl)
theorem dX9_does_82 : decode cX9_does 82 = .ok (.iconst 3, 1) := dk_6 (dk_at dksX9_does_3 11 rfl rfl)
theorem dX9_does_83 : decode cX9_does 83 = .ok (.iload 12, 2) := dk_21 12 (dk_at dksX9_does_3 12 rfl rfl)
theorem dX9_does_85 : decode cX9_does 85 = .ok (.imul, 1) := dk_104 (dk_at dksX9_does_3 14 rfl rfl)
theorem dX9_does_86 : decode cX9_does 86 = .ok (.iadd, 1) := dk_96 (dk_at dksX9_does_3 15 rfl rfl)
theorem dX9_does_87 : decode cX9_does 87 = .ok (.istore 13, 2) := dk_54 13 (dk_at dksX9_does_3 16 rfl rfl)
theorem dX9_does_89 : decode cX9_does 89 = .ok (.aload_n 0, 1) := dk_42 (dk_at dksX9_does_3 18 rfl rfl)
theorem dX9_does_90 : decode cX9_does 90 = .ok (.getfield 102, 3) := dk_180 0 102 (dk_at dksX9_does_3 19 rfl rfl)
theorem dX9_does_93 : decode cX9_does 93 = .ok (.iload 13, 2) := dk_21 13 (dk_at dksX9_does_3 22 rfl rfl)
theorem dX9_does_95 : decode cX9_does 95 = .ok (.iaload, 1) := dk_46 (dk_at dksX9_does_4 0 rfl rfl)
theorem dX9_does_96 : decode cX9_does 96 = .ok (.bipush 6, 2) := dk_16 6 (dk_at dksX9_does_4 1 rfl rfl)
theorem dX9_does_98 : decode cX9_does 98 = .ok (.iload_n 2, 1) := dk_28 (dk_at dksX9_does_4 3 rfl rfl)
theorem dX9_does_99 : decode cX9_does 99 = .ok (.imul, 1) := dk_104 (dk_at dksX9_does_4 4 rfl rfl)
theorem dX9_does_100 : decode cX9_does 100 = .ok (.iload_n 1, 1) := dk_27 (dk_at dksX9_does_4 5 rfl rfl)
theorem dX9_does_101 : decode cX9_does 101 = .ok (.iadd, 1) := dk_96 (dk_at dksX9_does_4 6 rfl rfl)
theorem dX9_does_102 : decode cX9_does 102 = .ok (.if_icmp .ne 70, 3) := dk_160 0 70 (dk_at dksX9_does_4 7 rfl rfl)
theorem dX9_does_105 : decode cX9_does 105 = .ok (.aload_n 0, 1) := dk_42 (dk_at dksX9_does_4 10 rfl rfl)
theorem dX9_does_106 : decode cX9_does 106 = .ok (.getfield 102, 3) := dk_180 0 102 (dk_at dksX9_does_4 11 rfl rfl)
theorem dX9_does_109 : decode cX9_does 109 = .ok (.iload 13, 2) := dk_21 13 (dk_at dksX9_does_4 14 rfl rfl)
theorem dX9_does_111 : decode cX9_does 111 = .ok (.iconst 1, 1) := dk_4 (dk_at dksX9_does_4 16 rfl rfl)
theorem dX9_does_112 : decode cX9_does 112 = .ok (.iadd, 1) := dk_96 (dk_at dksX9_does_4 17 rfl rfl)
theorem dX9_does_113 : decode cX9_does 113 = .ok (.iaload, 1) := dk_46 (dk_at dksX9_does_4 18 rfl rfl)
theorem dX9_does_114 : decode cX9_does 114 = .ok (.iconst 1, 1) := dk_4 (dk_at dksX9_does_4 19 rfl rfl)
theorem dX9_does_115 : decode cX9_does 115 = .ok (.if_icmp .ne 57, 3) := dk_160 0 57 (dk_at dksX9_does_4 20 rfl rfl)
theorem dX9_does_118 : decode cX9_does 118 = .ok (.aload_n 0, 1) := dk_42 (dk_at dksX9_does_4 23 rfl rfl)
theorem dX9_does_119 : decode cX9_does 119 = .ok (.getfield 102, 3) := dk_180 0 102 (dk_at dksX9_does_5 0 rfl rfl)
theorem dX9_does_122 : decode cX9_does 122 = .ok (.iload 13, 2) := dk_21 13 (dk_at dksX9_does_5 3 rfl rfl)
theorem dX9_does_124 : decode cX9_does 124 = .ok (.iconst 2, 1) := dk_5 (dk_at dksX9_does_5 5 rfl rfl)
theorem dX9_does_125 : decode cX9_does 125 = .ok (.iadd, 1) := dk_96 (dk_at dksX9_does_5 6 rfl rfl)
theorem dX9_does_126 : decode cX9_does 126 = .ok (.iaload, 1) := dk_46 (dk_at dksX9_does_5 7 rfl rfl)
theorem dX9_does_127 : decode cX9_does 127 = .ok (.i2l, 1) := dk_133 (dk_at dksX9_does_5 8 rfl rfl)
theorem dX9_does_128 : decode cX9_does 128 = .ok (.lload 6, 2) := dk_22 6 (dk_at dksX9_does_5 9 rfl rfl)
theorem dX9_does_130 : decode cX9_does 130 = .ok (.lcmp, 1) := dk_148 (dk_at dksX9_does_5 11 rfl rfl)
theorem dX9_does_131 : decode cX9_does 131 = .ok (.ifCond .ge 11, 3) := dk_156 0 11 (dk_at dksX9_does_5 12 rfl rfl)
theorem dX9_does_134 : decode cX9_does 134 = .ok (.lload 8, 2) := dk_22 8 (dk_at dksX9_does_5 15 rfl rfl)
theorem dX9_does_136 : decode cX9_does 136 = .ok (.lload 4, 2) := dk_22 4 (dk_at dksX9_does_5 17 rfl rfl)
theorem dX9_does_138 : decode cX9_does 138 = .ok (.lmul, 1) := dk_105 (dk_at dksX9_does_5 19 rfl rfl)
theorem dX9_does_139 : decode cX9_does 139 = .ok (.goto 4, 3) := dk_167 0 4 (dk_at dksX9_does_5 20 rfl rfl)
theorem dX9_does_142 : decode cX9_does 142 = .ok (.lconst 0, 1) := dk_9 (dk_at dksX9_does_5 23 rfl rfl)
theorem dX9_does_143 : decode cX9_does 143 = .ok (.lstore 8, 2) := dk_55 8 (dk_at dksX9_does_6 0 rfl rfl)
theorem dX9_does_145 : decode cX9_does 145 = .ok (.aload_n 0, 1) := dk_42 (dk_at dksX9_does_6 2 rfl rfl)
theorem dX9_does_146 : decode cX9_does 146 = .ok (.getfield 102, 3) := dk_180 0 102 (dk_at dksX9_does_6 3 rfl rfl)
theorem dX9_does_149 : decode cX9_does 149 = .ok (.iload 13, 2) := dk_21 13 (dk_at dksX9_does_6 6 rfl rfl)
theorem dX9_does_151 : decode cX9_does 151 = .ok (.iconst 2, 1) := dk_5 (dk_at dksX9_does_6 8 rfl rfl)
theorem dX9_does_152 : decode cX9_does 152 = .ok (.iadd, 1) := dk_96 (dk_at dksX9_does_6 9 rfl rfl)
theorem dX9_does_153 : decode cX9_does 153 = .ok (.iaload, 1) := dk_46 (dk_at dksX9_does_6 10 rfl rfl)
theorem dX9_does_154 : decode cX9_does 154 = .ok (.i2l, 1) := dk_133 (dk_at dksX9_does_6 11 rfl rfl)
theorem dX9_does_155 : decode cX9_does 155 = .ok (.lload 4, 2) := dk_22 4 (dk_at dksX9_does_6 12 rfl rfl)
theorem dX9_does_157 : decode cX9_does 157 = .ok (.lcmp, 1) := dk_148 (dk_at dksX9_does_6 14 rfl rfl)
theorem dX9_does_158 : decode cX9_does 158 = .ok (.ifCond .ge 11, 3) := dk_156 0 11 (dk_at dksX9_does_6 15 rfl rfl)
theorem dX9_does_161 : decode cX9_does 161 = .ok (.lload 10, 2) := dk_22 10 (dk_at dksX9_does_6 18 rfl rfl)
theorem dX9_does_163 : decode cX9_does 163 = .ok (.lload 6, 2) := dk_22 6 (dk_at dksX9_does_6 20 rfl rfl)
theorem dX9_does_165 : decode cX9_does 165 = .ok (.lmul, 1) := dk_105 (dk_at dksX9_does_6 22 rfl rfl)
theorem dX9_does_166 : decode cX9_does 166 = .ok (.goto 4, 3) := dk_167 0 4 (dk_at dksX9_does_7 0 rfl rfl)
theorem dX9_does_169 : decode cX9_does 169 = .ok (.lconst 0, 1) := dk_9 (dk_at dksX9_does_7 3 rfl rfl)
theorem dX9_does_170 : decode cX9_does 170 = .ok (.lstore 10, 2) := dk_55 10 (dk_at dksX9_does_7 4 rfl rfl)
theorem dX9_does_172 : decode cX9_does 172 = .ok (.iinc 12 1, 3) := dk_132 12 1 (dk_at dksX9_does_7 6 rfl rfl)
theorem dX9_does_175 : decode cX9_does 175 = .ok (.goto (-107), 3) := dk_167 255 149 (dk_at dksX9_does_7 9 rfl rfl)
theorem dX9_does_178 : decode cX9_does 178 = .ok (.lload 8, 2) := dk_22 8 (dk_at dksX9_does_7 12 rfl rfl)
theorem dX9_does_180 : decode cX9_does 180 = .ok (.lload 10, 2) := dk_22 10 (dk_at dksX9_does_7 14 rfl rfl)
theorem dX9_does_182 : decode cX9_does 182 = .ok (.ladd, 1) := dk_97 (dk_at dksX9_does_7 16 rfl rfl)
theorem dX9_does_183 : decode cX9_does 183 = .ok (.lconst 0, 1) := dk_9 (dk_at dksX9_does_7 17 rfl rfl)
theorem dX9_does_184 : decode cX9_does 184 = .ok (.lcmp, 1) := dk_148 (dk_at dksX9_does_7 18 rfl rfl)
theorem dX9_does_185 : decode cX9_does 185 = .ok (.ifCond .ne 7, 3) := dk_154 0 7 (dk_at dksX9_does_7 19 rfl rfl)
theorem dX9_does_188 : decode cX9_does 188 = .ok (.ldc2_w 433, 3) := dk_20 1 177 (dk_at dksX9_does_8 0 rfl rfl)
theorem dX9_does_191 : decode cX9_does 191 = .ok (.lreturn, 1) := dk_173 (dk_at dksX9_does_8 3 rfl rfl)
theorem dX9_does_192 : decode cX9_does 192 = .ok (.lload 8, 2) := dk_22 8 (dk_at dksX9_does_8 4 rfl rfl)
theorem dX9_does_194 : decode cX9_does 194 = .ok (.lstore 12, 2) := dk_55 12 (dk_at dksX9_does_8 6 rfl rfl)
theorem dX9_does_196 : decode cX9_does 196 = .ok (.lload 8, 2) := dk_22 8 (dk_at dksX9_does_8 8 rfl rfl)
theorem dX9_does_198 : decode cX9_does 198 = .ok (.lload 10, 2) := dk_22 10 (dk_at dksX9_does_8 10 rfl rfl)
theorem dX9_does_200 : decode cX9_does 200 = .ok (.ladd, 1) := dk_97 (dk_at dksX9_does_8 12 rfl rfl)
theorem dX9_does_201 : decode cX9_does 201 = .ok (.lstore 14, 2) := dk_55 14 (dk_at dksX9_does_8 13 rfl rfl)
theorem dX9_does_203 : decode cX9_does 203 = .ok (.lload 14, 2) := dk_22 14 (dk_at dksX9_does_8 15 rfl rfl)
theorem dX9_does_205 : decode cX9_does 205 = .ok (.lconst 0, 1) := dk_9 (dk_at dksX9_does_8 17 rfl rfl)
theorem dX9_does_206 : decode cX9_does 206 = .ok (.lcmp, 1) := dk_148 (dk_at dksX9_does_8 18 rfl rfl)
theorem dX9_does_207 : decode cX9_does 207 = .ok (.ifCond .eq 21, 3) := dk_153 0 21 (dk_at dksX9_does_8 19 rfl rfl)
theorem dX9_does_210 : decode cX9_does 210 = .ok (.lload 12, 2) := dk_22 12 (dk_at dksX9_does_8 22 rfl rfl)
theorem dX9_does_212 : decode cX9_does 212 = .ok (.lload 14, 2) := dk_22 14 (dk_at dksX9_does_9 0 rfl rfl)
theorem dX9_does_214 : decode cX9_does 214 = .ok (.lrem, 1) := dk_113 (dk_at dksX9_does_9 2 rfl rfl)
theorem dX9_does_215 : decode cX9_does 215 = .ok (.lstore 16, 2) := dk_55 16 (dk_at dksX9_does_9 3 rfl rfl)
theorem dX9_does_217 : decode cX9_does 217 = .ok (.lload 14, 2) := dk_22 14 (dk_at dksX9_does_9 5 rfl rfl)
theorem dX9_does_219 : decode cX9_does 219 = .ok (.lstore 12, 2) := dk_55 12 (dk_at dksX9_does_9 7 rfl rfl)
theorem dX9_does_221 : decode cX9_does 221 = .ok (.lload 16, 2) := dk_22 16 (dk_at dksX9_does_9 9 rfl rfl)
theorem dX9_does_223 : decode cX9_does 223 = .ok (.lstore 14, 2) := dk_55 14 (dk_at dksX9_does_9 11 rfl rfl)
theorem dX9_does_225 : decode cX9_does 225 = .ok (.goto (-22), 3) := dk_167 255 234 (dk_at dksX9_does_9 13 rfl rfl)
theorem dX9_does_228 : decode cX9_does 228 = .ok (.iload_n 3, 1) := dk_29 (dk_at dksX9_does_9 16 rfl rfl)
theorem dX9_does_229 : decode cX9_does 229 = .ok (.ifCond .ne 8, 3) := dk_154 0 8 (dk_at dksX9_does_9 17 rfl rfl)
theorem dX9_does_232 : decode cX9_does 232 = .ok (.lload 8, 2) := dk_22 8 (dk_at dksX9_does_9 20 rfl rfl)
theorem dX9_does_234 : decode cX9_does 234 = .ok (.goto 8, 3) := dk_167 0 8 (dk_at dksX9_does_10 0 rfl rfl)
theorem dX9_does_237 : decode cX9_does 237 = .ok (.lload 8, 2) := dk_22 8 (dk_at dksX9_does_10 3 rfl rfl)
theorem dX9_does_239 : decode cX9_does 239 = .ok (.lload 10, 2) := dk_22 10 (dk_at dksX9_does_10 5 rfl rfl)
theorem dX9_does_241 : decode cX9_does 241 = .ok (.ladd, 1) := dk_97 (dk_at dksX9_does_10 7 rfl rfl)
theorem dX9_does_242 : decode cX9_does 242 = .ok (.lload 12, 2) := dk_22 12 (dk_at dksX9_does_10 8 rfl rfl)
theorem dX9_does_244 : decode cX9_does 244 = .ok (.ldiv, 1) := dk_109 (dk_at dksX9_does_10 10 rfl rfl)
theorem dX9_does_245 : decode cX9_does 245 = .ok (.lreturn, 1) := dk_173 (dk_at dksX9_does_10 11 rfl rfl)
abbrev cX9_wave : ByteArray := prog_23_method_102_code
def yX9_wave : MethodName := ⟨RX9, "wave", "(IIIZI)I"⟩
def dkwX9_wave_13 : List UInt8 := [180, 1, 183, 167, 0, 10, 42, 180, 0, 141, 21, 5, 46, 172]
abbrev dktX9_wave_13 : List UInt8 := dkwX9_wave_13 ++ []
def dkwX9_wave_12 : List UInt8 := [180, 0, 132, 21, 8, 47, 42, 180, 0, 135, 21, 8, 47, 21, 4, 182, 1, 186, 21, 5, 154, 0, 10, 42]
abbrev dktX9_wave_12 : List UInt8 := dkwX9_wave_12 ++ dktX9_wave_13
def dkwX9_wave_11 : List UInt8 := [6, 182, 1, 33, 96, 21, 7, 112, 54, 8, 42, 180, 0, 138, 3, 21, 8, 79, 42, 4, 29, 21, 7, 42]
abbrev dktX9_wave_11 : List UInt8 := dkwX9_wave_11 ++ dktX9_wave_12
def dkwX9_wave_10 : List UInt8 := [167, 255, 178, 132, 8, 1, 167, 255, 148, 42, 2, 181, 1, 183, 42, 27, 28, 5, 182, 1, 33, 42, 27, 28]
abbrev dktX9_wave_10 : List UInt8 := dkwX9_wave_10 ++ dktX9_wave_11
def dkwX9_wave_9 : List UInt8 := [100, 21, 8, 100, 42, 180, 0, 81, 5, 46, 104, 100, 21, 9, 21, 7, 184, 1, 190, 80, 132, 10, 1]
abbrev dktX9_wave_9 : List UInt8 := dkwX9_wave_9 ++ dktX9_wave_10
def dkwX9_wave_8 : List UInt8 := [21, 9, 21, 7, 184, 1, 190, 80, 42, 180, 0, 135, 16, 60, 21, 8, 104, 21, 10, 96, 21, 10, 29, 4]
abbrev dktX9_wave_8 : List UInt8 := dkwX9_wave_8 ++ dktX9_wave_9
def dkwX9_wave_7 : List UInt8 := [180, 0, 132, 16, 60, 21, 8, 104, 21, 10, 96, 21, 10, 21, 8, 42, 180, 0, 81, 5, 46, 104, 100]
abbrev dktX9_wave_7 : List UInt8 := dkwX9_wave_7 ++ dktX9_wave_8
def dkwX9_wave_6 : List UInt8 := [28, 21, 8, 96, 6, 182, 1, 33, 100, 54, 9, 3, 54, 10, 21, 10, 21, 7, 162, 0, 77, 42]
abbrev dktX9_wave_6 : List UInt8 := dkwX9_wave_6 ++ dktX9_wave_7
def dkwX9_wave_5 : List UInt8 := [2, 172, 42, 27, 28, 4, 182, 1, 33, 54, 7, 3, 54, 8, 21, 8, 29, 162, 0, 108, 21, 7, 42, 27]
abbrev dktX9_wave_5 : List UInt8 := dkwX9_wave_5 ++ dktX9_wave_6
def dkwX9_wave_4 : List UInt8 := [182, 1, 33, 160, 0, 7, 4, 167, 0, 4, 3, 54, 6, 132, 7, 1, 167, 255, 203, 21, 6, 154, 0, 5]
abbrev dktX9_wave_4 : List UInt8 := dkwX9_wave_4 ++ dktX9_wave_5
def dkwX9_wave_3 : List UInt8 := [21, 7, 96, 182, 1, 29, 153, 0, 27, 42, 27, 28, 21, 7, 96, 4, 182, 1, 33, 42, 27, 28, 4]
abbrev dktX9_wave_3 : List UInt8 := dkwX9_wave_3 ++ dktX9_wave_4
def dkwX9_wave_2 : List UInt8 := [167, 0, 4, 3, 54, 6, 3, 54, 7, 21, 7, 29, 162, 0, 53, 21, 6, 153, 0, 48, 42, 27, 28]
abbrev dktX9_wave_2 : List UInt8 := dkwX9_wave_2 ++ dktX9_wave_3
def dkwX9_wave_1 : List UInt8 := [29, 96, 42, 182, 1, 23, 163, 0, 19, 21, 5, 3, 29, 4, 100, 184, 1, 43, 153, 0, 7, 4]
abbrev dktX9_wave_1 : List UInt8 := dkwX9_wave_1 ++ dktX9_wave_2
def dkwX9_wave_0 : List UInt8 := [42, 3, 181, 0, 1, 42, 27, 28, 182, 1, 40, 153, 0, 38, 29, 5, 7, 184, 1, 43, 153, 0, 29, 28]
abbrev dktX9_wave_0 : List UInt8 := dkwX9_wave_0 ++ dktX9_wave_1
theorem dksX9_wave_0 : cX9_wave.data.toList.drop 0 = dktX9_wave_0 := by decide +kernel
theorem dksX9_wave_1 : cX9_wave.data.toList.drop 24 = dktX9_wave_1 := dk_seg dksX9_wave_0 24 rfl rfl
theorem dksX9_wave_2 : cX9_wave.data.toList.drop 46 = dktX9_wave_2 := dk_seg dksX9_wave_1 22 rfl rfl
theorem dksX9_wave_3 : cX9_wave.data.toList.drop 69 = dktX9_wave_3 := dk_seg dksX9_wave_2 23 rfl rfl
theorem dksX9_wave_4 : cX9_wave.data.toList.drop 92 = dktX9_wave_4 := dk_seg dksX9_wave_3 23 rfl rfl
theorem dksX9_wave_5 : cX9_wave.data.toList.drop 116 = dktX9_wave_5 := dk_seg dksX9_wave_4 24 rfl rfl
theorem dksX9_wave_6 : cX9_wave.data.toList.drop 140 = dktX9_wave_6 := dk_seg dksX9_wave_5 24 rfl rfl
theorem dksX9_wave_7 : cX9_wave.data.toList.drop 162 = dktX9_wave_7 := dk_seg dksX9_wave_6 22 rfl rfl
theorem dksX9_wave_8 : cX9_wave.data.toList.drop 185 = dktX9_wave_8 := dk_seg dksX9_wave_7 23 rfl rfl
theorem dksX9_wave_9 : cX9_wave.data.toList.drop 209 = dktX9_wave_9 := dk_seg dksX9_wave_8 24 rfl rfl
theorem dksX9_wave_10 : cX9_wave.data.toList.drop 232 = dktX9_wave_10 := dk_seg dksX9_wave_9 23 rfl rfl
theorem dksX9_wave_11 : cX9_wave.data.toList.drop 256 = dktX9_wave_11 := dk_seg dksX9_wave_10 24 rfl rfl
theorem dksX9_wave_12 : cX9_wave.data.toList.drop 280 = dktX9_wave_12 := dk_seg dksX9_wave_11 24 rfl rfl
theorem dksX9_wave_13 : cX9_wave.data.toList.drop 304 = dktX9_wave_13 := dk_seg dksX9_wave_12 24 rfl rfl
theorem dX9_wave_0 : decode cX9_wave 0 = .ok (.aload_n 0, 1) := dk_42 (dk_at dksX9_wave_0 0 rfl rfl)
theorem dX9_wave_1 : decode cX9_wave 1 = .ok (.iconst 0, 1) := dk_3 (dk_at dksX9_wave_0 1 rfl rfl)
theorem dX9_wave_2 : decode cX9_wave 2 = .ok (.putfield 1, 3) := dk_181 0 1 (dk_at dksX9_wave_0 2 rfl rfl)
theorem dX9_wave_5 : decode cX9_wave 5 = .ok (.aload_n 0, 1) := dk_42 (dk_at dksX9_wave_0 5 rfl rfl)
theorem dX9_wave_6 : decode cX9_wave 6 = .ok (.iload_n 1, 1) := dk_27 (dk_at dksX9_wave_0 6 rfl rfl)
theorem dX9_wave_7 : decode cX9_wave 7 = .ok (.iload_n 2, 1) := dk_28 (dk_at dksX9_wave_0 7 rfl rfl)
theorem dX9_wave_8 : decode cX9_wave 8 = .ok (.invokevirtual 296, 3) := dk_182 1 40 (dk_at dksX9_wave_0 8 rfl rfl)
theorem dX9_wave_11 : decode cX9_wave 11 = .ok (.ifCond .eq 38, 3) := dk_153 0 38 (dk_at dksX9_wave_0 11 rfl rfl)
theorem dX9_wave_14 : decode cX9_wave 14 = .ok (.iload_n 3, 1) := dk_29 (dk_at dksX9_wave_0 14 rfl rfl)
theorem dX9_wave_15 : decode cX9_wave 15 = .ok (.iconst 2, 1) := dk_5 (dk_at dksX9_wave_0 15 rfl rfl)
theorem dX9_wave_16 : decode cX9_wave 16 = .ok (.iconst 4, 1) := dk_7 (dk_at dksX9_wave_0 16 rfl rfl)
theorem dX9_wave_17 : decode cX9_wave 17 = .ok (.invokestatic 299, 3) := dk_184 1 43 (dk_at dksX9_wave_0 17 rfl rfl)
theorem dX9_wave_20 : decode cX9_wave 20 = .ok (.ifCond .eq 29, 3) := dk_153 0 29 (dk_at dksX9_wave_0 20 rfl rfl)
theorem dX9_wave_23 : decode cX9_wave 23 = .ok (.iload_n 2, 1) := dk_28 (dk_at dksX9_wave_0 23 rfl rfl)
theorem dX9_wave_24 : decode cX9_wave 24 = .ok (.iload_n 3, 1) := dk_29 (dk_at dksX9_wave_1 0 rfl rfl)
theorem dX9_wave_25 : decode cX9_wave 25 = .ok (.iadd, 1) := dk_96 (dk_at dksX9_wave_1 1 rfl rfl)
theorem dX9_wave_26 : decode cX9_wave 26 = .ok (.aload_n 0, 1) := dk_42 (dk_at dksX9_wave_1 2 rfl rfl)
theorem dX9_wave_27 : decode cX9_wave 27 = .ok (.invokevirtual 279, 3) := dk_182 1 23 (dk_at dksX9_wave_1 3 rfl rfl)
theorem dX9_wave_30 : decode cX9_wave 30 = .ok (.if_icmp .gt 19, 3) := dk_163 0 19 (dk_at dksX9_wave_1 6 rfl rfl)
theorem dX9_wave_33 : decode cX9_wave 33 = .ok (.iload 5, 2) := dk_21 5 (dk_at dksX9_wave_1 9 rfl rfl)
theorem dX9_wave_35 : decode cX9_wave 35 = .ok (.iconst 0, 1) := dk_3 (dk_at dksX9_wave_1 11 rfl rfl)
theorem dX9_wave_36 : decode cX9_wave 36 = .ok (.iload_n 3, 1) := dk_29 (dk_at dksX9_wave_1 12 rfl rfl)
theorem dX9_wave_37 : decode cX9_wave 37 = .ok (.iconst 1, 1) := dk_4 (dk_at dksX9_wave_1 13 rfl rfl)
theorem dX9_wave_38 : decode cX9_wave 38 = .ok (.isub, 1) := dk_100 (dk_at dksX9_wave_1 14 rfl rfl)
theorem dX9_wave_39 : decode cX9_wave 39 = .ok (.invokestatic 299, 3) := dk_184 1 43 (dk_at dksX9_wave_1 15 rfl rfl)
theorem dX9_wave_42 : decode cX9_wave 42 = .ok (.ifCond .eq 7, 3) := dk_153 0 7 (dk_at dksX9_wave_1 18 rfl rfl)
theorem dX9_wave_45 : decode cX9_wave 45 = .ok (.iconst 1, 1) := dk_4 (dk_at dksX9_wave_1 21 rfl rfl)
theorem dX9_wave_46 : decode cX9_wave 46 = .ok (.goto 4, 3) := dk_167 0 4 (dk_at dksX9_wave_2 0 rfl rfl)
theorem dX9_wave_49 : decode cX9_wave 49 = .ok (.iconst 0, 1) := dk_3 (dk_at dksX9_wave_2 3 rfl rfl)
theorem dX9_wave_50 : decode cX9_wave 50 = .ok (.istore 6, 2) := dk_54 6 (dk_at dksX9_wave_2 4 rfl rfl)
theorem dX9_wave_52 : decode cX9_wave 52 = .ok (.iconst 0, 1) := dk_3 (dk_at dksX9_wave_2 6 rfl rfl)
theorem dX9_wave_53 : decode cX9_wave 53 = .ok (.istore 7, 2) := dk_54 7 (dk_at dksX9_wave_2 7 rfl rfl)
theorem dX9_wave_55 : decode cX9_wave 55 = .ok (.iload 7, 2) := dk_21 7 (dk_at dksX9_wave_2 9 rfl rfl)
theorem dX9_wave_57 : decode cX9_wave 57 = .ok (.iload_n 3, 1) := dk_29 (dk_at dksX9_wave_2 11 rfl rfl)
theorem dX9_wave_58 : decode cX9_wave 58 = .ok (.if_icmp .ge 53, 3) := dk_162 0 53 (dk_at dksX9_wave_2 12 rfl rfl)
theorem dX9_wave_61 : decode cX9_wave 61 = .ok (.iload 6, 2) := dk_21 6 (dk_at dksX9_wave_2 15 rfl rfl)
theorem dX9_wave_63 : decode cX9_wave 63 = .ok (.ifCond .eq 48, 3) := dk_153 0 48 (dk_at dksX9_wave_2 17 rfl rfl)
theorem dX9_wave_66 : decode cX9_wave 66 = .ok (.aload_n 0, 1) := dk_42 (dk_at dksX9_wave_2 20 rfl rfl)
theorem dX9_wave_67 : decode cX9_wave 67 = .ok (.iload_n 1, 1) := dk_27 (dk_at dksX9_wave_2 21 rfl rfl)
theorem dX9_wave_68 : decode cX9_wave 68 = .ok (.iload_n 2, 1) := dk_28 (dk_at dksX9_wave_2 22 rfl rfl)
theorem dX9_wave_69 : decode cX9_wave 69 = .ok (.iload 7, 2) := dk_21 7 (dk_at dksX9_wave_3 0 rfl rfl)
theorem dX9_wave_71 : decode cX9_wave 71 = .ok (.iadd, 1) := dk_96 (dk_at dksX9_wave_3 2 rfl rfl)
theorem dX9_wave_72 : decode cX9_wave 72 = .ok (.invokevirtual 285, 3) := dk_182 1 29 (dk_at dksX9_wave_3 3 rfl rfl)
theorem dX9_wave_75 : decode cX9_wave 75 = .ok (.ifCond .eq 27, 3) := dk_153 0 27 (dk_at dksX9_wave_3 6 rfl rfl)
theorem dX9_wave_78 : decode cX9_wave 78 = .ok (.aload_n 0, 1) := dk_42 (dk_at dksX9_wave_3 9 rfl rfl)
theorem dX9_wave_79 : decode cX9_wave 79 = .ok (.iload_n 1, 1) := dk_27 (dk_at dksX9_wave_3 10 rfl rfl)
theorem dX9_wave_80 : decode cX9_wave 80 = .ok (.iload_n 2, 1) := dk_28 (dk_at dksX9_wave_3 11 rfl rfl)
theorem dX9_wave_81 : decode cX9_wave 81 = .ok (.iload 7, 2) := dk_21 7 (dk_at dksX9_wave_3 12 rfl rfl)
theorem dX9_wave_83 : decode cX9_wave 83 = .ok (.iadd, 1) := dk_96 (dk_at dksX9_wave_3 14 rfl rfl)
theorem dX9_wave_84 : decode cX9_wave 84 = .ok (.iconst 1, 1) := dk_4 (dk_at dksX9_wave_3 15 rfl rfl)
theorem dX9_wave_85 : decode cX9_wave 85 = .ok (.invokevirtual 289, 3) := dk_182 1 33 (dk_at dksX9_wave_3 16 rfl rfl)
theorem dX9_wave_88 : decode cX9_wave 88 = .ok (.aload_n 0, 1) := dk_42 (dk_at dksX9_wave_3 19 rfl rfl)
theorem dX9_wave_89 : decode cX9_wave 89 = .ok (.iload_n 1, 1) := dk_27 (dk_at dksX9_wave_3 20 rfl rfl)
theorem dX9_wave_90 : decode cX9_wave 90 = .ok (.iload_n 2, 1) := dk_28 (dk_at dksX9_wave_3 21 rfl rfl)
theorem dX9_wave_91 : decode cX9_wave 91 = .ok (.iconst 1, 1) := dk_4 (dk_at dksX9_wave_3 22 rfl rfl)
theorem dX9_wave_92 : decode cX9_wave 92 = .ok (.invokevirtual 289, 3) := dk_182 1 33 (dk_at dksX9_wave_4 0 rfl rfl)
theorem dX9_wave_95 : decode cX9_wave 95 = .ok (.if_icmp .ne 7, 3) := dk_160 0 7 (dk_at dksX9_wave_4 3 rfl rfl)
theorem dX9_wave_98 : decode cX9_wave 98 = .ok (.iconst 1, 1) := dk_4 (dk_at dksX9_wave_4 6 rfl rfl)
theorem dX9_wave_99 : decode cX9_wave 99 = .ok (.goto 4, 3) := dk_167 0 4 (dk_at dksX9_wave_4 7 rfl rfl)
theorem dX9_wave_102 : decode cX9_wave 102 = .ok (.iconst 0, 1) := dk_3 (dk_at dksX9_wave_4 10 rfl rfl)
theorem dX9_wave_103 : decode cX9_wave 103 = .ok (.istore 6, 2) := dk_54 6 (dk_at dksX9_wave_4 11 rfl rfl)
theorem dX9_wave_105 : decode cX9_wave 105 = .ok (.iinc 7 1, 3) := dk_132 7 1 (dk_at dksX9_wave_4 13 rfl rfl)
theorem dX9_wave_108 : decode cX9_wave 108 = .ok (.goto (-53), 3) := dk_167 255 203 (dk_at dksX9_wave_4 16 rfl rfl)
theorem dX9_wave_111 : decode cX9_wave 111 = .ok (.iload 6, 2) := dk_21 6 (dk_at dksX9_wave_4 19 rfl rfl)
theorem dX9_wave_113 : decode cX9_wave 113 = .ok (.ifCond .ne 5, 3) := dk_154 0 5 (dk_at dksX9_wave_4 21 rfl rfl)
theorem dX9_wave_116 : decode cX9_wave 116 = .ok (.iconst (-1), 1) := dk_2 (dk_at dksX9_wave_5 0 rfl rfl)
theorem dX9_wave_117 : decode cX9_wave 117 = .ok (.ireturn, 1) := dk_172 (dk_at dksX9_wave_5 1 rfl rfl)
theorem dX9_wave_118 : decode cX9_wave 118 = .ok (.aload_n 0, 1) := dk_42 (dk_at dksX9_wave_5 2 rfl rfl)
theorem dX9_wave_119 : decode cX9_wave 119 = .ok (.iload_n 1, 1) := dk_27 (dk_at dksX9_wave_5 3 rfl rfl)
theorem dX9_wave_120 : decode cX9_wave 120 = .ok (.iload_n 2, 1) := dk_28 (dk_at dksX9_wave_5 4 rfl rfl)
theorem dX9_wave_121 : decode cX9_wave 121 = .ok (.iconst 1, 1) := dk_4 (dk_at dksX9_wave_5 5 rfl rfl)
theorem dX9_wave_122 : decode cX9_wave 122 = .ok (.invokevirtual 289, 3) := dk_182 1 33 (dk_at dksX9_wave_5 6 rfl rfl)
theorem dX9_wave_125 : decode cX9_wave 125 = .ok (.istore 7, 2) := dk_54 7 (dk_at dksX9_wave_5 9 rfl rfl)
theorem dX9_wave_127 : decode cX9_wave 127 = .ok (.iconst 0, 1) := dk_3 (dk_at dksX9_wave_5 11 rfl rfl)
theorem dX9_wave_128 : decode cX9_wave 128 = .ok (.istore 8, 2) := dk_54 8 (dk_at dksX9_wave_5 12 rfl rfl)
theorem dX9_wave_130 : decode cX9_wave 130 = .ok (.iload 8, 2) := dk_21 8 (dk_at dksX9_wave_5 14 rfl rfl)
theorem dX9_wave_132 : decode cX9_wave 132 = .ok (.iload_n 3, 1) := dk_29 (dk_at dksX9_wave_5 16 rfl rfl)
theorem dX9_wave_133 : decode cX9_wave 133 = .ok (.if_icmp .ge 108, 3) := dk_162 0 108 (dk_at dksX9_wave_5 17 rfl rfl)
theorem dX9_wave_136 : decode cX9_wave 136 = .ok (.iload 7, 2) := dk_21 7 (dk_at dksX9_wave_5 20 rfl rfl)
theorem dX9_wave_138 : decode cX9_wave 138 = .ok (.aload_n 0, 1) := dk_42 (dk_at dksX9_wave_5 22 rfl rfl)
theorem dX9_wave_139 : decode cX9_wave 139 = .ok (.iload_n 1, 1) := dk_27 (dk_at dksX9_wave_5 23 rfl rfl)
theorem dX9_wave_140 : decode cX9_wave 140 = .ok (.iload_n 2, 1) := dk_28 (dk_at dksX9_wave_6 0 rfl rfl)
theorem dX9_wave_141 : decode cX9_wave 141 = .ok (.iload 8, 2) := dk_21 8 (dk_at dksX9_wave_6 1 rfl rfl)
theorem dX9_wave_143 : decode cX9_wave 143 = .ok (.iadd, 1) := dk_96 (dk_at dksX9_wave_6 3 rfl rfl)
theorem dX9_wave_144 : decode cX9_wave 144 = .ok (.iconst 3, 1) := dk_6 (dk_at dksX9_wave_6 4 rfl rfl)
theorem dX9_wave_145 : decode cX9_wave 145 = .ok (.invokevirtual 289, 3) := dk_182 1 33 (dk_at dksX9_wave_6 5 rfl rfl)
theorem dX9_wave_148 : decode cX9_wave 148 = .ok (.isub, 1) := dk_100 (dk_at dksX9_wave_6 8 rfl rfl)
theorem dX9_wave_149 : decode cX9_wave 149 = .ok (.istore 9, 2) := dk_54 9 (dk_at dksX9_wave_6 9 rfl rfl)
theorem dX9_wave_151 : decode cX9_wave 151 = .ok (.iconst 0, 1) := dk_3 (dk_at dksX9_wave_6 11 rfl rfl)
theorem dX9_wave_152 : decode cX9_wave 152 = .ok (.istore 10, 2) := dk_54 10 (dk_at dksX9_wave_6 12 rfl rfl)
theorem dX9_wave_154 : decode cX9_wave 154 = .ok (.iload 10, 2) := dk_21 10 (dk_at dksX9_wave_6 14 rfl rfl)
theorem dX9_wave_156 : decode cX9_wave 156 = .ok (.iload 7, 2) := dk_21 7 (dk_at dksX9_wave_6 16 rfl rfl)
theorem dX9_wave_158 : decode cX9_wave 158 = .ok (.if_icmp .ge 77, 3) := dk_162 0 77 (dk_at dksX9_wave_6 18 rfl rfl)
theorem dX9_wave_161 : decode cX9_wave 161 = .ok (.aload_n 0, 1) := dk_42 (dk_at dksX9_wave_6 21 rfl rfl)
theorem dX9_wave_162 : decode cX9_wave 162 = .ok (.getfield 132, 3) := dk_180 0 132 (dk_at dksX9_wave_7 0 rfl rfl)
theorem dX9_wave_165 : decode cX9_wave 165 = .ok (.bipush 60, 2) := dk_16 60 (dk_at dksX9_wave_7 3 rfl rfl)
theorem dX9_wave_167 : decode cX9_wave 167 = .ok (.iload 8, 2) := dk_21 8 (dk_at dksX9_wave_7 5 rfl rfl)
theorem dX9_wave_169 : decode cX9_wave 169 = .ok (.imul, 1) := dk_104 (dk_at dksX9_wave_7 7 rfl rfl)
theorem dX9_wave_170 : decode cX9_wave 170 = .ok (.iload 10, 2) := dk_21 10 (dk_at dksX9_wave_7 8 rfl rfl)
theorem dX9_wave_172 : decode cX9_wave 172 = .ok (.iadd, 1) := dk_96 (dk_at dksX9_wave_7 10 rfl rfl)
theorem dX9_wave_173 : decode cX9_wave 173 = .ok (.iload 10, 2) := dk_21 10 (dk_at dksX9_wave_7 11 rfl rfl)
theorem dX9_wave_175 : decode cX9_wave 175 = .ok (.iload 8, 2) := dk_21 8 (dk_at dksX9_wave_7 13 rfl rfl)
theorem dX9_wave_177 : decode cX9_wave 177 = .ok (.aload_n 0, 1) := dk_42 (dk_at dksX9_wave_7 15 rfl rfl)
theorem dX9_wave_178 : decode cX9_wave 178 = .ok (.getfield 81, 3) := dk_180 0 81 (dk_at dksX9_wave_7 16 rfl rfl)
theorem dX9_wave_181 : decode cX9_wave 181 = .ok (.iconst 2, 1) := dk_5 (dk_at dksX9_wave_7 19 rfl rfl)
theorem dX9_wave_182 : decode cX9_wave 182 = .ok (.iaload, 1) := dk_46 (dk_at dksX9_wave_7 20 rfl rfl)
theorem dX9_wave_183 : decode cX9_wave 183 = .ok (.imul, 1) := dk_104 (dk_at dksX9_wave_7 21 rfl rfl)
theorem dX9_wave_184 : decode cX9_wave 184 = .ok (.isub, 1) := dk_100 (dk_at dksX9_wave_7 22 rfl rfl)
theorem dX9_wave_185 : decode cX9_wave 185 = .ok (.iload 9, 2) := dk_21 9 (dk_at dksX9_wave_8 0 rfl rfl)
theorem dX9_wave_187 : decode cX9_wave 187 = .ok (.iload 7, 2) := dk_21 7 (dk_at dksX9_wave_8 2 rfl rfl)
theorem dX9_wave_189 : decode cX9_wave 189 = .ok (.invokestatic 446, 3) := dk_184 1 190 (dk_at dksX9_wave_8 4 rfl rfl)
theorem dX9_wave_192 : decode cX9_wave 192 = .ok (.lastore, 1) := dk_80 (dk_at dksX9_wave_8 7 rfl rfl)
theorem dX9_wave_193 : decode cX9_wave 193 = .ok (.aload_n 0, 1) := dk_42 (dk_at dksX9_wave_8 8 rfl rfl)
theorem dX9_wave_194 : decode cX9_wave 194 = .ok (.getfield 135, 3) := dk_180 0 135 (dk_at dksX9_wave_8 9 rfl rfl)
theorem dX9_wave_197 : decode cX9_wave 197 = .ok (.bipush 60, 2) := dk_16 60 (dk_at dksX9_wave_8 12 rfl rfl)
theorem dX9_wave_199 : decode cX9_wave 199 = .ok (.iload 8, 2) := dk_21 8 (dk_at dksX9_wave_8 14 rfl rfl)
theorem dX9_wave_201 : decode cX9_wave 201 = .ok (.imul, 1) := dk_104 (dk_at dksX9_wave_8 16 rfl rfl)
theorem dX9_wave_202 : decode cX9_wave 202 = .ok (.iload 10, 2) := dk_21 10 (dk_at dksX9_wave_8 17 rfl rfl)
theorem dX9_wave_204 : decode cX9_wave 204 = .ok (.iadd, 1) := dk_96 (dk_at dksX9_wave_8 19 rfl rfl)
theorem dX9_wave_205 : decode cX9_wave 205 = .ok (.iload 10, 2) := dk_21 10 (dk_at dksX9_wave_8 20 rfl rfl)
theorem dX9_wave_207 : decode cX9_wave 207 = .ok (.iload_n 3, 1) := dk_29 (dk_at dksX9_wave_8 22 rfl rfl)
theorem dX9_wave_208 : decode cX9_wave 208 = .ok (.iconst 1, 1) := dk_4 (dk_at dksX9_wave_8 23 rfl rfl)
theorem dX9_wave_209 : decode cX9_wave 209 = .ok (.isub, 1) := dk_100 (dk_at dksX9_wave_9 0 rfl rfl)
theorem dX9_wave_210 : decode cX9_wave 210 = .ok (.iload 8, 2) := dk_21 8 (dk_at dksX9_wave_9 1 rfl rfl)
theorem dX9_wave_212 : decode cX9_wave 212 = .ok (.isub, 1) := dk_100 (dk_at dksX9_wave_9 3 rfl rfl)
theorem dX9_wave_213 : decode cX9_wave 213 = .ok (.aload_n 0, 1) := dk_42 (dk_at dksX9_wave_9 4 rfl rfl)
theorem dX9_wave_214 : decode cX9_wave 214 = .ok (.getfield 81, 3) := dk_180 0 81 (dk_at dksX9_wave_9 5 rfl rfl)
theorem dX9_wave_217 : decode cX9_wave 217 = .ok (.iconst 2, 1) := dk_5 (dk_at dksX9_wave_9 8 rfl rfl)
theorem dX9_wave_218 : decode cX9_wave 218 = .ok (.iaload, 1) := dk_46 (dk_at dksX9_wave_9 9 rfl rfl)
theorem dX9_wave_219 : decode cX9_wave 219 = .ok (.imul, 1) := dk_104 (dk_at dksX9_wave_9 10 rfl rfl)
theorem dX9_wave_220 : decode cX9_wave 220 = .ok (.isub, 1) := dk_100 (dk_at dksX9_wave_9 11 rfl rfl)
theorem dX9_wave_221 : decode cX9_wave 221 = .ok (.iload 9, 2) := dk_21 9 (dk_at dksX9_wave_9 12 rfl rfl)
theorem dX9_wave_223 : decode cX9_wave 223 = .ok (.iload 7, 2) := dk_21 7 (dk_at dksX9_wave_9 14 rfl rfl)
theorem dX9_wave_225 : decode cX9_wave 225 = .ok (.invokestatic 446, 3) := dk_184 1 190 (dk_at dksX9_wave_9 16 rfl rfl)
theorem dX9_wave_228 : decode cX9_wave 228 = .ok (.lastore, 1) := dk_80 (dk_at dksX9_wave_9 19 rfl rfl)
theorem dX9_wave_229 : decode cX9_wave 229 = .ok (.iinc 10 1, 3) := dk_132 10 1 (dk_at dksX9_wave_9 20 rfl rfl)
theorem dX9_wave_232 : decode cX9_wave 232 = .ok (.goto (-78), 3) := dk_167 255 178 (dk_at dksX9_wave_10 0 rfl rfl)
theorem dX9_wave_235 : decode cX9_wave 235 = .ok (.iinc 8 1, 3) := dk_132 8 1 (dk_at dksX9_wave_10 3 rfl rfl)
theorem dX9_wave_238 : decode cX9_wave 238 = .ok (.goto (-108), 3) := dk_167 255 148 (dk_at dksX9_wave_10 6 rfl rfl)
theorem dX9_wave_241 : decode cX9_wave 241 = .ok (.aload_n 0, 1) := dk_42 (dk_at dksX9_wave_10 9 rfl rfl)
theorem dX9_wave_242 : decode cX9_wave 242 = .ok (.iconst (-1), 1) := dk_2 (dk_at dksX9_wave_10 10 rfl rfl)
theorem dX9_wave_243 : decode cX9_wave 243 = .ok (.putfield 439, 3) := dk_181 1 183 (dk_at dksX9_wave_10 11 rfl rfl)
theorem dX9_wave_246 : decode cX9_wave 246 = .ok (.aload_n 0, 1) := dk_42 (dk_at dksX9_wave_10 14 rfl rfl)
theorem dX9_wave_247 : decode cX9_wave 247 = .ok (.iload_n 1, 1) := dk_27 (dk_at dksX9_wave_10 15 rfl rfl)
theorem dX9_wave_248 : decode cX9_wave 248 = .ok (.iload_n 2, 1) := dk_28 (dk_at dksX9_wave_10 16 rfl rfl)
theorem dX9_wave_249 : decode cX9_wave 249 = .ok (.iconst 2, 1) := dk_5 (dk_at dksX9_wave_10 17 rfl rfl)
theorem dX9_wave_250 : decode cX9_wave 250 = .ok (.invokevirtual 289, 3) := dk_182 1 33 (dk_at dksX9_wave_10 18 rfl rfl)
theorem dX9_wave_253 : decode cX9_wave 253 = .ok (.aload_n 0, 1) := dk_42 (dk_at dksX9_wave_10 21 rfl rfl)
theorem dX9_wave_254 : decode cX9_wave 254 = .ok (.iload_n 1, 1) := dk_27 (dk_at dksX9_wave_10 22 rfl rfl)
theorem dX9_wave_255 : decode cX9_wave 255 = .ok (.iload_n 2, 1) := dk_28 (dk_at dksX9_wave_10 23 rfl rfl)
theorem dX9_wave_256 : decode cX9_wave 256 = .ok (.iconst 3, 1) := dk_6 (dk_at dksX9_wave_11 0 rfl rfl)
theorem dX9_wave_257 : decode cX9_wave 257 = .ok (.invokevirtual 289, 3) := dk_182 1 33 (dk_at dksX9_wave_11 1 rfl rfl)
theorem dX9_wave_260 : decode cX9_wave 260 = .ok (.iadd, 1) := dk_96 (dk_at dksX9_wave_11 4 rfl rfl)
theorem dX9_wave_261 : decode cX9_wave 261 = .ok (.iload 7, 2) := dk_21 7 (dk_at dksX9_wave_11 5 rfl rfl)
theorem dX9_wave_263 : decode cX9_wave 263 = .ok (.irem, 1) := dk_112 (dk_at dksX9_wave_11 7 rfl rfl)
theorem dX9_wave_264 : decode cX9_wave 264 = .ok (.istore 8, 2) := dk_54 8 (dk_at dksX9_wave_11 8 rfl rfl)
theorem dX9_wave_266 : decode cX9_wave 266 = .ok (.aload_n 0, 1) := dk_42 (dk_at dksX9_wave_11 10 rfl rfl)
theorem dX9_wave_267 : decode cX9_wave 267 = .ok (.getfield 138, 3) := dk_180 0 138 (dk_at dksX9_wave_11 11 rfl rfl)
theorem dX9_wave_270 : decode cX9_wave 270 = .ok (.iconst 0, 1) := dk_3 (dk_at dksX9_wave_11 14 rfl rfl)
theorem dX9_wave_271 : decode cX9_wave 271 = .ok (.iload 8, 2) := dk_21 8 (dk_at dksX9_wave_11 15 rfl rfl)
theorem dX9_wave_273 : decode cX9_wave 273 = .ok (.iastore, 1) := dk_79 (dk_at dksX9_wave_11 17 rfl rfl)
theorem dX9_wave_274 : decode cX9_wave 274 = .ok (.aload_n 0, 1) := dk_42 (dk_at dksX9_wave_11 18 rfl rfl)
theorem dX9_wave_275 : decode cX9_wave 275 = .ok (.iconst 1, 1) := dk_4 (dk_at dksX9_wave_11 19 rfl rfl)
theorem dX9_wave_276 : decode cX9_wave 276 = .ok (.iload_n 3, 1) := dk_29 (dk_at dksX9_wave_11 20 rfl rfl)
theorem dX9_wave_277 : decode cX9_wave 277 = .ok (.iload 7, 2) := dk_21 7 (dk_at dksX9_wave_11 21 rfl rfl)
theorem dX9_wave_279 : decode cX9_wave 279 = .ok (.aload_n 0, 1) := dk_42 (dk_at dksX9_wave_11 23 rfl rfl)
theorem dX9_wave_280 : decode cX9_wave 280 = .ok (.getfield 132, 3) := dk_180 0 132 (dk_at dksX9_wave_12 0 rfl rfl)
theorem dX9_wave_283 : decode cX9_wave 283 = .ok (.iload 8, 2) := dk_21 8 (dk_at dksX9_wave_12 3 rfl rfl)
theorem dX9_wave_285 : decode cX9_wave 285 = .ok (.laload, 1) := dk_47 (dk_at dksX9_wave_12 5 rfl rfl)
theorem dX9_wave_286 : decode cX9_wave 286 = .ok (.aload_n 0, 1) := dk_42 (dk_at dksX9_wave_12 6 rfl rfl)
theorem dX9_wave_287 : decode cX9_wave 287 = .ok (.getfield 135, 3) := dk_180 0 135 (dk_at dksX9_wave_12 7 rfl rfl)
theorem dX9_wave_290 : decode cX9_wave 290 = .ok (.iload 8, 2) := dk_21 8 (dk_at dksX9_wave_12 10 rfl rfl)
theorem dX9_wave_292 : decode cX9_wave 292 = .ok (.laload, 1) := dk_47 (dk_at dksX9_wave_12 12 rfl rfl)
theorem dX9_wave_293 : decode cX9_wave 293 = .ok (.iload 4, 2) := dk_21 4 (dk_at dksX9_wave_12 13 rfl rfl)
theorem dX9_wave_295 : decode cX9_wave 295 = .ok (.invokevirtual 442, 3) := dk_182 1 186 (dk_at dksX9_wave_12 15 rfl rfl)
theorem dX9_wave_298 : decode cX9_wave 298 = .ok (.iload 5, 2) := dk_21 5 (dk_at dksX9_wave_12 18 rfl rfl)
theorem dX9_wave_300 : decode cX9_wave 300 = .ok (.ifCond .ne 10, 3) := dk_154 0 10 (dk_at dksX9_wave_12 20 rfl rfl)
theorem dX9_wave_303 : decode cX9_wave 303 = .ok (.aload_n 0, 1) := dk_42 (dk_at dksX9_wave_12 23 rfl rfl)
theorem dX9_wave_304 : decode cX9_wave 304 = .ok (.getfield 439, 3) := dk_180 1 183 (dk_at dksX9_wave_13 0 rfl rfl)
theorem dX9_wave_307 : decode cX9_wave 307 = .ok (.goto 10, 3) := dk_167 0 10 (dk_at dksX9_wave_13 3 rfl rfl)
theorem dX9_wave_310 : decode cX9_wave 310 = .ok (.aload_n 0, 1) := dk_42 (dk_at dksX9_wave_13 6 rfl rfl)
theorem dX9_wave_311 : decode cX9_wave 311 = .ok (.getfield 141, 3) := dk_180 0 141 (dk_at dksX9_wave_13 7 rfl rfl)
theorem dX9_wave_314 : decode cX9_wave 314 = .ok (.iload 5, 2) := dk_21 5 (dk_at dksX9_wave_13 10 rfl rfl)
theorem dX9_wave_316 : decode cX9_wave 316 = .ok (.iaload, 1) := dk_46 (dk_at dksX9_wave_13 12 rfl rfl)
theorem dX9_wave_317 : decode cX9_wave 317 = .ok (.ireturn, 1) := dk_172 (dk_at dksX9_wave_13 13 rfl rfl)
abbrev cX9_turned : ByteArray := prog_23_method_99_code
def yX9_turned : MethodName := ⟨RX9, "turned", "(III)J"⟩
def dkwX9_turned_1 : List UInt8 := [129, 66, 132, 5, 1, 167, 255, 232, 33, 173]
abbrev dktX9_turned_1 : List UInt8 := dkwX9_turned_1 ++ []
def dkwX9_turned_0 : List UInt8 := [9, 66, 3, 54, 5, 21, 5, 27, 162, 0, 24, 33, 10, 26, 21, 5, 96, 28, 112, 28, 96, 28, 112, 121]
abbrev dktX9_turned_0 : List UInt8 := dkwX9_turned_0 ++ dktX9_turned_1
theorem dksX9_turned_0 : cX9_turned.data.toList.drop 0 = dktX9_turned_0 := by decide +kernel
theorem dksX9_turned_1 : cX9_turned.data.toList.drop 24 = dktX9_turned_1 := dk_seg dksX9_turned_0 24 rfl rfl
theorem dX9_turned_0 : decode cX9_turned 0 = .ok (.lconst 0, 1) := dk_9 (dk_at dksX9_turned_0 0 rfl rfl)
theorem dX9_turned_1 : decode cX9_turned 1 = .ok (.lstore_n 3, 1) := dk_66 (dk_at dksX9_turned_0 1 rfl rfl)
theorem dX9_turned_2 : decode cX9_turned 2 = .ok (.iconst 0, 1) := dk_3 (dk_at dksX9_turned_0 2 rfl rfl)
theorem dX9_turned_3 : decode cX9_turned 3 = .ok (.istore 5, 2) := dk_54 5 (dk_at dksX9_turned_0 3 rfl rfl)
theorem dX9_turned_5 : decode cX9_turned 5 = .ok (.iload 5, 2) := dk_21 5 (dk_at dksX9_turned_0 5 rfl rfl)
theorem dX9_turned_7 : decode cX9_turned 7 = .ok (.iload_n 1, 1) := dk_27 (dk_at dksX9_turned_0 7 rfl rfl)
theorem dX9_turned_8 : decode cX9_turned 8 = .ok (.if_icmp .ge 24, 3) := dk_162 0 24 (dk_at dksX9_turned_0 8 rfl rfl)
theorem dX9_turned_11 : decode cX9_turned 11 = .ok (.lload_n 3, 1) := dk_33 (dk_at dksX9_turned_0 11 rfl rfl)
theorem dX9_turned_12 : decode cX9_turned 12 = .ok (.lconst 1, 1) := dk_10 (dk_at dksX9_turned_0 12 rfl rfl)
theorem dX9_turned_13 : decode cX9_turned 13 = .ok (.iload_n 0, 1) := dk_26 (dk_at dksX9_turned_0 13 rfl rfl)
theorem dX9_turned_14 : decode cX9_turned 14 = .ok (.iload 5, 2) := dk_21 5 (dk_at dksX9_turned_0 14 rfl rfl)
theorem dX9_turned_16 : decode cX9_turned 16 = .ok (.iadd, 1) := dk_96 (dk_at dksX9_turned_0 16 rfl rfl)
theorem dX9_turned_17 : decode cX9_turned 17 = .ok (.iload_n 2, 1) := dk_28 (dk_at dksX9_turned_0 17 rfl rfl)
theorem dX9_turned_18 : decode cX9_turned 18 = .ok (.irem, 1) := dk_112 (dk_at dksX9_turned_0 18 rfl rfl)
theorem dX9_turned_19 : decode cX9_turned 19 = .ok (.iload_n 2, 1) := dk_28 (dk_at dksX9_turned_0 19 rfl rfl)
theorem dX9_turned_20 : decode cX9_turned 20 = .ok (.iadd, 1) := dk_96 (dk_at dksX9_turned_0 20 rfl rfl)
theorem dX9_turned_21 : decode cX9_turned 21 = .ok (.iload_n 2, 1) := dk_28 (dk_at dksX9_turned_0 21 rfl rfl)
theorem dX9_turned_22 : decode cX9_turned 22 = .ok (.irem, 1) := dk_112 (dk_at dksX9_turned_0 22 rfl rfl)
theorem dX9_turned_23 : decode cX9_turned 23 = .ok (.lshl, 1) := dk_121 (dk_at dksX9_turned_0 23 rfl rfl)
theorem dX9_turned_24 : decode cX9_turned 24 = .ok (.lor, 1) := dk_129 (dk_at dksX9_turned_1 0 rfl rfl)
theorem dX9_turned_25 : decode cX9_turned 25 = .ok (.lstore_n 3, 1) := dk_66 (dk_at dksX9_turned_1 1 rfl rfl)
theorem dX9_turned_26 : decode cX9_turned 26 = .ok (.iinc 5 1, 3) := dk_132 5 1 (dk_at dksX9_turned_1 2 rfl rfl)
theorem dX9_turned_29 : decode cX9_turned 29 = .ok (.goto (-24), 3) := dk_167 255 232 (dk_at dksX9_turned_1 5 rfl rfl)
theorem dX9_turned_32 : decode cX9_turned 32 = .ok (.lload_n 3, 1) := dk_33 (dk_at dksX9_turned_1 8 rfl rfl)
theorem dX9_turned_33 : decode cX9_turned 33 = .ok (.lreturn, 1) := dk_173 (dk_at dksX9_turned_1 9 rfl rfl)
abbrev cX9_triesWave : ByteArray := prog_23_method_101_code
def yX9_triesWave : MethodName := ⟨RX9, "triesWave", "(IIIJJZ)V"⟩
def dkwX9_triesWave_5 : List UInt8 := [104, 21, 9, 96, 47, 127, 21, 8, 182, 1, 186, 132, 9, 1, 167, 255, 198, 177]
abbrev dktX9_triesWave_5 : List UInt8 := dkwX9_triesWave_5 ++ []
def dkwX9_triesWave_4 : List UInt8 := [22, 4, 42, 180, 0, 132, 16, 60, 27, 104, 21, 9, 96, 47, 127, 22, 6, 42, 180, 0, 135, 16, 60, 27]
abbrev dktX9_triesWave_4 : List UInt8 := dkwX9_triesWave_4 ++ dktX9_triesWave_5
def dkwX9_triesWave_3 : List UInt8 := [3, 54, 9, 21, 9, 29, 162, 0, 58, 42, 180, 0, 138, 27, 21, 9, 79, 42, 27, 4, 96, 28, 29]
abbrev dktX9_triesWave_3 : List UInt8 := dkwX9_triesWave_3 ++ dktX9_triesWave_4
def dkwX9_triesWave_2 : List UInt8 := [162, 0, 23, 42, 180, 0, 141, 21, 10, 42, 180, 0, 138, 21, 10, 46, 79, 132, 10, 1, 167, 255, 233, 177]
abbrev dktX9_triesWave_2 : List UInt8 := dkwX9_triesWave_2 ++ dktX9_triesWave_3
def dkwX9_triesWave_1 : List UInt8 := [96, 54, 9, 21, 9, 42, 180, 1, 183, 164, 0, 38, 42, 21, 9, 181, 1, 183, 3, 54, 10, 21, 10, 28]
abbrev dktX9_triesWave_1 : List UInt8 := dkwX9_triesWave_1 ++ dktX9_triesWave_2
def dkwX9_triesWave_0 : List UInt8 := [27, 28, 160, 0, 70, 22, 4, 184, 1, 179, 21, 8, 153, 0, 11, 22, 6, 184, 1, 179, 167, 0, 4, 3]
abbrev dktX9_triesWave_0 : List UInt8 := dkwX9_triesWave_0 ++ dktX9_triesWave_1
theorem dksX9_triesWave_0 : cX9_triesWave.data.toList.drop 0 = dktX9_triesWave_0 := by decide +kernel
theorem dksX9_triesWave_1 : cX9_triesWave.data.toList.drop 24 = dktX9_triesWave_1 := dk_seg dksX9_triesWave_0 24 rfl rfl
theorem dksX9_triesWave_2 : cX9_triesWave.data.toList.drop 48 = dktX9_triesWave_2 := dk_seg dksX9_triesWave_1 24 rfl rfl
theorem dksX9_triesWave_3 : cX9_triesWave.data.toList.drop 72 = dktX9_triesWave_3 := dk_seg dksX9_triesWave_2 24 rfl rfl
theorem dksX9_triesWave_4 : cX9_triesWave.data.toList.drop 95 = dktX9_triesWave_4 := dk_seg dksX9_triesWave_3 23 rfl rfl
theorem dksX9_triesWave_5 : cX9_triesWave.data.toList.drop 119 = dktX9_triesWave_5 := dk_seg dksX9_triesWave_4 24 rfl rfl
theorem dX9_triesWave_0 : decode cX9_triesWave 0 = .ok (.iload_n 1, 1) := dk_27 (dk_at dksX9_triesWave_0 0 rfl rfl)
theorem dX9_triesWave_1 : decode cX9_triesWave 1 = .ok (.iload_n 2, 1) := dk_28 (dk_at dksX9_triesWave_0 1 rfl rfl)
theorem dX9_triesWave_2 : decode cX9_triesWave 2 = .ok (.if_icmp .ne 70, 3) := dk_160 0 70 (dk_at dksX9_triesWave_0 2 rfl rfl)
theorem dX9_triesWave_5 : decode cX9_triesWave 5 = .ok (.lload 4, 2) := dk_22 4 (dk_at dksX9_triesWave_0 5 rfl rfl)
theorem dX9_triesWave_7 : decode cX9_triesWave 7 = .ok (.invokestatic 435, 3) := dk_184 1 179 (dk_at dksX9_triesWave_0 7 rfl rfl)
theorem dX9_triesWave_10 : decode cX9_triesWave 10 = .ok (.iload 8, 2) := dk_21 8 (dk_at dksX9_triesWave_0 10 rfl rfl)
theorem dX9_triesWave_12 : decode cX9_triesWave 12 = .ok (.ifCond .eq 11, 3) := dk_153 0 11 (dk_at dksX9_triesWave_0 12 rfl rfl)
theorem dX9_triesWave_15 : decode cX9_triesWave 15 = .ok (.lload 6, 2) := dk_22 6 (dk_at dksX9_triesWave_0 15 rfl rfl)
theorem dX9_triesWave_17 : decode cX9_triesWave 17 = .ok (.invokestatic 435, 3) := dk_184 1 179 (dk_at dksX9_triesWave_0 17 rfl rfl)
theorem dX9_triesWave_20 : decode cX9_triesWave 20 = .ok (.goto 4, 3) := dk_167 0 4 (dk_at dksX9_triesWave_0 20 rfl rfl)
theorem dX9_triesWave_23 : decode cX9_triesWave 23 = .ok (.iconst 0, 1) := dk_3 (dk_at dksX9_triesWave_0 23 rfl rfl)
theorem dX9_triesWave_24 : decode cX9_triesWave 24 = .ok (.iadd, 1) := dk_96 (dk_at dksX9_triesWave_1 0 rfl rfl)
theorem dX9_triesWave_25 : decode cX9_triesWave 25 = .ok (.istore 9, 2) := dk_54 9 (dk_at dksX9_triesWave_1 1 rfl rfl)
theorem dX9_triesWave_27 : decode cX9_triesWave 27 = .ok (.iload 9, 2) := dk_21 9 (dk_at dksX9_triesWave_1 3 rfl rfl)
theorem dX9_triesWave_29 : decode cX9_triesWave 29 = .ok (.aload_n 0, 1) := dk_42 (dk_at dksX9_triesWave_1 5 rfl rfl)
theorem dX9_triesWave_30 : decode cX9_triesWave 30 = .ok (.getfield 439, 3) := dk_180 1 183 (dk_at dksX9_triesWave_1 6 rfl rfl)
theorem dX9_triesWave_33 : decode cX9_triesWave 33 = .ok (.if_icmp .le 38, 3) := dk_164 0 38 (dk_at dksX9_triesWave_1 9 rfl rfl)
theorem dX9_triesWave_36 : decode cX9_triesWave 36 = .ok (.aload_n 0, 1) := dk_42 (dk_at dksX9_triesWave_1 12 rfl rfl)
theorem dX9_triesWave_37 : decode cX9_triesWave 37 = .ok (.iload 9, 2) := dk_21 9 (dk_at dksX9_triesWave_1 13 rfl rfl)
theorem dX9_triesWave_39 : decode cX9_triesWave 39 = .ok (.putfield 439, 3) := dk_181 1 183 (dk_at dksX9_triesWave_1 15 rfl rfl)
theorem dX9_triesWave_42 : decode cX9_triesWave 42 = .ok (.iconst 0, 1) := dk_3 (dk_at dksX9_triesWave_1 18 rfl rfl)
theorem dX9_triesWave_43 : decode cX9_triesWave 43 = .ok (.istore 10, 2) := dk_54 10 (dk_at dksX9_triesWave_1 19 rfl rfl)
theorem dX9_triesWave_45 : decode cX9_triesWave 45 = .ok (.iload 10, 2) := dk_21 10 (dk_at dksX9_triesWave_1 21 rfl rfl)
theorem dX9_triesWave_47 : decode cX9_triesWave 47 = .ok (.iload_n 2, 1) := dk_28 (dk_at dksX9_triesWave_1 23 rfl rfl)
theorem dX9_triesWave_48 : decode cX9_triesWave 48 = .ok (.if_icmp .ge 23, 3) := dk_162 0 23 (dk_at dksX9_triesWave_2 0 rfl rfl)
theorem dX9_triesWave_51 : decode cX9_triesWave 51 = .ok (.aload_n 0, 1) := dk_42 (dk_at dksX9_triesWave_2 3 rfl rfl)
theorem dX9_triesWave_52 : decode cX9_triesWave 52 = .ok (.getfield 141, 3) := dk_180 0 141 (dk_at dksX9_triesWave_2 4 rfl rfl)
theorem dX9_triesWave_55 : decode cX9_triesWave 55 = .ok (.iload 10, 2) := dk_21 10 (dk_at dksX9_triesWave_2 7 rfl rfl)
theorem dX9_triesWave_57 : decode cX9_triesWave 57 = .ok (.aload_n 0, 1) := dk_42 (dk_at dksX9_triesWave_2 9 rfl rfl)
theorem dX9_triesWave_58 : decode cX9_triesWave 58 = .ok (.getfield 138, 3) := dk_180 0 138 (dk_at dksX9_triesWave_2 10 rfl rfl)
theorem dX9_triesWave_61 : decode cX9_triesWave 61 = .ok (.iload 10, 2) := dk_21 10 (dk_at dksX9_triesWave_2 13 rfl rfl)
theorem dX9_triesWave_63 : decode cX9_triesWave 63 = .ok (.iaload, 1) := dk_46 (dk_at dksX9_triesWave_2 15 rfl rfl)
theorem dX9_triesWave_64 : decode cX9_triesWave 64 = .ok (.iastore, 1) := dk_79 (dk_at dksX9_triesWave_2 16 rfl rfl)
theorem dX9_triesWave_65 : decode cX9_triesWave 65 = .ok (.iinc 10 1, 3) := dk_132 10 1 (dk_at dksX9_triesWave_2 17 rfl rfl)
theorem dX9_triesWave_68 : decode cX9_triesWave 68 = .ok (.goto (-23), 3) := dk_167 255 233 (dk_at dksX9_triesWave_2 20 rfl rfl)
theorem dX9_triesWave_71 : decode cX9_triesWave 71 = .ok (.return_, 1) := dk_177 (dk_at dksX9_triesWave_2 23 rfl rfl)
theorem dX9_triesWave_72 : decode cX9_triesWave 72 = .ok (.iconst 0, 1) := dk_3 (dk_at dksX9_triesWave_3 0 rfl rfl)
theorem dX9_triesWave_73 : decode cX9_triesWave 73 = .ok (.istore 9, 2) := dk_54 9 (dk_at dksX9_triesWave_3 1 rfl rfl)
theorem dX9_triesWave_75 : decode cX9_triesWave 75 = .ok (.iload 9, 2) := dk_21 9 (dk_at dksX9_triesWave_3 3 rfl rfl)
theorem dX9_triesWave_77 : decode cX9_triesWave 77 = .ok (.iload_n 3, 1) := dk_29 (dk_at dksX9_triesWave_3 5 rfl rfl)
theorem dX9_triesWave_78 : decode cX9_triesWave 78 = .ok (.if_icmp .ge 58, 3) := dk_162 0 58 (dk_at dksX9_triesWave_3 6 rfl rfl)
theorem dX9_triesWave_81 : decode cX9_triesWave 81 = .ok (.aload_n 0, 1) := dk_42 (dk_at dksX9_triesWave_3 9 rfl rfl)
theorem dX9_triesWave_82 : decode cX9_triesWave 82 = .ok (.getfield 138, 3) := dk_180 0 138 (dk_at dksX9_triesWave_3 10 rfl rfl)
theorem dX9_triesWave_85 : decode cX9_triesWave 85 = .ok (.iload_n 1, 1) := dk_27 (dk_at dksX9_triesWave_3 13 rfl rfl)
theorem dX9_triesWave_86 : decode cX9_triesWave 86 = .ok (.iload 9, 2) := dk_21 9 (dk_at dksX9_triesWave_3 14 rfl rfl)
theorem dX9_triesWave_88 : decode cX9_triesWave 88 = .ok (.iastore, 1) := dk_79 (dk_at dksX9_triesWave_3 16 rfl rfl)
theorem dX9_triesWave_89 : decode cX9_triesWave 89 = .ok (.aload_n 0, 1) := dk_42 (dk_at dksX9_triesWave_3 17 rfl rfl)
theorem dX9_triesWave_90 : decode cX9_triesWave 90 = .ok (.iload_n 1, 1) := dk_27 (dk_at dksX9_triesWave_3 18 rfl rfl)
theorem dX9_triesWave_91 : decode cX9_triesWave 91 = .ok (.iconst 1, 1) := dk_4 (dk_at dksX9_triesWave_3 19 rfl rfl)
theorem dX9_triesWave_92 : decode cX9_triesWave 92 = .ok (.iadd, 1) := dk_96 (dk_at dksX9_triesWave_3 20 rfl rfl)
theorem dX9_triesWave_93 : decode cX9_triesWave 93 = .ok (.iload_n 2, 1) := dk_28 (dk_at dksX9_triesWave_3 21 rfl rfl)
theorem dX9_triesWave_94 : decode cX9_triesWave 94 = .ok (.iload_n 3, 1) := dk_29 (dk_at dksX9_triesWave_3 22 rfl rfl)
theorem dX9_triesWave_95 : decode cX9_triesWave 95 = .ok (.lload 4, 2) := dk_22 4 (dk_at dksX9_triesWave_4 0 rfl rfl)
theorem dX9_triesWave_97 : decode cX9_triesWave 97 = .ok (.aload_n 0, 1) := dk_42 (dk_at dksX9_triesWave_4 2 rfl rfl)
theorem dX9_triesWave_98 : decode cX9_triesWave 98 = .ok (.getfield 132, 3) := dk_180 0 132 (dk_at dksX9_triesWave_4 3 rfl rfl)
theorem dX9_triesWave_101 : decode cX9_triesWave 101 = .ok (.bipush 60, 2) := dk_16 60 (dk_at dksX9_triesWave_4 6 rfl rfl)
theorem dX9_triesWave_103 : decode cX9_triesWave 103 = .ok (.iload_n 1, 1) := dk_27 (dk_at dksX9_triesWave_4 8 rfl rfl)
theorem dX9_triesWave_104 : decode cX9_triesWave 104 = .ok (.imul, 1) := dk_104 (dk_at dksX9_triesWave_4 9 rfl rfl)
theorem dX9_triesWave_105 : decode cX9_triesWave 105 = .ok (.iload 9, 2) := dk_21 9 (dk_at dksX9_triesWave_4 10 rfl rfl)
theorem dX9_triesWave_107 : decode cX9_triesWave 107 = .ok (.iadd, 1) := dk_96 (dk_at dksX9_triesWave_4 12 rfl rfl)
theorem dX9_triesWave_108 : decode cX9_triesWave 108 = .ok (.laload, 1) := dk_47 (dk_at dksX9_triesWave_4 13 rfl rfl)
theorem dX9_triesWave_109 : decode cX9_triesWave 109 = .ok (.land, 1) := dk_127 (dk_at dksX9_triesWave_4 14 rfl rfl)
theorem dX9_triesWave_110 : decode cX9_triesWave 110 = .ok (.lload 6, 2) := dk_22 6 (dk_at dksX9_triesWave_4 15 rfl rfl)
theorem dX9_triesWave_112 : decode cX9_triesWave 112 = .ok (.aload_n 0, 1) := dk_42 (dk_at dksX9_triesWave_4 17 rfl rfl)
theorem dX9_triesWave_113 : decode cX9_triesWave 113 = .ok (.getfield 135, 3) := dk_180 0 135 (dk_at dksX9_triesWave_4 18 rfl rfl)
theorem dX9_triesWave_116 : decode cX9_triesWave 116 = .ok (.bipush 60, 2) := dk_16 60 (dk_at dksX9_triesWave_4 21 rfl rfl)
theorem dX9_triesWave_118 : decode cX9_triesWave 118 = .ok (.iload_n 1, 1) := dk_27 (dk_at dksX9_triesWave_4 23 rfl rfl)
theorem dX9_triesWave_119 : decode cX9_triesWave 119 = .ok (.imul, 1) := dk_104 (dk_at dksX9_triesWave_5 0 rfl rfl)
theorem dX9_triesWave_120 : decode cX9_triesWave 120 = .ok (.iload 9, 2) := dk_21 9 (dk_at dksX9_triesWave_5 1 rfl rfl)
theorem dX9_triesWave_122 : decode cX9_triesWave 122 = .ok (.iadd, 1) := dk_96 (dk_at dksX9_triesWave_5 3 rfl rfl)
theorem dX9_triesWave_123 : decode cX9_triesWave 123 = .ok (.laload, 1) := dk_47 (dk_at dksX9_triesWave_5 4 rfl rfl)
theorem dX9_triesWave_124 : decode cX9_triesWave 124 = .ok (.land, 1) := dk_127 (dk_at dksX9_triesWave_5 5 rfl rfl)
theorem dX9_triesWave_125 : decode cX9_triesWave 125 = .ok (.iload 8, 2) := dk_21 8 (dk_at dksX9_triesWave_5 6 rfl rfl)
theorem dX9_triesWave_127 : decode cX9_triesWave 127 = .ok (.invokevirtual 442, 3) := dk_182 1 186 (dk_at dksX9_triesWave_5 8 rfl rfl)
theorem dX9_triesWave_130 : decode cX9_triesWave 130 = .ok (.iinc 9 1, 3) := dk_132 9 1 (dk_at dksX9_triesWave_5 11 rfl rfl)
theorem dX9_triesWave_133 : decode cX9_triesWave 133 = .ok (.goto (-58), 3) := dk_167 255 198 (dk_at dksX9_triesWave_5 14 rfl rfl)
theorem dX9_triesWave_136 : decode cX9_triesWave 136 = .ok (.return_, 1) := dk_177 (dk_at dksX9_triesWave_5 17 rfl rfl)
abbrev cX9_ones : ByteArray := prog_23_method_100_code
def yX9_ones : MethodName := ⟨RX9, "ones", "(J)I"⟩
def dkwX9_ones_1 : List UInt8 := [167, 255, 238, 28, 172]
abbrev dktX9_ones_1 : List UInt8 := dkwX9_ones_1 ++ []
def dkwX9_ones_0 : List UInt8 := [3, 61, 3, 62, 29, 16, 60, 162, 0, 18, 28, 30, 29, 123, 10, 127, 136, 96, 61, 132, 3, 1]
abbrev dktX9_ones_0 : List UInt8 := dkwX9_ones_0 ++ dktX9_ones_1
theorem dksX9_ones_0 : cX9_ones.data.toList.drop 0 = dktX9_ones_0 := by decide +kernel
theorem dksX9_ones_1 : cX9_ones.data.toList.drop 22 = dktX9_ones_1 := dk_seg dksX9_ones_0 22 rfl rfl
theorem dX9_ones_0 : decode cX9_ones 0 = .ok (.iconst 0, 1) := dk_3 (dk_at dksX9_ones_0 0 rfl rfl)
theorem dX9_ones_1 : decode cX9_ones 1 = .ok (.istore_n 2, 1) := dk_61 (dk_at dksX9_ones_0 1 rfl rfl)
theorem dX9_ones_2 : decode cX9_ones 2 = .ok (.iconst 0, 1) := dk_3 (dk_at dksX9_ones_0 2 rfl rfl)
theorem dX9_ones_3 : decode cX9_ones 3 = .ok (.istore_n 3, 1) := dk_62 (dk_at dksX9_ones_0 3 rfl rfl)
theorem dX9_ones_4 : decode cX9_ones 4 = .ok (.iload_n 3, 1) := dk_29 (dk_at dksX9_ones_0 4 rfl rfl)
theorem dX9_ones_5 : decode cX9_ones 5 = .ok (.bipush 60, 2) := dk_16 60 (dk_at dksX9_ones_0 5 rfl rfl)
theorem dX9_ones_7 : decode cX9_ones 7 = .ok (.if_icmp .ge 18, 3) := dk_162 0 18 (dk_at dksX9_ones_0 7 rfl rfl)
theorem dX9_ones_10 : decode cX9_ones 10 = .ok (.iload_n 2, 1) := dk_28 (dk_at dksX9_ones_0 10 rfl rfl)
theorem dX9_ones_11 : decode cX9_ones 11 = .ok (.lload_n 0, 1) := dk_30 (dk_at dksX9_ones_0 11 rfl rfl)
theorem dX9_ones_12 : decode cX9_ones 12 = .ok (.iload_n 3, 1) := dk_29 (dk_at dksX9_ones_0 12 rfl rfl)
theorem dX9_ones_13 : decode cX9_ones 13 = .ok (.lshr, 1) := dk_123 (dk_at dksX9_ones_0 13 rfl rfl)
theorem dX9_ones_14 : decode cX9_ones 14 = .ok (.lconst 1, 1) := dk_10 (dk_at dksX9_ones_0 14 rfl rfl)
theorem dX9_ones_15 : decode cX9_ones 15 = .ok (.land, 1) := dk_127 (dk_at dksX9_ones_0 15 rfl rfl)
theorem dX9_ones_16 : decode cX9_ones 16 = .ok (.l2i, 1) := dk_136 (dk_at dksX9_ones_0 16 rfl rfl)
theorem dX9_ones_17 : decode cX9_ones 17 = .ok (.iadd, 1) := dk_96 (dk_at dksX9_ones_0 17 rfl rfl)
theorem dX9_ones_18 : decode cX9_ones 18 = .ok (.istore_n 2, 1) := dk_61 (dk_at dksX9_ones_0 18 rfl rfl)
theorem dX9_ones_19 : decode cX9_ones 19 = .ok (.iinc 3 1, 3) := dk_132 3 1 (dk_at dksX9_ones_0 19 rfl rfl)
theorem dX9_ones_22 : decode cX9_ones 22 = .ok (.goto (-18), 3) := dk_167 255 238 (dk_at dksX9_ones_1 0 rfl rfl)
theorem dX9_ones_25 : decode cX9_ones 25 = .ok (.iload_n 2, 1) := dk_28 (dk_at dksX9_ones_1 3 rfl rfl)
theorem dX9_ones_26 : decode cX9_ones 26 = .ok (.ireturn, 1) := dk_172 (dk_at dksX9_ones_1 4 rfl rfl)
abbrev cX9_rules : ByteArray := prog_23_method_103_code
def yX9_rules : MethodName := ⟨RX9, "rules", "()I"⟩
def dkwX9_rules_2 : List UInt8 := [155, 0, 9, 21, 4, 28, 162, 0, 8, 29, 60, 21, 4, 61, 132, 3, 1, 167, 255, 203, 27, 172]
abbrev dktX9_rules_2 : List UInt8 := dkwX9_rules_2 ++ []
def dkwX9_rules_1 : List UInt8 := [29, 96, 3, 2, 3, 182, 1, 133, 42, 3, 3, 3, 182, 1, 121, 54, 4, 21, 4, 155, 0, 18, 27]
abbrev dktX9_rules_1 : List UInt8 := dkwX9_rules_1 ++ dktX9_rules_2
def dkwX9_rules_0 : List UInt8 := [42, 3, 181, 0, 1, 2, 60, 3, 61, 3, 62, 29, 42, 180, 0, 81, 16, 8, 46, 162, 0, 48, 42, 7]
abbrev dktX9_rules_0 : List UInt8 := dkwX9_rules_0 ++ dktX9_rules_1
theorem dksX9_rules_0 : cX9_rules.data.toList.drop 0 = dktX9_rules_0 := by decide +kernel
theorem dksX9_rules_1 : cX9_rules.data.toList.drop 24 = dktX9_rules_1 := dk_seg dksX9_rules_0 24 rfl rfl
theorem dksX9_rules_2 : cX9_rules.data.toList.drop 47 = dktX9_rules_2 := dk_seg dksX9_rules_1 23 rfl rfl
theorem dX9_rules_0 : decode cX9_rules 0 = .ok (.aload_n 0, 1) := dk_42 (dk_at dksX9_rules_0 0 rfl rfl)
theorem dX9_rules_1 : decode cX9_rules 1 = .ok (.iconst 0, 1) := dk_3 (dk_at dksX9_rules_0 1 rfl rfl)
theorem dX9_rules_2 : decode cX9_rules 2 = .ok (.putfield 1, 3) := dk_181 0 1 (dk_at dksX9_rules_0 2 rfl rfl)
theorem dX9_rules_5 : decode cX9_rules 5 = .ok (.iconst (-1), 1) := dk_2 (dk_at dksX9_rules_0 5 rfl rfl)
theorem dX9_rules_6 : decode cX9_rules 6 = .ok (.istore_n 1, 1) := dk_60 (dk_at dksX9_rules_0 6 rfl rfl)
theorem dX9_rules_7 : decode cX9_rules 7 = .ok (.iconst 0, 1) := dk_3 (dk_at dksX9_rules_0 7 rfl rfl)
theorem dX9_rules_8 : decode cX9_rules 8 = .ok (.istore_n 2, 1) := dk_61 (dk_at dksX9_rules_0 8 rfl rfl)
theorem dX9_rules_9 : decode cX9_rules 9 = .ok (.iconst 0, 1) := dk_3 (dk_at dksX9_rules_0 9 rfl rfl)
theorem dX9_rules_10 : decode cX9_rules 10 = .ok (.istore_n 3, 1) := dk_62 (dk_at dksX9_rules_0 10 rfl rfl)
theorem dX9_rules_11 : decode cX9_rules 11 = .ok (.iload_n 3, 1) := dk_29 (dk_at dksX9_rules_0 11 rfl rfl)
theorem dX9_rules_12 : decode cX9_rules 12 = .ok (.aload_n 0, 1) := dk_42 (dk_at dksX9_rules_0 12 rfl rfl)
theorem dX9_rules_13 : decode cX9_rules 13 = .ok (.getfield 81, 3) := dk_180 0 81 (dk_at dksX9_rules_0 13 rfl rfl)
theorem dX9_rules_16 : decode cX9_rules 16 = .ok (.bipush 8, 2) := dk_16 8 (dk_at dksX9_rules_0 16 rfl rfl)
theorem dX9_rules_18 : decode cX9_rules 18 = .ok (.iaload, 1) := dk_46 (dk_at dksX9_rules_0 18 rfl rfl)
theorem dX9_rules_19 : decode cX9_rules 19 = .ok (.if_icmp .ge 48, 3) := dk_162 0 48 (dk_at dksX9_rules_0 19 rfl rfl)
theorem dX9_rules_22 : decode cX9_rules 22 = .ok (.aload_n 0, 1) := dk_42 (dk_at dksX9_rules_0 22 rfl rfl)
theorem dX9_rules_23 : decode cX9_rules 23 = .ok (.iconst 4, 1) := dk_7 (dk_at dksX9_rules_0 23 rfl rfl)
theorem dX9_rules_24 : decode cX9_rules 24 = .ok (.iload_n 3, 1) := dk_29 (dk_at dksX9_rules_1 0 rfl rfl)
theorem dX9_rules_25 : decode cX9_rules 25 = .ok (.iadd, 1) := dk_96 (dk_at dksX9_rules_1 1 rfl rfl)
theorem dX9_rules_26 : decode cX9_rules 26 = .ok (.iconst 0, 1) := dk_3 (dk_at dksX9_rules_1 2 rfl rfl)
theorem dX9_rules_27 : decode cX9_rules 27 = .ok (.iconst (-1), 1) := dk_2 (dk_at dksX9_rules_1 3 rfl rfl)
theorem dX9_rules_28 : decode cX9_rules 28 = .ok (.iconst 0, 1) := dk_3 (dk_at dksX9_rules_1 4 rfl rfl)
theorem dX9_rules_29 : decode cX9_rules 29 = .ok (.invokevirtual 389, 3) := dk_182 1 133 (dk_at dksX9_rules_1 5 rfl rfl)
theorem dX9_rules_32 : decode cX9_rules 32 = .ok (.aload_n 0, 1) := dk_42 (dk_at dksX9_rules_1 8 rfl rfl)
theorem dX9_rules_33 : decode cX9_rules 33 = .ok (.iconst 0, 1) := dk_3 (dk_at dksX9_rules_1 9 rfl rfl)
theorem dX9_rules_34 : decode cX9_rules 34 = .ok (.iconst 0, 1) := dk_3 (dk_at dksX9_rules_1 10 rfl rfl)
theorem dX9_rules_35 : decode cX9_rules 35 = .ok (.iconst 0, 1) := dk_3 (dk_at dksX9_rules_1 11 rfl rfl)
theorem dX9_rules_36 : decode cX9_rules 36 = .ok (.invokevirtual 377, 3) := dk_182 1 121 (dk_at dksX9_rules_1 12 rfl rfl)
theorem dX9_rules_39 : decode cX9_rules 39 = .ok (.istore 4, 2) := dk_54 4 (dk_at dksX9_rules_1 15 rfl rfl)
theorem dX9_rules_41 : decode cX9_rules 41 = .ok (.iload 4, 2) := dk_21 4 (dk_at dksX9_rules_1 17 rfl rfl)
theorem dX9_rules_43 : decode cX9_rules 43 = .ok (.ifCond .lt 18, 3) := dk_155 0 18 (dk_at dksX9_rules_1 19 rfl rfl)
theorem dX9_rules_46 : decode cX9_rules 46 = .ok (.iload_n 1, 1) := dk_27 (dk_at dksX9_rules_1 22 rfl rfl)
theorem dX9_rules_47 : decode cX9_rules 47 = .ok (.ifCond .lt 9, 3) := dk_155 0 9 (dk_at dksX9_rules_2 0 rfl rfl)
theorem dX9_rules_50 : decode cX9_rules 50 = .ok (.iload 4, 2) := dk_21 4 (dk_at dksX9_rules_2 3 rfl rfl)
theorem dX9_rules_52 : decode cX9_rules 52 = .ok (.iload_n 2, 1) := dk_28 (dk_at dksX9_rules_2 5 rfl rfl)
theorem dX9_rules_53 : decode cX9_rules 53 = .ok (.if_icmp .ge 8, 3) := dk_162 0 8 (dk_at dksX9_rules_2 6 rfl rfl)
theorem dX9_rules_56 : decode cX9_rules 56 = .ok (.iload_n 3, 1) := dk_29 (dk_at dksX9_rules_2 9 rfl rfl)
theorem dX9_rules_57 : decode cX9_rules 57 = .ok (.istore_n 1, 1) := dk_60 (dk_at dksX9_rules_2 10 rfl rfl)
theorem dX9_rules_58 : decode cX9_rules 58 = .ok (.iload 4, 2) := dk_21 4 (dk_at dksX9_rules_2 11 rfl rfl)
theorem dX9_rules_60 : decode cX9_rules 60 = .ok (.istore_n 2, 1) := dk_61 (dk_at dksX9_rules_2 13 rfl rfl)
theorem dX9_rules_61 : decode cX9_rules 61 = .ok (.iinc 3 1, 3) := dk_132 3 1 (dk_at dksX9_rules_2 14 rfl rfl)
theorem dX9_rules_64 : decode cX9_rules 64 = .ok (.goto (-53), 3) := dk_167 255 203 (dk_at dksX9_rules_2 17 rfl rfl)
theorem dX9_rules_67 : decode cX9_rules 67 = .ok (.iload_n 1, 1) := dk_27 (dk_at dksX9_rules_2 20 rfl rfl)
theorem dX9_rules_68 : decode cX9_rules 68 = .ok (.ireturn, 1) := dk_172 (dk_at dksX9_rules_2 21 rfl rfl)
abbrev cX9_was : ByteArray := prog_23_method_104_code
def yX9_was : MethodName := ⟨RX9, "was", "(III)Z"⟩
def dkwX9_was_3 : List UInt8 := [79, 42, 180, 0, 102, 21, 4, 5, 96, 29, 79, 42, 180, 0, 102, 16, 59, 92, 46, 4, 96, 79, 4, 172]
abbrev dktX9_was_3 : List UInt8 := dkwX9_was_3 ++ []
def dkwX9_was_2 : List UInt8 := [16, 59, 46, 104, 96, 54, 4, 42, 180, 0, 102, 21, 4, 27, 79, 42, 180, 0, 102, 21, 4, 4, 96, 28]
abbrev dktX9_was_2 : List UInt8 := dkwX9_was_2 ++ dktX9_was_3
def dkwX9_was_1 : List UInt8 := [153, 0, 15, 42, 180, 0, 102, 16, 59, 46, 16, 8, 160, 0, 5, 3, 172, 16, 92, 6, 42, 180, 0, 102]
abbrev dktX9_was_1 : List UInt8 := dkwX9_was_1 ++ dktX9_was_2
def dkwX9_was_0 : List UInt8 := [42, 3, 181, 0, 1, 42, 27, 28, 182, 1, 40, 153, 0, 26, 29, 3, 17, 39, 15, 184, 1, 43]
abbrev dktX9_was_0 : List UInt8 := dkwX9_was_0 ++ dktX9_was_1
theorem dksX9_was_0 : cX9_was.data.toList.drop 0 = dktX9_was_0 := by decide +kernel
theorem dksX9_was_1 : cX9_was.data.toList.drop 22 = dktX9_was_1 := dk_seg dksX9_was_0 22 rfl rfl
theorem dksX9_was_2 : cX9_was.data.toList.drop 46 = dktX9_was_2 := dk_seg dksX9_was_1 24 rfl rfl
theorem dksX9_was_3 : cX9_was.data.toList.drop 70 = dktX9_was_3 := dk_seg dksX9_was_2 24 rfl rfl
theorem dX9_was_0 : decode cX9_was 0 = .ok (.aload_n 0, 1) := dk_42 (dk_at dksX9_was_0 0 rfl rfl)
theorem dX9_was_1 : decode cX9_was 1 = .ok (.iconst 0, 1) := dk_3 (dk_at dksX9_was_0 1 rfl rfl)
theorem dX9_was_2 : decode cX9_was 2 = .ok (.putfield 1, 3) := dk_181 0 1 (dk_at dksX9_was_0 2 rfl rfl)
theorem dX9_was_5 : decode cX9_was 5 = .ok (.aload_n 0, 1) := dk_42 (dk_at dksX9_was_0 5 rfl rfl)
theorem dX9_was_6 : decode cX9_was 6 = .ok (.iload_n 1, 1) := dk_27 (dk_at dksX9_was_0 6 rfl rfl)
theorem dX9_was_7 : decode cX9_was 7 = .ok (.iload_n 2, 1) := dk_28 (dk_at dksX9_was_0 7 rfl rfl)
theorem dX9_was_8 : decode cX9_was 8 = .ok (.invokevirtual 296, 3) := dk_182 1 40 (dk_at dksX9_was_0 8 rfl rfl)
theorem dX9_was_11 : decode cX9_was 11 = .ok (.ifCond .eq 26, 3) := dk_153 0 26 (dk_at dksX9_was_0 11 rfl rfl)
theorem dX9_was_14 : decode cX9_was 14 = .ok (.iload_n 3, 1) := dk_29 (dk_at dksX9_was_0 14 rfl rfl)
theorem dX9_was_15 : decode cX9_was 15 = .ok (.iconst 0, 1) := dk_3 (dk_at dksX9_was_0 15 rfl rfl)
theorem dX9_was_16 : decode cX9_was 16 = .ok (.sipush 9999, 3) := dk_17 39 15 (dk_at dksX9_was_0 16 rfl rfl)
theorem dX9_was_19 : decode cX9_was 19 = .ok (.invokestatic 299, 3) := dk_184 1 43 (dk_at dksX9_was_0 19 rfl rfl)
theorem dX9_was_22 : decode cX9_was 22 = .ok (.ifCond .eq 15, 3) := dk_153 0 15 (dk_at dksX9_was_1 0 rfl rfl)
theorem dX9_was_25 : decode cX9_was 25 = .ok (.aload_n 0, 1) := dk_42 (dk_at dksX9_was_1 3 rfl rfl)
theorem dX9_was_26 : decode cX9_was 26 = .ok (.getfield 102, 3) := dk_180 0 102 (dk_at dksX9_was_1 4 rfl rfl)
theorem dX9_was_29 : decode cX9_was 29 = .ok (.bipush 59, 2) := dk_16 59 (dk_at dksX9_was_1 7 rfl rfl)
theorem dX9_was_31 : decode cX9_was 31 = .ok (.iaload, 1) := dk_46 (dk_at dksX9_was_1 9 rfl rfl)
theorem dX9_was_32 : decode cX9_was 32 = .ok (.bipush 8, 2) := dk_16 8 (dk_at dksX9_was_1 10 rfl rfl)
theorem dX9_was_34 : decode cX9_was 34 = .ok (.if_icmp .ne 5, 3) := dk_160 0 5 (dk_at dksX9_was_1 12 rfl rfl)
theorem dX9_was_37 : decode cX9_was 37 = .ok (.iconst 0, 1) := dk_3 (dk_at dksX9_was_1 15 rfl rfl)
theorem dX9_was_38 : decode cX9_was 38 = .ok (.ireturn, 1) := dk_172 (dk_at dksX9_was_1 16 rfl rfl)
theorem dX9_was_39 : decode cX9_was 39 = .ok (.bipush 92, 2) := dk_16 92 (dk_at dksX9_was_1 17 rfl rfl)
theorem dX9_was_41 : decode cX9_was 41 = .ok (.iconst 3, 1) := dk_6 (dk_at dksX9_was_1 19 rfl rfl)
theorem dX9_was_42 : decode cX9_was 42 = .ok (.aload_n 0, 1) := dk_42 (dk_at dksX9_was_1 20 rfl rfl)
theorem dX9_was_43 : decode cX9_was 43 = .ok (.getfield 102, 3) := dk_180 0 102 (dk_at dksX9_was_1 21 rfl rfl)
theorem dX9_was_46 : decode cX9_was 46 = .ok (.bipush 59, 2) := dk_16 59 (dk_at dksX9_was_2 0 rfl rfl)
theorem dX9_was_48 : decode cX9_was 48 = .ok (.iaload, 1) := dk_46 (dk_at dksX9_was_2 2 rfl rfl)
theorem dX9_was_49 : decode cX9_was 49 = .ok (.imul, 1) := dk_104 (dk_at dksX9_was_2 3 rfl rfl)
theorem dX9_was_50 : decode cX9_was 50 = .ok (.iadd, 1) := dk_96 (dk_at dksX9_was_2 4 rfl rfl)
theorem dX9_was_51 : decode cX9_was 51 = .ok (.istore 4, 2) := dk_54 4 (dk_at dksX9_was_2 5 rfl rfl)
theorem dX9_was_53 : decode cX9_was 53 = .ok (.aload_n 0, 1) := dk_42 (dk_at dksX9_was_2 7 rfl rfl)
theorem dX9_was_54 : decode cX9_was 54 = .ok (.getfield 102, 3) := dk_180 0 102 (dk_at dksX9_was_2 8 rfl rfl)
theorem dX9_was_57 : decode cX9_was 57 = .ok (.iload 4, 2) := dk_21 4 (dk_at dksX9_was_2 11 rfl rfl)
theorem dX9_was_59 : decode cX9_was 59 = .ok (.iload_n 1, 1) := dk_27 (dk_at dksX9_was_2 13 rfl rfl)
theorem dX9_was_60 : decode cX9_was 60 = .ok (.iastore, 1) := dk_79 (dk_at dksX9_was_2 14 rfl rfl)
theorem dX9_was_61 : decode cX9_was 61 = .ok (.aload_n 0, 1) := dk_42 (dk_at dksX9_was_2 15 rfl rfl)
theorem dX9_was_62 : decode cX9_was 62 = .ok (.getfield 102, 3) := dk_180 0 102 (dk_at dksX9_was_2 16 rfl rfl)
theorem dX9_was_65 : decode cX9_was 65 = .ok (.iload 4, 2) := dk_21 4 (dk_at dksX9_was_2 19 rfl rfl)
theorem dX9_was_67 : decode cX9_was 67 = .ok (.iconst 1, 1) := dk_4 (dk_at dksX9_was_2 21 rfl rfl)
theorem dX9_was_68 : decode cX9_was 68 = .ok (.iadd, 1) := dk_96 (dk_at dksX9_was_2 22 rfl rfl)
theorem dX9_was_69 : decode cX9_was 69 = .ok (.iload_n 2, 1) := dk_28 (dk_at dksX9_was_2 23 rfl rfl)
theorem dX9_was_70 : decode cX9_was 70 = .ok (.iastore, 1) := dk_79 (dk_at dksX9_was_3 0 rfl rfl)
theorem dX9_was_71 : decode cX9_was 71 = .ok (.aload_n 0, 1) := dk_42 (dk_at dksX9_was_3 1 rfl rfl)
theorem dX9_was_72 : decode cX9_was 72 = .ok (.getfield 102, 3) := dk_180 0 102 (dk_at dksX9_was_3 2 rfl rfl)
theorem dX9_was_75 : decode cX9_was 75 = .ok (.iload 4, 2) := dk_21 4 (dk_at dksX9_was_3 5 rfl rfl)
theorem dX9_was_77 : decode cX9_was 77 = .ok (.iconst 2, 1) := dk_5 (dk_at dksX9_was_3 7 rfl rfl)
theorem dX9_was_78 : decode cX9_was 78 = .ok (.iadd, 1) := dk_96 (dk_at dksX9_was_3 8 rfl rfl)
theorem dX9_was_79 : decode cX9_was 79 = .ok (.iload_n 3, 1) := dk_29 (dk_at dksX9_was_3 9 rfl rfl)
theorem dX9_was_80 : decode cX9_was 80 = .ok (.iastore, 1) := dk_79 (dk_at dksX9_was_3 10 rfl rfl)
theorem dX9_was_81 : decode cX9_was 81 = .ok (.aload_n 0, 1) := dk_42 (dk_at dksX9_was_3 11 rfl rfl)
theorem dX9_was_82 : decode cX9_was 82 = .ok (.getfield 102, 3) := dk_180 0 102 (dk_at dksX9_was_3 12 rfl rfl)
theorem dX9_was_85 : decode cX9_was 85 = .ok (.bipush 59, 2) := dk_16 59 (dk_at dksX9_was_3 15 rfl rfl)
theorem dX9_was_87 : decode cX9_was 87 = .ok (.dup2, 1) := dk_92 (dk_at dksX9_was_3 17 rfl rfl)
theorem dX9_was_88 : decode cX9_was 88 = .ok (.iaload, 1) := dk_46 (dk_at dksX9_was_3 18 rfl rfl)
theorem dX9_was_89 : decode cX9_was 89 = .ok (.iconst 1, 1) := dk_4 (dk_at dksX9_was_3 19 rfl rfl)
theorem dX9_was_90 : decode cX9_was 90 = .ok (.iadd, 1) := dk_96 (dk_at dksX9_was_3 20 rfl rfl)
theorem dX9_was_91 : decode cX9_was 91 = .ok (.iastore, 1) := dk_79 (dk_at dksX9_was_3 21 rfl rfl)
theorem dX9_was_92 : decode cX9_was 92 = .ok (.iconst 1, 1) := dk_4 (dk_at dksX9_was_3 22 rfl rfl)
theorem dX9_was_93 : decode cX9_was 93 = .ok (.ireturn, 1) := dk_172 (dk_at dksX9_was_3 23 rfl rfl)
abbrev cX9_fits : ByteArray := prog_23_method_108_code
def yX9_fits : MethodName := ⟨RX9, "fits", "(I)J"⟩
def dkwX9_fits_7 : List UInt8 := [167, 0, 4, 9, 129, 65, 132, 4, 1, 167, 255, 160, 32, 173]
abbrev dktX9_fits_7 : List UInt8 := dkwX9_fits_7 ++ []
def dkwX9_fits_6 : List UInt8 := [160, 0, 14, 16, 8, 21, 4, 16, 6, 108, 104, 167, 0, 4, 3, 21, 4, 16, 6, 112, 96, 121]
abbrev dktX9_fits_6 : List UInt8 := dkwX9_fits_6 ++ dktX9_fits_7
def dkwX9_fits_5 : List UInt8 := [167, 0, 4, 3, 160, 0, 7, 4, 167, 0, 4, 3, 54, 5, 32, 21, 5, 153, 0, 31, 10, 27, 5]
abbrev dktX9_fits_5 : List UInt8 := dkwX9_fits_5 ++ dktX9_fits_6
def dkwX9_fits_4 : List UInt8 := [154, 0, 35, 21, 4, 16, 6, 108, 16, 8, 162, 0, 7, 4, 167, 0, 4, 3, 27, 5, 160, 0, 7, 4]
abbrev dktX9_fits_4 : List UInt8 := dkwX9_fits_4 ++ dktX9_fits_5
def dkwX9_fits_3 : List UInt8 := [173, 9, 65, 3, 54, 4, 21, 4, 16, 54, 162, 0, 95, 42, 180, 1, 212, 21, 4, 123, 10, 127, 10, 148]
abbrev dktX9_fits_3 : List UInt8 := dkwX9_fits_3 ++ dktX9_fits_4
def dkwX9_fits_2 : List UInt8 := [154, 0, 10, 42, 180, 1, 205, 167, 0, 6, 20, 1, 177, 173, 27, 4, 160, 0, 9, 42, 180, 1, 209, 133]
abbrev dktX9_fits_2 : List UInt8 := dkwX9_fits_2 ++ dktX9_fits_3
def dkwX9_fits_1 : List UInt8 := [3, 3, 3, 3, 9, 3, 182, 1, 201, 27, 153, 0, 12, 42, 180, 1, 205, 9, 148, 154, 0, 18, 27]
abbrev dktX9_fits_1 : List UInt8 := dkwX9_fits_1 ++ dktX9_fits_2
def dkwX9_fits_0 : List UInt8 := [42, 3, 181, 0, 1, 27, 3, 6, 184, 1, 43, 154, 0, 7, 20, 1, 177, 173, 42, 9, 181, 1, 205, 42]
abbrev dktX9_fits_0 : List UInt8 := dkwX9_fits_0 ++ dktX9_fits_1
theorem dksX9_fits_0 : cX9_fits.data.toList.drop 0 = dktX9_fits_0 := by decide +kernel
theorem dksX9_fits_1 : cX9_fits.data.toList.drop 24 = dktX9_fits_1 := dk_seg dksX9_fits_0 24 rfl rfl
theorem dksX9_fits_2 : cX9_fits.data.toList.drop 47 = dktX9_fits_2 := dk_seg dksX9_fits_1 23 rfl rfl
theorem dksX9_fits_3 : cX9_fits.data.toList.drop 71 = dktX9_fits_3 := dk_seg dksX9_fits_2 24 rfl rfl
theorem dksX9_fits_4 : cX9_fits.data.toList.drop 95 = dktX9_fits_4 := dk_seg dksX9_fits_3 24 rfl rfl
theorem dksX9_fits_5 : cX9_fits.data.toList.drop 119 = dktX9_fits_5 := dk_seg dksX9_fits_4 24 rfl rfl
theorem dksX9_fits_6 : cX9_fits.data.toList.drop 142 = dktX9_fits_6 := dk_seg dksX9_fits_5 23 rfl rfl
theorem dksX9_fits_7 : cX9_fits.data.toList.drop 164 = dktX9_fits_7 := dk_seg dksX9_fits_6 22 rfl rfl
theorem dX9_fits_0 : decode cX9_fits 0 = .ok (.aload_n 0, 1) := dk_42 (dk_at dksX9_fits_0 0 rfl rfl)
theorem dX9_fits_1 : decode cX9_fits 1 = .ok (.iconst 0, 1) := dk_3 (dk_at dksX9_fits_0 1 rfl rfl)
theorem dX9_fits_2 : decode cX9_fits 2 = .ok (.putfield 1, 3) := dk_181 0 1 (dk_at dksX9_fits_0 2 rfl rfl)
theorem dX9_fits_5 : decode cX9_fits 5 = .ok (.iload_n 1, 1) := dk_27 (dk_at dksX9_fits_0 5 rfl rfl)
theorem dX9_fits_6 : decode cX9_fits 6 = .ok (.iconst 0, 1) := dk_3 (dk_at dksX9_fits_0 6 rfl rfl)
theorem dX9_fits_7 : decode cX9_fits 7 = .ok (.iconst 3, 1) := dk_6 (dk_at dksX9_fits_0 7 rfl rfl)
theorem dX9_fits_8 : decode cX9_fits 8 = .ok (.invokestatic 299, 3) := dk_184 1 43 (dk_at dksX9_fits_0 8 rfl rfl)
theorem dX9_fits_11 : decode cX9_fits 11 = .ok (.ifCond .ne 7, 3) := dk_154 0 7 (dk_at dksX9_fits_0 11 rfl rfl)
theorem dX9_fits_14 : decode cX9_fits 14 = .ok (.ldc2_w 433, 3) := dk_20 1 177 (dk_at dksX9_fits_0 14 rfl rfl)
theorem dX9_fits_17 : decode cX9_fits 17 = .ok (.lreturn, 1) := dk_173 (dk_at dksX9_fits_0 17 rfl rfl)
theorem dX9_fits_18 : decode cX9_fits 18 = .ok (.aload_n 0, 1) := dk_42 (dk_at dksX9_fits_0 18 rfl rfl)
theorem dX9_fits_19 : decode cX9_fits 19 = .ok (.lconst 0, 1) := dk_9 (dk_at dksX9_fits_0 19 rfl rfl)
theorem dX9_fits_20 : decode cX9_fits 20 = .ok (.putfield 461, 3) := dk_181 1 205 (dk_at dksX9_fits_0 20 rfl rfl)
theorem dX9_fits_23 : decode cX9_fits 23 = .ok (.aload_n 0, 1) := dk_42 (dk_at dksX9_fits_0 23 rfl rfl)
theorem dX9_fits_24 : decode cX9_fits 24 = .ok (.iconst 0, 1) := dk_3 (dk_at dksX9_fits_1 0 rfl rfl)
theorem dX9_fits_25 : decode cX9_fits 25 = .ok (.iconst 0, 1) := dk_3 (dk_at dksX9_fits_1 1 rfl rfl)
theorem dX9_fits_26 : decode cX9_fits 26 = .ok (.iconst 0, 1) := dk_3 (dk_at dksX9_fits_1 2 rfl rfl)
theorem dX9_fits_27 : decode cX9_fits 27 = .ok (.iconst 0, 1) := dk_3 (dk_at dksX9_fits_1 3 rfl rfl)
theorem dX9_fits_28 : decode cX9_fits 28 = .ok (.lconst 0, 1) := dk_9 (dk_at dksX9_fits_1 4 rfl rfl)
theorem dX9_fits_29 : decode cX9_fits 29 = .ok (.iconst 0, 1) := dk_3 (dk_at dksX9_fits_1 5 rfl rfl)
theorem dX9_fits_30 : decode cX9_fits 30 = .ok (.invokevirtual 457, 3) := dk_182 1 201 (dk_at dksX9_fits_1 6 rfl rfl)
theorem dX9_fits_33 : decode cX9_fits 33 = .ok (.iload_n 1, 1) := dk_27 (dk_at dksX9_fits_1 9 rfl rfl)
theorem dX9_fits_34 : decode cX9_fits 34 = .ok (.ifCond .eq 12, 3) := dk_153 0 12 (dk_at dksX9_fits_1 10 rfl rfl)
theorem dX9_fits_37 : decode cX9_fits 37 = .ok (.aload_n 0, 1) := dk_42 (dk_at dksX9_fits_1 13 rfl rfl)
theorem dX9_fits_38 : decode cX9_fits 38 = .ok (.getfield 461, 3) := dk_180 1 205 (dk_at dksX9_fits_1 14 rfl rfl)
theorem dX9_fits_41 : decode cX9_fits 41 = .ok (.lconst 0, 1) := dk_9 (dk_at dksX9_fits_1 17 rfl rfl)
theorem dX9_fits_42 : decode cX9_fits 42 = .ok (.lcmp, 1) := dk_148 (dk_at dksX9_fits_1 18 rfl rfl)
theorem dX9_fits_43 : decode cX9_fits 43 = .ok (.ifCond .ne 18, 3) := dk_154 0 18 (dk_at dksX9_fits_1 19 rfl rfl)
theorem dX9_fits_46 : decode cX9_fits 46 = .ok (.iload_n 1, 1) := dk_27 (dk_at dksX9_fits_1 22 rfl rfl)
theorem dX9_fits_47 : decode cX9_fits 47 = .ok (.ifCond .ne 10, 3) := dk_154 0 10 (dk_at dksX9_fits_2 0 rfl rfl)
theorem dX9_fits_50 : decode cX9_fits 50 = .ok (.aload_n 0, 1) := dk_42 (dk_at dksX9_fits_2 3 rfl rfl)
theorem dX9_fits_51 : decode cX9_fits 51 = .ok (.getfield 461, 3) := dk_180 1 205 (dk_at dksX9_fits_2 4 rfl rfl)
theorem dX9_fits_54 : decode cX9_fits 54 = .ok (.goto 6, 3) := dk_167 0 6 (dk_at dksX9_fits_2 7 rfl rfl)
theorem dX9_fits_57 : decode cX9_fits 57 = .ok (.ldc2_w 433, 3) := dk_20 1 177 (dk_at dksX9_fits_2 10 rfl rfl)
theorem dX9_fits_60 : decode cX9_fits 60 = .ok (.lreturn, 1) := dk_173 (dk_at dksX9_fits_2 13 rfl rfl)
theorem dX9_fits_61 : decode cX9_fits 61 = .ok (.iload_n 1, 1) := dk_27 (dk_at dksX9_fits_2 14 rfl rfl)
theorem dX9_fits_62 : decode cX9_fits 62 = .ok (.iconst 1, 1) := dk_4 (dk_at dksX9_fits_2 15 rfl rfl)
theorem dX9_fits_63 : decode cX9_fits 63 = .ok (.if_icmp .ne 9, 3) := dk_160 0 9 (dk_at dksX9_fits_2 16 rfl rfl)
theorem dX9_fits_66 : decode cX9_fits 66 = .ok (.aload_n 0, 1) := dk_42 (dk_at dksX9_fits_2 19 rfl rfl)
theorem dX9_fits_67 : decode cX9_fits 67 = .ok (.getfield 465, 3) := dk_180 1 209 (dk_at dksX9_fits_2 20 rfl rfl)
theorem dX9_fits_70 : decode cX9_fits 70 = .ok (.i2l, 1) := dk_133 (dk_at dksX9_fits_2 23 rfl rfl)
theorem dX9_fits_71 : decode cX9_fits 71 = .ok (.lreturn, 1) := dk_173 (dk_at dksX9_fits_3 0 rfl rfl)
theorem dX9_fits_72 : decode cX9_fits 72 = .ok (.lconst 0, 1) := dk_9 (dk_at dksX9_fits_3 1 rfl rfl)
theorem dX9_fits_73 : decode cX9_fits 73 = .ok (.lstore_n 2, 1) := dk_65 (dk_at dksX9_fits_3 2 rfl rfl)
theorem dX9_fits_74 : decode cX9_fits 74 = .ok (.iconst 0, 1) := dk_3 (dk_at dksX9_fits_3 3 rfl rfl)
theorem dX9_fits_75 : decode cX9_fits 75 = .ok (.istore 4, 2) := dk_54 4 (dk_at dksX9_fits_3 4 rfl rfl)
theorem dX9_fits_77 : decode cX9_fits 77 = .ok (.iload 4, 2) := dk_21 4 (dk_at dksX9_fits_3 6 rfl rfl)
theorem dX9_fits_79 : decode cX9_fits 79 = .ok (.bipush 54, 2) := dk_16 54 (dk_at dksX9_fits_3 8 rfl rfl)
theorem dX9_fits_81 : decode cX9_fits 81 = .ok (.if_icmp .ge 95, 3) := dk_162 0 95 (dk_at dksX9_fits_3 10 rfl rfl)
theorem dX9_fits_84 : decode cX9_fits 84 = .ok (.aload_n 0, 1) := dk_42 (dk_at dksX9_fits_3 13 rfl rfl)
theorem dX9_fits_85 : decode cX9_fits 85 = .ok (.getfield 468, 3) := dk_180 1 212 (dk_at dksX9_fits_3 14 rfl rfl)
theorem dX9_fits_88 : decode cX9_fits 88 = .ok (.iload 4, 2) := dk_21 4 (dk_at dksX9_fits_3 17 rfl rfl)
theorem dX9_fits_90 : decode cX9_fits 90 = .ok (.lshr, 1) := dk_123 (dk_at dksX9_fits_3 19 rfl rfl)
theorem dX9_fits_91 : decode cX9_fits 91 = .ok (.lconst 1, 1) := dk_10 (dk_at dksX9_fits_3 20 rfl rfl)
theorem dX9_fits_92 : decode cX9_fits 92 = .ok (.land, 1) := dk_127 (dk_at dksX9_fits_3 21 rfl rfl)
theorem dX9_fits_93 : decode cX9_fits 93 = .ok (.lconst 1, 1) := dk_10 (dk_at dksX9_fits_3 22 rfl rfl)
theorem dX9_fits_94 : decode cX9_fits 94 = .ok (.lcmp, 1) := dk_148 (dk_at dksX9_fits_3 23 rfl rfl)
theorem dX9_fits_95 : decode cX9_fits 95 = .ok (.ifCond .ne 35, 3) := dk_154 0 35 (dk_at dksX9_fits_4 0 rfl rfl)
theorem dX9_fits_98 : decode cX9_fits 98 = .ok (.iload 4, 2) := dk_21 4 (dk_at dksX9_fits_4 3 rfl rfl)
theorem dX9_fits_100 : decode cX9_fits 100 = .ok (.bipush 6, 2) := dk_16 6 (dk_at dksX9_fits_4 5 rfl rfl)
theorem dX9_fits_102 : decode cX9_fits 102 = .ok (.idiv, 1) := dk_108 (dk_at dksX9_fits_4 7 rfl rfl)
theorem dX9_fits_103 : decode cX9_fits 103 = .ok (.bipush 8, 2) := dk_16 8 (dk_at dksX9_fits_4 8 rfl rfl)
theorem dX9_fits_105 : decode cX9_fits 105 = .ok (.if_icmp .ge 7, 3) := dk_162 0 7 (dk_at dksX9_fits_4 10 rfl rfl)
theorem dX9_fits_108 : decode cX9_fits 108 = .ok (.iconst 1, 1) := dk_4 (dk_at dksX9_fits_4 13 rfl rfl)
theorem dX9_fits_109 : decode cX9_fits 109 = .ok (.goto 4, 3) := dk_167 0 4 (dk_at dksX9_fits_4 14 rfl rfl)
theorem dX9_fits_112 : decode cX9_fits 112 = .ok (.iconst 0, 1) := dk_3 (dk_at dksX9_fits_4 17 rfl rfl)
theorem dX9_fits_113 : decode cX9_fits 113 = .ok (.iload_n 1, 1) := dk_27 (dk_at dksX9_fits_4 18 rfl rfl)
theorem dX9_fits_114 : decode cX9_fits 114 = .ok (.iconst 2, 1) := dk_5 (dk_at dksX9_fits_4 19 rfl rfl)
theorem dX9_fits_115 : decode cX9_fits 115 = .ok (.if_icmp .ne 7, 3) := dk_160 0 7 (dk_at dksX9_fits_4 20 rfl rfl)
theorem dX9_fits_118 : decode cX9_fits 118 = .ok (.iconst 1, 1) := dk_4 (dk_at dksX9_fits_4 23 rfl rfl)
theorem dX9_fits_119 : decode cX9_fits 119 = .ok (.goto 4, 3) := dk_167 0 4 (dk_at dksX9_fits_5 0 rfl rfl)
theorem dX9_fits_122 : decode cX9_fits 122 = .ok (.iconst 0, 1) := dk_3 (dk_at dksX9_fits_5 3 rfl rfl)
theorem dX9_fits_123 : decode cX9_fits 123 = .ok (.if_icmp .ne 7, 3) := dk_160 0 7 (dk_at dksX9_fits_5 4 rfl rfl)
theorem dX9_fits_126 : decode cX9_fits 126 = .ok (.iconst 1, 1) := dk_4 (dk_at dksX9_fits_5 7 rfl rfl)
theorem dX9_fits_127 : decode cX9_fits 127 = .ok (.goto 4, 3) := dk_167 0 4 (dk_at dksX9_fits_5 8 rfl rfl)
theorem dX9_fits_130 : decode cX9_fits 130 = .ok (.iconst 0, 1) := dk_3 (dk_at dksX9_fits_5 11 rfl rfl)
theorem dX9_fits_131 : decode cX9_fits 131 = .ok (.istore 5, 2) := dk_54 5 (dk_at dksX9_fits_5 12 rfl rfl)
theorem dX9_fits_133 : decode cX9_fits 133 = .ok (.lload_n 2, 1) := dk_32 (dk_at dksX9_fits_5 14 rfl rfl)
theorem dX9_fits_134 : decode cX9_fits 134 = .ok (.iload 5, 2) := dk_21 5 (dk_at dksX9_fits_5 15 rfl rfl)
theorem dX9_fits_136 : decode cX9_fits 136 = .ok (.ifCond .eq 31, 3) := dk_153 0 31 (dk_at dksX9_fits_5 17 rfl rfl)
theorem dX9_fits_139 : decode cX9_fits 139 = .ok (.lconst 1, 1) := dk_10 (dk_at dksX9_fits_5 20 rfl rfl)
theorem dX9_fits_140 : decode cX9_fits 140 = .ok (.iload_n 1, 1) := dk_27 (dk_at dksX9_fits_5 21 rfl rfl)
theorem dX9_fits_141 : decode cX9_fits 141 = .ok (.iconst 2, 1) := dk_5 (dk_at dksX9_fits_5 22 rfl rfl)
theorem dX9_fits_142 : decode cX9_fits 142 = .ok (.if_icmp .ne 14, 3) := dk_160 0 14 (dk_at dksX9_fits_6 0 rfl rfl)
theorem dX9_fits_145 : decode cX9_fits 145 = .ok (.bipush 8, 2) := dk_16 8 (dk_at dksX9_fits_6 3 rfl rfl)
theorem dX9_fits_147 : decode cX9_fits 147 = .ok (.iload 4, 2) := dk_21 4 (dk_at dksX9_fits_6 5 rfl rfl)
theorem dX9_fits_149 : decode cX9_fits 149 = .ok (.bipush 6, 2) := dk_16 6 (dk_at dksX9_fits_6 7 rfl rfl)
theorem dX9_fits_151 : decode cX9_fits 151 = .ok (.idiv, 1) := dk_108 (dk_at dksX9_fits_6 9 rfl rfl)
theorem dX9_fits_152 : decode cX9_fits 152 = .ok (.imul, 1) := dk_104 (dk_at dksX9_fits_6 10 rfl rfl)
theorem dX9_fits_153 : decode cX9_fits 153 = .ok (.goto 4, 3) := dk_167 0 4 (dk_at dksX9_fits_6 11 rfl rfl)
theorem dX9_fits_156 : decode cX9_fits 156 = .ok (.iconst 0, 1) := dk_3 (dk_at dksX9_fits_6 14 rfl rfl)
theorem dX9_fits_157 : decode cX9_fits 157 = .ok (.iload 4, 2) := dk_21 4 (dk_at dksX9_fits_6 15 rfl rfl)
theorem dX9_fits_159 : decode cX9_fits 159 = .ok (.bipush 6, 2) := dk_16 6 (dk_at dksX9_fits_6 17 rfl rfl)
theorem dX9_fits_161 : decode cX9_fits 161 = .ok (.irem, 1) := dk_112 (dk_at dksX9_fits_6 19 rfl rfl)
theorem dX9_fits_162 : decode cX9_fits 162 = .ok (.iadd, 1) := dk_96 (dk_at dksX9_fits_6 20 rfl rfl)
theorem dX9_fits_163 : decode cX9_fits 163 = .ok (.lshl, 1) := dk_121 (dk_at dksX9_fits_6 21 rfl rfl)
theorem dX9_fits_164 : decode cX9_fits 164 = .ok (.goto 4, 3) := dk_167 0 4 (dk_at dksX9_fits_7 0 rfl rfl)
theorem dX9_fits_167 : decode cX9_fits 167 = .ok (.lconst 0, 1) := dk_9 (dk_at dksX9_fits_7 3 rfl rfl)
theorem dX9_fits_168 : decode cX9_fits 168 = .ok (.lor, 1) := dk_129 (dk_at dksX9_fits_7 4 rfl rfl)
theorem dX9_fits_169 : decode cX9_fits 169 = .ok (.lstore_n 2, 1) := dk_65 (dk_at dksX9_fits_7 5 rfl rfl)
theorem dX9_fits_170 : decode cX9_fits 170 = .ok (.iinc 4 1, 3) := dk_132 4 1 (dk_at dksX9_fits_7 6 rfl rfl)
theorem dX9_fits_173 : decode cX9_fits 173 = .ok (.goto (-96), 3) := dk_167 255 160 (dk_at dksX9_fits_7 9 rfl rfl)
theorem dX9_fits_176 : decode cX9_fits 176 = .ok (.lload_n 2, 1) := dk_32 (dk_at dksX9_fits_7 12 rfl rfl)
theorem dX9_fits_177 : decode cX9_fits 177 = .ok (.lreturn, 1) := dk_173 (dk_at dksX9_fits_7 13 rfl rfl)
abbrev cX9_goesOn : ByteArray := prog_23_method_105_code
def yX9_goesOn : MethodName := ⟨RX9, "goesOn", "(IIIIJI)V"⟩
def dkwX9_goesOn_6 : List UInt8 := [21, 13, 22, 9, 21, 7, 21, 11, 27, 28, 96, 120, 128, 182, 1, 201, 132, 11, 1, 167, 255, 119, 177]
abbrev dktX9_goesOn_6 : List UInt8 := dkwX9_goesOn_6 ++ []
def dkwX9_goesOn_5 : List UInt8 := [167, 0, 39, 42, 27, 4, 96, 21, 11, 100, 28, 21, 11, 96, 21, 12, 42, 180, 0, 81, 5, 46, 96]
abbrev dktX9_goesOn_5 : List UInt8 := dkwX9_goesOn_5 ++ dktX9_goesOn_6
def dkwX9_goesOn_4 : List UInt8 := [29, 21, 12, 182, 1, 194, 128, 54, 13, 21, 8, 153, 0, 16, 42, 21, 13, 22, 9, 21, 7, 182, 1, 197]
abbrev dktX9_goesOn_4 : List UInt8 := dkwX9_goesOn_4 ++ dktX9_goesOn_5
def dkwX9_goesOn_3 : List UInt8 := [19, 1, 82, 167, 0, 14, 29, 42, 27, 28, 21, 11, 29, 182, 1, 59, 96, 54, 12, 21, 4, 42, 27, 28]
abbrev dktX9_goesOn_3 : List UInt8 := dkwX9_goesOn_3 ++ dktX9_goesOn_4
def dkwX9_goesOn_2 : List UInt8 := [5, 160, 0, 109, 167, 0, 14, 42, 27, 28, 21, 11, 182, 1, 53, 153, 0, 95, 21, 8, 153, 0, 9]
abbrev dktX9_goesOn_2 : List UInt8 := dkwX9_goesOn_2 ++ dktX9_goesOn_3
def dkwX9_goesOn_1 : List UInt8 := [21, 11, 5, 161, 0, 14, 21, 8, 153, 0, 132, 21, 11, 6, 162, 0, 126, 21, 8, 153, 0, 12, 21, 11]
abbrev dktX9_goesOn_1 : List UInt8 := dkwX9_goesOn_1 ++ dktX9_goesOn_2
def dkwX9_goesOn_0 : List UInt8 := [42, 27, 28, 182, 1, 79, 54, 8, 22, 5, 10, 16, 6, 28, 104, 27, 96, 121, 129, 55, 9, 3, 54, 11]
abbrev dktX9_goesOn_0 : List UInt8 := dkwX9_goesOn_0 ++ dktX9_goesOn_1
theorem dksX9_goesOn_0 : cX9_goesOn.data.toList.drop 0 = dktX9_goesOn_0 := by decide +kernel
theorem dksX9_goesOn_1 : cX9_goesOn.data.toList.drop 24 = dktX9_goesOn_1 := dk_seg dksX9_goesOn_0 24 rfl rfl
theorem dksX9_goesOn_2 : cX9_goesOn.data.toList.drop 48 = dktX9_goesOn_2 := dk_seg dksX9_goesOn_1 24 rfl rfl
theorem dksX9_goesOn_3 : cX9_goesOn.data.toList.drop 71 = dktX9_goesOn_3 := dk_seg dksX9_goesOn_2 23 rfl rfl
theorem dksX9_goesOn_4 : cX9_goesOn.data.toList.drop 95 = dktX9_goesOn_4 := dk_seg dksX9_goesOn_3 24 rfl rfl
theorem dksX9_goesOn_5 : cX9_goesOn.data.toList.drop 119 = dktX9_goesOn_5 := dk_seg dksX9_goesOn_4 24 rfl rfl
theorem dksX9_goesOn_6 : cX9_goesOn.data.toList.drop 142 = dktX9_goesOn_6 := dk_seg dksX9_goesOn_5 23 rfl rfl
theorem dX9_goesOn_0 : decode cX9_goesOn 0 = .ok (.aload_n 0, 1) := dk_42 (dk_at dksX9_goesOn_0 0 rfl rfl)
theorem dX9_goesOn_1 : decode cX9_goesOn 1 = .ok (.iload_n 1, 1) := dk_27 (dk_at dksX9_goesOn_0 1 rfl rfl)
theorem dX9_goesOn_2 : decode cX9_goesOn 2 = .ok (.iload_n 2, 1) := dk_28 (dk_at dksX9_goesOn_0 2 rfl rfl)
theorem dX9_goesOn_3 : decode cX9_goesOn 3 = .ok (.invokevirtual 335, 3) := dk_182 1 79 (dk_at dksX9_goesOn_0 3 rfl rfl)
theorem dX9_goesOn_6 : decode cX9_goesOn 6 = .ok (.istore 8, 2) := dk_54 8 (dk_at dksX9_goesOn_0 6 rfl rfl)
theorem dX9_goesOn_8 : decode cX9_goesOn 8 = .ok (.lload 5, 2) := dk_22 5 (dk_at dksX9_goesOn_0 8 rfl rfl)
theorem dX9_goesOn_10 : decode cX9_goesOn 10 = .ok (.lconst 1, 1) := dk_10 (dk_at dksX9_goesOn_0 10 rfl rfl)
theorem dX9_goesOn_11 : decode cX9_goesOn 11 = .ok (.bipush 6, 2) := dk_16 6 (dk_at dksX9_goesOn_0 11 rfl rfl)
theorem dX9_goesOn_13 : decode cX9_goesOn 13 = .ok (.iload_n 2, 1) := dk_28 (dk_at dksX9_goesOn_0 13 rfl rfl)
theorem dX9_goesOn_14 : decode cX9_goesOn 14 = .ok (.imul, 1) := dk_104 (dk_at dksX9_goesOn_0 14 rfl rfl)
theorem dX9_goesOn_15 : decode cX9_goesOn 15 = .ok (.iload_n 1, 1) := dk_27 (dk_at dksX9_goesOn_0 15 rfl rfl)
theorem dX9_goesOn_16 : decode cX9_goesOn 16 = .ok (.iadd, 1) := dk_96 (dk_at dksX9_goesOn_0 16 rfl rfl)
theorem dX9_goesOn_17 : decode cX9_goesOn 17 = .ok (.lshl, 1) := dk_121 (dk_at dksX9_goesOn_0 17 rfl rfl)
theorem dX9_goesOn_18 : decode cX9_goesOn 18 = .ok (.lor, 1) := dk_129 (dk_at dksX9_goesOn_0 18 rfl rfl)
theorem dX9_goesOn_19 : decode cX9_goesOn 19 = .ok (.lstore 9, 2) := dk_55 9 (dk_at dksX9_goesOn_0 19 rfl rfl)
theorem dX9_goesOn_21 : decode cX9_goesOn 21 = .ok (.iconst 0, 1) := dk_3 (dk_at dksX9_goesOn_0 21 rfl rfl)
theorem dX9_goesOn_22 : decode cX9_goesOn 22 = .ok (.istore 11, 2) := dk_54 11 (dk_at dksX9_goesOn_0 22 rfl rfl)
theorem dX9_goesOn_24 : decode cX9_goesOn 24 = .ok (.iload 11, 2) := dk_21 11 (dk_at dksX9_goesOn_1 0 rfl rfl)
theorem dX9_goesOn_26 : decode cX9_goesOn 26 = .ok (.iconst 2, 1) := dk_5 (dk_at dksX9_goesOn_1 2 rfl rfl)
theorem dX9_goesOn_27 : decode cX9_goesOn 27 = .ok (.if_icmp .lt 14, 3) := dk_161 0 14 (dk_at dksX9_goesOn_1 3 rfl rfl)
theorem dX9_goesOn_30 : decode cX9_goesOn 30 = .ok (.iload 8, 2) := dk_21 8 (dk_at dksX9_goesOn_1 6 rfl rfl)
theorem dX9_goesOn_32 : decode cX9_goesOn 32 = .ok (.ifCond .eq 132, 3) := dk_153 0 132 (dk_at dksX9_goesOn_1 8 rfl rfl)
theorem dX9_goesOn_35 : decode cX9_goesOn 35 = .ok (.iload 11, 2) := dk_21 11 (dk_at dksX9_goesOn_1 11 rfl rfl)
theorem dX9_goesOn_37 : decode cX9_goesOn 37 = .ok (.iconst 3, 1) := dk_6 (dk_at dksX9_goesOn_1 13 rfl rfl)
theorem dX9_goesOn_38 : decode cX9_goesOn 38 = .ok (.if_icmp .ge 126, 3) := dk_162 0 126 (dk_at dksX9_goesOn_1 14 rfl rfl)
theorem dX9_goesOn_41 : decode cX9_goesOn 41 = .ok (.iload 8, 2) := dk_21 8 (dk_at dksX9_goesOn_1 17 rfl rfl)
theorem dX9_goesOn_43 : decode cX9_goesOn 43 = .ok (.ifCond .eq 12, 3) := dk_153 0 12 (dk_at dksX9_goesOn_1 19 rfl rfl)
theorem dX9_goesOn_46 : decode cX9_goesOn 46 = .ok (.iload 11, 2) := dk_21 11 (dk_at dksX9_goesOn_1 22 rfl rfl)
theorem dX9_goesOn_48 : decode cX9_goesOn 48 = .ok (.iconst 2, 1) := dk_5 (dk_at dksX9_goesOn_2 0 rfl rfl)
theorem dX9_goesOn_49 : decode cX9_goesOn 49 = .ok (.if_icmp .ne 109, 3) := dk_160 0 109 (dk_at dksX9_goesOn_2 1 rfl rfl)
theorem dX9_goesOn_52 : decode cX9_goesOn 52 = .ok (.goto 14, 3) := dk_167 0 14 (dk_at dksX9_goesOn_2 4 rfl rfl)
theorem dX9_goesOn_55 : decode cX9_goesOn 55 = .ok (.aload_n 0, 1) := dk_42 (dk_at dksX9_goesOn_2 7 rfl rfl)
theorem dX9_goesOn_56 : decode cX9_goesOn 56 = .ok (.iload_n 1, 1) := dk_27 (dk_at dksX9_goesOn_2 8 rfl rfl)
theorem dX9_goesOn_57 : decode cX9_goesOn 57 = .ok (.iload_n 2, 1) := dk_28 (dk_at dksX9_goesOn_2 9 rfl rfl)
theorem dX9_goesOn_58 : decode cX9_goesOn 58 = .ok (.iload 11, 2) := dk_21 11 (dk_at dksX9_goesOn_2 10 rfl rfl)
theorem dX9_goesOn_60 : decode cX9_goesOn 60 = .ok (.invokevirtual 309, 3) := dk_182 1 53 (dk_at dksX9_goesOn_2 12 rfl rfl)
theorem dX9_goesOn_63 : decode cX9_goesOn 63 = .ok (.ifCond .eq 95, 3) := dk_153 0 95 (dk_at dksX9_goesOn_2 15 rfl rfl)
theorem dX9_goesOn_66 : decode cX9_goesOn 66 = .ok (.iload 8, 2) := dk_21 8 (dk_at dksX9_goesOn_2 18 rfl rfl)
theorem dX9_goesOn_68 : decode cX9_goesOn 68 = .ok (.ifCond .eq 9, 3) := dk_153 0 9 (dk_at dksX9_goesOn_2 20 rfl rfl)
theorem dX9_goesOn_71 : decode cX9_goesOn 71 = .ok (.ldc_w 338, 3) := dk_19 1 82 (dk_at dksX9_goesOn_3 0 rfl rfl)
theorem dX9_goesOn_74 : decode cX9_goesOn 74 = .ok (.goto 14, 3) := dk_167 0 14 (dk_at dksX9_goesOn_3 3 rfl rfl)
theorem dX9_goesOn_77 : decode cX9_goesOn 77 = .ok (.iload_n 3, 1) := dk_29 (dk_at dksX9_goesOn_3 6 rfl rfl)
theorem dX9_goesOn_78 : decode cX9_goesOn 78 = .ok (.aload_n 0, 1) := dk_42 (dk_at dksX9_goesOn_3 7 rfl rfl)
theorem dX9_goesOn_79 : decode cX9_goesOn 79 = .ok (.iload_n 1, 1) := dk_27 (dk_at dksX9_goesOn_3 8 rfl rfl)
theorem dX9_goesOn_80 : decode cX9_goesOn 80 = .ok (.iload_n 2, 1) := dk_28 (dk_at dksX9_goesOn_3 9 rfl rfl)
theorem dX9_goesOn_81 : decode cX9_goesOn 81 = .ok (.iload 11, 2) := dk_21 11 (dk_at dksX9_goesOn_3 10 rfl rfl)
theorem dX9_goesOn_83 : decode cX9_goesOn 83 = .ok (.iload_n 3, 1) := dk_29 (dk_at dksX9_goesOn_3 12 rfl rfl)
theorem dX9_goesOn_84 : decode cX9_goesOn 84 = .ok (.invokevirtual 315, 3) := dk_182 1 59 (dk_at dksX9_goesOn_3 13 rfl rfl)
theorem dX9_goesOn_87 : decode cX9_goesOn 87 = .ok (.iadd, 1) := dk_96 (dk_at dksX9_goesOn_3 16 rfl rfl)
theorem dX9_goesOn_88 : decode cX9_goesOn 88 = .ok (.istore 12, 2) := dk_54 12 (dk_at dksX9_goesOn_3 17 rfl rfl)
theorem dX9_goesOn_90 : decode cX9_goesOn 90 = .ok (.iload 4, 2) := dk_21 4 (dk_at dksX9_goesOn_3 19 rfl rfl)
theorem dX9_goesOn_92 : decode cX9_goesOn 92 = .ok (.aload_n 0, 1) := dk_42 (dk_at dksX9_goesOn_3 21 rfl rfl)
theorem dX9_goesOn_93 : decode cX9_goesOn 93 = .ok (.iload_n 1, 1) := dk_27 (dk_at dksX9_goesOn_3 22 rfl rfl)
theorem dX9_goesOn_94 : decode cX9_goesOn 94 = .ok (.iload_n 2, 1) := dk_28 (dk_at dksX9_goesOn_3 23 rfl rfl)
theorem dX9_goesOn_95 : decode cX9_goesOn 95 = .ok (.iload_n 3, 1) := dk_29 (dk_at dksX9_goesOn_4 0 rfl rfl)
theorem dX9_goesOn_96 : decode cX9_goesOn 96 = .ok (.iload 12, 2) := dk_21 12 (dk_at dksX9_goesOn_4 1 rfl rfl)
theorem dX9_goesOn_98 : decode cX9_goesOn 98 = .ok (.invokevirtual 450, 3) := dk_182 1 194 (dk_at dksX9_goesOn_4 3 rfl rfl)
theorem dX9_goesOn_101 : decode cX9_goesOn 101 = .ok (.ior, 1) := dk_128 (dk_at dksX9_goesOn_4 6 rfl rfl)
theorem dX9_goesOn_102 : decode cX9_goesOn 102 = .ok (.istore 13, 2) := dk_54 13 (dk_at dksX9_goesOn_4 7 rfl rfl)
theorem dX9_goesOn_104 : decode cX9_goesOn 104 = .ok (.iload 8, 2) := dk_21 8 (dk_at dksX9_goesOn_4 9 rfl rfl)
theorem dX9_goesOn_106 : decode cX9_goesOn 106 = .ok (.ifCond .eq 16, 3) := dk_153 0 16 (dk_at dksX9_goesOn_4 11 rfl rfl)
theorem dX9_goesOn_109 : decode cX9_goesOn 109 = .ok (.aload_n 0, 1) := dk_42 (dk_at dksX9_goesOn_4 14 rfl rfl)
theorem dX9_goesOn_110 : decode cX9_goesOn 110 = .ok (.iload 13, 2) := dk_21 13 (dk_at dksX9_goesOn_4 15 rfl rfl)
theorem dX9_goesOn_112 : decode cX9_goesOn 112 = .ok (.lload 9, 2) := dk_22 9 (dk_at dksX9_goesOn_4 17 rfl rfl)
theorem dX9_goesOn_114 : decode cX9_goesOn 114 = .ok (.iload 7, 2) := dk_21 7 (dk_at dksX9_goesOn_4 19 rfl rfl)
theorem dX9_goesOn_116 : decode cX9_goesOn 116 = .ok (.invokevirtual 453, 3) := dk_182 1 197 (dk_at dksX9_goesOn_4 21 rfl rfl)
theorem dX9_goesOn_119 : decode cX9_goesOn 119 = .ok (.goto 39, 3) := dk_167 0 39 (dk_at dksX9_goesOn_5 0 rfl rfl)
theorem dX9_goesOn_122 : decode cX9_goesOn 122 = .ok (.aload_n 0, 1) := dk_42 (dk_at dksX9_goesOn_5 3 rfl rfl)
theorem dX9_goesOn_123 : decode cX9_goesOn 123 = .ok (.iload_n 1, 1) := dk_27 (dk_at dksX9_goesOn_5 4 rfl rfl)
theorem dX9_goesOn_124 : decode cX9_goesOn 124 = .ok (.iconst 1, 1) := dk_4 (dk_at dksX9_goesOn_5 5 rfl rfl)
theorem dX9_goesOn_125 : decode cX9_goesOn 125 = .ok (.iadd, 1) := dk_96 (dk_at dksX9_goesOn_5 6 rfl rfl)
theorem dX9_goesOn_126 : decode cX9_goesOn 126 = .ok (.iload 11, 2) := dk_21 11 (dk_at dksX9_goesOn_5 7 rfl rfl)
theorem dX9_goesOn_128 : decode cX9_goesOn 128 = .ok (.isub, 1) := dk_100 (dk_at dksX9_goesOn_5 9 rfl rfl)
theorem dX9_goesOn_129 : decode cX9_goesOn 129 = .ok (.iload_n 2, 1) := dk_28 (dk_at dksX9_goesOn_5 10 rfl rfl)
theorem dX9_goesOn_130 : decode cX9_goesOn 130 = .ok (.iload 11, 2) := dk_21 11 (dk_at dksX9_goesOn_5 11 rfl rfl)
theorem dX9_goesOn_132 : decode cX9_goesOn 132 = .ok (.iadd, 1) := dk_96 (dk_at dksX9_goesOn_5 13 rfl rfl)
theorem dX9_goesOn_133 : decode cX9_goesOn 133 = .ok (.iload 12, 2) := dk_21 12 (dk_at dksX9_goesOn_5 14 rfl rfl)
theorem dX9_goesOn_135 : decode cX9_goesOn 135 = .ok (.aload_n 0, 1) := dk_42 (dk_at dksX9_goesOn_5 16 rfl rfl)
theorem dX9_goesOn_136 : decode cX9_goesOn 136 = .ok (.getfield 81, 3) := dk_180 0 81 (dk_at dksX9_goesOn_5 17 rfl rfl)
theorem dX9_goesOn_139 : decode cX9_goesOn 139 = .ok (.iconst 2, 1) := dk_5 (dk_at dksX9_goesOn_5 20 rfl rfl)
theorem dX9_goesOn_140 : decode cX9_goesOn 140 = .ok (.iaload, 1) := dk_46 (dk_at dksX9_goesOn_5 21 rfl rfl)
theorem dX9_goesOn_141 : decode cX9_goesOn 141 = .ok (.iadd, 1) := dk_96 (dk_at dksX9_goesOn_5 22 rfl rfl)
theorem dX9_goesOn_142 : decode cX9_goesOn 142 = .ok (.iload 13, 2) := dk_21 13 (dk_at dksX9_goesOn_6 0 rfl rfl)
theorem dX9_goesOn_144 : decode cX9_goesOn 144 = .ok (.lload 9, 2) := dk_22 9 (dk_at dksX9_goesOn_6 2 rfl rfl)
theorem dX9_goesOn_146 : decode cX9_goesOn 146 = .ok (.iload 7, 2) := dk_21 7 (dk_at dksX9_goesOn_6 4 rfl rfl)
theorem dX9_goesOn_148 : decode cX9_goesOn 148 = .ok (.iload 11, 2) := dk_21 11 (dk_at dksX9_goesOn_6 6 rfl rfl)
theorem dX9_goesOn_150 : decode cX9_goesOn 150 = .ok (.iload_n 1, 1) := dk_27 (dk_at dksX9_goesOn_6 8 rfl rfl)
theorem dX9_goesOn_151 : decode cX9_goesOn 151 = .ok (.iload_n 2, 1) := dk_28 (dk_at dksX9_goesOn_6 9 rfl rfl)
theorem dX9_goesOn_152 : decode cX9_goesOn 152 = .ok (.iadd, 1) := dk_96 (dk_at dksX9_goesOn_6 10 rfl rfl)
theorem dX9_goesOn_153 : decode cX9_goesOn 153 = .ok (.ishl, 1) := dk_120 (dk_at dksX9_goesOn_6 11 rfl rfl)
theorem dX9_goesOn_154 : decode cX9_goesOn 154 = .ok (.ior, 1) := dk_128 (dk_at dksX9_goesOn_6 12 rfl rfl)
theorem dX9_goesOn_155 : decode cX9_goesOn 155 = .ok (.invokevirtual 457, 3) := dk_182 1 201 (dk_at dksX9_goesOn_6 13 rfl rfl)
theorem dX9_goesOn_158 : decode cX9_goesOn 158 = .ok (.iinc 11 1, 3) := dk_132 11 1 (dk_at dksX9_goesOn_6 16 rfl rfl)
theorem dX9_goesOn_161 : decode cX9_goesOn 161 = .ok (.goto (-137), 3) := dk_167 255 119 (dk_at dksX9_goesOn_6 19 rfl rfl)
theorem dX9_goesOn_164 : decode cX9_goesOn 164 = .ok (.return_, 1) := dk_177 (dk_at dksX9_goesOn_6 22 rfl rfl)
abbrev cX9_wasBetween : ByteArray := prog_23_method_106_code
def yX9_wasBetween : MethodName := ⟨RX9, "wasBetween", "(IIII)I"⟩
def dkwX9_wasBetween_3 : List UInt8 := [21, 6, 120, 167, 0, 4, 3, 128, 54, 5, 132, 6, 1, 167, 255, 177, 21, 5, 172]
abbrev dktX9_wasBetween_3 : List UInt8 := dkwX9_wasBetween_3 ++ []
def dkwX9_wasBetween_2 : List UInt8 := [46, 28, 160, 0, 28, 42, 180, 0, 102, 21, 7, 5, 96, 46, 29, 21, 4, 184, 1, 43, 153, 0, 10, 4]
abbrev dktX9_wasBetween_2 : List UInt8 := dkwX9_wasBetween_2 ++ dktX9_wasBetween_3
def dkwX9_wasBetween_1 : List UInt8 := [96, 54, 7, 21, 5, 42, 180, 0, 102, 21, 7, 46, 27, 160, 0, 41, 42, 180, 0, 102, 21, 7, 4, 96]
abbrev dktX9_wasBetween_1 : List UInt8 := dkwX9_wasBetween_1 ++ dktX9_wasBetween_2
def dkwX9_wasBetween_0 : List UInt8 := [3, 54, 5, 3, 54, 6, 21, 6, 42, 180, 0, 102, 16, 59, 46, 162, 0, 73, 16, 92, 6, 21, 6, 104]
abbrev dktX9_wasBetween_0 : List UInt8 := dkwX9_wasBetween_0 ++ dktX9_wasBetween_1
theorem dksX9_wasBetween_0 : cX9_wasBetween.data.toList.drop 0 = dktX9_wasBetween_0 := by decide +kernel
theorem dksX9_wasBetween_1 : cX9_wasBetween.data.toList.drop 24 = dktX9_wasBetween_1 := dk_seg dksX9_wasBetween_0 24 rfl rfl
theorem dksX9_wasBetween_2 : cX9_wasBetween.data.toList.drop 48 = dktX9_wasBetween_2 := dk_seg dksX9_wasBetween_1 24 rfl rfl
theorem dksX9_wasBetween_3 : cX9_wasBetween.data.toList.drop 72 = dktX9_wasBetween_3 := dk_seg dksX9_wasBetween_2 24 rfl rfl
theorem dX9_wasBetween_0 : decode cX9_wasBetween 0 = .ok (.iconst 0, 1) := dk_3 (dk_at dksX9_wasBetween_0 0 rfl rfl)
theorem dX9_wasBetween_1 : decode cX9_wasBetween 1 = .ok (.istore 5, 2) := dk_54 5 (dk_at dksX9_wasBetween_0 1 rfl rfl)
theorem dX9_wasBetween_3 : decode cX9_wasBetween 3 = .ok (.iconst 0, 1) := dk_3 (dk_at dksX9_wasBetween_0 3 rfl rfl)
theorem dX9_wasBetween_4 : decode cX9_wasBetween 4 = .ok (.istore 6, 2) := dk_54 6 (dk_at dksX9_wasBetween_0 4 rfl rfl)
theorem dX9_wasBetween_6 : decode cX9_wasBetween 6 = .ok (.iload 6, 2) := dk_21 6 (dk_at dksX9_wasBetween_0 6 rfl rfl)
theorem dX9_wasBetween_8 : decode cX9_wasBetween 8 = .ok (.aload_n 0, 1) := dk_42 (dk_at dksX9_wasBetween_0 8 rfl rfl)
theorem dX9_wasBetween_9 : decode cX9_wasBetween 9 = .ok (.getfield 102, 3) := dk_180 0 102 (dk_at dksX9_wasBetween_0 9 rfl rfl)
theorem dX9_wasBetween_12 : decode cX9_wasBetween 12 = .ok (.bipush 59, 2) := dk_16 59 (dk_at dksX9_wasBetween_0 12 rfl rfl)
theorem dX9_wasBetween_14 : decode cX9_wasBetween 14 = .ok (.iaload, 1) := dk_46 (dk_at dksX9_wasBetween_0 14 rfl rfl)
theorem dX9_wasBetween_15 : decode cX9_wasBetween 15 = .ok (.if_icmp .ge 73, 3) := dk_162 0 73 (dk_at dksX9_wasBetween_0 15 rfl rfl)
theorem dX9_wasBetween_18 : decode cX9_wasBetween 18 = .ok (.bipush 92, 2) := dk_16 92 (dk_at dksX9_wasBetween_0 18 rfl rfl)
theorem dX9_wasBetween_20 : decode cX9_wasBetween 20 = .ok (.iconst 3, 1) := dk_6 (dk_at dksX9_wasBetween_0 20 rfl rfl)
theorem dX9_wasBetween_21 : decode cX9_wasBetween 21 = .ok (.iload 6, 2) := dk_21 6 (dk_at dksX9_wasBetween_0 21 rfl rfl)
theorem dX9_wasBetween_23 : decode cX9_wasBetween 23 = .ok (.imul, 1) := dk_104 (dk_at dksX9_wasBetween_0 23 rfl rfl)
theorem dX9_wasBetween_24 : decode cX9_wasBetween 24 = .ok (.iadd, 1) := dk_96 (dk_at dksX9_wasBetween_1 0 rfl rfl)
theorem dX9_wasBetween_25 : decode cX9_wasBetween 25 = .ok (.istore 7, 2) := dk_54 7 (dk_at dksX9_wasBetween_1 1 rfl rfl)
theorem dX9_wasBetween_27 : decode cX9_wasBetween 27 = .ok (.iload 5, 2) := dk_21 5 (dk_at dksX9_wasBetween_1 3 rfl rfl)
theorem dX9_wasBetween_29 : decode cX9_wasBetween 29 = .ok (.aload_n 0, 1) := dk_42 (dk_at dksX9_wasBetween_1 5 rfl rfl)
theorem dX9_wasBetween_30 : decode cX9_wasBetween 30 = .ok (.getfield 102, 3) := dk_180 0 102 (dk_at dksX9_wasBetween_1 6 rfl rfl)
theorem dX9_wasBetween_33 : decode cX9_wasBetween 33 = .ok (.iload 7, 2) := dk_21 7 (dk_at dksX9_wasBetween_1 9 rfl rfl)
theorem dX9_wasBetween_35 : decode cX9_wasBetween 35 = .ok (.iaload, 1) := dk_46 (dk_at dksX9_wasBetween_1 11 rfl rfl)
theorem dX9_wasBetween_36 : decode cX9_wasBetween 36 = .ok (.iload_n 1, 1) := dk_27 (dk_at dksX9_wasBetween_1 12 rfl rfl)
theorem dX9_wasBetween_37 : decode cX9_wasBetween 37 = .ok (.if_icmp .ne 41, 3) := dk_160 0 41 (dk_at dksX9_wasBetween_1 13 rfl rfl)
theorem dX9_wasBetween_40 : decode cX9_wasBetween 40 = .ok (.aload_n 0, 1) := dk_42 (dk_at dksX9_wasBetween_1 16 rfl rfl)
theorem dX9_wasBetween_41 : decode cX9_wasBetween 41 = .ok (.getfield 102, 3) := dk_180 0 102 (dk_at dksX9_wasBetween_1 17 rfl rfl)
theorem dX9_wasBetween_44 : decode cX9_wasBetween 44 = .ok (.iload 7, 2) := dk_21 7 (dk_at dksX9_wasBetween_1 20 rfl rfl)
theorem dX9_wasBetween_46 : decode cX9_wasBetween 46 = .ok (.iconst 1, 1) := dk_4 (dk_at dksX9_wasBetween_1 22 rfl rfl)
theorem dX9_wasBetween_47 : decode cX9_wasBetween 47 = .ok (.iadd, 1) := dk_96 (dk_at dksX9_wasBetween_1 23 rfl rfl)
theorem dX9_wasBetween_48 : decode cX9_wasBetween 48 = .ok (.iaload, 1) := dk_46 (dk_at dksX9_wasBetween_2 0 rfl rfl)
theorem dX9_wasBetween_49 : decode cX9_wasBetween 49 = .ok (.iload_n 2, 1) := dk_28 (dk_at dksX9_wasBetween_2 1 rfl rfl)
theorem dX9_wasBetween_50 : decode cX9_wasBetween 50 = .ok (.if_icmp .ne 28, 3) := dk_160 0 28 (dk_at dksX9_wasBetween_2 2 rfl rfl)
theorem dX9_wasBetween_53 : decode cX9_wasBetween 53 = .ok (.aload_n 0, 1) := dk_42 (dk_at dksX9_wasBetween_2 5 rfl rfl)
theorem dX9_wasBetween_54 : decode cX9_wasBetween 54 = .ok (.getfield 102, 3) := dk_180 0 102 (dk_at dksX9_wasBetween_2 6 rfl rfl)
theorem dX9_wasBetween_57 : decode cX9_wasBetween 57 = .ok (.iload 7, 2) := dk_21 7 (dk_at dksX9_wasBetween_2 9 rfl rfl)
theorem dX9_wasBetween_59 : decode cX9_wasBetween 59 = .ok (.iconst 2, 1) := dk_5 (dk_at dksX9_wasBetween_2 11 rfl rfl)
theorem dX9_wasBetween_60 : decode cX9_wasBetween 60 = .ok (.iadd, 1) := dk_96 (dk_at dksX9_wasBetween_2 12 rfl rfl)
theorem dX9_wasBetween_61 : decode cX9_wasBetween 61 = .ok (.iaload, 1) := dk_46 (dk_at dksX9_wasBetween_2 13 rfl rfl)
theorem dX9_wasBetween_62 : decode cX9_wasBetween 62 = .ok (.iload_n 3, 1) := dk_29 (dk_at dksX9_wasBetween_2 14 rfl rfl)
theorem dX9_wasBetween_63 : decode cX9_wasBetween 63 = .ok (.iload 4, 2) := dk_21 4 (dk_at dksX9_wasBetween_2 15 rfl rfl)
theorem dX9_wasBetween_65 : decode cX9_wasBetween 65 = .ok (.invokestatic 299, 3) := dk_184 1 43 (dk_at dksX9_wasBetween_2 17 rfl rfl)
theorem dX9_wasBetween_68 : decode cX9_wasBetween 68 = .ok (.ifCond .eq 10, 3) := dk_153 0 10 (dk_at dksX9_wasBetween_2 20 rfl rfl)
theorem dX9_wasBetween_71 : decode cX9_wasBetween 71 = .ok (.iconst 1, 1) := dk_4 (dk_at dksX9_wasBetween_2 23 rfl rfl)
theorem dX9_wasBetween_72 : decode cX9_wasBetween 72 = .ok (.iload 6, 2) := dk_21 6 (dk_at dksX9_wasBetween_3 0 rfl rfl)
theorem dX9_wasBetween_74 : decode cX9_wasBetween 74 = .ok (.ishl, 1) := dk_120 (dk_at dksX9_wasBetween_3 2 rfl rfl)
theorem dX9_wasBetween_75 : decode cX9_wasBetween 75 = .ok (.goto 4, 3) := dk_167 0 4 (dk_at dksX9_wasBetween_3 3 rfl rfl)
theorem dX9_wasBetween_78 : decode cX9_wasBetween 78 = .ok (.iconst 0, 1) := dk_3 (dk_at dksX9_wasBetween_3 6 rfl rfl)
theorem dX9_wasBetween_79 : decode cX9_wasBetween 79 = .ok (.ior, 1) := dk_128 (dk_at dksX9_wasBetween_3 7 rfl rfl)
theorem dX9_wasBetween_80 : decode cX9_wasBetween 80 = .ok (.istore 5, 2) := dk_54 5 (dk_at dksX9_wasBetween_3 8 rfl rfl)
theorem dX9_wasBetween_82 : decode cX9_wasBetween 82 = .ok (.iinc 6 1, 3) := dk_132 6 1 (dk_at dksX9_wasBetween_3 10 rfl rfl)
theorem dX9_wasBetween_85 : decode cX9_wasBetween 85 = .ok (.goto (-79), 3) := dk_167 255 177 (dk_at dksX9_wasBetween_3 13 rfl rfl)
theorem dX9_wasBetween_88 : decode cX9_wasBetween 88 = .ok (.iload 5, 2) := dk_21 5 (dk_at dksX9_wasBetween_3 16 rfl rfl)
theorem dX9_wasBetween_90 : decode cX9_wasBetween 90 = .ok (.ireturn, 1) := dk_172 (dk_at dksX9_wasBetween_3 18 rfl rfl)
abbrev cX9_fits0 : ByteArray := prog_23_method_107_code
def yX9_fits0 : MethodName := ⟨RX9, "fits0", "(IJI)V"⟩
def dkwX9_fits0_3 : List UInt8 := [181, 1, 205, 177]
abbrev dktX9_fits0_3 : List UInt8 := dkwX9_fits0_3 ++ []
def dkwX9_fits0_2 : List UInt8 := [154, 0, 7, 32, 167, 0, 9, 42, 180, 1, 212, 32, 127, 181, 1, 212, 42, 89, 180, 1, 205, 10, 97]
abbrev dktX9_fits0_2 : List UInt8 := dkwX9_fits0_2 ++ dktX9_fits0_3
def dkwX9_fits0_1 : List UInt8 := [154, 0, 8, 21, 4, 167, 0, 7, 42, 180, 1, 209, 181, 1, 209, 42, 42, 180, 1, 205, 9, 148]
abbrev dktX9_fits0_1 : List UInt8 := dkwX9_fits0_1 ++ dktX9_fits0_2
def dkwX9_fits0_0 : List UInt8 := [27, 4, 42, 180, 0, 102, 16, 59, 46, 120, 4, 100, 160, 0, 58, 42, 42, 180, 1, 205, 9, 148]
abbrev dktX9_fits0_0 : List UInt8 := dkwX9_fits0_0 ++ dktX9_fits0_1
theorem dksX9_fits0_0 : cX9_fits0.data.toList.drop 0 = dktX9_fits0_0 := by decide +kernel
theorem dksX9_fits0_1 : cX9_fits0.data.toList.drop 22 = dktX9_fits0_1 := dk_seg dksX9_fits0_0 22 rfl rfl
theorem dksX9_fits0_2 : cX9_fits0.data.toList.drop 44 = dktX9_fits0_2 := dk_seg dksX9_fits0_1 22 rfl rfl
theorem dksX9_fits0_3 : cX9_fits0.data.toList.drop 67 = dktX9_fits0_3 := dk_seg dksX9_fits0_2 23 rfl rfl
theorem dX9_fits0_0 : decode cX9_fits0 0 = .ok (.iload_n 1, 1) := dk_27 (dk_at dksX9_fits0_0 0 rfl rfl)
theorem dX9_fits0_1 : decode cX9_fits0 1 = .ok (.iconst 1, 1) := dk_4 (dk_at dksX9_fits0_0 1 rfl rfl)
theorem dX9_fits0_2 : decode cX9_fits0 2 = .ok (.aload_n 0, 1) := dk_42 (dk_at dksX9_fits0_0 2 rfl rfl)
theorem dX9_fits0_3 : decode cX9_fits0 3 = .ok (.getfield 102, 3) := dk_180 0 102 (dk_at dksX9_fits0_0 3 rfl rfl)
theorem dX9_fits0_6 : decode cX9_fits0 6 = .ok (.bipush 59, 2) := dk_16 59 (dk_at dksX9_fits0_0 6 rfl rfl)
theorem dX9_fits0_8 : decode cX9_fits0 8 = .ok (.iaload, 1) := dk_46 (dk_at dksX9_fits0_0 8 rfl rfl)
theorem dX9_fits0_9 : decode cX9_fits0 9 = .ok (.ishl, 1) := dk_120 (dk_at dksX9_fits0_0 9 rfl rfl)
theorem dX9_fits0_10 : decode cX9_fits0 10 = .ok (.iconst 1, 1) := dk_4 (dk_at dksX9_fits0_0 10 rfl rfl)
theorem dX9_fits0_11 : decode cX9_fits0 11 = .ok (.isub, 1) := dk_100 (dk_at dksX9_fits0_0 11 rfl rfl)
theorem dX9_fits0_12 : decode cX9_fits0 12 = .ok (.if_icmp .ne 58, 3) := dk_160 0 58 (dk_at dksX9_fits0_0 12 rfl rfl)
theorem dX9_fits0_15 : decode cX9_fits0 15 = .ok (.aload_n 0, 1) := dk_42 (dk_at dksX9_fits0_0 15 rfl rfl)
theorem dX9_fits0_16 : decode cX9_fits0 16 = .ok (.aload_n 0, 1) := dk_42 (dk_at dksX9_fits0_0 16 rfl rfl)
theorem dX9_fits0_17 : decode cX9_fits0 17 = .ok (.getfield 461, 3) := dk_180 1 205 (dk_at dksX9_fits0_0 17 rfl rfl)
theorem dX9_fits0_20 : decode cX9_fits0 20 = .ok (.lconst 0, 1) := dk_9 (dk_at dksX9_fits0_0 20 rfl rfl)
theorem dX9_fits0_21 : decode cX9_fits0 21 = .ok (.lcmp, 1) := dk_148 (dk_at dksX9_fits0_0 21 rfl rfl)
theorem dX9_fits0_22 : decode cX9_fits0 22 = .ok (.ifCond .ne 8, 3) := dk_154 0 8 (dk_at dksX9_fits0_1 0 rfl rfl)
theorem dX9_fits0_25 : decode cX9_fits0 25 = .ok (.iload 4, 2) := dk_21 4 (dk_at dksX9_fits0_1 3 rfl rfl)
theorem dX9_fits0_27 : decode cX9_fits0 27 = .ok (.goto 7, 3) := dk_167 0 7 (dk_at dksX9_fits0_1 5 rfl rfl)
theorem dX9_fits0_30 : decode cX9_fits0 30 = .ok (.aload_n 0, 1) := dk_42 (dk_at dksX9_fits0_1 8 rfl rfl)
theorem dX9_fits0_31 : decode cX9_fits0 31 = .ok (.getfield 465, 3) := dk_180 1 209 (dk_at dksX9_fits0_1 9 rfl rfl)
theorem dX9_fits0_34 : decode cX9_fits0 34 = .ok (.putfield 465, 3) := dk_181 1 209 (dk_at dksX9_fits0_1 12 rfl rfl)
theorem dX9_fits0_37 : decode cX9_fits0 37 = .ok (.aload_n 0, 1) := dk_42 (dk_at dksX9_fits0_1 15 rfl rfl)
theorem dX9_fits0_38 : decode cX9_fits0 38 = .ok (.aload_n 0, 1) := dk_42 (dk_at dksX9_fits0_1 16 rfl rfl)
theorem dX9_fits0_39 : decode cX9_fits0 39 = .ok (.getfield 461, 3) := dk_180 1 205 (dk_at dksX9_fits0_1 17 rfl rfl)
theorem dX9_fits0_42 : decode cX9_fits0 42 = .ok (.lconst 0, 1) := dk_9 (dk_at dksX9_fits0_1 20 rfl rfl)
theorem dX9_fits0_43 : decode cX9_fits0 43 = .ok (.lcmp, 1) := dk_148 (dk_at dksX9_fits0_1 21 rfl rfl)
theorem dX9_fits0_44 : decode cX9_fits0 44 = .ok (.ifCond .ne 7, 3) := dk_154 0 7 (dk_at dksX9_fits0_2 0 rfl rfl)
theorem dX9_fits0_47 : decode cX9_fits0 47 = .ok (.lload_n 2, 1) := dk_32 (dk_at dksX9_fits0_2 3 rfl rfl)
theorem dX9_fits0_48 : decode cX9_fits0 48 = .ok (.goto 9, 3) := dk_167 0 9 (dk_at dksX9_fits0_2 4 rfl rfl)
theorem dX9_fits0_51 : decode cX9_fits0 51 = .ok (.aload_n 0, 1) := dk_42 (dk_at dksX9_fits0_2 7 rfl rfl)
theorem dX9_fits0_52 : decode cX9_fits0 52 = .ok (.getfield 468, 3) := dk_180 1 212 (dk_at dksX9_fits0_2 8 rfl rfl)
theorem dX9_fits0_55 : decode cX9_fits0 55 = .ok (.lload_n 2, 1) := dk_32 (dk_at dksX9_fits0_2 11 rfl rfl)
theorem dX9_fits0_56 : decode cX9_fits0 56 = .ok (.land, 1) := dk_127 (dk_at dksX9_fits0_2 12 rfl rfl)
theorem dX9_fits0_57 : decode cX9_fits0 57 = .ok (.putfield 468, 3) := dk_181 1 212 (dk_at dksX9_fits0_2 13 rfl rfl)
theorem dX9_fits0_60 : decode cX9_fits0 60 = .ok (.aload_n 0, 1) := dk_42 (dk_at dksX9_fits0_2 16 rfl rfl)
theorem dX9_fits0_61 : decode cX9_fits0 61 = .ok (.dup, 1) := dk_89 (dk_at dksX9_fits0_2 17 rfl rfl)
theorem dX9_fits0_62 : decode cX9_fits0 62 = .ok (.getfield 461, 3) := dk_180 1 205 (dk_at dksX9_fits0_2 18 rfl rfl)
theorem dX9_fits0_65 : decode cX9_fits0 65 = .ok (.lconst 1, 1) := dk_10 (dk_at dksX9_fits0_2 21 rfl rfl)
theorem dX9_fits0_66 : decode cX9_fits0 66 = .ok (.ladd, 1) := dk_97 (dk_at dksX9_fits0_2 22 rfl rfl)
theorem dX9_fits0_67 : decode cX9_fits0 67 = .ok (.putfield 461, 3) := dk_181 1 205 (dk_at dksX9_fits0_3 0 rfl rfl)
theorem dX9_fits0_70 : decode cX9_fits0 70 = .ok (.return_, 1) := dk_177 (dk_at dksX9_fits0_3 3 rfl rfl)
abbrev cX9_nights : ByteArray := prog_23_method_112_code
def yX9_nights : MethodName := ⟨RX9, "nights", "(IIII)I"⟩
def dkwX9_nights_5 : List UInt8 := [21, 6, 54, 6, 132, 7, 1, 167, 255, 214, 21, 4, 154, 0, 8, 21, 5, 167, 0, 5, 21, 6, 172]
abbrev dktX9_nights_5 : List UInt8 := dkwX9_nights_5 ++ []
def dkwX9_nights_4 : List UInt8 := [182, 1, 232, 54, 8, 21, 5, 21, 8, 96, 54, 5, 21, 8, 21, 6, 164, 0, 8, 21, 8, 167, 0, 5]
abbrev dktX9_nights_4 : List UInt8 := dkwX9_nights_4 ++ dktX9_nights_5
def dkwX9_nights_3 : List UInt8 := [181, 1, 215, 3, 54, 5, 3, 54, 6, 3, 54, 7, 21, 7, 28, 162, 0, 42, 42, 182, 1, 229, 42]
abbrev dktX9_nights_3 : List UInt8 := dkwX9_nights_3 ++ dktX9_nights_4
def dkwX9_nights_2 : List UInt8 := [29, 3, 2, 3, 182, 1, 133, 42, 3, 3, 3, 182, 1, 121, 156, 0, 5, 2, 172, 42, 27, 133]
abbrev dktX9_nights_2 : List UInt8 := dkwX9_nights_2 ++ dktX9_nights_3
def dkwX9_nights_1 : List UInt8 := [153, 0, 21, 42, 29, 182, 1, 127, 153, 0, 13, 21, 4, 3, 4, 184, 1, 43, 154, 0, 5, 2, 172, 42]
abbrev dktX9_nights_1 : List UInt8 := dkwX9_nights_1 ++ dktX9_nights_2
def dkwX9_nights_0 : List UInt8 := [42, 3, 181, 0, 1, 27, 3, 17, 39, 15, 184, 1, 43, 153, 0, 31, 28, 4, 16, 30, 184, 1, 43]
abbrev dktX9_nights_0 : List UInt8 := dkwX9_nights_0 ++ dktX9_nights_1
theorem dksX9_nights_0 : cX9_nights.data.toList.drop 0 = dktX9_nights_0 := by decide +kernel
theorem dksX9_nights_1 : cX9_nights.data.toList.drop 23 = dktX9_nights_1 := dk_seg dksX9_nights_0 23 rfl rfl
theorem dksX9_nights_2 : cX9_nights.data.toList.drop 47 = dktX9_nights_2 := dk_seg dksX9_nights_1 24 rfl rfl
theorem dksX9_nights_3 : cX9_nights.data.toList.drop 69 = dktX9_nights_3 := dk_seg dksX9_nights_2 22 rfl rfl
theorem dksX9_nights_4 : cX9_nights.data.toList.drop 92 = dktX9_nights_4 := dk_seg dksX9_nights_3 23 rfl rfl
theorem dksX9_nights_5 : cX9_nights.data.toList.drop 116 = dktX9_nights_5 := dk_seg dksX9_nights_4 24 rfl rfl
theorem dX9_nights_0 : decode cX9_nights 0 = .ok (.aload_n 0, 1) := dk_42 (dk_at dksX9_nights_0 0 rfl rfl)
theorem dX9_nights_1 : decode cX9_nights 1 = .ok (.iconst 0, 1) := dk_3 (dk_at dksX9_nights_0 1 rfl rfl)
theorem dX9_nights_2 : decode cX9_nights 2 = .ok (.putfield 1, 3) := dk_181 0 1 (dk_at dksX9_nights_0 2 rfl rfl)
theorem dX9_nights_5 : decode cX9_nights 5 = .ok (.iload_n 1, 1) := dk_27 (dk_at dksX9_nights_0 5 rfl rfl)
theorem dX9_nights_6 : decode cX9_nights 6 = .ok (.iconst 0, 1) := dk_3 (dk_at dksX9_nights_0 6 rfl rfl)
theorem dX9_nights_7 : decode cX9_nights 7 = .ok (.sipush 9999, 3) := dk_17 39 15 (dk_at dksX9_nights_0 7 rfl rfl)
theorem dX9_nights_10 : decode cX9_nights 10 = .ok (.invokestatic 299, 3) := dk_184 1 43 (dk_at dksX9_nights_0 10 rfl rfl)
theorem dX9_nights_13 : decode cX9_nights 13 = .ok (.ifCond .eq 31, 3) := dk_153 0 31 (dk_at dksX9_nights_0 13 rfl rfl)
theorem dX9_nights_16 : decode cX9_nights 16 = .ok (.iload_n 2, 1) := dk_28 (dk_at dksX9_nights_0 16 rfl rfl)
theorem dX9_nights_17 : decode cX9_nights 17 = .ok (.iconst 1, 1) := dk_4 (dk_at dksX9_nights_0 17 rfl rfl)
theorem dX9_nights_18 : decode cX9_nights 18 = .ok (.bipush 30, 2) := dk_16 30 (dk_at dksX9_nights_0 18 rfl rfl)
theorem dX9_nights_20 : decode cX9_nights 20 = .ok (.invokestatic 299, 3) := dk_184 1 43 (dk_at dksX9_nights_0 20 rfl rfl)
theorem dX9_nights_23 : decode cX9_nights 23 = .ok (.ifCond .eq 21, 3) := dk_153 0 21 (dk_at dksX9_nights_1 0 rfl rfl)
theorem dX9_nights_26 : decode cX9_nights 26 = .ok (.aload_n 0, 1) := dk_42 (dk_at dksX9_nights_1 3 rfl rfl)
theorem dX9_nights_27 : decode cX9_nights 27 = .ok (.iload_n 3, 1) := dk_29 (dk_at dksX9_nights_1 4 rfl rfl)
theorem dX9_nights_28 : decode cX9_nights 28 = .ok (.invokevirtual 383, 3) := dk_182 1 127 (dk_at dksX9_nights_1 5 rfl rfl)
theorem dX9_nights_31 : decode cX9_nights 31 = .ok (.ifCond .eq 13, 3) := dk_153 0 13 (dk_at dksX9_nights_1 8 rfl rfl)
theorem dX9_nights_34 : decode cX9_nights 34 = .ok (.iload 4, 2) := dk_21 4 (dk_at dksX9_nights_1 11 rfl rfl)
theorem dX9_nights_36 : decode cX9_nights 36 = .ok (.iconst 0, 1) := dk_3 (dk_at dksX9_nights_1 13 rfl rfl)
theorem dX9_nights_37 : decode cX9_nights 37 = .ok (.iconst 1, 1) := dk_4 (dk_at dksX9_nights_1 14 rfl rfl)
theorem dX9_nights_38 : decode cX9_nights 38 = .ok (.invokestatic 299, 3) := dk_184 1 43 (dk_at dksX9_nights_1 15 rfl rfl)
theorem dX9_nights_41 : decode cX9_nights 41 = .ok (.ifCond .ne 5, 3) := dk_154 0 5 (dk_at dksX9_nights_1 18 rfl rfl)
theorem dX9_nights_44 : decode cX9_nights 44 = .ok (.iconst (-1), 1) := dk_2 (dk_at dksX9_nights_1 21 rfl rfl)
theorem dX9_nights_45 : decode cX9_nights 45 = .ok (.ireturn, 1) := dk_172 (dk_at dksX9_nights_1 22 rfl rfl)
theorem dX9_nights_46 : decode cX9_nights 46 = .ok (.aload_n 0, 1) := dk_42 (dk_at dksX9_nights_1 23 rfl rfl)
theorem dX9_nights_47 : decode cX9_nights 47 = .ok (.iload_n 3, 1) := dk_29 (dk_at dksX9_nights_2 0 rfl rfl)
theorem dX9_nights_48 : decode cX9_nights 48 = .ok (.iconst 0, 1) := dk_3 (dk_at dksX9_nights_2 1 rfl rfl)
theorem dX9_nights_49 : decode cX9_nights 49 = .ok (.iconst (-1), 1) := dk_2 (dk_at dksX9_nights_2 2 rfl rfl)
theorem dX9_nights_50 : decode cX9_nights 50 = .ok (.iconst 0, 1) := dk_3 (dk_at dksX9_nights_2 3 rfl rfl)
theorem dX9_nights_51 : decode cX9_nights 51 = .ok (.invokevirtual 389, 3) := dk_182 1 133 (dk_at dksX9_nights_2 4 rfl rfl)
theorem dX9_nights_54 : decode cX9_nights 54 = .ok (.aload_n 0, 1) := dk_42 (dk_at dksX9_nights_2 7 rfl rfl)
theorem dX9_nights_55 : decode cX9_nights 55 = .ok (.iconst 0, 1) := dk_3 (dk_at dksX9_nights_2 8 rfl rfl)
theorem dX9_nights_56 : decode cX9_nights 56 = .ok (.iconst 0, 1) := dk_3 (dk_at dksX9_nights_2 9 rfl rfl)
theorem dX9_nights_57 : decode cX9_nights 57 = .ok (.iconst 0, 1) := dk_3 (dk_at dksX9_nights_2 10 rfl rfl)
theorem dX9_nights_58 : decode cX9_nights 58 = .ok (.invokevirtual 377, 3) := dk_182 1 121 (dk_at dksX9_nights_2 11 rfl rfl)
theorem dX9_nights_61 : decode cX9_nights 61 = .ok (.ifCond .ge 5, 3) := dk_156 0 5 (dk_at dksX9_nights_2 14 rfl rfl)
theorem dX9_nights_64 : decode cX9_nights 64 = .ok (.iconst (-1), 1) := dk_2 (dk_at dksX9_nights_2 17 rfl rfl)
theorem dX9_nights_65 : decode cX9_nights 65 = .ok (.ireturn, 1) := dk_172 (dk_at dksX9_nights_2 18 rfl rfl)
theorem dX9_nights_66 : decode cX9_nights 66 = .ok (.aload_n 0, 1) := dk_42 (dk_at dksX9_nights_2 19 rfl rfl)
theorem dX9_nights_67 : decode cX9_nights 67 = .ok (.iload_n 1, 1) := dk_27 (dk_at dksX9_nights_2 20 rfl rfl)
theorem dX9_nights_68 : decode cX9_nights 68 = .ok (.i2l, 1) := dk_133 (dk_at dksX9_nights_2 21 rfl rfl)
theorem dX9_nights_69 : decode cX9_nights 69 = .ok (.putfield 471, 3) := dk_181 1 215 (dk_at dksX9_nights_3 0 rfl rfl)
theorem dX9_nights_72 : decode cX9_nights 72 = .ok (.iconst 0, 1) := dk_3 (dk_at dksX9_nights_3 3 rfl rfl)
theorem dX9_nights_73 : decode cX9_nights 73 = .ok (.istore 5, 2) := dk_54 5 (dk_at dksX9_nights_3 4 rfl rfl)
theorem dX9_nights_75 : decode cX9_nights 75 = .ok (.iconst 0, 1) := dk_3 (dk_at dksX9_nights_3 6 rfl rfl)
theorem dX9_nights_76 : decode cX9_nights 76 = .ok (.istore 6, 2) := dk_54 6 (dk_at dksX9_nights_3 7 rfl rfl)
theorem dX9_nights_78 : decode cX9_nights 78 = .ok (.iconst 0, 1) := dk_3 (dk_at dksX9_nights_3 9 rfl rfl)
theorem dX9_nights_79 : decode cX9_nights 79 = .ok (.istore 7, 2) := dk_54 7 (dk_at dksX9_nights_3 10 rfl rfl)
theorem dX9_nights_81 : decode cX9_nights 81 = .ok (.iload 7, 2) := dk_21 7 (dk_at dksX9_nights_3 12 rfl rfl)
theorem dX9_nights_83 : decode cX9_nights 83 = .ok (.iload_n 2, 1) := dk_28 (dk_at dksX9_nights_3 14 rfl rfl)
theorem dX9_nights_84 : decode cX9_nights 84 = .ok (.if_icmp .ge 42, 3) := dk_162 0 42 (dk_at dksX9_nights_3 15 rfl rfl)
theorem dX9_nights_87 : decode cX9_nights 87 = .ok (.aload_n 0, 1) := dk_42 (dk_at dksX9_nights_3 18 rfl rfl)
theorem dX9_nights_88 : decode cX9_nights 88 = .ok (.invokevirtual 485, 3) := dk_182 1 229 (dk_at dksX9_nights_3 19 rfl rfl)
theorem dX9_nights_91 : decode cX9_nights 91 = .ok (.aload_n 0, 1) := dk_42 (dk_at dksX9_nights_3 22 rfl rfl)
theorem dX9_nights_92 : decode cX9_nights 92 = .ok (.invokevirtual 488, 3) := dk_182 1 232 (dk_at dksX9_nights_4 0 rfl rfl)
theorem dX9_nights_95 : decode cX9_nights 95 = .ok (.istore 8, 2) := dk_54 8 (dk_at dksX9_nights_4 3 rfl rfl)
theorem dX9_nights_97 : decode cX9_nights 97 = .ok (.iload 5, 2) := dk_21 5 (dk_at dksX9_nights_4 5 rfl rfl)
theorem dX9_nights_99 : decode cX9_nights 99 = .ok (.iload 8, 2) := dk_21 8 (dk_at dksX9_nights_4 7 rfl rfl)
theorem dX9_nights_101 : decode cX9_nights 101 = .ok (.iadd, 1) := dk_96 (dk_at dksX9_nights_4 9 rfl rfl)
theorem dX9_nights_102 : decode cX9_nights 102 = .ok (.istore 5, 2) := dk_54 5 (dk_at dksX9_nights_4 10 rfl rfl)
theorem dX9_nights_104 : decode cX9_nights 104 = .ok (.iload 8, 2) := dk_21 8 (dk_at dksX9_nights_4 12 rfl rfl)
theorem dX9_nights_106 : decode cX9_nights 106 = .ok (.iload 6, 2) := dk_21 6 (dk_at dksX9_nights_4 14 rfl rfl)
theorem dX9_nights_108 : decode cX9_nights 108 = .ok (.if_icmp .le 8, 3) := dk_164 0 8 (dk_at dksX9_nights_4 16 rfl rfl)
theorem dX9_nights_111 : decode cX9_nights 111 = .ok (.iload 8, 2) := dk_21 8 (dk_at dksX9_nights_4 19 rfl rfl)
theorem dX9_nights_113 : decode cX9_nights 113 = .ok (.goto 5, 3) := dk_167 0 5 (dk_at dksX9_nights_4 21 rfl rfl)
theorem dX9_nights_116 : decode cX9_nights 116 = .ok (.iload 6, 2) := dk_21 6 (dk_at dksX9_nights_5 0 rfl rfl)
theorem dX9_nights_118 : decode cX9_nights 118 = .ok (.istore 6, 2) := dk_54 6 (dk_at dksX9_nights_5 2 rfl rfl)
theorem dX9_nights_120 : decode cX9_nights 120 = .ok (.iinc 7 1, 3) := dk_132 7 1 (dk_at dksX9_nights_5 4 rfl rfl)
theorem dX9_nights_123 : decode cX9_nights 123 = .ok (.goto (-42), 3) := dk_167 255 214 (dk_at dksX9_nights_5 7 rfl rfl)
theorem dX9_nights_126 : decode cX9_nights 126 = .ok (.iload 4, 2) := dk_21 4 (dk_at dksX9_nights_5 10 rfl rfl)
theorem dX9_nights_128 : decode cX9_nights 128 = .ok (.ifCond .ne 8, 3) := dk_154 0 8 (dk_at dksX9_nights_5 12 rfl rfl)
theorem dX9_nights_131 : decode cX9_nights 131 = .ok (.iload 5, 2) := dk_21 5 (dk_at dksX9_nights_5 15 rfl rfl)
theorem dX9_nights_133 : decode cX9_nights 133 = .ok (.goto 5, 3) := dk_167 0 5 (dk_at dksX9_nights_5 17 rfl rfl)
theorem dX9_nights_136 : decode cX9_nights 136 = .ok (.iload 6, 2) := dk_21 6 (dk_at dksX9_nights_5 20 rfl rfl)
theorem dX9_nights_138 : decode cX9_nights 138 = .ok (.ireturn, 1) := dk_172 (dk_at dksX9_nights_5 22 rfl rfl)
abbrev cX9_draws : ByteArray := prog_23_method_110_code
def yX9_draws : MethodName := ⟨RX9, "draws", "()V"⟩
def dkwX9_draws_3 : List UInt8 := [182, 1, 226, 167, 0, 4, 3, 79, 132, 1, 1, 167, 255, 179, 177]
abbrev dktX9_draws_3 : List UInt8 := dkwX9_draws_3 ++ []
def dkwX9_draws_2 : List UInt8 := [180, 0, 144, 27, 28, 153, 0, 23, 42, 42, 27, 16, 6, 112, 27, 16, 6, 108, 4, 182, 1, 33]
abbrev dktX9_draws_2 : List UInt8 := dkwX9_draws_2 ++ dktX9_draws_3
def dkwX9_draws_1 : List UInt8 := [42, 27, 16, 6, 112, 27, 16, 6, 108, 182, 1, 46, 154, 0, 7, 4, 167, 0, 4, 3, 61, 42]
abbrev dktX9_draws_1 : List UInt8 := dkwX9_draws_1 ++ dktX9_draws_2
def dkwX9_draws_0 : List UInt8 := [3, 60, 27, 16, 54, 162, 0, 77, 42, 27, 16, 6, 112, 27, 16, 6, 108, 182, 1, 26, 4, 160, 0, 22]
abbrev dktX9_draws_0 : List UInt8 := dkwX9_draws_0 ++ dktX9_draws_1
theorem dksX9_draws_0 : cX9_draws.data.toList.drop 0 = dktX9_draws_0 := by decide +kernel
theorem dksX9_draws_1 : cX9_draws.data.toList.drop 24 = dktX9_draws_1 := dk_seg dksX9_draws_0 24 rfl rfl
theorem dksX9_draws_2 : cX9_draws.data.toList.drop 46 = dktX9_draws_2 := dk_seg dksX9_draws_1 22 rfl rfl
theorem dksX9_draws_3 : cX9_draws.data.toList.drop 68 = dktX9_draws_3 := dk_seg dksX9_draws_2 22 rfl rfl
theorem dX9_draws_0 : decode cX9_draws 0 = .ok (.iconst 0, 1) := dk_3 (dk_at dksX9_draws_0 0 rfl rfl)
theorem dX9_draws_1 : decode cX9_draws 1 = .ok (.istore_n 1, 1) := dk_60 (dk_at dksX9_draws_0 1 rfl rfl)
theorem dX9_draws_2 : decode cX9_draws 2 = .ok (.iload_n 1, 1) := dk_27 (dk_at dksX9_draws_0 2 rfl rfl)
theorem dX9_draws_3 : decode cX9_draws 3 = .ok (.bipush 54, 2) := dk_16 54 (dk_at dksX9_draws_0 3 rfl rfl)
theorem dX9_draws_5 : decode cX9_draws 5 = .ok (.if_icmp .ge 77, 3) := dk_162 0 77 (dk_at dksX9_draws_0 5 rfl rfl)
theorem dX9_draws_8 : decode cX9_draws 8 = .ok (.aload_n 0, 1) := dk_42 (dk_at dksX9_draws_0 8 rfl rfl)
theorem dX9_draws_9 : decode cX9_draws 9 = .ok (.iload_n 1, 1) := dk_27 (dk_at dksX9_draws_0 9 rfl rfl)
theorem dX9_draws_10 : decode cX9_draws 10 = .ok (.bipush 6, 2) := dk_16 6 (dk_at dksX9_draws_0 10 rfl rfl)
theorem dX9_draws_12 : decode cX9_draws 12 = .ok (.irem, 1) := dk_112 (dk_at dksX9_draws_0 12 rfl rfl)
theorem dX9_draws_13 : decode cX9_draws 13 = .ok (.iload_n 1, 1) := dk_27 (dk_at dksX9_draws_0 13 rfl rfl)
theorem dX9_draws_14 : decode cX9_draws 14 = .ok (.bipush 6, 2) := dk_16 6 (dk_at dksX9_draws_0 14 rfl rfl)
theorem dX9_draws_16 : decode cX9_draws 16 = .ok (.idiv, 1) := dk_108 (dk_at dksX9_draws_0 16 rfl rfl)
theorem dX9_draws_17 : decode cX9_draws 17 = .ok (.invokevirtual 282, 3) := dk_182 1 26 (dk_at dksX9_draws_0 17 rfl rfl)
theorem dX9_draws_20 : decode cX9_draws 20 = .ok (.iconst 1, 1) := dk_4 (dk_at dksX9_draws_0 20 rfl rfl)
theorem dX9_draws_21 : decode cX9_draws 21 = .ok (.if_icmp .ne 22, 3) := dk_160 0 22 (dk_at dksX9_draws_0 21 rfl rfl)
theorem dX9_draws_24 : decode cX9_draws 24 = .ok (.aload_n 0, 1) := dk_42 (dk_at dksX9_draws_1 0 rfl rfl)
theorem dX9_draws_25 : decode cX9_draws 25 = .ok (.iload_n 1, 1) := dk_27 (dk_at dksX9_draws_1 1 rfl rfl)
theorem dX9_draws_26 : decode cX9_draws 26 = .ok (.bipush 6, 2) := dk_16 6 (dk_at dksX9_draws_1 2 rfl rfl)
theorem dX9_draws_28 : decode cX9_draws 28 = .ok (.irem, 1) := dk_112 (dk_at dksX9_draws_1 4 rfl rfl)
theorem dX9_draws_29 : decode cX9_draws 29 = .ok (.iload_n 1, 1) := dk_27 (dk_at dksX9_draws_1 5 rfl rfl)
theorem dX9_draws_30 : decode cX9_draws 30 = .ok (.bipush 6, 2) := dk_16 6 (dk_at dksX9_draws_1 6 rfl rfl)
theorem dX9_draws_32 : decode cX9_draws 32 = .ok (.idiv, 1) := dk_108 (dk_at dksX9_draws_1 8 rfl rfl)
theorem dX9_draws_33 : decode cX9_draws 33 = .ok (.invokevirtual 302, 3) := dk_182 1 46 (dk_at dksX9_draws_1 9 rfl rfl)
theorem dX9_draws_36 : decode cX9_draws 36 = .ok (.ifCond .ne 7, 3) := dk_154 0 7 (dk_at dksX9_draws_1 12 rfl rfl)
theorem dX9_draws_39 : decode cX9_draws 39 = .ok (.iconst 1, 1) := dk_4 (dk_at dksX9_draws_1 15 rfl rfl)
theorem dX9_draws_40 : decode cX9_draws 40 = .ok (.goto 4, 3) := dk_167 0 4 (dk_at dksX9_draws_1 16 rfl rfl)
theorem dX9_draws_43 : decode cX9_draws 43 = .ok (.iconst 0, 1) := dk_3 (dk_at dksX9_draws_1 19 rfl rfl)
theorem dX9_draws_44 : decode cX9_draws 44 = .ok (.istore_n 2, 1) := dk_61 (dk_at dksX9_draws_1 20 rfl rfl)
theorem dX9_draws_45 : decode cX9_draws 45 = .ok (.aload_n 0, 1) := dk_42 (dk_at dksX9_draws_1 21 rfl rfl)
theorem dX9_draws_46 : decode cX9_draws 46 = .ok (.getfield 144, 3) := dk_180 0 144 (dk_at dksX9_draws_2 0 rfl rfl)
theorem dX9_draws_49 : decode cX9_draws 49 = .ok (.iload_n 1, 1) := dk_27 (dk_at dksX9_draws_2 3 rfl rfl)
theorem dX9_draws_50 : decode cX9_draws 50 = .ok (.iload_n 2, 1) := dk_28 (dk_at dksX9_draws_2 4 rfl rfl)
theorem dX9_draws_51 : decode cX9_draws 51 = .ok (.ifCond .eq 23, 3) := dk_153 0 23 (dk_at dksX9_draws_2 5 rfl rfl)
theorem dX9_draws_54 : decode cX9_draws 54 = .ok (.aload_n 0, 1) := dk_42 (dk_at dksX9_draws_2 8 rfl rfl)
theorem dX9_draws_55 : decode cX9_draws 55 = .ok (.aload_n 0, 1) := dk_42 (dk_at dksX9_draws_2 9 rfl rfl)
theorem dX9_draws_56 : decode cX9_draws 56 = .ok (.iload_n 1, 1) := dk_27 (dk_at dksX9_draws_2 10 rfl rfl)
theorem dX9_draws_57 : decode cX9_draws 57 = .ok (.bipush 6, 2) := dk_16 6 (dk_at dksX9_draws_2 11 rfl rfl)
theorem dX9_draws_59 : decode cX9_draws 59 = .ok (.irem, 1) := dk_112 (dk_at dksX9_draws_2 13 rfl rfl)
theorem dX9_draws_60 : decode cX9_draws 60 = .ok (.iload_n 1, 1) := dk_27 (dk_at dksX9_draws_2 14 rfl rfl)
theorem dX9_draws_61 : decode cX9_draws 61 = .ok (.bipush 6, 2) := dk_16 6 (dk_at dksX9_draws_2 15 rfl rfl)
theorem dX9_draws_63 : decode cX9_draws 63 = .ok (.idiv, 1) := dk_108 (dk_at dksX9_draws_2 17 rfl rfl)
theorem dX9_draws_64 : decode cX9_draws 64 = .ok (.iconst 1, 1) := dk_4 (dk_at dksX9_draws_2 18 rfl rfl)
theorem dX9_draws_65 : decode cX9_draws 65 = .ok (.invokevirtual 289, 3) := dk_182 1 33 (dk_at dksX9_draws_2 19 rfl rfl)
theorem dX9_draws_68 : decode cX9_draws 68 = .ok (.invokevirtual 482, 3) := dk_182 1 226 (dk_at dksX9_draws_3 0 rfl rfl)
theorem dX9_draws_71 : decode cX9_draws 71 = .ok (.goto 4, 3) := dk_167 0 4 (dk_at dksX9_draws_3 3 rfl rfl)
theorem dX9_draws_74 : decode cX9_draws 74 = .ok (.iconst 0, 1) := dk_3 (dk_at dksX9_draws_3 6 rfl rfl)
theorem dX9_draws_75 : decode cX9_draws 75 = .ok (.iastore, 1) := dk_79 (dk_at dksX9_draws_3 7 rfl rfl)
theorem dX9_draws_76 : decode cX9_draws 76 = .ok (.iinc 1 1, 3) := dk_132 1 1 (dk_at dksX9_draws_3 8 rfl rfl)
theorem dX9_draws_79 : decode cX9_draws 79 = .ok (.goto (-77), 3) := dk_167 255 179 (dk_at dksX9_draws_3 11 rfl rfl)
theorem dX9_draws_82 : decode cX9_draws 82 = .ok (.return_, 1) := dk_177 (dk_at dksX9_draws_3 14 rfl rfl)
abbrev cX9_draw : ByteArray := prog_23_method_109_code
def yX9_draw : MethodName := ⟨RX9, "draw", "(I)I"⟩
def dkwX9_draw_1 : List UInt8 := [20, 1, 224, 109, 27, 133, 113, 136, 172]
abbrev dktX9_draw_1 : List UInt8 := dkwX9_draw_1 ++ []
def dkwX9_draw_0 : List UInt8 := [42, 42, 180, 1, 215, 20, 1, 218, 105, 20, 1, 220, 97, 20, 1, 222, 113, 181, 1, 215, 42, 180, 1, 215]
abbrev dktX9_draw_0 : List UInt8 := dkwX9_draw_0 ++ dktX9_draw_1
theorem dksX9_draw_0 : cX9_draw.data.toList.drop 0 = dktX9_draw_0 := by decide +kernel
theorem dksX9_draw_1 : cX9_draw.data.toList.drop 24 = dktX9_draw_1 := dk_seg dksX9_draw_0 24 rfl rfl
theorem dX9_draw_0 : decode cX9_draw 0 = .ok (.aload_n 0, 1) := dk_42 (dk_at dksX9_draw_0 0 rfl rfl)
theorem dX9_draw_1 : decode cX9_draw 1 = .ok (.aload_n 0, 1) := dk_42 (dk_at dksX9_draw_0 1 rfl rfl)
theorem dX9_draw_2 : decode cX9_draw 2 = .ok (.getfield 471, 3) := dk_180 1 215 (dk_at dksX9_draw_0 2 rfl rfl)
theorem dX9_draw_5 : decode cX9_draw 5 = .ok (.ldc2_w 474, 3) := dk_20 1 218 (dk_at dksX9_draw_0 5 rfl rfl)
theorem dX9_draw_8 : decode cX9_draw 8 = .ok (.lmul, 1) := dk_105 (dk_at dksX9_draw_0 8 rfl rfl)
theorem dX9_draw_9 : decode cX9_draw 9 = .ok (.ldc2_w 476, 3) := dk_20 1 220 (dk_at dksX9_draw_0 9 rfl rfl)
theorem dX9_draw_12 : decode cX9_draw 12 = .ok (.ladd, 1) := dk_97 (dk_at dksX9_draw_0 12 rfl rfl)
theorem dX9_draw_13 : decode cX9_draw 13 = .ok (.ldc2_w 478, 3) := dk_20 1 222 (dk_at dksX9_draw_0 13 rfl rfl)
theorem dX9_draw_16 : decode cX9_draw 16 = .ok (.lrem, 1) := dk_113 (dk_at dksX9_draw_0 16 rfl rfl)
theorem dX9_draw_17 : decode cX9_draw 17 = .ok (.putfield 471, 3) := dk_181 1 215 (dk_at dksX9_draw_0 17 rfl rfl)
theorem dX9_draw_20 : decode cX9_draw 20 = .ok (.aload_n 0, 1) := dk_42 (dk_at dksX9_draw_0 20 rfl rfl)
theorem dX9_draw_21 : decode cX9_draw 21 = .ok (.getfield 471, 3) := dk_180 1 215 (dk_at dksX9_draw_0 21 rfl rfl)
theorem dX9_draw_24 : decode cX9_draw 24 = .ok (.ldc2_w 480, 3) := dk_20 1 224 (dk_at dksX9_draw_1 0 rfl rfl)
theorem dX9_draw_27 : decode cX9_draw 27 = .ok (.ldiv, 1) := dk_109 (dk_at dksX9_draw_1 3 rfl rfl)
theorem dX9_draw_28 : decode cX9_draw 28 = .ok (.iload_n 1, 1) := dk_27 (dk_at dksX9_draw_1 4 rfl rfl)
theorem dX9_draw_29 : decode cX9_draw 29 = .ok (.i2l, 1) := dk_133 (dk_at dksX9_draw_1 5 rfl rfl)
theorem dX9_draw_30 : decode cX9_draw 30 = .ok (.lrem, 1) := dk_113 (dk_at dksX9_draw_1 6 rfl rfl)
theorem dX9_draw_31 : decode cX9_draw 31 = .ok (.l2i, 1) := dk_136 (dk_at dksX9_draw_1 7 rfl rfl)
theorem dX9_draw_32 : decode cX9_draw 32 = .ok (.ireturn, 1) := dk_172 (dk_at dksX9_draw_1 8 rfl rfl)
abbrev cX9_night : ByteArray := prog_23_method_111_code
def yX9_night : MethodName := ⟨RX9, "night", "()I"⟩
def dkwX9_night_3 : List UInt8 := [21, 5, 100, 96, 60, 28, 21, 5, 96, 61, 167, 255, 181, 29, 172]
abbrev dktX9_night_3 : List UInt8 := dkwX9_night_3 ++ []
def dkwX9_night_2 : List UInt8 := [54, 5, 29, 42, 27, 28, 21, 5, 21, 4, 182, 1, 59, 42, 180, 0, 81, 5, 46, 96, 96, 62, 27, 4]
abbrev dktX9_night_2 : List UInt8 := dkwX9_night_2 ++ dktX9_night_3
def dkwX9_night_1 : List UInt8 := [27, 96, 46, 96, 54, 4, 42, 27, 28, 29, 42, 180, 0, 81, 16, 9, 46, 112, 21, 4, 182, 1, 115]
abbrev dktX9_night_1 : List UInt8 := dkwX9_night_1 ++ dktX9_night_2
def dkwX9_night_0 : List UInt8 := [3, 60, 3, 61, 3, 62, 42, 27, 28, 182, 1, 79, 154, 0, 72, 29, 42, 180, 0, 144, 16, 6, 28, 104]
abbrev dktX9_night_0 : List UInt8 := dkwX9_night_0 ++ dktX9_night_1
theorem dksX9_night_0 : cX9_night.data.toList.drop 0 = dktX9_night_0 := by decide +kernel
theorem dksX9_night_1 : cX9_night.data.toList.drop 24 = dktX9_night_1 := dk_seg dksX9_night_0 24 rfl rfl
theorem dksX9_night_2 : cX9_night.data.toList.drop 47 = dktX9_night_2 := dk_seg dksX9_night_1 23 rfl rfl
theorem dksX9_night_3 : cX9_night.data.toList.drop 71 = dktX9_night_3 := dk_seg dksX9_night_2 24 rfl rfl
theorem dX9_night_0 : decode cX9_night 0 = .ok (.iconst 0, 1) := dk_3 (dk_at dksX9_night_0 0 rfl rfl)
theorem dX9_night_1 : decode cX9_night 1 = .ok (.istore_n 1, 1) := dk_60 (dk_at dksX9_night_0 1 rfl rfl)
theorem dX9_night_2 : decode cX9_night 2 = .ok (.iconst 0, 1) := dk_3 (dk_at dksX9_night_0 2 rfl rfl)
theorem dX9_night_3 : decode cX9_night 3 = .ok (.istore_n 2, 1) := dk_61 (dk_at dksX9_night_0 3 rfl rfl)
theorem dX9_night_4 : decode cX9_night 4 = .ok (.iconst 0, 1) := dk_3 (dk_at dksX9_night_0 4 rfl rfl)
theorem dX9_night_5 : decode cX9_night 5 = .ok (.istore_n 3, 1) := dk_62 (dk_at dksX9_night_0 5 rfl rfl)
theorem dX9_night_6 : decode cX9_night 6 = .ok (.aload_n 0, 1) := dk_42 (dk_at dksX9_night_0 6 rfl rfl)
theorem dX9_night_7 : decode cX9_night 7 = .ok (.iload_n 1, 1) := dk_27 (dk_at dksX9_night_0 7 rfl rfl)
theorem dX9_night_8 : decode cX9_night 8 = .ok (.iload_n 2, 1) := dk_28 (dk_at dksX9_night_0 8 rfl rfl)
theorem dX9_night_9 : decode cX9_night 9 = .ok (.invokevirtual 335, 3) := dk_182 1 79 (dk_at dksX9_night_0 9 rfl rfl)
theorem dX9_night_12 : decode cX9_night 12 = .ok (.ifCond .ne 72, 3) := dk_154 0 72 (dk_at dksX9_night_0 12 rfl rfl)
theorem dX9_night_15 : decode cX9_night 15 = .ok (.iload_n 3, 1) := dk_29 (dk_at dksX9_night_0 15 rfl rfl)
theorem dX9_night_16 : decode cX9_night 16 = .ok (.aload_n 0, 1) := dk_42 (dk_at dksX9_night_0 16 rfl rfl)
theorem dX9_night_17 : decode cX9_night 17 = .ok (.getfield 144, 3) := dk_180 0 144 (dk_at dksX9_night_0 17 rfl rfl)
theorem dX9_night_20 : decode cX9_night 20 = .ok (.bipush 6, 2) := dk_16 6 (dk_at dksX9_night_0 20 rfl rfl)
theorem dX9_night_22 : decode cX9_night 22 = .ok (.iload_n 2, 1) := dk_28 (dk_at dksX9_night_0 22 rfl rfl)
theorem dX9_night_23 : decode cX9_night 23 = .ok (.imul, 1) := dk_104 (dk_at dksX9_night_0 23 rfl rfl)
theorem dX9_night_24 : decode cX9_night 24 = .ok (.iload_n 1, 1) := dk_27 (dk_at dksX9_night_1 0 rfl rfl)
theorem dX9_night_25 : decode cX9_night 25 = .ok (.iadd, 1) := dk_96 (dk_at dksX9_night_1 1 rfl rfl)
theorem dX9_night_26 : decode cX9_night 26 = .ok (.iaload, 1) := dk_46 (dk_at dksX9_night_1 2 rfl rfl)
theorem dX9_night_27 : decode cX9_night 27 = .ok (.iadd, 1) := dk_96 (dk_at dksX9_night_1 3 rfl rfl)
theorem dX9_night_28 : decode cX9_night 28 = .ok (.istore 4, 2) := dk_54 4 (dk_at dksX9_night_1 4 rfl rfl)
theorem dX9_night_30 : decode cX9_night 30 = .ok (.aload_n 0, 1) := dk_42 (dk_at dksX9_night_1 6 rfl rfl)
theorem dX9_night_31 : decode cX9_night 31 = .ok (.iload_n 1, 1) := dk_27 (dk_at dksX9_night_1 7 rfl rfl)
theorem dX9_night_32 : decode cX9_night 32 = .ok (.iload_n 2, 1) := dk_28 (dk_at dksX9_night_1 8 rfl rfl)
theorem dX9_night_33 : decode cX9_night 33 = .ok (.iload_n 3, 1) := dk_29 (dk_at dksX9_night_1 9 rfl rfl)
theorem dX9_night_34 : decode cX9_night 34 = .ok (.aload_n 0, 1) := dk_42 (dk_at dksX9_night_1 10 rfl rfl)
theorem dX9_night_35 : decode cX9_night 35 = .ok (.getfield 81, 3) := dk_180 0 81 (dk_at dksX9_night_1 11 rfl rfl)
theorem dX9_night_38 : decode cX9_night 38 = .ok (.bipush 9, 2) := dk_16 9 (dk_at dksX9_night_1 14 rfl rfl)
theorem dX9_night_40 : decode cX9_night 40 = .ok (.iaload, 1) := dk_46 (dk_at dksX9_night_1 16 rfl rfl)
theorem dX9_night_41 : decode cX9_night 41 = .ok (.irem, 1) := dk_112 (dk_at dksX9_night_1 17 rfl rfl)
theorem dX9_night_42 : decode cX9_night 42 = .ok (.iload 4, 2) := dk_21 4 (dk_at dksX9_night_1 18 rfl rfl)
theorem dX9_night_44 : decode cX9_night 44 = .ok (.invokevirtual 371, 3) := dk_182 1 115 (dk_at dksX9_night_1 20 rfl rfl)
theorem dX9_night_47 : decode cX9_night 47 = .ok (.istore 5, 2) := dk_54 5 (dk_at dksX9_night_2 0 rfl rfl)
theorem dX9_night_49 : decode cX9_night 49 = .ok (.iload_n 3, 1) := dk_29 (dk_at dksX9_night_2 2 rfl rfl)
theorem dX9_night_50 : decode cX9_night 50 = .ok (.aload_n 0, 1) := dk_42 (dk_at dksX9_night_2 3 rfl rfl)
theorem dX9_night_51 : decode cX9_night 51 = .ok (.iload_n 1, 1) := dk_27 (dk_at dksX9_night_2 4 rfl rfl)
theorem dX9_night_52 : decode cX9_night 52 = .ok (.iload_n 2, 1) := dk_28 (dk_at dksX9_night_2 5 rfl rfl)
theorem dX9_night_53 : decode cX9_night 53 = .ok (.iload 5, 2) := dk_21 5 (dk_at dksX9_night_2 6 rfl rfl)
theorem dX9_night_55 : decode cX9_night 55 = .ok (.iload 4, 2) := dk_21 4 (dk_at dksX9_night_2 8 rfl rfl)
theorem dX9_night_57 : decode cX9_night 57 = .ok (.invokevirtual 315, 3) := dk_182 1 59 (dk_at dksX9_night_2 10 rfl rfl)
theorem dX9_night_60 : decode cX9_night 60 = .ok (.aload_n 0, 1) := dk_42 (dk_at dksX9_night_2 13 rfl rfl)
theorem dX9_night_61 : decode cX9_night 61 = .ok (.getfield 81, 3) := dk_180 0 81 (dk_at dksX9_night_2 14 rfl rfl)
theorem dX9_night_64 : decode cX9_night 64 = .ok (.iconst 2, 1) := dk_5 (dk_at dksX9_night_2 17 rfl rfl)
theorem dX9_night_65 : decode cX9_night 65 = .ok (.iaload, 1) := dk_46 (dk_at dksX9_night_2 18 rfl rfl)
theorem dX9_night_66 : decode cX9_night 66 = .ok (.iadd, 1) := dk_96 (dk_at dksX9_night_2 19 rfl rfl)
theorem dX9_night_67 : decode cX9_night 67 = .ok (.iadd, 1) := dk_96 (dk_at dksX9_night_2 20 rfl rfl)
theorem dX9_night_68 : decode cX9_night 68 = .ok (.istore_n 3, 1) := dk_62 (dk_at dksX9_night_2 21 rfl rfl)
theorem dX9_night_69 : decode cX9_night 69 = .ok (.iload_n 1, 1) := dk_27 (dk_at dksX9_night_2 22 rfl rfl)
theorem dX9_night_70 : decode cX9_night 70 = .ok (.iconst 1, 1) := dk_4 (dk_at dksX9_night_2 23 rfl rfl)
theorem dX9_night_71 : decode cX9_night 71 = .ok (.iload 5, 2) := dk_21 5 (dk_at dksX9_night_3 0 rfl rfl)
theorem dX9_night_73 : decode cX9_night 73 = .ok (.isub, 1) := dk_100 (dk_at dksX9_night_3 2 rfl rfl)
theorem dX9_night_74 : decode cX9_night 74 = .ok (.iadd, 1) := dk_96 (dk_at dksX9_night_3 3 rfl rfl)
theorem dX9_night_75 : decode cX9_night 75 = .ok (.istore_n 1, 1) := dk_60 (dk_at dksX9_night_3 4 rfl rfl)
theorem dX9_night_76 : decode cX9_night 76 = .ok (.iload_n 2, 1) := dk_28 (dk_at dksX9_night_3 5 rfl rfl)
theorem dX9_night_77 : decode cX9_night 77 = .ok (.iload 5, 2) := dk_21 5 (dk_at dksX9_night_3 6 rfl rfl)
theorem dX9_night_79 : decode cX9_night 79 = .ok (.iadd, 1) := dk_96 (dk_at dksX9_night_3 8 rfl rfl)
theorem dX9_night_80 : decode cX9_night 80 = .ok (.istore_n 2, 1) := dk_61 (dk_at dksX9_night_3 9 rfl rfl)
theorem dX9_night_81 : decode cX9_night 81 = .ok (.goto (-75), 3) := dk_167 255 181 (dk_at dksX9_night_3 10 rfl rfl)
theorem dX9_night_84 : decode cX9_night 84 = .ok (.iload_n 3, 1) := dk_29 (dk_at dksX9_night_3 13 rfl rfl)
theorem dX9_night_85 : decode cX9_night 85 = .ok (.ireturn, 1) := dk_172 (dk_at dksX9_night_3 14 rfl rfl)
abbrev cX9_mark : ByteArray := prog_23_method_113_code
def yX9_mark : MethodName := ⟨RX9, "mark", "(IZ)Z"⟩
def dkwX9_mark_3 : List UInt8 := [167, 0, 7, 42, 180, 1, 63, 181, 1, 63, 42, 89, 180, 1, 66, 4, 96, 181, 1, 66, 4, 172]
abbrev dktX9_mark_3 : List UInt8 := dkwX9_mark_3 ++ []
def dkwX9_mark_2 : List UInt8 := [28, 153, 0, 7, 3, 167, 0, 6, 4, 27, 96, 16, 120, 182, 1, 69, 42, 28, 153, 0, 7, 3]
abbrev dktX9_mark_2 : List UInt8 := dkwX9_mark_2 ++ dktX9_mark_3
def dkwX9_mark_1 : List UInt8 := [154, 0, 5, 3, 172, 42, 180, 0, 105, 27, 4, 84, 42, 28, 153, 0, 9, 4, 27, 96, 167, 0, 4, 3]
abbrev dktX9_mark_1 : List UInt8 := dkwX9_mark_1 ++ dktX9_mark_2
def dkwX9_mark_0 : List UInt8 := [42, 3, 181, 0, 1, 27, 3, 6, 184, 1, 43, 153, 0, 16, 28, 153, 0, 14, 42, 180, 0, 105, 27, 51]
abbrev dktX9_mark_0 : List UInt8 := dkwX9_mark_0 ++ dktX9_mark_1
theorem dksX9_mark_0 : cX9_mark.data.toList.drop 0 = dktX9_mark_0 := by decide +kernel
theorem dksX9_mark_1 : cX9_mark.data.toList.drop 24 = dktX9_mark_1 := dk_seg dksX9_mark_0 24 rfl rfl
theorem dksX9_mark_2 : cX9_mark.data.toList.drop 48 = dktX9_mark_2 := dk_seg dksX9_mark_1 24 rfl rfl
theorem dksX9_mark_3 : cX9_mark.data.toList.drop 70 = dktX9_mark_3 := dk_seg dksX9_mark_2 22 rfl rfl
theorem dX9_mark_0 : decode cX9_mark 0 = .ok (.aload_n 0, 1) := dk_42 (dk_at dksX9_mark_0 0 rfl rfl)
theorem dX9_mark_1 : decode cX9_mark 1 = .ok (.iconst 0, 1) := dk_3 (dk_at dksX9_mark_0 1 rfl rfl)
theorem dX9_mark_2 : decode cX9_mark 2 = .ok (.putfield 1, 3) := dk_181 0 1 (dk_at dksX9_mark_0 2 rfl rfl)
theorem dX9_mark_5 : decode cX9_mark 5 = .ok (.iload_n 1, 1) := dk_27 (dk_at dksX9_mark_0 5 rfl rfl)
theorem dX9_mark_6 : decode cX9_mark 6 = .ok (.iconst 0, 1) := dk_3 (dk_at dksX9_mark_0 6 rfl rfl)
theorem dX9_mark_7 : decode cX9_mark 7 = .ok (.iconst 3, 1) := dk_6 (dk_at dksX9_mark_0 7 rfl rfl)
theorem dX9_mark_8 : decode cX9_mark 8 = .ok (.invokestatic 299, 3) := dk_184 1 43 (dk_at dksX9_mark_0 8 rfl rfl)
theorem dX9_mark_11 : decode cX9_mark 11 = .ok (.ifCond .eq 16, 3) := dk_153 0 16 (dk_at dksX9_mark_0 11 rfl rfl)
theorem dX9_mark_14 : decode cX9_mark 14 = .ok (.iload_n 2, 1) := dk_28 (dk_at dksX9_mark_0 14 rfl rfl)
theorem dX9_mark_15 : decode cX9_mark 15 = .ok (.ifCond .eq 14, 3) := dk_153 0 14 (dk_at dksX9_mark_0 15 rfl rfl)
theorem dX9_mark_18 : decode cX9_mark 18 = .ok (.aload_n 0, 1) := dk_42 (dk_at dksX9_mark_0 18 rfl rfl)
theorem dX9_mark_19 : decode cX9_mark 19 = .ok (.getfield 105, 3) := dk_180 0 105 (dk_at dksX9_mark_0 19 rfl rfl)
theorem dX9_mark_22 : decode cX9_mark 22 = .ok (.iload_n 1, 1) := dk_27 (dk_at dksX9_mark_0 22 rfl rfl)
theorem dX9_mark_23 : decode cX9_mark 23 = .ok (.baload, 1) := dk_51 (dk_at dksX9_mark_0 23 rfl rfl)
theorem dX9_mark_24 : decode cX9_mark 24 = .ok (.ifCond .ne 5, 3) := dk_154 0 5 (dk_at dksX9_mark_1 0 rfl rfl)
theorem dX9_mark_27 : decode cX9_mark 27 = .ok (.iconst 0, 1) := dk_3 (dk_at dksX9_mark_1 3 rfl rfl)
theorem dX9_mark_28 : decode cX9_mark 28 = .ok (.ireturn, 1) := dk_172 (dk_at dksX9_mark_1 4 rfl rfl)
theorem dX9_mark_29 : decode cX9_mark 29 = .ok (.aload_n 0, 1) := dk_42 (dk_at dksX9_mark_1 5 rfl rfl)
theorem dX9_mark_30 : decode cX9_mark 30 = .ok (.getfield 105, 3) := dk_180 0 105 (dk_at dksX9_mark_1 6 rfl rfl)
theorem dX9_mark_33 : decode cX9_mark 33 = .ok (.iload_n 1, 1) := dk_27 (dk_at dksX9_mark_1 9 rfl rfl)
theorem dX9_mark_34 : decode cX9_mark 34 = .ok (.iconst 1, 1) := dk_4 (dk_at dksX9_mark_1 10 rfl rfl)
theorem dX9_mark_35 : decode cX9_mark 35 = .ok (.bastore, 1) := dk_84 (dk_at dksX9_mark_1 11 rfl rfl)
theorem dX9_mark_36 : decode cX9_mark 36 = .ok (.aload_n 0, 1) := dk_42 (dk_at dksX9_mark_1 12 rfl rfl)
theorem dX9_mark_37 : decode cX9_mark 37 = .ok (.iload_n 2, 1) := dk_28 (dk_at dksX9_mark_1 13 rfl rfl)
theorem dX9_mark_38 : decode cX9_mark 38 = .ok (.ifCond .eq 9, 3) := dk_153 0 9 (dk_at dksX9_mark_1 14 rfl rfl)
theorem dX9_mark_41 : decode cX9_mark 41 = .ok (.iconst 1, 1) := dk_4 (dk_at dksX9_mark_1 17 rfl rfl)
theorem dX9_mark_42 : decode cX9_mark 42 = .ok (.iload_n 1, 1) := dk_27 (dk_at dksX9_mark_1 18 rfl rfl)
theorem dX9_mark_43 : decode cX9_mark 43 = .ok (.iadd, 1) := dk_96 (dk_at dksX9_mark_1 19 rfl rfl)
theorem dX9_mark_44 : decode cX9_mark 44 = .ok (.goto 4, 3) := dk_167 0 4 (dk_at dksX9_mark_1 20 rfl rfl)
theorem dX9_mark_47 : decode cX9_mark 47 = .ok (.iconst 0, 1) := dk_3 (dk_at dksX9_mark_1 23 rfl rfl)
theorem dX9_mark_48 : decode cX9_mark 48 = .ok (.iload_n 2, 1) := dk_28 (dk_at dksX9_mark_2 0 rfl rfl)
theorem dX9_mark_49 : decode cX9_mark 49 = .ok (.ifCond .eq 7, 3) := dk_153 0 7 (dk_at dksX9_mark_2 1 rfl rfl)
theorem dX9_mark_52 : decode cX9_mark 52 = .ok (.iconst 0, 1) := dk_3 (dk_at dksX9_mark_2 4 rfl rfl)
theorem dX9_mark_53 : decode cX9_mark 53 = .ok (.goto 6, 3) := dk_167 0 6 (dk_at dksX9_mark_2 5 rfl rfl)
theorem dX9_mark_56 : decode cX9_mark 56 = .ok (.iconst 1, 1) := dk_4 (dk_at dksX9_mark_2 8 rfl rfl)
theorem dX9_mark_57 : decode cX9_mark 57 = .ok (.iload_n 1, 1) := dk_27 (dk_at dksX9_mark_2 9 rfl rfl)
theorem dX9_mark_58 : decode cX9_mark 58 = .ok (.iadd, 1) := dk_96 (dk_at dksX9_mark_2 10 rfl rfl)
theorem dX9_mark_59 : decode cX9_mark 59 = .ok (.bipush 120, 2) := dk_16 120 (dk_at dksX9_mark_2 11 rfl rfl)
theorem dX9_mark_61 : decode cX9_mark 61 = .ok (.invokevirtual 325, 3) := dk_182 1 69 (dk_at dksX9_mark_2 13 rfl rfl)
theorem dX9_mark_64 : decode cX9_mark 64 = .ok (.aload_n 0, 1) := dk_42 (dk_at dksX9_mark_2 16 rfl rfl)
theorem dX9_mark_65 : decode cX9_mark 65 = .ok (.iload_n 2, 1) := dk_28 (dk_at dksX9_mark_2 17 rfl rfl)
theorem dX9_mark_66 : decode cX9_mark 66 = .ok (.ifCond .eq 7, 3) := dk_153 0 7 (dk_at dksX9_mark_2 18 rfl rfl)
theorem dX9_mark_69 : decode cX9_mark 69 = .ok (.iconst 0, 1) := dk_3 (dk_at dksX9_mark_2 21 rfl rfl)
theorem dX9_mark_70 : decode cX9_mark 70 = .ok (.goto 7, 3) := dk_167 0 7 (dk_at dksX9_mark_3 0 rfl rfl)
theorem dX9_mark_73 : decode cX9_mark 73 = .ok (.aload_n 0, 1) := dk_42 (dk_at dksX9_mark_3 3 rfl rfl)
theorem dX9_mark_74 : decode cX9_mark 74 = .ok (.getfield 319, 3) := dk_180 1 63 (dk_at dksX9_mark_3 4 rfl rfl)
theorem dX9_mark_77 : decode cX9_mark 77 = .ok (.putfield 319, 3) := dk_181 1 63 (dk_at dksX9_mark_3 7 rfl rfl)
theorem dX9_mark_80 : decode cX9_mark 80 = .ok (.aload_n 0, 1) := dk_42 (dk_at dksX9_mark_3 10 rfl rfl)
theorem dX9_mark_81 : decode cX9_mark 81 = .ok (.dup, 1) := dk_89 (dk_at dksX9_mark_3 11 rfl rfl)
theorem dX9_mark_82 : decode cX9_mark 82 = .ok (.getfield 322, 3) := dk_180 1 66 (dk_at dksX9_mark_3 12 rfl rfl)
theorem dX9_mark_85 : decode cX9_mark 85 = .ok (.iconst 1, 1) := dk_4 (dk_at dksX9_mark_3 15 rfl rfl)
theorem dX9_mark_86 : decode cX9_mark 86 = .ok (.iadd, 1) := dk_96 (dk_at dksX9_mark_3 16 rfl rfl)
theorem dX9_mark_87 : decode cX9_mark 87 = .ok (.putfield 322, 3) := dk_181 1 66 (dk_at dksX9_mark_3 17 rfl rfl)
theorem dX9_mark_90 : decode cX9_mark 90 = .ok (.iconst 1, 1) := dk_4 (dk_at dksX9_mark_3 20 rfl rfl)
theorem dX9_mark_91 : decode cX9_mark 91 = .ok (.ireturn, 1) := dk_172 (dk_at dksX9_mark_3 21 rfl rfl)
abbrev cX9_count : ByteArray := prog_23_method_114_code
def yX9_count : MethodName := ⟨RX9, "count", "(I)I"⟩
def dkwX9_count_9 : List UInt8 := [172, 2, 172]
abbrev dktX9_count_9 : List UInt8 := dkwX9_count_9 ++ []
def dkwX9_count_8 : List UInt8 := [180, 0, 102, 16, 59, 46, 172, 42, 180, 0, 81, 16, 9, 46, 172, 42, 180, 1, 63, 172, 42, 180, 0, 11]
abbrev dktX9_count_8 : List UInt8 := dkwX9_count_8 ++ dktX9_count_9
def dkwX9_count_7 : List UInt8 := [180, 0, 81, 8, 46, 42, 180, 0, 102, 6, 46, 100, 172, 28, 172, 42, 180, 0, 102, 16, 58, 46, 172, 42]
abbrev dktX9_count_7 : List UInt8 := dkwX9_count_7 ++ dktX9_count_8
def dkwX9_count_6 : List UInt8 := [180, 0, 102, 5, 46, 172, 42, 180, 0, 81, 16, 6, 46, 4, 160, 0, 7, 3, 167, 0, 16, 42]
abbrev dktX9_count_6 : List UInt8 := dkwX9_count_6 ++ dktX9_count_7
def dkwX9_count_5 : List UInt8 := [46, 172, 42, 180, 0, 93, 3, 46, 172, 42, 180, 0, 102, 3, 46, 172, 42, 180, 0, 102, 4, 46, 172, 42]
abbrev dktX9_count_5 : List UInt8 := dkwX9_count_5 ++ dktX9_count_6
def dkwX9_count_4 : List UInt8 := [42, 182, 1, 19, 172, 42, 182, 1, 23, 172, 42, 180, 0, 81, 16, 7, 46, 172, 42, 180, 0, 81, 16, 8]
abbrev dktX9_count_4 : List UInt8 := dkwX9_count_4 ++ dktX9_count_5
def dkwX9_count_3 : List UInt8 := [170, 0, 0, 0, 0, 0, 194, 0, 0, 0, 0, 0, 0, 0, 14, 0, 0, 0, 75, 0, 0, 0, 80, 0, 0, 0, 85, 0, 0, 0, 93, 0, 0, 0, 101, 0, 0, 0, 108, 0, 0, 0, 115, 0, 0, 0, 122, 0, 0, 0, 129, 0, 0, 0, 158, 0, 0, 0, 160, 0, 0, 0, 168, 0, 0, 0, 176, 0, 0, 0, 184, 0, 0, 0, 189]
abbrev dktX9_count_3 : List UInt8 := dkwX9_count_3 ++ dktX9_count_4
def dkwX9_count_2 : List UInt8 := [167, 0, 4, 3, 96, 61, 132, 3, 1, 167, 255, 208, 27]
abbrev dktX9_count_2 : List UInt8 := dkwX9_count_2 ++ dktX9_count_3
def dkwX9_count_1 : List UInt8 := [108, 182, 1, 26, 4, 160, 0, 22, 42, 29, 16, 6, 112, 29, 16, 6, 108, 182, 1, 46, 154, 0, 7, 4]
abbrev dktX9_count_1 : List UInt8 := dkwX9_count_1 ++ dktX9_count_2
def dkwX9_count_0 : List UInt8 := [42, 3, 181, 0, 1, 3, 61, 3, 62, 29, 16, 54, 162, 0, 48, 28, 42, 29, 16, 6, 112, 29, 16, 6]
abbrev dktX9_count_0 : List UInt8 := dkwX9_count_0 ++ dktX9_count_1
theorem dksX9_count_0 : cX9_count.data.toList.drop 0 = dktX9_count_0 := by decide +kernel
theorem dksX9_count_1 : cX9_count.data.toList.drop 24 = dktX9_count_1 := dk_seg dksX9_count_0 24 rfl rfl
theorem dksX9_count_2 : cX9_count.data.toList.drop 48 = dktX9_count_2 := dk_seg dksX9_count_1 24 rfl rfl
theorem dksX9_count_3 : cX9_count.data.toList.drop 61 = dktX9_count_3 := dk_seg dksX9_count_2 13 rfl rfl
theorem dksX9_count_4 : cX9_count.data.toList.drop 136 = dktX9_count_4 := dk_seg dksX9_count_3 75 rfl rfl
theorem dksX9_count_5 : cX9_count.data.toList.drop 160 = dktX9_count_5 := dk_seg dksX9_count_4 24 rfl rfl
theorem dksX9_count_6 : cX9_count.data.toList.drop 184 = dktX9_count_6 := dk_seg dksX9_count_5 24 rfl rfl
theorem dksX9_count_7 : cX9_count.data.toList.drop 206 = dktX9_count_7 := dk_seg dksX9_count_6 22 rfl rfl
theorem dksX9_count_8 : cX9_count.data.toList.drop 230 = dktX9_count_8 := dk_seg dksX9_count_7 24 rfl rfl
theorem dksX9_count_9 : cX9_count.data.toList.drop 254 = dktX9_count_9 := dk_seg dksX9_count_8 24 rfl rfl
theorem dX9_count_0 : decode cX9_count 0 = .ok (.aload_n 0, 1) := dk_42 (dk_at dksX9_count_0 0 rfl rfl)
theorem dX9_count_1 : decode cX9_count 1 = .ok (.iconst 0, 1) := dk_3 (dk_at dksX9_count_0 1 rfl rfl)
theorem dX9_count_2 : decode cX9_count 2 = .ok (.putfield 1, 3) := dk_181 0 1 (dk_at dksX9_count_0 2 rfl rfl)
theorem dX9_count_5 : decode cX9_count 5 = .ok (.iconst 0, 1) := dk_3 (dk_at dksX9_count_0 5 rfl rfl)
theorem dX9_count_6 : decode cX9_count 6 = .ok (.istore_n 2, 1) := dk_61 (dk_at dksX9_count_0 6 rfl rfl)
theorem dX9_count_7 : decode cX9_count 7 = .ok (.iconst 0, 1) := dk_3 (dk_at dksX9_count_0 7 rfl rfl)
theorem dX9_count_8 : decode cX9_count 8 = .ok (.istore_n 3, 1) := dk_62 (dk_at dksX9_count_0 8 rfl rfl)
theorem dX9_count_9 : decode cX9_count 9 = .ok (.iload_n 3, 1) := dk_29 (dk_at dksX9_count_0 9 rfl rfl)
theorem dX9_count_10 : decode cX9_count 10 = .ok (.bipush 54, 2) := dk_16 54 (dk_at dksX9_count_0 10 rfl rfl)
theorem dX9_count_12 : decode cX9_count 12 = .ok (.if_icmp .ge 48, 3) := dk_162 0 48 (dk_at dksX9_count_0 12 rfl rfl)
theorem dX9_count_15 : decode cX9_count 15 = .ok (.iload_n 2, 1) := dk_28 (dk_at dksX9_count_0 15 rfl rfl)
theorem dX9_count_16 : decode cX9_count 16 = .ok (.aload_n 0, 1) := dk_42 (dk_at dksX9_count_0 16 rfl rfl)
theorem dX9_count_17 : decode cX9_count 17 = .ok (.iload_n 3, 1) := dk_29 (dk_at dksX9_count_0 17 rfl rfl)
theorem dX9_count_18 : decode cX9_count 18 = .ok (.bipush 6, 2) := dk_16 6 (dk_at dksX9_count_0 18 rfl rfl)
theorem dX9_count_20 : decode cX9_count 20 = .ok (.irem, 1) := dk_112 (dk_at dksX9_count_0 20 rfl rfl)
theorem dX9_count_21 : decode cX9_count 21 = .ok (.iload_n 3, 1) := dk_29 (dk_at dksX9_count_0 21 rfl rfl)
theorem dX9_count_22 : decode cX9_count 22 = .ok (.bipush 6, 2) := dk_16 6 (dk_at dksX9_count_0 22 rfl rfl)
theorem dX9_count_24 : decode cX9_count 24 = .ok (.idiv, 1) := dk_108 (dk_at dksX9_count_1 0 rfl rfl)
theorem dX9_count_25 : decode cX9_count 25 = .ok (.invokevirtual 282, 3) := dk_182 1 26 (dk_at dksX9_count_1 1 rfl rfl)
theorem dX9_count_28 : decode cX9_count 28 = .ok (.iconst 1, 1) := dk_4 (dk_at dksX9_count_1 4 rfl rfl)
theorem dX9_count_29 : decode cX9_count 29 = .ok (.if_icmp .ne 22, 3) := dk_160 0 22 (dk_at dksX9_count_1 5 rfl rfl)
theorem dX9_count_32 : decode cX9_count 32 = .ok (.aload_n 0, 1) := dk_42 (dk_at dksX9_count_1 8 rfl rfl)
theorem dX9_count_33 : decode cX9_count 33 = .ok (.iload_n 3, 1) := dk_29 (dk_at dksX9_count_1 9 rfl rfl)
theorem dX9_count_34 : decode cX9_count 34 = .ok (.bipush 6, 2) := dk_16 6 (dk_at dksX9_count_1 10 rfl rfl)
theorem dX9_count_36 : decode cX9_count 36 = .ok (.irem, 1) := dk_112 (dk_at dksX9_count_1 12 rfl rfl)
theorem dX9_count_37 : decode cX9_count 37 = .ok (.iload_n 3, 1) := dk_29 (dk_at dksX9_count_1 13 rfl rfl)
theorem dX9_count_38 : decode cX9_count 38 = .ok (.bipush 6, 2) := dk_16 6 (dk_at dksX9_count_1 14 rfl rfl)
theorem dX9_count_40 : decode cX9_count 40 = .ok (.idiv, 1) := dk_108 (dk_at dksX9_count_1 16 rfl rfl)
theorem dX9_count_41 : decode cX9_count 41 = .ok (.invokevirtual 302, 3) := dk_182 1 46 (dk_at dksX9_count_1 17 rfl rfl)
theorem dX9_count_44 : decode cX9_count 44 = .ok (.ifCond .ne 7, 3) := dk_154 0 7 (dk_at dksX9_count_1 20 rfl rfl)
theorem dX9_count_47 : decode cX9_count 47 = .ok (.iconst 1, 1) := dk_4 (dk_at dksX9_count_1 23 rfl rfl)
theorem dX9_count_48 : decode cX9_count 48 = .ok (.goto 4, 3) := dk_167 0 4 (dk_at dksX9_count_2 0 rfl rfl)
theorem dX9_count_51 : decode cX9_count 51 = .ok (.iconst 0, 1) := dk_3 (dk_at dksX9_count_2 3 rfl rfl)
theorem dX9_count_52 : decode cX9_count 52 = .ok (.iadd, 1) := dk_96 (dk_at dksX9_count_2 4 rfl rfl)
theorem dX9_count_53 : decode cX9_count 53 = .ok (.istore_n 2, 1) := dk_61 (dk_at dksX9_count_2 5 rfl rfl)
theorem dX9_count_54 : decode cX9_count 54 = .ok (.iinc 3 1, 3) := dk_132 3 1 (dk_at dksX9_count_2 6 rfl rfl)
theorem dX9_count_57 : decode cX9_count 57 = .ok (.goto (-48), 3) := dk_167 255 208 (dk_at dksX9_count_2 9 rfl rfl)
theorem dX9_count_60 : decode cX9_count 60 = .ok (.iload_n 1, 1) := dk_27 (dk_at dksX9_count_2 12 rfl rfl)
theorem dX9_count_61 : decode cX9_count 61 = .ok (.tableswitch 194 0 14 #[75, 80, 85, 93, 101, 108, 115, 122, 129, 158, 160, 168, 176, 184, 189], 75) := by decide +kernel
theorem dX9_count_136 : decode cX9_count 136 = .ok (.aload_n 0, 1) := dk_42 (dk_at dksX9_count_4 0 rfl rfl)
theorem dX9_count_137 : decode cX9_count 137 = .ok (.invokevirtual 275, 3) := dk_182 1 19 (dk_at dksX9_count_4 1 rfl rfl)
theorem dX9_count_140 : decode cX9_count 140 = .ok (.ireturn, 1) := dk_172 (dk_at dksX9_count_4 4 rfl rfl)
theorem dX9_count_141 : decode cX9_count 141 = .ok (.aload_n 0, 1) := dk_42 (dk_at dksX9_count_4 5 rfl rfl)
theorem dX9_count_142 : decode cX9_count 142 = .ok (.invokevirtual 279, 3) := dk_182 1 23 (dk_at dksX9_count_4 6 rfl rfl)
theorem dX9_count_145 : decode cX9_count 145 = .ok (.ireturn, 1) := dk_172 (dk_at dksX9_count_4 9 rfl rfl)
theorem dX9_count_146 : decode cX9_count 146 = .ok (.aload_n 0, 1) := dk_42 (dk_at dksX9_count_4 10 rfl rfl)
theorem dX9_count_147 : decode cX9_count 147 = .ok (.getfield 81, 3) := dk_180 0 81 (dk_at dksX9_count_4 11 rfl rfl)
theorem dX9_count_150 : decode cX9_count 150 = .ok (.bipush 7, 2) := dk_16 7 (dk_at dksX9_count_4 14 rfl rfl)
theorem dX9_count_152 : decode cX9_count 152 = .ok (.iaload, 1) := dk_46 (dk_at dksX9_count_4 16 rfl rfl)
theorem dX9_count_153 : decode cX9_count 153 = .ok (.ireturn, 1) := dk_172 (dk_at dksX9_count_4 17 rfl rfl)
theorem dX9_count_154 : decode cX9_count 154 = .ok (.aload_n 0, 1) := dk_42 (dk_at dksX9_count_4 18 rfl rfl)
theorem dX9_count_155 : decode cX9_count 155 = .ok (.getfield 81, 3) := dk_180 0 81 (dk_at dksX9_count_4 19 rfl rfl)
theorem dX9_count_158 : decode cX9_count 158 = .ok (.bipush 8, 2) := dk_16 8 (dk_at dksX9_count_4 22 rfl rfl)
theorem dX9_count_160 : decode cX9_count 160 = .ok (.iaload, 1) := dk_46 (dk_at dksX9_count_5 0 rfl rfl)
theorem dX9_count_161 : decode cX9_count 161 = .ok (.ireturn, 1) := dk_172 (dk_at dksX9_count_5 1 rfl rfl)
theorem dX9_count_162 : decode cX9_count 162 = .ok (.aload_n 0, 1) := dk_42 (dk_at dksX9_count_5 2 rfl rfl)
theorem dX9_count_163 : decode cX9_count 163 = .ok (.getfield 93, 3) := dk_180 0 93 (dk_at dksX9_count_5 3 rfl rfl)
theorem dX9_count_166 : decode cX9_count 166 = .ok (.iconst 0, 1) := dk_3 (dk_at dksX9_count_5 6 rfl rfl)
theorem dX9_count_167 : decode cX9_count 167 = .ok (.iaload, 1) := dk_46 (dk_at dksX9_count_5 7 rfl rfl)
theorem dX9_count_168 : decode cX9_count 168 = .ok (.ireturn, 1) := dk_172 (dk_at dksX9_count_5 8 rfl rfl)
theorem dX9_count_169 : decode cX9_count 169 = .ok (.aload_n 0, 1) := dk_42 (dk_at dksX9_count_5 9 rfl rfl)
theorem dX9_count_170 : decode cX9_count 170 = .ok (.getfield 102, 3) := dk_180 0 102 (dk_at dksX9_count_5 10 rfl rfl)
theorem dX9_count_173 : decode cX9_count 173 = .ok (.iconst 0, 1) := dk_3 (dk_at dksX9_count_5 13 rfl rfl)
theorem dX9_count_174 : decode cX9_count 174 = .ok (.iaload, 1) := dk_46 (dk_at dksX9_count_5 14 rfl rfl)
theorem dX9_count_175 : decode cX9_count 175 = .ok (.ireturn, 1) := dk_172 (dk_at dksX9_count_5 15 rfl rfl)
theorem dX9_count_176 : decode cX9_count 176 = .ok (.aload_n 0, 1) := dk_42 (dk_at dksX9_count_5 16 rfl rfl)
theorem dX9_count_177 : decode cX9_count 177 = .ok (.getfield 102, 3) := dk_180 0 102 (dk_at dksX9_count_5 17 rfl rfl)
theorem dX9_count_180 : decode cX9_count 180 = .ok (.iconst 1, 1) := dk_4 (dk_at dksX9_count_5 20 rfl rfl)
theorem dX9_count_181 : decode cX9_count 181 = .ok (.iaload, 1) := dk_46 (dk_at dksX9_count_5 21 rfl rfl)
theorem dX9_count_182 : decode cX9_count 182 = .ok (.ireturn, 1) := dk_172 (dk_at dksX9_count_5 22 rfl rfl)
theorem dX9_count_183 : decode cX9_count 183 = .ok (.aload_n 0, 1) := dk_42 (dk_at dksX9_count_5 23 rfl rfl)
theorem dX9_count_184 : decode cX9_count 184 = .ok (.getfield 102, 3) := dk_180 0 102 (dk_at dksX9_count_6 0 rfl rfl)
theorem dX9_count_187 : decode cX9_count 187 = .ok (.iconst 2, 1) := dk_5 (dk_at dksX9_count_6 3 rfl rfl)
theorem dX9_count_188 : decode cX9_count 188 = .ok (.iaload, 1) := dk_46 (dk_at dksX9_count_6 4 rfl rfl)
theorem dX9_count_189 : decode cX9_count 189 = .ok (.ireturn, 1) := dk_172 (dk_at dksX9_count_6 5 rfl rfl)
theorem dX9_count_190 : decode cX9_count 190 = .ok (.aload_n 0, 1) := dk_42 (dk_at dksX9_count_6 6 rfl rfl)
theorem dX9_count_191 : decode cX9_count 191 = .ok (.getfield 81, 3) := dk_180 0 81 (dk_at dksX9_count_6 7 rfl rfl)
theorem dX9_count_194 : decode cX9_count 194 = .ok (.bipush 6, 2) := dk_16 6 (dk_at dksX9_count_6 10 rfl rfl)
theorem dX9_count_196 : decode cX9_count 196 = .ok (.iaload, 1) := dk_46 (dk_at dksX9_count_6 12 rfl rfl)
theorem dX9_count_197 : decode cX9_count 197 = .ok (.iconst 1, 1) := dk_4 (dk_at dksX9_count_6 13 rfl rfl)
theorem dX9_count_198 : decode cX9_count 198 = .ok (.if_icmp .ne 7, 3) := dk_160 0 7 (dk_at dksX9_count_6 14 rfl rfl)
theorem dX9_count_201 : decode cX9_count 201 = .ok (.iconst 0, 1) := dk_3 (dk_at dksX9_count_6 17 rfl rfl)
theorem dX9_count_202 : decode cX9_count 202 = .ok (.goto 16, 3) := dk_167 0 16 (dk_at dksX9_count_6 18 rfl rfl)
theorem dX9_count_205 : decode cX9_count 205 = .ok (.aload_n 0, 1) := dk_42 (dk_at dksX9_count_6 21 rfl rfl)
theorem dX9_count_206 : decode cX9_count 206 = .ok (.getfield 81, 3) := dk_180 0 81 (dk_at dksX9_count_7 0 rfl rfl)
theorem dX9_count_209 : decode cX9_count 209 = .ok (.iconst 5, 1) := dk_8 (dk_at dksX9_count_7 3 rfl rfl)
theorem dX9_count_210 : decode cX9_count 210 = .ok (.iaload, 1) := dk_46 (dk_at dksX9_count_7 4 rfl rfl)
theorem dX9_count_211 : decode cX9_count 211 = .ok (.aload_n 0, 1) := dk_42 (dk_at dksX9_count_7 5 rfl rfl)
theorem dX9_count_212 : decode cX9_count 212 = .ok (.getfield 102, 3) := dk_180 0 102 (dk_at dksX9_count_7 6 rfl rfl)
theorem dX9_count_215 : decode cX9_count 215 = .ok (.iconst 3, 1) := dk_6 (dk_at dksX9_count_7 9 rfl rfl)
theorem dX9_count_216 : decode cX9_count 216 = .ok (.iaload, 1) := dk_46 (dk_at dksX9_count_7 10 rfl rfl)
theorem dX9_count_217 : decode cX9_count 217 = .ok (.isub, 1) := dk_100 (dk_at dksX9_count_7 11 rfl rfl)
theorem dX9_count_218 : decode cX9_count 218 = .ok (.ireturn, 1) := dk_172 (dk_at dksX9_count_7 12 rfl rfl)
theorem dX9_count_219 : decode cX9_count 219 = .ok (.iload_n 2, 1) := dk_28 (dk_at dksX9_count_7 13 rfl rfl)
theorem dX9_count_220 : decode cX9_count 220 = .ok (.ireturn, 1) := dk_172 (dk_at dksX9_count_7 14 rfl rfl)
theorem dX9_count_221 : decode cX9_count 221 = .ok (.aload_n 0, 1) := dk_42 (dk_at dksX9_count_7 15 rfl rfl)
theorem dX9_count_222 : decode cX9_count 222 = .ok (.getfield 102, 3) := dk_180 0 102 (dk_at dksX9_count_7 16 rfl rfl)
theorem dX9_count_225 : decode cX9_count 225 = .ok (.bipush 58, 2) := dk_16 58 (dk_at dksX9_count_7 19 rfl rfl)
theorem dX9_count_227 : decode cX9_count 227 = .ok (.iaload, 1) := dk_46 (dk_at dksX9_count_7 21 rfl rfl)
theorem dX9_count_228 : decode cX9_count 228 = .ok (.ireturn, 1) := dk_172 (dk_at dksX9_count_7 22 rfl rfl)
theorem dX9_count_229 : decode cX9_count 229 = .ok (.aload_n 0, 1) := dk_42 (dk_at dksX9_count_7 23 rfl rfl)
theorem dX9_count_230 : decode cX9_count 230 = .ok (.getfield 102, 3) := dk_180 0 102 (dk_at dksX9_count_8 0 rfl rfl)
theorem dX9_count_233 : decode cX9_count 233 = .ok (.bipush 59, 2) := dk_16 59 (dk_at dksX9_count_8 3 rfl rfl)
theorem dX9_count_235 : decode cX9_count 235 = .ok (.iaload, 1) := dk_46 (dk_at dksX9_count_8 5 rfl rfl)
theorem dX9_count_236 : decode cX9_count 236 = .ok (.ireturn, 1) := dk_172 (dk_at dksX9_count_8 6 rfl rfl)
theorem dX9_count_237 : decode cX9_count 237 = .ok (.aload_n 0, 1) := dk_42 (dk_at dksX9_count_8 7 rfl rfl)
theorem dX9_count_238 : decode cX9_count 238 = .ok (.getfield 81, 3) := dk_180 0 81 (dk_at dksX9_count_8 8 rfl rfl)
theorem dX9_count_241 : decode cX9_count 241 = .ok (.bipush 9, 2) := dk_16 9 (dk_at dksX9_count_8 11 rfl rfl)
theorem dX9_count_243 : decode cX9_count 243 = .ok (.iaload, 1) := dk_46 (dk_at dksX9_count_8 13 rfl rfl)
theorem dX9_count_244 : decode cX9_count 244 = .ok (.ireturn, 1) := dk_172 (dk_at dksX9_count_8 14 rfl rfl)
theorem dX9_count_245 : decode cX9_count 245 = .ok (.aload_n 0, 1) := dk_42 (dk_at dksX9_count_8 15 rfl rfl)
theorem dX9_count_246 : decode cX9_count 246 = .ok (.getfield 319, 3) := dk_180 1 63 (dk_at dksX9_count_8 16 rfl rfl)
theorem dX9_count_249 : decode cX9_count 249 = .ok (.ireturn, 1) := dk_172 (dk_at dksX9_count_8 19 rfl rfl)
theorem dX9_count_250 : decode cX9_count 250 = .ok (.aload_n 0, 1) := dk_42 (dk_at dksX9_count_8 20 rfl rfl)
theorem dX9_count_251 : decode cX9_count 251 = .ok (.getfield 11, 3) := dk_180 0 11 (dk_at dksX9_count_8 21 rfl rfl)
theorem dX9_count_254 : decode cX9_count 254 = .ok (.ireturn, 1) := dk_172 (dk_at dksX9_count_9 0 rfl rfl)
theorem dX9_count_255 : decode cX9_count 255 = .ok (.iconst (-1), 1) := dk_2 (dk_at dksX9_count_9 1 rfl rfl)
theorem dX9_count_256 : decode cX9_count 256 = .ok (.ireturn, 1) := dk_172 (dk_at dksX9_count_9 2 rfl rfl)
theorem q152 : (Jvm.Cond.initialized "OverFirstModel") ∈ lw_all := lw_g (lw_at lw_m1 17 rfl) rfl
theorem q319 : (Jvm.Cond.selects "OverFirstModel" ({ cls := "java/lang/Object", name := "getClass", desc := "()Ljava/lang/Class;" } : Jvm.MethodName) ({ cls := "java/lang/Object", name := "getClass", desc := "()Ljava/lang/Class;" } : Jvm.MethodName)) ∈ lw_all := lw_g (lw_at lw_m1 184 rfl) rfl
theorem q1623 : (Jvm.Cond.instanceMethod ({ cls := "OverFirstModel", name := "feed", desc := "(JJJ)I" } : Jvm.MethodName)) ∈ lw_all := lw_g (lw_at lw_m7 48 rfl) rfl
theorem q1624 : (Jvm.Cond.selects "OverFirstModel" ({ cls := "OverFirstModel", name := "feed", desc := "(JJJ)I" } : Jvm.MethodName) ({ cls := "OverFirstModel", name := "feed", desc := "(JJJ)I" } : Jvm.MethodName)) ∈ lw_all := lw_g (lw_at lw_m7 49 rfl) rfl
theorem q1625 : (Jvm.Cond.code ({ cls := "OverFirstModel", name := "feed", desc := "(JJJ)I" } : Jvm.MethodName) prog_23_method_2_code (7 : Nat) (Option.some Jvm.ClassFile.FieldType.int)) ∈ lw_all := lw_g (lw_at lw_m7 50 rfl) rfl
theorem q1626 : (Jvm.Cond.methodLink "OverFirstModel" (7 : Nat) ({ cls := "OverFirstModel", name := "lay", desc := "(J)V" } : Jvm.MethodName)) ∈ lw_all := lw_g (lw_at lw_m7 51 rfl) rfl
theorem q1627 : (Jvm.Cond.privateMethod ({ cls := "OverFirstModel", name := "lay", desc := "(J)V" } : Jvm.MethodName)) ∈ lw_tbl := lw_at lw_m7 52 rfl
theorem q1628 : (Jvm.Cond.instanceMethod ({ cls := "OverFirstModel", name := "lay", desc := "(J)V" } : Jvm.MethodName)) ∈ lw_all := lw_g (lw_at lw_m7 53 rfl) rfl
theorem q1629 : (Jvm.Cond.instantiable "OverFirstModel" (48 : Nat)) ∈ lw_all := lw_g (lw_at lw_m7 54 rfl) rfl
theorem q1630 : (Jvm.Cond.code ({ cls := "OverFirstModel", name := "lay", desc := "(J)V" } : Jvm.MethodName) prog_23_method_3_code (5 : Nat) (Option.none : Option Jvm.ClassFile.FieldType)) ∈ lw_all := lw_g (lw_at lw_m7 55 rfl) rfl
theorem q1633 : (Jvm.Cond.instanceMethod ({ cls := "OverFirstModel", name := "<init>", desc := "()V" } : Jvm.MethodName)) ∈ lw_all := lw_g (lw_at lw_m7 58 rfl) rfl
theorem q1634 : (Jvm.Cond.code ({ cls := "OverFirstModel", name := "<init>", desc := "()V" } : Jvm.MethodName) prog_23_method_4_code (1 : Nat) (Option.none : Option Jvm.ClassFile.FieldType)) ∈ lw_all := lw_g (lw_at lw_m7 59 rfl) rfl
theorem q1635 : (Jvm.Cond.methodLink "OverFirstModel" (18 : Nat) ({ cls := "java/lang/Object", name := "<init>", desc := "()V" } : Jvm.MethodName)) ∈ lw_all := lw_g (lw_at lw_m7 60 rfl) rfl
theorem q1636 : (Jvm.Cond.constantLong "OverFirstModel" (34 : Nat) (1034460 : Int64)) ∈ lw_all := lw_g (lw_at lw_m7 61 rfl) rfl
theorem q1637 : (Jvm.Cond.constantLong "OverFirstModel" (36 : Nat) (22955708 : Int64)) ∈ lw_all := lw_g (lw_at lw_m7 62 rfl) rfl
theorem q1638 : (Jvm.Cond.constantLong "OverFirstModel" (38 : Nat) (2793 : Int64)) ∈ lw_all := lw_g (lw_at lw_m7 63 rfl) rfl
theorem q1639 : (Jvm.Cond.constantLong "OverFirstModel" (40 : Nat) (940952 : Int64)) ∈ lw_all := lw_g (lw_at lw_m7 64 rfl) rfl
theorem q1640 : (Jvm.Cond.constantLong "OverFirstModel" (42 : Nat) (1166843 : Int64)) ∈ lw_all := lw_g (lw_at lw_m7 65 rfl) rfl
theorem q1641 : (Jvm.Cond.constantLong "OverFirstModel" (44 : Nat) (25433 : Int64)) ∈ lw_all := lw_g (lw_at lw_m7 66 rfl) rfl
theorem q1642 : (Jvm.Cond.constantLong "OverFirstModel" (46 : Nat) (979413 : Int64)) ∈ lw_all := lw_g (lw_at lw_m7 67 rfl) rfl
theorem q1643 : (Jvm.Cond.constantLong "OverFirstModel" (48 : Nat) (941040 : Int64)) ∈ lw_all := lw_g (lw_at lw_m7 68 rfl) rfl
theorem q1644 : (Jvm.Cond.constantLong "OverFirstModel" (50 : Nat) (6040476 : Int64)) ∈ lw_all := lw_g (lw_at lw_m7 69 rfl) rfl
theorem q1645 : (Jvm.Cond.constantLong "OverFirstModel" (52 : Nat) (34523964 : Int64)) ∈ lw_all := lw_g (lw_at lw_m7 70 rfl) rfl
theorem q1646 : (Jvm.Cond.constantLong "OverFirstModel" (54 : Nat) (790116 : Int64)) ∈ lw_all := lw_g (lw_at lw_m7 71 rfl) rfl
theorem q1647 : (Jvm.Cond.constantLong "OverFirstModel" (56 : Nat) (569 : Int64)) ∈ lw_all := lw_g (lw_at lw_m7 72 rfl) rfl
theorem q1648 : (Jvm.Cond.constantLong "OverFirstModel" (58 : Nat) (8787 : Int64)) ∈ lw_all := lw_g (lw_at lw_m7 73 rfl) rfl
theorem q1649 : (Jvm.Cond.constantLong "OverFirstModel" (60 : Nat) (6250976 : Int64)) ∈ lw_all := lw_g (lw_at lw_m7 74 rfl) rfl
theorem q1650 : (Jvm.Cond.constantLong "OverFirstModel" (62 : Nat) (571827392 : Int64)) ∈ lw_all := lw_g (lw_at lw_m7 75 rfl) rfl
theorem q1651 : (Jvm.Cond.constantLong "OverFirstModel" (64 : Nat) (179086304 : Int64)) ∈ lw_all := lw_g (lw_at lw_m7 76 rfl) rfl
theorem q1652 : (Jvm.Cond.constantLong "OverFirstModel" (66 : Nat) (1138236000 : Int64)) ∈ lw_all := lw_g (lw_at lw_m7 77 rfl) rfl
theorem q1653 : (Jvm.Cond.constantLong "OverFirstModel" (68 : Nat) (19741 : Int64)) ∈ lw_all := lw_g (lw_at lw_m7 78 rfl) rfl
theorem q1654 : (Jvm.Cond.constantLong "OverFirstModel" (70 : Nat) (1891 : Int64)) ∈ lw_all := lw_g (lw_at lw_m7 79 rfl) rfl
theorem q1655 : (Jvm.Cond.constantLong "OverFirstModel" (72 : Nat) (573 : Int64)) ∈ lw_all := lw_g (lw_at lw_m7 80 rfl) rfl
theorem q1656 : (Jvm.Cond.constantLong "OverFirstModel" (74 : Nat) (614923 : Int64)) ∈ lw_all := lw_g (lw_at lw_m7 81 rfl) rfl
theorem q1657 : (Jvm.Cond.constantLong "OverFirstModel" (76 : Nat) (793 : Int64)) ∈ lw_all := lw_g (lw_at lw_m7 82 rfl) rfl
theorem q1658 : (Jvm.Cond.constant "OverFirstModel" (109 : Nat) (64800 : Int32)) ∈ lw_all := lw_g (lw_at lw_m7 83 rfl) rfl
theorem q1659 : (Jvm.Cond.constant "OverFirstModel" (128 : Nat) (156000 : Int32)) ∈ lw_all := lw_g (lw_at lw_m7 84 rfl) rfl
theorem q1660 : (Jvm.Cond.methodLink "OverFirstModel" (147 : Nat) ({ cls := "OverFirstModel", name := "standsAsAlways", desc := "(I)V" } : Jvm.MethodName)) ∈ lw_all := lw_g (lw_at lw_m7 85 rfl) rfl
theorem q1661 : (Jvm.Cond.privateMethod ({ cls := "OverFirstModel", name := "standsAsAlways", desc := "(I)V" } : Jvm.MethodName)) ∈ lw_tbl := lw_at lw_m7 86 rfl
theorem q1662 : (Jvm.Cond.instanceMethod ({ cls := "OverFirstModel", name := "standsAsAlways", desc := "(I)V" } : Jvm.MethodName)) ∈ lw_all := lw_g (lw_at lw_m7 87 rfl) rfl
theorem q1663 : (Jvm.Cond.code ({ cls := "OverFirstModel", name := "standsAsAlways", desc := "(I)V" } : Jvm.MethodName) prog_23_method_18_code (3 : Nat) (Option.none : Option Jvm.ClassFile.FieldType)) ∈ lw_all := lw_g (lw_at lw_m7 88 rfl) rfl
theorem q1664 : (Jvm.Cond.methodLink "OverFirstModel" (151 : Nat) ({ cls := "OverFirstModel", name := "begins", desc := "()V" } : Jvm.MethodName)) ∈ lw_all := lw_g (lw_at lw_m7 89 rfl) rfl
theorem q1665 : (Jvm.Cond.privateMethod ({ cls := "OverFirstModel", name := "begins", desc := "()V" } : Jvm.MethodName)) ∈ lw_tbl := lw_at lw_m7 90 rfl
theorem q1666 : (Jvm.Cond.instanceMethod ({ cls := "OverFirstModel", name := "begins", desc := "()V" } : Jvm.MethodName)) ∈ lw_all := lw_g (lw_at lw_m7 91 rfl) rfl
theorem q1667 : (Jvm.Cond.code ({ cls := "OverFirstModel", name := "begins", desc := "()V" } : Jvm.MethodName) prog_23_method_57_code (2 : Nat) (Option.none : Option Jvm.ClassFile.FieldType)) ∈ lw_all := lw_g (lw_at lw_m7 92 rfl) rfl
theorem q1668 : (Jvm.Cond.fieldLink "OverFirstModel" (1 : Nat) "OverFirstModel" "thrown" "I") ∈ lw_all := lw_g (lw_at lw_m7 93 rfl) rfl
theorem q1669 : (Jvm.Cond.fieldLink "OverFirstModel" (14 : Nat) "OverFirstModel" "tape" "[I") ∈ lw_all := lw_g (lw_at lw_m7 94 rfl) rfl
theorem q1670 : (Jvm.Cond.fieldLink "OverFirstModel" (11 : Nat) "OverFirstModel" "taped" "I") ∈ lw_all := lw_g (lw_at lw_m7 95 rfl) rfl
theorem q1671 : (Jvm.Cond.fieldLink "OverFirstModel" (158 : Nat) "OverFirstModel" "size" "I") ∈ lw_all := lw_g (lw_at lw_m7 96 rfl) rfl
theorem q1672 : (Jvm.Cond.fieldLink "OverFirstModel" (24 : Nat) "OverFirstModel" "sort" "[I") ∈ lw_all := lw_g (lw_at lw_m7 97 rfl) rfl
theorem q1673 : (Jvm.Cond.fieldLink "OverFirstModel" (27 : Nat) "OverFirstModel" "place" "[I") ∈ lw_all := lw_g (lw_at lw_m7 98 rfl) rfl
theorem q1674 : (Jvm.Cond.fieldLink "OverFirstModel" (30 : Nat) "OverFirstModel" "value" "[J") ∈ lw_all := lw_g (lw_at lw_m7 99 rfl) rfl
theorem q1675 : (Jvm.Cond.fieldLink "OverFirstModel" (177 : Nat) "OverFirstModel" "at" "I") ∈ lw_all := lw_g (lw_at lw_m7 100 rfl) rfl
theorem q1676 : (Jvm.Cond.fieldLink "OverFirstModel" (180 : Nat) "OverFirstModel" "fault" "I") ∈ lw_all := lw_g (lw_at lw_m7 101 rfl) rfl
theorem q1677 : (Jvm.Cond.fieldLink "OverFirstModel" (78 : Nat) "OverFirstModel" "words" "[J") ∈ lw_all := lw_g (lw_at lw_m7 102 rfl) rfl
theorem q1678 : (Jvm.Cond.fieldLink "OverFirstModel" (81 : Nat) "OverFirstModel" "towns" "[I") ∈ lw_all := lw_g (lw_at lw_m7 103 rfl) rfl
theorem q1679 : (Jvm.Cond.fieldLink "OverFirstModel" (84 : Nat) "OverFirstModel" "op" "[I") ∈ lw_all := lw_g (lw_at lw_m7 104 rfl) rfl
theorem q1680 : (Jvm.Cond.fieldLink "OverFirstModel" (87 : Nat) "OverFirstModel" "arg" "[I") ∈ lw_all := lw_g (lw_at lw_m7 105 rfl) rfl
theorem q1681 : (Jvm.Cond.fieldLink "OverFirstModel" (208 : Nat) "OverFirstModel" "codes" "I") ∈ lw_all := lw_g (lw_at lw_m7 106 rfl) rfl
theorem q1682 : (Jvm.Cond.fieldLink "OverFirstModel" (90 : Nat) "OverFirstModel" "names" "[J") ∈ lw_all := lw_g (lw_at lw_m7 107 rfl) rfl
theorem q1683 : (Jvm.Cond.fieldLink "OverFirstModel" (211 : Nat) "OverFirstModel" "told" "I") ∈ lw_all := lw_g (lw_at lw_m7 108 rfl) rfl
theorem q1684 : (Jvm.Cond.fieldLink "OverFirstModel" (93 : Nat) "OverFirstModel" "walks" "[I") ∈ lw_all := lw_g (lw_at lw_m7 109 rfl) rfl
theorem q1685 : (Jvm.Cond.fieldLink "OverFirstModel" (96 : Nat) "OverFirstModel" "facts" "[I") ∈ lw_all := lw_g (lw_at lw_m7 110 rfl) rfl
theorem q1686 : (Jvm.Cond.fieldLink "OverFirstModel" (99 : Nat) "OverFirstModel" "pile" "[I") ∈ lw_all := lw_g (lw_at lw_m7 111 rfl) rfl
theorem q1687 : (Jvm.Cond.fieldLink "OverFirstModel" (102 : Nat) "OverFirstModel" "state" "[I") ∈ lw_all := lw_g (lw_at lw_m7 112 rfl) rfl
theorem q1688 : (Jvm.Cond.fieldLink "OverFirstModel" (319 : Nat) "OverFirstModel" "undos" "I") ∈ lw_all := lw_g (lw_at lw_m7 113 rfl) rfl
theorem q1689 : (Jvm.Cond.fieldLink "OverFirstModel" (105 : Nat) "OverFirstModel" "isMarked" "[Z") ∈ lw_all := lw_g (lw_at lw_m7 114 rfl) rfl
theorem q1690 : (Jvm.Cond.fieldLink "OverFirstModel" (322 : Nat) "OverFirstModel" "version" "I") ∈ lw_all := lw_g (lw_at lw_m7 115 rfl) rfl
theorem q1691 : (Jvm.Cond.fieldLink "OverFirstModel" (110 : Nat) "OverFirstModel" "worth" "[I") ∈ lw_all := lw_g (lw_at lw_m7 116 rfl) rfl
theorem q1692 : (Jvm.Cond.fieldLink "OverFirstModel" (113 : Nat) "OverFirstModel" "stamp" "[I") ∈ lw_all := lw_g (lw_at lw_m7 117 rfl) rfl
theorem q1693 : (Jvm.Cond.fieldLink "OverFirstModel" (359 : Nat) "OverFirstModel" "stamped" "I") ∈ lw_all := lw_g (lw_at lw_m7 118 rfl) rfl
theorem q1694 : (Jvm.Cond.fieldLink "OverFirstModel" (116 : Nat) "OverFirstModel" "goerKept" "I") ∈ lw_all := lw_g (lw_at lw_m7 119 rfl) rfl
theorem q1695 : (Jvm.Cond.fieldLink "OverFirstModel" (349 : Nat) "OverFirstModel" "worstKept" "Z") ∈ lw_all := lw_g (lw_at lw_m7 120 rfl) rfl
theorem q1696 : (Jvm.Cond.fieldLink "OverFirstModel" (353 : Nat) "OverFirstModel" "versionKept" "I") ∈ lw_all := lw_g (lw_at lw_m7 121 rfl) rfl
theorem q1697 : (Jvm.Cond.fieldLink "OverFirstModel" (119 : Nat) "OverFirstModel" "watched" "I") ∈ lw_all := lw_g (lw_at lw_m7 122 rfl) rfl
theorem q1698 : (Jvm.Cond.fieldLink "OverFirstModel" (356 : Nat) "OverFirstModel" "shift" "I") ∈ lw_all := lw_g (lw_at lw_m7 123 rfl) rfl
theorem q1699 : (Jvm.Cond.fieldLink "OverFirstModel" (122 : Nat) "OverFirstModel" "chances" "[I") ∈ lw_all := lw_g (lw_at lw_m7 124 rfl) rfl
theorem q1700 : (Jvm.Cond.fieldLink "OverFirstModel" (125 : Nat) "OverFirstModel" "chanceStamp" "[I") ∈ lw_all := lw_g (lw_at lw_m7 125 rfl) rfl
theorem q1701 : (Jvm.Cond.fieldLink "OverFirstModel" (405 : Nat) "OverFirstModel" "chanceStamped" "I") ∈ lw_all := lw_g (lw_at lw_m7 126 rfl) rfl
theorem q1702 : (Jvm.Cond.fieldLink "OverFirstModel" (399 : Nat) "OverFirstModel" "leaves" "I") ∈ lw_all := lw_g (lw_at lw_m7 127 rfl) rfl
theorem q1703 : (Jvm.Cond.fieldLink "OverFirstModel" (402 : Nat) "OverFirstModel" "due" "I") ∈ lw_all := lw_g (lw_at lw_m7 128 rfl) rfl
theorem q1704 : (Jvm.Cond.fieldLink "OverFirstModel" (129 : Nat) "OverFirstModel" "paces" "[I") ∈ lw_all := lw_g (lw_at lw_m7 129 rfl) rfl
theorem q1705 : (Jvm.Cond.fieldLink "OverFirstModel" (426 : Nat) "OverFirstModel" "setsOut" "I") ∈ lw_all := lw_g (lw_at lw_m7 130 rfl) rfl
theorem q1706 : (Jvm.Cond.fieldLink "OverFirstModel" (132 : Nat) "OverFirstModel" "onward" "[J") ∈ lw_all := lw_g (lw_at lw_m7 131 rfl) rfl
theorem q1707 : (Jvm.Cond.fieldLink "OverFirstModel" (135 : Nat) "OverFirstModel" "back" "[J") ∈ lw_all := lw_g (lw_at lw_m7 132 rfl) rfl
theorem q1708 : (Jvm.Cond.fieldLink "OverFirstModel" (138 : Nat) "OverFirstModel" "begins0" "[I") ∈ lw_all := lw_g (lw_at lw_m7 133 rfl) rfl
theorem q1709 : (Jvm.Cond.fieldLink "OverFirstModel" (141 : Nat) "OverFirstModel" "bestBegins" "[I") ∈ lw_all := lw_g (lw_at lw_m7 134 rfl) rfl
theorem q1710 : (Jvm.Cond.fieldLink "OverFirstModel" (439 : Nat) "OverFirstModel" "bestWave" "I") ∈ lw_all := lw_g (lw_at lw_m7 135 rfl) rfl
theorem q1711 : (Jvm.Cond.fieldLink "OverFirstModel" (461 : Nat) "OverFirstModel" "fitMany" "J") ∈ lw_all := lw_g (lw_at lw_m7 136 rfl) rfl
theorem q1712 : (Jvm.Cond.fieldLink "OverFirstModel" (465 : Nat) "OverFirstModel" "fitFirst" "I") ∈ lw_all := lw_g (lw_at lw_m7 137 rfl) rfl
theorem q1713 : (Jvm.Cond.fieldLink "OverFirstModel" (468 : Nat) "OverFirstModel" "fitCorners" "J") ∈ lw_all := lw_g (lw_at lw_m7 138 rfl) rfl
theorem q1714 : (Jvm.Cond.fieldLink "OverFirstModel" (471 : Nat) "OverFirstModel" "g" "J") ∈ lw_all := lw_g (lw_at lw_m7 139 rfl) rfl
theorem q1715 : (Jvm.Cond.fieldLink "OverFirstModel" (144 : Nat) "OverFirstModel" "standsAt" "[I") ∈ lw_all := lw_g (lw_at lw_m7 140 rfl) rfl
theorem q1716 : (Jvm.Cond.lays "OverFirstModel" "OverFirstModel" "thrown" "I") ∈ lw_all := lw_g (lw_at lw_m7 141 rfl) rfl
theorem q1717 : (Jvm.Cond.soleField "OverFirstModel" "thrown") ∈ lw_all := lw_g (lw_at lw_m7 142 rfl) rfl
theorem q1718 : (Jvm.Cond.laysFinal "OverFirstModel" "OverFirstModel" "tape" "[I") ∈ lw_all := lw_g (lw_at lw_m7 143 rfl) rfl
theorem q1719 : (Jvm.Cond.soleField "OverFirstModel" "tape") ∈ lw_all := lw_g (lw_at lw_m7 144 rfl) rfl
theorem q1720 : (Jvm.Cond.lays "OverFirstModel" "OverFirstModel" "taped" "I") ∈ lw_all := lw_g (lw_at lw_m7 145 rfl) rfl
theorem q1721 : (Jvm.Cond.soleField "OverFirstModel" "taped") ∈ lw_all := lw_g (lw_at lw_m7 146 rfl) rfl
theorem q1722 : (Jvm.Cond.lays "OverFirstModel" "OverFirstModel" "size" "I") ∈ lw_all := lw_g (lw_at lw_m7 147 rfl) rfl
theorem q1723 : (Jvm.Cond.soleField "OverFirstModel" "size") ∈ lw_all := lw_g (lw_at lw_m7 148 rfl) rfl
theorem q1724 : (Jvm.Cond.laysFinal "OverFirstModel" "OverFirstModel" "sort" "[I") ∈ lw_all := lw_g (lw_at lw_m7 149 rfl) rfl
theorem q1725 : (Jvm.Cond.soleField "OverFirstModel" "sort") ∈ lw_all := lw_g (lw_at lw_m7 150 rfl) rfl
theorem q1726 : (Jvm.Cond.laysFinal "OverFirstModel" "OverFirstModel" "place" "[I") ∈ lw_all := lw_g (lw_at lw_m7 151 rfl) rfl
theorem q1727 : (Jvm.Cond.soleField "OverFirstModel" "place") ∈ lw_all := lw_g (lw_at lw_m7 152 rfl) rfl
theorem q1728 : (Jvm.Cond.laysFinal "OverFirstModel" "OverFirstModel" "value" "[J") ∈ lw_all := lw_g (lw_at lw_m7 153 rfl) rfl
theorem q1729 : (Jvm.Cond.soleField "OverFirstModel" "value") ∈ lw_all := lw_g (lw_at lw_m7 154 rfl) rfl
theorem q1730 : (Jvm.Cond.lays "OverFirstModel" "OverFirstModel" "at" "I") ∈ lw_all := lw_g (lw_at lw_m7 155 rfl) rfl
theorem q1731 : (Jvm.Cond.soleField "OverFirstModel" "at") ∈ lw_all := lw_g (lw_at lw_m7 156 rfl) rfl
theorem q1732 : (Jvm.Cond.lays "OverFirstModel" "OverFirstModel" "fault" "I") ∈ lw_all := lw_g (lw_at lw_m7 157 rfl) rfl
theorem q1733 : (Jvm.Cond.soleField "OverFirstModel" "fault") ∈ lw_all := lw_g (lw_at lw_m7 158 rfl) rfl
theorem q1734 : (Jvm.Cond.laysFinal "OverFirstModel" "OverFirstModel" "words" "[J") ∈ lw_all := lw_g (lw_at lw_m7 159 rfl) rfl
theorem q1735 : (Jvm.Cond.soleField "OverFirstModel" "words") ∈ lw_all := lw_g (lw_at lw_m7 160 rfl) rfl
theorem q1736 : (Jvm.Cond.laysFinal "OverFirstModel" "OverFirstModel" "towns" "[I") ∈ lw_all := lw_g (lw_at lw_m7 161 rfl) rfl
theorem q1737 : (Jvm.Cond.soleField "OverFirstModel" "towns") ∈ lw_all := lw_g (lw_at lw_m7 162 rfl) rfl
theorem q1738 : (Jvm.Cond.laysFinal "OverFirstModel" "OverFirstModel" "op" "[I") ∈ lw_all := lw_g (lw_at lw_m7 163 rfl) rfl
theorem q1739 : (Jvm.Cond.soleField "OverFirstModel" "op") ∈ lw_all := lw_g (lw_at lw_m7 164 rfl) rfl
theorem q1740 : (Jvm.Cond.laysFinal "OverFirstModel" "OverFirstModel" "arg" "[I") ∈ lw_all := lw_g (lw_at lw_m7 165 rfl) rfl
theorem q1741 : (Jvm.Cond.soleField "OverFirstModel" "arg") ∈ lw_all := lw_g (lw_at lw_m7 166 rfl) rfl
theorem q1742 : (Jvm.Cond.lays "OverFirstModel" "OverFirstModel" "codes" "I") ∈ lw_all := lw_g (lw_at lw_m7 167 rfl) rfl
theorem q1743 : (Jvm.Cond.soleField "OverFirstModel" "codes") ∈ lw_all := lw_g (lw_at lw_m7 168 rfl) rfl
theorem q1744 : (Jvm.Cond.laysFinal "OverFirstModel" "OverFirstModel" "names" "[J") ∈ lw_all := lw_g (lw_at lw_m7 169 rfl) rfl
theorem q1745 : (Jvm.Cond.soleField "OverFirstModel" "names") ∈ lw_all := lw_g (lw_at lw_m7 170 rfl) rfl
theorem q1746 : (Jvm.Cond.lays "OverFirstModel" "OverFirstModel" "told" "I") ∈ lw_all := lw_g (lw_at lw_m7 171 rfl) rfl
theorem q1747 : (Jvm.Cond.soleField "OverFirstModel" "told") ∈ lw_all := lw_g (lw_at lw_m7 172 rfl) rfl
theorem q1748 : (Jvm.Cond.laysFinal "OverFirstModel" "OverFirstModel" "walks" "[I") ∈ lw_all := lw_g (lw_at lw_m7 173 rfl) rfl
theorem q1749 : (Jvm.Cond.soleField "OverFirstModel" "walks") ∈ lw_all := lw_g (lw_at lw_m7 174 rfl) rfl
theorem q1750 : (Jvm.Cond.laysFinal "OverFirstModel" "OverFirstModel" "facts" "[I") ∈ lw_all := lw_g (lw_at lw_m7 175 rfl) rfl
theorem q1751 : (Jvm.Cond.soleField "OverFirstModel" "facts") ∈ lw_all := lw_g (lw_at lw_m7 176 rfl) rfl
theorem q1752 : (Jvm.Cond.laysFinal "OverFirstModel" "OverFirstModel" "pile" "[I") ∈ lw_all := lw_g (lw_at lw_m7 177 rfl) rfl
theorem q1753 : (Jvm.Cond.soleField "OverFirstModel" "pile") ∈ lw_all := lw_g (lw_at lw_m7 178 rfl) rfl
theorem q1754 : (Jvm.Cond.laysFinal "OverFirstModel" "OverFirstModel" "state" "[I") ∈ lw_all := lw_g (lw_at lw_m7 179 rfl) rfl
theorem q1755 : (Jvm.Cond.soleField "OverFirstModel" "state") ∈ lw_all := lw_g (lw_at lw_m7 180 rfl) rfl
theorem q1756 : (Jvm.Cond.lays "OverFirstModel" "OverFirstModel" "undos" "I") ∈ lw_all := lw_g (lw_at lw_m7 181 rfl) rfl
theorem q1757 : (Jvm.Cond.soleField "OverFirstModel" "undos") ∈ lw_all := lw_g (lw_at lw_m7 182 rfl) rfl
theorem q1758 : (Jvm.Cond.laysFinal "OverFirstModel" "OverFirstModel" "isMarked" "[Z") ∈ lw_all := lw_g (lw_at lw_m7 183 rfl) rfl
theorem q1759 : (Jvm.Cond.soleField "OverFirstModel" "isMarked") ∈ lw_all := lw_g (lw_at lw_m7 184 rfl) rfl
theorem q1760 : (Jvm.Cond.lays "OverFirstModel" "OverFirstModel" "version" "I") ∈ lw_all := lw_g (lw_at lw_m7 185 rfl) rfl
theorem q1761 : (Jvm.Cond.soleField "OverFirstModel" "version") ∈ lw_all := lw_g (lw_at lw_m7 186 rfl) rfl
theorem q1762 : (Jvm.Cond.laysFinal "OverFirstModel" "OverFirstModel" "worth" "[I") ∈ lw_all := lw_g (lw_at lw_m7 187 rfl) rfl
theorem q1763 : (Jvm.Cond.soleField "OverFirstModel" "worth") ∈ lw_all := lw_g (lw_at lw_m7 188 rfl) rfl
theorem q1764 : (Jvm.Cond.laysFinal "OverFirstModel" "OverFirstModel" "stamp" "[I") ∈ lw_all := lw_g (lw_at lw_m7 189 rfl) rfl
theorem q1765 : (Jvm.Cond.soleField "OverFirstModel" "stamp") ∈ lw_all := lw_g (lw_at lw_m7 190 rfl) rfl
theorem q1766 : (Jvm.Cond.lays "OverFirstModel" "OverFirstModel" "stamped" "I") ∈ lw_all := lw_g (lw_at lw_m7 191 rfl) rfl
theorem q1767 : (Jvm.Cond.soleField "OverFirstModel" "stamped") ∈ lw_all := lw_g (lw_at lw_m7 192 rfl) rfl
theorem q1768 : (Jvm.Cond.lays "OverFirstModel" "OverFirstModel" "goerKept" "I") ∈ lw_all := lw_g (lw_at lw_m7 193 rfl) rfl
theorem q1769 : (Jvm.Cond.soleField "OverFirstModel" "goerKept") ∈ lw_all := lw_g (lw_at lw_m7 194 rfl) rfl
theorem q1770 : (Jvm.Cond.lays "OverFirstModel" "OverFirstModel" "worstKept" "Z") ∈ lw_all := lw_g (lw_at lw_m7 195 rfl) rfl
theorem q1771 : (Jvm.Cond.soleField "OverFirstModel" "worstKept") ∈ lw_all := lw_g (lw_at lw_m7 196 rfl) rfl
theorem q1772 : (Jvm.Cond.lays "OverFirstModel" "OverFirstModel" "versionKept" "I") ∈ lw_all := lw_g (lw_at lw_m7 197 rfl) rfl
theorem q1773 : (Jvm.Cond.soleField "OverFirstModel" "versionKept") ∈ lw_all := lw_g (lw_at lw_m7 198 rfl) rfl
theorem q1774 : (Jvm.Cond.lays "OverFirstModel" "OverFirstModel" "watched" "I") ∈ lw_all := lw_g (lw_at lw_m7 199 rfl) rfl
theorem q1775 : (Jvm.Cond.soleField "OverFirstModel" "watched") ∈ lw_all := lw_g (lw_at lw_m7 200 rfl) rfl
theorem q1776 : (Jvm.Cond.lays "OverFirstModel" "OverFirstModel" "shift" "I") ∈ lw_all := lw_g (lw_at lw_m7 201 rfl) rfl
theorem q1777 : (Jvm.Cond.soleField "OverFirstModel" "shift") ∈ lw_all := lw_g (lw_at lw_m7 202 rfl) rfl
theorem q1778 : (Jvm.Cond.laysFinal "OverFirstModel" "OverFirstModel" "chances" "[I") ∈ lw_all := lw_g (lw_at lw_m7 203 rfl) rfl
theorem q1779 : (Jvm.Cond.soleField "OverFirstModel" "chances") ∈ lw_all := lw_g (lw_at lw_m7 204 rfl) rfl
theorem q1780 : (Jvm.Cond.laysFinal "OverFirstModel" "OverFirstModel" "chanceStamp" "[I") ∈ lw_all := lw_g (lw_at lw_m7 205 rfl) rfl
theorem q1781 : (Jvm.Cond.soleField "OverFirstModel" "chanceStamp") ∈ lw_all := lw_g (lw_at lw_m7 206 rfl) rfl
theorem q1782 : (Jvm.Cond.lays "OverFirstModel" "OverFirstModel" "chanceStamped" "I") ∈ lw_all := lw_g (lw_at lw_m7 207 rfl) rfl
theorem q1783 : (Jvm.Cond.soleField "OverFirstModel" "chanceStamped") ∈ lw_all := lw_g (lw_at lw_m7 208 rfl) rfl
theorem q1784 : (Jvm.Cond.lays "OverFirstModel" "OverFirstModel" "leaves" "I") ∈ lw_all := lw_g (lw_at lw_m7 209 rfl) rfl
theorem q1785 : (Jvm.Cond.soleField "OverFirstModel" "leaves") ∈ lw_all := lw_g (lw_at lw_m7 210 rfl) rfl
theorem q1786 : (Jvm.Cond.lays "OverFirstModel" "OverFirstModel" "due" "I") ∈ lw_all := lw_g (lw_at lw_m7 211 rfl) rfl
theorem q1787 : (Jvm.Cond.soleField "OverFirstModel" "due") ∈ lw_all := lw_g (lw_at lw_m7 212 rfl) rfl
theorem q1788 : (Jvm.Cond.laysFinal "OverFirstModel" "OverFirstModel" "paces" "[I") ∈ lw_all := lw_g (lw_at lw_m7 213 rfl) rfl
theorem q1789 : (Jvm.Cond.soleField "OverFirstModel" "paces") ∈ lw_all := lw_g (lw_at lw_m7 214 rfl) rfl
theorem q1790 : (Jvm.Cond.lays "OverFirstModel" "OverFirstModel" "setsOut" "I") ∈ lw_all := lw_g (lw_at lw_m7 215 rfl) rfl
theorem q1791 : (Jvm.Cond.soleField "OverFirstModel" "setsOut") ∈ lw_all := lw_g (lw_at lw_m7 216 rfl) rfl
theorem q1792 : (Jvm.Cond.laysFinal "OverFirstModel" "OverFirstModel" "onward" "[J") ∈ lw_all := lw_g (lw_at lw_m7 217 rfl) rfl
theorem q1793 : (Jvm.Cond.soleField "OverFirstModel" "onward") ∈ lw_all := lw_g (lw_at lw_m7 218 rfl) rfl
theorem q1794 : (Jvm.Cond.laysFinal "OverFirstModel" "OverFirstModel" "back" "[J") ∈ lw_all := lw_g (lw_at lw_m7 219 rfl) rfl
theorem q1795 : (Jvm.Cond.soleField "OverFirstModel" "back") ∈ lw_all := lw_g (lw_at lw_m7 220 rfl) rfl
theorem q1796 : (Jvm.Cond.laysFinal "OverFirstModel" "OverFirstModel" "begins0" "[I") ∈ lw_all := lw_g (lw_at lw_m7 221 rfl) rfl
theorem q1797 : (Jvm.Cond.soleField "OverFirstModel" "begins0") ∈ lw_all := lw_g (lw_at lw_m7 222 rfl) rfl
theorem q1798 : (Jvm.Cond.laysFinal "OverFirstModel" "OverFirstModel" "bestBegins" "[I") ∈ lw_all := lw_g (lw_at lw_m7 223 rfl) rfl
theorem q1799 : (Jvm.Cond.soleField "OverFirstModel" "bestBegins") ∈ lw_all := lw_g (lw_at lw_m7 224 rfl) rfl
theorem q1800 : (Jvm.Cond.lays "OverFirstModel" "OverFirstModel" "bestWave" "I") ∈ lw_all := lw_g (lw_at lw_m7 225 rfl) rfl
theorem q1801 : (Jvm.Cond.soleField "OverFirstModel" "bestWave") ∈ lw_all := lw_g (lw_at lw_m7 226 rfl) rfl
theorem q1802 : (Jvm.Cond.lays "OverFirstModel" "OverFirstModel" "fitMany" "J") ∈ lw_all := lw_g (lw_at lw_m7 227 rfl) rfl
theorem q1803 : (Jvm.Cond.soleField "OverFirstModel" "fitMany") ∈ lw_all := lw_g (lw_at lw_m7 228 rfl) rfl
theorem q1804 : (Jvm.Cond.lays "OverFirstModel" "OverFirstModel" "fitFirst" "I") ∈ lw_all := lw_g (lw_at lw_m7 229 rfl) rfl
theorem q1805 : (Jvm.Cond.soleField "OverFirstModel" "fitFirst") ∈ lw_all := lw_g (lw_at lw_m7 230 rfl) rfl
theorem q1806 : (Jvm.Cond.lays "OverFirstModel" "OverFirstModel" "fitCorners" "J") ∈ lw_all := lw_g (lw_at lw_m7 231 rfl) rfl
theorem q1807 : (Jvm.Cond.soleField "OverFirstModel" "fitCorners") ∈ lw_all := lw_g (lw_at lw_m7 232 rfl) rfl
theorem q1808 : (Jvm.Cond.lays "OverFirstModel" "OverFirstModel" "g" "J") ∈ lw_all := lw_g (lw_at lw_m7 233 rfl) rfl
theorem q1809 : (Jvm.Cond.soleField "OverFirstModel" "g") ∈ lw_all := lw_g (lw_at lw_m7 234 rfl) rfl
theorem q1810 : (Jvm.Cond.laysFinal "OverFirstModel" "OverFirstModel" "standsAt" "[I") ∈ lw_all := lw_g (lw_at lw_m7 235 rfl) rfl
theorem q1811 : (Jvm.Cond.soleField "OverFirstModel" "standsAt") ∈ lw_all := lw_g (lw_at lw_m7 236 rfl) rfl
theorem q1812 : (Jvm.Cond.superclass "OverFirstModel" "java/lang/Object") ∈ lw_all := lw_g (lw_at lw_m7 237 rfl) rfl
theorem q1814 : (Jvm.Cond.instanceMethod ({ cls := "OverFirstModel", name := "town", desc := "()I" } : Jvm.MethodName)) ∈ lw_all := lw_g (lw_at lw_m7 239 rfl) rfl
theorem q1815 : (Jvm.Cond.selects "OverFirstModel" ({ cls := "OverFirstModel", name := "town", desc := "()I" } : Jvm.MethodName) ({ cls := "OverFirstModel", name := "town", desc := "()I" } : Jvm.MethodName)) ∈ lw_all := lw_g (lw_at lw_m8 0 rfl) rfl
theorem q1816 : (Jvm.Cond.code ({ cls := "OverFirstModel", name := "town", desc := "()I" } : Jvm.MethodName) prog_23_method_23_code (2 : Nat) (Option.some Jvm.ClassFile.FieldType.int)) ∈ lw_all := lw_g (lw_at lw_m8 1 rfl) rfl
theorem q1817 : (Jvm.Cond.methodLink "OverFirstModel" (205 : Nat) ({ cls := "OverFirstModel", name := "cutAll", desc := "()V" } : Jvm.MethodName)) ∈ lw_all := lw_g (lw_at lw_m8 2 rfl) rfl
theorem q1818 : (Jvm.Cond.privateMethod ({ cls := "OverFirstModel", name := "cutAll", desc := "()V" } : Jvm.MethodName)) ∈ lw_tbl := lw_at lw_m8 3 rfl
theorem q1819 : (Jvm.Cond.instanceMethod ({ cls := "OverFirstModel", name := "cutAll", desc := "()V" } : Jvm.MethodName)) ∈ lw_all := lw_g (lw_at lw_m8 4 rfl) rfl
theorem q1820 : (Jvm.Cond.code ({ cls := "OverFirstModel", name := "cutAll", desc := "()V" } : Jvm.MethodName) prog_23_method_9_code (7 : Nat) (Option.none : Option Jvm.ClassFile.FieldType)) ∈ lw_all := lw_g (lw_at lw_m8 5 rfl) rfl
theorem q1821 : (Jvm.Cond.methodLink "OverFirstModel" (154 : Nat) ({ cls := "OverFirstModel", name := "isLetter", desc := "(I)Z" } : Jvm.MethodName)) ∈ lw_all := lw_g (lw_at lw_m8 6 rfl) rfl
theorem q1822 : (Jvm.Cond.static ({ cls := "OverFirstModel", name := "isLetter", desc := "(I)Z" } : Jvm.MethodName)) ∈ lw_all := lw_g (lw_at lw_m8 7 rfl) rfl
theorem q1823 : (Jvm.Cond.code ({ cls := "OverFirstModel", name := "isLetter", desc := "(I)Z" } : Jvm.MethodName) prog_23_method_5_code (1 : Nat) (Option.some Jvm.ClassFile.FieldType.boolean)) ∈ lw_all := lw_g (lw_at lw_m8 8 rfl) rfl
theorem q1824 : (Jvm.Cond.constantLong "OverFirstModel" (161 : Nat) (37 : Int64)) ∈ lw_all := lw_g (lw_at lw_m8 9 rfl) rfl
theorem q1825 : (Jvm.Cond.methodLink "OverFirstModel" (163 : Nat) ({ cls := "OverFirstModel", name := "rank", desc := "(I)I" } : Jvm.MethodName)) ∈ lw_all := lw_g (lw_at lw_m8 10 rfl) rfl
theorem q1826 : (Jvm.Cond.static ({ cls := "OverFirstModel", name := "rank", desc := "(I)I" } : Jvm.MethodName)) ∈ lw_all := lw_g (lw_at lw_m8 11 rfl) rfl
theorem q1827 : (Jvm.Cond.code ({ cls := "OverFirstModel", name := "rank", desc := "(I)I" } : Jvm.MethodName) prog_23_method_7_code (1 : Nat) (Option.some Jvm.ClassFile.FieldType.int)) ∈ lw_all := lw_g (lw_at lw_m8 12 rfl) rfl
theorem q1828 : (Jvm.Cond.methodLink "OverFirstModel" (167 : Nat) ({ cls := "OverFirstModel", name := "isDigit", desc := "(I)Z" } : Jvm.MethodName)) ∈ lw_all := lw_g (lw_at lw_m8 13 rfl) rfl
theorem q1829 : (Jvm.Cond.static ({ cls := "OverFirstModel", name := "isDigit", desc := "(I)Z" } : Jvm.MethodName)) ∈ lw_all := lw_g (lw_at lw_m8 14 rfl) rfl
theorem q1830 : (Jvm.Cond.code ({ cls := "OverFirstModel", name := "isDigit", desc := "(I)Z" } : Jvm.MethodName) prog_23_method_6_code (1 : Nat) (Option.some Jvm.ClassFile.FieldType.boolean)) ∈ lw_all := lw_g (lw_at lw_m8 15 rfl) rfl
theorem q1831 : (Jvm.Cond.constantLong "OverFirstModel" (170 : Nat) (10 : Int64)) ∈ lw_all := lw_g (lw_at lw_m8 16 rfl) rfl
theorem q1832 : (Jvm.Cond.constantLong "OverFirstModel" (172 : Nat) (48 : Int64)) ∈ lw_all := lw_g (lw_at lw_m8 17 rfl) rfl
theorem q1833 : (Jvm.Cond.methodLink "OverFirstModel" (174 : Nat) ({ cls := "OverFirstModel", name := "isSignOf", desc := "(I)Z" } : Jvm.MethodName)) ∈ lw_all := lw_g (lw_at lw_m8 18 rfl) rfl
theorem q1834 : (Jvm.Cond.static ({ cls := "OverFirstModel", name := "isSignOf", desc := "(I)Z" } : Jvm.MethodName)) ∈ lw_all := lw_g (lw_at lw_m8 19 rfl) rfl
theorem q1835 : (Jvm.Cond.code ({ cls := "OverFirstModel", name := "isSignOf", desc := "(I)Z" } : Jvm.MethodName) prog_23_method_8_code (1 : Nat) (Option.some Jvm.ClassFile.FieldType.boolean)) ∈ lw_all := lw_g (lw_at lw_m8 20 rfl) rfl
theorem q1836 : (Jvm.Cond.methodLink "OverFirstModel" (195 : Nat) ({ cls := "OverFirstModel", name := "takeWord", desc := "(I)V" } : Jvm.MethodName)) ∈ lw_all := lw_g (lw_at lw_m8 21 rfl) rfl
theorem q1837 : (Jvm.Cond.privateMethod ({ cls := "OverFirstModel", name := "takeWord", desc := "(I)V" } : Jvm.MethodName)) ∈ lw_tbl := lw_at lw_m8 22 rfl
theorem q1838 : (Jvm.Cond.instanceMethod ({ cls := "OverFirstModel", name := "takeWord", desc := "(I)V" } : Jvm.MethodName)) ∈ lw_all := lw_g (lw_at lw_m8 23 rfl) rfl
theorem q1839 : (Jvm.Cond.code ({ cls := "OverFirstModel", name := "takeWord", desc := "(I)V" } : Jvm.MethodName) prog_23_method_16_code (2 : Nat) (Option.none : Option Jvm.ClassFile.FieldType)) ∈ lw_all := lw_g (lw_at lw_m8 24 rfl) rfl
theorem q1840 : (Jvm.Cond.methodLink "OverFirstModel" (192 : Nat) ({ cls := "OverFirstModel", name := "hasWord", desc := "(I)Z" } : Jvm.MethodName)) ∈ lw_all := lw_g (lw_at lw_m8 25 rfl) rfl
theorem q1841 : (Jvm.Cond.privateMethod ({ cls := "OverFirstModel", name := "hasWord", desc := "(I)Z" } : Jvm.MethodName)) ∈ lw_tbl := lw_at lw_m8 26 rfl
theorem q1842 : (Jvm.Cond.instanceMethod ({ cls := "OverFirstModel", name := "hasWord", desc := "(I)Z" } : Jvm.MethodName)) ∈ lw_all := lw_g (lw_at lw_m8 27 rfl) rfl
theorem q1843 : (Jvm.Cond.code ({ cls := "OverFirstModel", name := "hasWord", desc := "(I)Z" } : Jvm.MethodName) prog_23_method_15_code (3 : Nat) (Option.some Jvm.ClassFile.FieldType.boolean)) ∈ lw_all := lw_g (lw_at lw_m8 28 rfl) rfl
theorem q1844 : (Jvm.Cond.methodLink "OverFirstModel" (189 : Nat) ({ cls := "OverFirstModel", name := "isWord", desc := "(I)Z" } : Jvm.MethodName)) ∈ lw_all := lw_g (lw_at lw_m8 29 rfl) rfl
theorem q1845 : (Jvm.Cond.privateMethod ({ cls := "OverFirstModel", name := "isWord", desc := "(I)Z" } : Jvm.MethodName)) ∈ lw_tbl := lw_at lw_m8 30 rfl
theorem q1846 : (Jvm.Cond.instanceMethod ({ cls := "OverFirstModel", name := "isWord", desc := "(I)Z" } : Jvm.MethodName)) ∈ lw_all := lw_g (lw_at lw_m8 31 rfl) rfl
theorem q1847 : (Jvm.Cond.code ({ cls := "OverFirstModel", name := "isWord", desc := "(I)Z" } : Jvm.MethodName) prog_23_method_12_code (2 : Nat) (Option.some Jvm.ClassFile.FieldType.boolean)) ∈ lw_all := lw_g (lw_at lw_m8 32 rfl) rfl
theorem q1848 : (Jvm.Cond.methodLink "OverFirstModel" (186 : Nat) ({ cls := "OverFirstModel", name := "wrong", desc := "(I)V" } : Jvm.MethodName)) ∈ lw_all := lw_g (lw_at lw_m8 33 rfl) rfl
theorem q1849 : (Jvm.Cond.privateMethod ({ cls := "OverFirstModel", name := "wrong", desc := "(I)V" } : Jvm.MethodName)) ∈ lw_tbl := lw_at lw_m8 34 rfl
theorem q1850 : (Jvm.Cond.instanceMethod ({ cls := "OverFirstModel", name := "wrong", desc := "(I)V" } : Jvm.MethodName)) ∈ lw_all := lw_g (lw_at lw_m8 35 rfl) rfl
theorem q1851 : (Jvm.Cond.code ({ cls := "OverFirstModel", name := "wrong", desc := "(I)V" } : Jvm.MethodName) prog_23_method_10_code (2 : Nat) (Option.none : Option Jvm.ClassFile.FieldType)) ∈ lw_all := lw_g (lw_at lw_m8 36 rfl) rfl
theorem q1852 : (Jvm.Cond.methodLink "OverFirstModel" (198 : Nat) ({ cls := "OverFirstModel", name := "takeNumber", desc := "(II)I" } : Jvm.MethodName)) ∈ lw_all := lw_g (lw_at lw_m8 37 rfl) rfl
theorem q1853 : (Jvm.Cond.privateMethod ({ cls := "OverFirstModel", name := "takeNumber", desc := "(II)I" } : Jvm.MethodName)) ∈ lw_tbl := lw_at lw_m8 38 rfl
theorem q1854 : (Jvm.Cond.instanceMethod ({ cls := "OverFirstModel", name := "takeNumber", desc := "(II)I" } : Jvm.MethodName)) ∈ lw_all := lw_g (lw_at lw_m8 39 rfl) rfl
theorem q1855 : (Jvm.Cond.code ({ cls := "OverFirstModel", name := "takeNumber", desc := "(II)I" } : Jvm.MethodName) prog_23_method_19_code (3 : Nat) (Option.some Jvm.ClassFile.FieldType.int)) ∈ lw_all := lw_g (lw_at lw_m8 40 rfl) rfl
theorem q1856 : (Jvm.Cond.methodLink "OverFirstModel" (214 : Nat) ({ cls := "OverFirstModel", name := "takeSign", desc := "(I)V" } : Jvm.MethodName)) ∈ lw_all := lw_g (lw_at lw_m8 41 rfl) rfl
theorem q1857 : (Jvm.Cond.privateMethod ({ cls := "OverFirstModel", name := "takeSign", desc := "(I)V" } : Jvm.MethodName)) ∈ lw_tbl := lw_at lw_m8 42 rfl
theorem q1858 : (Jvm.Cond.instanceMethod ({ cls := "OverFirstModel", name := "takeSign", desc := "(I)V" } : Jvm.MethodName)) ∈ lw_all := lw_g (lw_at lw_m8 43 rfl) rfl
theorem q1859 : (Jvm.Cond.code ({ cls := "OverFirstModel", name := "takeSign", desc := "(I)V" } : Jvm.MethodName) prog_23_method_13_code (2 : Nat) (Option.none : Option Jvm.ClassFile.FieldType)) ∈ lw_all := lw_g (lw_at lw_m8 44 rfl) rfl
theorem q1860 : (Jvm.Cond.methodLink "OverFirstModel" (183 : Nat) ({ cls := "OverFirstModel", name := "isSign", desc := "(I)Z" } : Jvm.MethodName)) ∈ lw_all := lw_g (lw_at lw_m8 45 rfl) rfl
theorem q1861 : (Jvm.Cond.privateMethod ({ cls := "OverFirstModel", name := "isSign", desc := "(I)Z" } : Jvm.MethodName)) ∈ lw_tbl := lw_at lw_m8 46 rfl
theorem q1862 : (Jvm.Cond.instanceMethod ({ cls := "OverFirstModel", name := "isSign", desc := "(I)Z" } : Jvm.MethodName)) ∈ lw_all := lw_g (lw_at lw_m8 47 rfl) rfl
theorem q1863 : (Jvm.Cond.code ({ cls := "OverFirstModel", name := "isSign", desc := "(I)Z" } : Jvm.MethodName) prog_23_method_11_code (2 : Nat) (Option.some Jvm.ClassFile.FieldType.boolean)) ∈ lw_all := lw_g (lw_at lw_m8 48 rfl) rfl
theorem q1864 : (Jvm.Cond.methodLink "OverFirstModel" (217 : Nat) ({ cls := "OverFirstModel", name := "readLine", desc := "()V" } : Jvm.MethodName)) ∈ lw_all := lw_g (lw_at lw_m8 49 rfl) rfl
theorem q1865 : (Jvm.Cond.privateMethod ({ cls := "OverFirstModel", name := "readLine", desc := "()V" } : Jvm.MethodName)) ∈ lw_tbl := lw_at lw_m8 50 rfl
theorem q1866 : (Jvm.Cond.instanceMethod ({ cls := "OverFirstModel", name := "readLine", desc := "()V" } : Jvm.MethodName)) ∈ lw_all := lw_g (lw_at lw_m8 51 rfl) rfl
theorem q1867 : (Jvm.Cond.code ({ cls := "OverFirstModel", name := "readLine", desc := "()V" } : Jvm.MethodName) prog_23_method_24_code (1 : Nat) (Option.none : Option Jvm.ClassFile.FieldType)) ∈ lw_all := lw_g (lw_at lw_m8 52 rfl) rfl
theorem q1868 : (Jvm.Cond.methodLink "OverFirstModel" (220 : Nat) ({ cls := "OverFirstModel", name := "readLight", desc := "()V" } : Jvm.MethodName)) ∈ lw_all := lw_g (lw_at lw_m8 53 rfl) rfl
theorem q1869 : (Jvm.Cond.privateMethod ({ cls := "OverFirstModel", name := "readLight", desc := "()V" } : Jvm.MethodName)) ∈ lw_tbl := lw_at lw_m8 54 rfl
theorem q1870 : (Jvm.Cond.instanceMethod ({ cls := "OverFirstModel", name := "readLight", desc := "()V" } : Jvm.MethodName)) ∈ lw_all := lw_g (lw_at lw_m8 55 rfl) rfl
theorem q1871 : (Jvm.Cond.code ({ cls := "OverFirstModel", name := "readLight", desc := "()V" } : Jvm.MethodName) prog_23_method_27_code (7 : Nat) (Option.none : Option Jvm.ClassFile.FieldType)) ∈ lw_all := lw_g (lw_at lw_m8 56 rfl) rfl
theorem q1872 : (Jvm.Cond.methodLink "OverFirstModel" (202 : Nat) ({ cls := "OverFirstModel", name := "wordHere", desc := "(II)I" } : Jvm.MethodName)) ∈ lw_all := lw_g (lw_at lw_m8 57 rfl) rfl
theorem q1873 : (Jvm.Cond.privateMethod ({ cls := "OverFirstModel", name := "wordHere", desc := "(II)I" } : Jvm.MethodName)) ∈ lw_tbl := lw_at lw_m8 58 rfl
theorem q1874 : (Jvm.Cond.instanceMethod ({ cls := "OverFirstModel", name := "wordHere", desc := "(II)I" } : Jvm.MethodName)) ∈ lw_all := lw_g (lw_at lw_m8 59 rfl) rfl
theorem q1875 : (Jvm.Cond.code ({ cls := "OverFirstModel", name := "wordHere", desc := "(II)I" } : Jvm.MethodName) prog_23_method_21_code (5 : Nat) (Option.some Jvm.ClassFile.FieldType.int)) ∈ lw_all := lw_g (lw_at lw_m8 60 rfl) rfl
theorem q1876 : (Jvm.Cond.methodLink "OverFirstModel" (232 : Nat) ({ cls := "OverFirstModel", name := "takeAfter", desc := "(III)I" } : Jvm.MethodName)) ∈ lw_all := lw_g (lw_at lw_m8 61 rfl) rfl
theorem q1877 : (Jvm.Cond.privateMethod ({ cls := "OverFirstModel", name := "takeAfter", desc := "(III)I" } : Jvm.MethodName)) ∈ lw_tbl := lw_at lw_m8 62 rfl
theorem q1878 : (Jvm.Cond.instanceMethod ({ cls := "OverFirstModel", name := "takeAfter", desc := "(III)I" } : Jvm.MethodName)) ∈ lw_all := lw_g (lw_at lw_m8 63 rfl) rfl
theorem q1879 : (Jvm.Cond.code ({ cls := "OverFirstModel", name := "takeAfter", desc := "(III)I" } : Jvm.MethodName) prog_23_method_20_code (4 : Nat) (Option.some Jvm.ClassFile.FieldType.int)) ∈ lw_all := lw_g (lw_at lw_m8 64 rfl) rfl
theorem q1880 : (Jvm.Cond.methodLink "OverFirstModel" (236 : Nat) ({ cls := "OverFirstModel", name := "common", desc := "(II)I" } : Jvm.MethodName)) ∈ lw_all := lw_g (lw_at lw_m8 65 rfl) rfl
theorem q1881 : (Jvm.Cond.static ({ cls := "OverFirstModel", name := "common", desc := "(II)I" } : Jvm.MethodName)) ∈ lw_all := lw_g (lw_at lw_m8 66 rfl) rfl
theorem q1882 : (Jvm.Cond.code ({ cls := "OverFirstModel", name := "common", desc := "(II)I" } : Jvm.MethodName) prog_23_method_26_code (5 : Nat) (Option.some Jvm.ClassFile.FieldType.int)) ∈ lw_all := lw_g (lw_at lw_m8 67 rfl) rfl
theorem q1883 : (Jvm.Cond.methodLink "OverFirstModel" (223 : Nat) ({ cls := "OverFirstModel", name := "readBar", desc := "()V" } : Jvm.MethodName)) ∈ lw_all := lw_g (lw_at lw_m8 68 rfl) rfl
theorem q1884 : (Jvm.Cond.privateMethod ({ cls := "OverFirstModel", name := "readBar", desc := "()V" } : Jvm.MethodName)) ∈ lw_tbl := lw_at lw_m8 69 rfl
theorem q1885 : (Jvm.Cond.instanceMethod ({ cls := "OverFirstModel", name := "readBar", desc := "()V" } : Jvm.MethodName)) ∈ lw_all := lw_g (lw_at lw_m8 70 rfl) rfl
theorem q1886 : (Jvm.Cond.code ({ cls := "OverFirstModel", name := "readBar", desc := "()V" } : Jvm.MethodName) prog_23_method_28_code (5 : Nat) (Option.none : Option Jvm.ClassFile.FieldType)) ∈ lw_all := lw_g (lw_at lw_m8 71 rfl) rfl
theorem q1887 : (Jvm.Cond.methodLink "OverFirstModel" (226 : Nat) ({ cls := "OverFirstModel", name := "readRule", desc := "()V" } : Jvm.MethodName)) ∈ lw_all := lw_g (lw_at lw_m8 72 rfl) rfl
theorem q1888 : (Jvm.Cond.privateMethod ({ cls := "OverFirstModel", name := "readRule", desc := "()V" } : Jvm.MethodName)) ∈ lw_tbl := lw_at lw_m8 73 rfl
theorem q1889 : (Jvm.Cond.instanceMethod ({ cls := "OverFirstModel", name := "readRule", desc := "()V" } : Jvm.MethodName)) ∈ lw_all := lw_g (lw_at lw_m8 74 rfl) rfl
theorem q1890 : (Jvm.Cond.code ({ cls := "OverFirstModel", name := "readRule", desc := "()V" } : Jvm.MethodName) prog_23_method_29_code (4 : Nat) (Option.none : Option Jvm.ClassFile.FieldType)) ∈ lw_all := lw_g (lw_at lw_m8 75 rfl) rfl
theorem q1891 : (Jvm.Cond.methodLink "OverFirstModel" (239 : Nat) ({ cls := "OverFirstModel", name := "isName", desc := "()Z" } : Jvm.MethodName)) ∈ lw_all := lw_g (lw_at lw_m8 76 rfl) rfl
theorem q1892 : (Jvm.Cond.privateMethod ({ cls := "OverFirstModel", name := "isName", desc := "()Z" } : Jvm.MethodName)) ∈ lw_tbl := lw_at lw_m8 77 rfl
theorem q1893 : (Jvm.Cond.instanceMethod ({ cls := "OverFirstModel", name := "isName", desc := "()Z" } : Jvm.MethodName)) ∈ lw_all := lw_g (lw_at lw_m8 78 rfl) rfl
theorem q1894 : (Jvm.Cond.code ({ cls := "OverFirstModel", name := "isName", desc := "()Z" } : Jvm.MethodName) prog_23_method_22_code (1 : Nat) (Option.some Jvm.ClassFile.FieldType.boolean)) ∈ lw_all := lw_g (lw_at lw_m8 79 rfl) rfl
theorem q1895 : (Jvm.Cond.methodLink "OverFirstModel" (243 : Nat) ({ cls := "OverFirstModel", name := "all", desc := "(I)V" } : Jvm.MethodName)) ∈ lw_all := lw_g (lw_at lw_m8 80 rfl) rfl
theorem q1896 : (Jvm.Cond.privateMethod ({ cls := "OverFirstModel", name := "all", desc := "(I)V" } : Jvm.MethodName)) ∈ lw_tbl := lw_at lw_m8 81 rfl
theorem q1897 : (Jvm.Cond.instanceMethod ({ cls := "OverFirstModel", name := "all", desc := "(I)V" } : Jvm.MethodName)) ∈ lw_all := lw_g (lw_at lw_m8 82 rfl) rfl
theorem q1898 : (Jvm.Cond.code ({ cls := "OverFirstModel", name := "all", desc := "(I)V" } : Jvm.MethodName) prog_23_method_32_code (3 : Nat) (Option.none : Option Jvm.ClassFile.FieldType)) ∈ lw_all := lw_g (lw_at lw_m8 83 rfl) rfl
theorem q1899 : (Jvm.Cond.methodLink "OverFirstModel" (257 : Nat) ({ cls := "OverFirstModel", name := "test", desc := "(I)V" } : Jvm.MethodName)) ∈ lw_all := lw_g (lw_at lw_m8 84 rfl) rfl
theorem q1900 : (Jvm.Cond.privateMethod ({ cls := "OverFirstModel", name := "test", desc := "(I)V" } : Jvm.MethodName)) ∈ lw_tbl := lw_at lw_m8 85 rfl
theorem q1901 : (Jvm.Cond.instanceMethod ({ cls := "OverFirstModel", name := "test", desc := "(I)V" } : Jvm.MethodName)) ∈ lw_all := lw_g (lw_at lw_m8 86 rfl) rfl
theorem q1902 : (Jvm.Cond.code ({ cls := "OverFirstModel", name := "test", desc := "(I)V" } : Jvm.MethodName) prog_23_method_33_code (3 : Nat) (Option.none : Option Jvm.ClassFile.FieldType)) ∈ lw_all := lw_g (lw_at lw_m8 87 rfl) rfl
theorem q1903 : (Jvm.Cond.methodLink "OverFirstModel" (260 : Nat) ({ cls := "OverFirstModel", name := "sums", desc := "(I)V" } : Jvm.MethodName)) ∈ lw_all := lw_g (lw_at lw_m8 88 rfl) rfl
theorem q1904 : (Jvm.Cond.privateMethod ({ cls := "OverFirstModel", name := "sums", desc := "(I)V" } : Jvm.MethodName)) ∈ lw_tbl := lw_at lw_m8 89 rfl
theorem q1905 : (Jvm.Cond.instanceMethod ({ cls := "OverFirstModel", name := "sums", desc := "(I)V" } : Jvm.MethodName)) ∈ lw_all := lw_g (lw_at lw_m8 90 rfl) rfl
theorem q1906 : (Jvm.Cond.code ({ cls := "OverFirstModel", name := "sums", desc := "(I)V" } : Jvm.MethodName) prog_23_method_34_code (3 : Nat) (Option.none : Option Jvm.ClassFile.FieldType)) ∈ lw_all := lw_g (lw_at lw_m8 91 rfl) rfl
theorem q1907 : (Jvm.Cond.methodLink "OverFirstModel" (266 : Nat) ({ cls := "OverFirstModel", name := "products", desc := "(I)V" } : Jvm.MethodName)) ∈ lw_all := lw_g (lw_at lw_m8 92 rfl) rfl
theorem q1908 : (Jvm.Cond.privateMethod ({ cls := "OverFirstModel", name := "products", desc := "(I)V" } : Jvm.MethodName)) ∈ lw_tbl := lw_at lw_m8 93 rfl
theorem q1909 : (Jvm.Cond.instanceMethod ({ cls := "OverFirstModel", name := "products", desc := "(I)V" } : Jvm.MethodName)) ∈ lw_all := lw_g (lw_at lw_m8 94 rfl) rfl
theorem q1910 : (Jvm.Cond.code ({ cls := "OverFirstModel", name := "products", desc := "(I)V" } : Jvm.MethodName) prog_23_method_35_code (2 : Nat) (Option.none : Option Jvm.ClassFile.FieldType)) ∈ lw_all := lw_g (lw_at lw_m8 95 rfl) rfl
theorem q1911 : (Jvm.Cond.methodLink "OverFirstModel" (269 : Nat) ({ cls := "OverFirstModel", name := "takePart", desc := "(I)V" } : Jvm.MethodName)) ∈ lw_all := lw_g (lw_at lw_m8 96 rfl) rfl
theorem q1912 : (Jvm.Cond.privateMethod ({ cls := "OverFirstModel", name := "takePart", desc := "(I)V" } : Jvm.MethodName)) ∈ lw_tbl := lw_at lw_m8 97 rfl
theorem q1913 : (Jvm.Cond.instanceMethod ({ cls := "OverFirstModel", name := "takePart", desc := "(I)V" } : Jvm.MethodName)) ∈ lw_all := lw_g (lw_at lw_m8 98 rfl) rfl
theorem q1914 : (Jvm.Cond.code ({ cls := "OverFirstModel", name := "takePart", desc := "(I)V" } : Jvm.MethodName) prog_23_method_36_code (6 : Nat) (Option.none : Option Jvm.ClassFile.FieldType)) ∈ lw_all := lw_g (lw_at lw_m8 99 rfl) rfl
theorem q1915 : (Jvm.Cond.methodLink "OverFirstModel" (246 : Nat) ({ cls := "OverFirstModel", name := "emit", desc := "(II)V" } : Jvm.MethodName)) ∈ lw_all := lw_g (lw_at lw_m8 100 rfl) rfl
theorem q1916 : (Jvm.Cond.privateMethod ({ cls := "OverFirstModel", name := "emit", desc := "(II)V" } : Jvm.MethodName)) ∈ lw_tbl := lw_at lw_m8 101 rfl
theorem q1917 : (Jvm.Cond.instanceMethod ({ cls := "OverFirstModel", name := "emit", desc := "(II)V" } : Jvm.MethodName)) ∈ lw_all := lw_g (lw_at lw_m8 102 rfl) rfl
theorem q1918 : (Jvm.Cond.code ({ cls := "OverFirstModel", name := "emit", desc := "(II)V" } : Jvm.MethodName) prog_23_method_31_code (3 : Nat) (Option.none : Option Jvm.ClassFile.FieldType)) ∈ lw_all := lw_g (lw_at lw_m8 103 rfl) rfl
theorem q1919 : (Jvm.Cond.methodLink "OverFirstModel" (263 : Nat) ({ cls := "OverFirstModel", name := "hasSign", desc := "(I)Z" } : Jvm.MethodName)) ∈ lw_all := lw_g (lw_at lw_m8 104 rfl) rfl
theorem q1920 : (Jvm.Cond.privateMethod ({ cls := "OverFirstModel", name := "hasSign", desc := "(I)Z" } : Jvm.MethodName)) ∈ lw_tbl := lw_at lw_m8 105 rfl
theorem q1921 : (Jvm.Cond.instanceMethod ({ cls := "OverFirstModel", name := "hasSign", desc := "(I)Z" } : Jvm.MethodName)) ∈ lw_all := lw_g (lw_at lw_m8 106 rfl) rfl
theorem q1922 : (Jvm.Cond.code ({ cls := "OverFirstModel", name := "hasSign", desc := "(I)Z" } : Jvm.MethodName) prog_23_method_14_code (3 : Nat) (Option.some Jvm.ClassFile.FieldType.boolean)) ∈ lw_all := lw_g (lw_at lw_m8 107 rfl) rfl
theorem q1923 : (Jvm.Cond.methodLink "OverFirstModel" (229 : Nat) ({ cls := "OverFirstModel", name := "readOnce", desc := "()V" } : Jvm.MethodName)) ∈ lw_all := lw_g (lw_at lw_m8 108 rfl) rfl
theorem q1924 : (Jvm.Cond.privateMethod ({ cls := "OverFirstModel", name := "readOnce", desc := "()V" } : Jvm.MethodName)) ∈ lw_tbl := lw_at lw_m8 109 rfl
theorem q1925 : (Jvm.Cond.instanceMethod ({ cls := "OverFirstModel", name := "readOnce", desc := "()V" } : Jvm.MethodName)) ∈ lw_all := lw_g (lw_at lw_m8 110 rfl) rfl
theorem q1926 : (Jvm.Cond.code ({ cls := "OverFirstModel", name := "readOnce", desc := "()V" } : Jvm.MethodName) prog_23_method_25_code (2 : Nat) (Option.none : Option Jvm.ClassFile.FieldType)) ∈ lw_all := lw_g (lw_at lw_m8 111 rfl) rfl
theorem q1928 : (Jvm.Cond.instanceMethod ({ cls := "OverFirstModel", name := "walk", desc := "()I" } : Jvm.MethodName)) ∈ lw_all := lw_g (lw_at lw_m8 113 rfl) rfl
theorem q1929 : (Jvm.Cond.selects "OverFirstModel" ({ cls := "OverFirstModel", name := "walk", desc := "()I" } : Jvm.MethodName) ({ cls := "OverFirstModel", name := "walk", desc := "()I" } : Jvm.MethodName)) ∈ lw_all := lw_g (lw_at lw_m8 114 rfl) rfl
theorem q1930 : (Jvm.Cond.code ({ cls := "OverFirstModel", name := "walk", desc := "()I" } : Jvm.MethodName) prog_23_method_30_code (5 : Nat) (Option.some Jvm.ClassFile.FieldType.int)) ∈ lw_all := lw_g (lw_at lw_m8 115 rfl) rfl
theorem q1931 : (Jvm.Cond.methodLink "OverFirstModel" (250 : Nat) ({ cls := "OverFirstModel", name := "isThere", desc := "(III)Z" } : Jvm.MethodName)) ∈ lw_all := lw_g (lw_at lw_m8 116 rfl) rfl
theorem q1932 : (Jvm.Cond.privateMethod ({ cls := "OverFirstModel", name := "isThere", desc := "(III)Z" } : Jvm.MethodName)) ∈ lw_tbl := lw_at lw_m8 117 rfl
theorem q1933 : (Jvm.Cond.instanceMethod ({ cls := "OverFirstModel", name := "isThere", desc := "(III)Z" } : Jvm.MethodName)) ∈ lw_all := lw_g (lw_at lw_m8 118 rfl) rfl
theorem q1934 : (Jvm.Cond.code ({ cls := "OverFirstModel", name := "isThere", desc := "(III)Z" } : Jvm.MethodName) prog_23_method_45_code (4 : Nat) (Option.some Jvm.ClassFile.FieldType.boolean)) ∈ lw_all := lw_g (lw_at lw_m8 119 rfl) rfl
theorem q1935 : (Jvm.Cond.methodLink "OverFirstModel" (275 : Nat) ({ cls := "OverFirstModel", name := "wide", desc := "()I" } : Jvm.MethodName)) ∈ lw_all := lw_g (lw_at lw_m8 120 rfl) rfl
theorem q1936 : (Jvm.Cond.privateMethod ({ cls := "OverFirstModel", name := "wide", desc := "()I" } : Jvm.MethodName)) ∈ lw_tbl := lw_at lw_m8 121 rfl
theorem q1937 : (Jvm.Cond.instanceMethod ({ cls := "OverFirstModel", name := "wide", desc := "()I" } : Jvm.MethodName)) ∈ lw_all := lw_g (lw_at lw_m8 122 rfl) rfl
theorem q1938 : (Jvm.Cond.code ({ cls := "OverFirstModel", name := "wide", desc := "()I" } : Jvm.MethodName) prog_23_method_39_code (1 : Nat) (Option.some Jvm.ClassFile.FieldType.int)) ∈ lw_all := lw_g (lw_at lw_m8 123 rfl) rfl
theorem q1939 : (Jvm.Cond.methodLink "OverFirstModel" (279 : Nat) ({ cls := "OverFirstModel", name := "deep", desc := "()I" } : Jvm.MethodName)) ∈ lw_all := lw_g (lw_at lw_m8 124 rfl) rfl
theorem q1940 : (Jvm.Cond.privateMethod ({ cls := "OverFirstModel", name := "deep", desc := "()I" } : Jvm.MethodName)) ∈ lw_tbl := lw_at lw_m8 125 rfl
theorem q1941 : (Jvm.Cond.instanceMethod ({ cls := "OverFirstModel", name := "deep", desc := "()I" } : Jvm.MethodName)) ∈ lw_all := lw_g (lw_at lw_m8 126 rfl) rfl
theorem q1942 : (Jvm.Cond.code ({ cls := "OverFirstModel", name := "deep", desc := "()I" } : Jvm.MethodName) prog_23_method_40_code (1 : Nat) (Option.some Jvm.ClassFile.FieldType.int)) ∈ lw_all := lw_g (lw_at lw_m8 127 rfl) rfl
theorem q1943 : (Jvm.Cond.methodLink "OverFirstModel" (254 : Nat) ({ cls := "OverFirstModel", name := "isBarred", desc := "(III)Z" } : Jvm.MethodName)) ∈ lw_all := lw_g (lw_at lw_m8 128 rfl) rfl
theorem q1944 : (Jvm.Cond.privateMethod ({ cls := "OverFirstModel", name := "isBarred", desc := "(III)Z" } : Jvm.MethodName)) ∈ lw_tbl := lw_at lw_m8 129 rfl
theorem q1945 : (Jvm.Cond.instanceMethod ({ cls := "OverFirstModel", name := "isBarred", desc := "(III)Z" } : Jvm.MethodName)) ∈ lw_all := lw_g (lw_at lw_m8 130 rfl) rfl
theorem q1946 : (Jvm.Cond.code ({ cls := "OverFirstModel", name := "isBarred", desc := "(III)Z" } : Jvm.MethodName) prog_23_method_44_code (4 : Nat) (Option.some Jvm.ClassFile.FieldType.boolean)) ∈ lw_all := lw_g (lw_at lw_m8 131 rfl) rfl
theorem q1948 : (Jvm.Cond.instanceMethod ({ cls := "OverFirstModel", name := "light", desc := "(III)I" } : Jvm.MethodName)) ∈ lw_all := lw_g (lw_at lw_m8 133 rfl) rfl
theorem q1949 : (Jvm.Cond.selects "OverFirstModel" ({ cls := "OverFirstModel", name := "light", desc := "(III)I" } : Jvm.MethodName) ({ cls := "OverFirstModel", name := "light", desc := "(III)I" } : Jvm.MethodName)) ∈ lw_all := lw_g (lw_at lw_m8 134 rfl) rfl
theorem q1950 : (Jvm.Cond.code ({ cls := "OverFirstModel", name := "light", desc := "(III)I" } : Jvm.MethodName) prog_23_method_51_code (4 : Nat) (Option.some Jvm.ClassFile.FieldType.int)) ∈ lw_all := lw_g (lw_at lw_m8 135 rfl) rfl
theorem q1951 : (Jvm.Cond.methodLink "OverFirstModel" (296 : Nat) ({ cls := "OverFirstModel", name := "isCorner", desc := "(II)Z" } : Jvm.MethodName)) ∈ lw_all := lw_g (lw_at lw_m8 136 rfl) rfl
theorem q1952 : (Jvm.Cond.privateMethod ({ cls := "OverFirstModel", name := "isCorner", desc := "(II)Z" } : Jvm.MethodName)) ∈ lw_tbl := lw_at lw_m8 137 rfl
theorem q1953 : (Jvm.Cond.instanceMethod ({ cls := "OverFirstModel", name := "isCorner", desc := "(II)Z" } : Jvm.MethodName)) ∈ lw_all := lw_g (lw_at lw_m8 138 rfl) rfl
theorem q1954 : (Jvm.Cond.code ({ cls := "OverFirstModel", name := "isCorner", desc := "(II)Z" } : Jvm.MethodName) prog_23_method_41_code (3 : Nat) (Option.some Jvm.ClassFile.FieldType.boolean)) ∈ lw_all := lw_g (lw_at lw_m8 139 rfl) rfl
theorem q1955 : (Jvm.Cond.methodLink "OverFirstModel" (299 : Nat) ({ cls := "OverFirstModel", name := "within", desc := "(III)Z" } : Jvm.MethodName)) ∈ lw_all := lw_g (lw_at lw_m8 140 rfl) rfl
theorem q1956 : (Jvm.Cond.static ({ cls := "OverFirstModel", name := "within", desc := "(III)Z" } : Jvm.MethodName)) ∈ lw_all := lw_g (lw_at lw_m8 141 rfl) rfl
theorem q1957 : (Jvm.Cond.code ({ cls := "OverFirstModel", name := "within", desc := "(III)Z" } : Jvm.MethodName) prog_23_method_17_code (3 : Nat) (Option.some Jvm.ClassFile.FieldType.boolean)) ∈ lw_all := lw_g (lw_at lw_m8 142 rfl) rfl
theorem q1958 : (Jvm.Cond.methodLink "OverFirstModel" (282 : Nat) ({ cls := "OverFirstModel", name := "kindAt", desc := "(II)I" } : Jvm.MethodName)) ∈ lw_all := lw_g (lw_at lw_m8 143 rfl) rfl
theorem q1959 : (Jvm.Cond.privateMethod ({ cls := "OverFirstModel", name := "kindAt", desc := "(II)I" } : Jvm.MethodName)) ∈ lw_tbl := lw_at lw_m8 144 rfl
theorem q1960 : (Jvm.Cond.instanceMethod ({ cls := "OverFirstModel", name := "kindAt", desc := "(II)I" } : Jvm.MethodName)) ∈ lw_all := lw_g (lw_at lw_m8 145 rfl) rfl
theorem q1961 : (Jvm.Cond.code ({ cls := "OverFirstModel", name := "kindAt", desc := "(II)I" } : Jvm.MethodName) prog_23_method_42_code (3 : Nat) (Option.some Jvm.ClassFile.FieldType.int)) ∈ lw_all := lw_g (lw_at lw_m8 146 rfl) rfl
theorem q1962 : (Jvm.Cond.methodLink "OverFirstModel" (289 : Nat) ({ cls := "OverFirstModel", name := "lightAt", desc := "(III)I" } : Jvm.MethodName)) ∈ lw_all := lw_g (lw_at lw_m8 147 rfl) rfl
theorem q1963 : (Jvm.Cond.privateMethod ({ cls := "OverFirstModel", name := "lightAt", desc := "(III)I" } : Jvm.MethodName)) ∈ lw_tbl := lw_at lw_m8 148 rfl
theorem q1964 : (Jvm.Cond.instanceMethod ({ cls := "OverFirstModel", name := "lightAt", desc := "(III)I" } : Jvm.MethodName)) ∈ lw_all := lw_g (lw_at lw_m8 149 rfl) rfl
theorem q1965 : (Jvm.Cond.code ({ cls := "OverFirstModel", name := "lightAt", desc := "(III)I" } : Jvm.MethodName) prog_23_method_43_code (4 : Nat) (Option.some Jvm.ClassFile.FieldType.int)) ∈ lw_all := lw_g (lw_at lw_m8 150 rfl) rfl
theorem q1966 : (Jvm.Cond.methodLink "OverFirstModel" (302 : Nat) ({ cls := "OverFirstModel", name := "isKnown", desc := "(II)Z" } : Jvm.MethodName)) ∈ lw_all := lw_g (lw_at lw_m8 151 rfl) rfl
theorem q1967 : (Jvm.Cond.privateMethod ({ cls := "OverFirstModel", name := "isKnown", desc := "(II)Z" } : Jvm.MethodName)) ∈ lw_tbl := lw_at lw_m8 152 rfl
theorem q1968 : (Jvm.Cond.instanceMethod ({ cls := "OverFirstModel", name := "isKnown", desc := "(II)Z" } : Jvm.MethodName)) ∈ lw_all := lw_g (lw_at lw_m8 153 rfl) rfl
theorem q1969 : (Jvm.Cond.code ({ cls := "OverFirstModel", name := "isKnown", desc := "(II)Z" } : Jvm.MethodName) prog_23_method_59_code (3 : Nat) (Option.some Jvm.ClassFile.FieldType.boolean)) ∈ lw_all := lw_g (lw_at lw_m8 154 rfl) rfl
theorem q1971 : (Jvm.Cond.instanceMethod ({ cls := "OverFirstModel", name := "green", desc := "(IIII)I" } : Jvm.MethodName)) ∈ lw_all := lw_g (lw_at lw_m8 156 rfl) rfl
theorem q1972 : (Jvm.Cond.selects "OverFirstModel" ({ cls := "OverFirstModel", name := "green", desc := "(IIII)I" } : Jvm.MethodName) ({ cls := "OverFirstModel", name := "green", desc := "(IIII)I" } : Jvm.MethodName)) ∈ lw_all := lw_g (lw_at lw_m8 157 rfl) rfl
theorem q1973 : (Jvm.Cond.code ({ cls := "OverFirstModel", name := "green", desc := "(IIII)I" } : Jvm.MethodName) prog_23_method_54_code (6 : Nat) (Option.some Jvm.ClassFile.FieldType.int)) ∈ lw_all := lw_g (lw_at lw_m8 158 rfl) rfl
theorem q1974 : (Jvm.Cond.methodLink "OverFirstModel" (312 : Nat) ({ cls := "OverFirstModel", name := "mayAsk", desc := "(IIII)Z" } : Jvm.MethodName)) ∈ lw_all := lw_g (lw_at lw_m8 159 rfl) rfl
theorem q1975 : (Jvm.Cond.privateMethod ({ cls := "OverFirstModel", name := "mayAsk", desc := "(IIII)Z" } : Jvm.MethodName)) ∈ lw_tbl := lw_at lw_m8 160 rfl
theorem q1976 : (Jvm.Cond.instanceMethod ({ cls := "OverFirstModel", name := "mayAsk", desc := "(IIII)Z" } : Jvm.MethodName)) ∈ lw_all := lw_g (lw_at lw_m8 161 rfl) rfl
theorem q1977 : (Jvm.Cond.code ({ cls := "OverFirstModel", name := "mayAsk", desc := "(IIII)Z" } : Jvm.MethodName) prog_23_method_53_code (5 : Nat) (Option.some Jvm.ClassFile.FieldType.boolean)) ∈ lw_all := lw_g (lw_at lw_m8 162 rfl) rfl
theorem q1978 : (Jvm.Cond.methodLink "OverFirstModel" (306 : Nat) ({ cls := "OverFirstModel", name := "isSecond", desc := "(I)Z" } : Jvm.MethodName)) ∈ lw_all := lw_g (lw_at lw_m8 163 rfl) rfl
theorem q1979 : (Jvm.Cond.privateMethod ({ cls := "OverFirstModel", name := "isSecond", desc := "(I)Z" } : Jvm.MethodName)) ∈ lw_tbl := lw_at lw_m8 164 rfl
theorem q1980 : (Jvm.Cond.instanceMethod ({ cls := "OverFirstModel", name := "isSecond", desc := "(I)Z" } : Jvm.MethodName)) ∈ lw_all := lw_g (lw_at lw_m8 165 rfl) rfl
theorem q1981 : (Jvm.Cond.code ({ cls := "OverFirstModel", name := "isSecond", desc := "(I)Z" } : Jvm.MethodName) prog_23_method_52_code (2 : Nat) (Option.some Jvm.ClassFile.FieldType.boolean)) ∈ lw_all := lw_g (lw_at lw_m8 166 rfl) rfl
theorem q1982 : (Jvm.Cond.constant "OverFirstModel" (305 : Nat) (1000000 : Int32)) ∈ lw_all := lw_g (lw_at lw_m8 167 rfl) rfl
theorem q1983 : (Jvm.Cond.methodLink "OverFirstModel" (309 : Nat) ({ cls := "OverFirstModel", name := "canGo", desc := "(III)Z" } : Jvm.MethodName)) ∈ lw_all := lw_g (lw_at lw_m8 168 rfl) rfl
theorem q1984 : (Jvm.Cond.privateMethod ({ cls := "OverFirstModel", name := "canGo", desc := "(III)Z" } : Jvm.MethodName)) ∈ lw_tbl := lw_at lw_m8 169 rfl
theorem q1985 : (Jvm.Cond.instanceMethod ({ cls := "OverFirstModel", name := "canGo", desc := "(III)Z" } : Jvm.MethodName)) ∈ lw_all := lw_g (lw_at lw_m8 170 rfl) rfl
theorem q1986 : (Jvm.Cond.code ({ cls := "OverFirstModel", name := "canGo", desc := "(III)Z" } : Jvm.MethodName) prog_23_method_47_code (5 : Nat) (Option.some Jvm.ClassFile.FieldType.boolean)) ∈ lw_all := lw_g (lw_at lw_m8 171 rfl) rfl
theorem q1987 : (Jvm.Cond.methodLink "OverFirstModel" (285 : Nat) ({ cls := "OverFirstModel", name := "isTimed", desc := "(II)Z" } : Jvm.MethodName)) ∈ lw_all := lw_g (lw_at lw_m8 172 rfl) rfl
theorem q1988 : (Jvm.Cond.privateMethod ({ cls := "OverFirstModel", name := "isTimed", desc := "(II)Z" } : Jvm.MethodName)) ∈ lw_tbl := lw_at lw_m8 173 rfl
theorem q1989 : (Jvm.Cond.instanceMethod ({ cls := "OverFirstModel", name := "isTimed", desc := "(II)Z" } : Jvm.MethodName)) ∈ lw_all := lw_g (lw_at lw_m8 174 rfl) rfl
theorem q1990 : (Jvm.Cond.code ({ cls := "OverFirstModel", name := "isTimed", desc := "(II)Z" } : Jvm.MethodName) prog_23_method_46_code (3 : Nat) (Option.some Jvm.ClassFile.FieldType.boolean)) ∈ lw_all := lw_g (lw_at lw_m8 175 rfl) rfl
theorem q1991 : (Jvm.Cond.methodLink "OverFirstModel" (292 : Nat) ({ cls := "OverFirstModel", name := "isGreen", desc := "(IIII)Z" } : Jvm.MethodName)) ∈ lw_all := lw_g (lw_at lw_m8 176 rfl) rfl
theorem q1992 : (Jvm.Cond.privateMethod ({ cls := "OverFirstModel", name := "isGreen", desc := "(IIII)Z" } : Jvm.MethodName)) ∈ lw_tbl := lw_at lw_m8 177 rfl
theorem q1993 : (Jvm.Cond.instanceMethod ({ cls := "OverFirstModel", name := "isGreen", desc := "(IIII)Z" } : Jvm.MethodName)) ∈ lw_all := lw_g (lw_at lw_m8 178 rfl) rfl
theorem q1994 : (Jvm.Cond.code ({ cls := "OverFirstModel", name := "isGreen", desc := "(IIII)Z" } : Jvm.MethodName) prog_23_method_49_code (7 : Nat) (Option.some Jvm.ClassFile.FieldType.boolean)) ∈ lw_all := lw_g (lw_at lw_m8 179 rfl) rfl
theorem q1996 : (Jvm.Cond.instanceMethod ({ cls := "OverFirstModel", name := "until", desc := "(IIII)I" } : Jvm.MethodName)) ∈ lw_all := lw_g (lw_at lw_m8 181 rfl) rfl
theorem q1997 : (Jvm.Cond.selects "OverFirstModel" ({ cls := "OverFirstModel", name := "until", desc := "(IIII)I" } : Jvm.MethodName) ({ cls := "OverFirstModel", name := "until", desc := "(IIII)I" } : Jvm.MethodName)) ∈ lw_all := lw_g (lw_at lw_m8 182 rfl) rfl
theorem q1998 : (Jvm.Cond.code ({ cls := "OverFirstModel", name := "until", desc := "(IIII)I" } : Jvm.MethodName) prog_23_method_55_code (5 : Nat) (Option.some Jvm.ClassFile.FieldType.int)) ∈ lw_all := lw_g (lw_at lw_m8 183 rfl) rfl
theorem q1999 : (Jvm.Cond.methodLink "OverFirstModel" (315 : Nat) ({ cls := "OverFirstModel", name := "waitFor", desc := "(IIII)I" } : Jvm.MethodName)) ∈ lw_all := lw_g (lw_at lw_m8 184 rfl) rfl
theorem q2000 : (Jvm.Cond.privateMethod ({ cls := "OverFirstModel", name := "waitFor", desc := "(IIII)I" } : Jvm.MethodName)) ∈ lw_tbl := lw_at lw_m8 185 rfl
theorem q2001 : (Jvm.Cond.instanceMethod ({ cls := "OverFirstModel", name := "waitFor", desc := "(IIII)I" } : Jvm.MethodName)) ∈ lw_all := lw_g (lw_at lw_m8 186 rfl) rfl
theorem q2002 : (Jvm.Cond.code ({ cls := "OverFirstModel", name := "waitFor", desc := "(IIII)I" } : Jvm.MethodName) prog_23_method_50_code (6 : Nat) (Option.some Jvm.ClassFile.FieldType.int)) ∈ lw_all := lw_g (lw_at lw_m8 187 rfl) rfl
theorem q2004 : (Jvm.Cond.instanceMethod ({ cls := "OverFirstModel", name := "go", desc := "(IZ)I" } : Jvm.MethodName)) ∈ lw_all := lw_g (lw_at lw_m8 189 rfl) rfl
theorem q2005 : (Jvm.Cond.selects "OverFirstModel" ({ cls := "OverFirstModel", name := "go", desc := "(IZ)I" } : Jvm.MethodName) ({ cls := "OverFirstModel", name := "go", desc := "(IZ)I" } : Jvm.MethodName)) ∈ lw_all := lw_g (lw_at lw_m8 190 rfl) rfl
theorem q2006 : (Jvm.Cond.code ({ cls := "OverFirstModel", name := "go", desc := "(IZ)I" } : Jvm.MethodName) prog_23_method_62_code (5 : Nat) (Option.some Jvm.ClassFile.FieldType.int)) ∈ lw_all := lw_g (lw_at lw_m8 191 rfl) rfl
theorem q2007 : (Jvm.Cond.methodLink "OverFirstModel" (329 : Nat) ({ cls := "OverFirstModel", name := "keeps", desc := "()V" } : Jvm.MethodName)) ∈ lw_all := lw_g (lw_at lw_m8 192 rfl) rfl
theorem q2008 : (Jvm.Cond.privateMethod ({ cls := "OverFirstModel", name := "keeps", desc := "()V" } : Jvm.MethodName)) ∈ lw_tbl := lw_at lw_m8 193 rfl
theorem q2009 : (Jvm.Cond.instanceMethod ({ cls := "OverFirstModel", name := "keeps", desc := "()V" } : Jvm.MethodName)) ∈ lw_all := lw_g (lw_at lw_m8 194 rfl) rfl
theorem q2010 : (Jvm.Cond.code ({ cls := "OverFirstModel", name := "keeps", desc := "()V" } : Jvm.MethodName) prog_23_method_58_code (2 : Nat) (Option.none : Option Jvm.ClassFile.FieldType)) ∈ lw_all := lw_g (lw_at lw_m8 195 rfl) rfl
theorem q2011 : (Jvm.Cond.methodLink "OverFirstModel" (325 : Nat) ({ cls := "OverFirstModel", name := "copies", desc := "(III)V" } : Jvm.MethodName)) ∈ lw_all := lw_g (lw_at lw_m8 196 rfl) rfl
theorem q2012 : (Jvm.Cond.privateMethod ({ cls := "OverFirstModel", name := "copies", desc := "(III)V" } : Jvm.MethodName)) ∈ lw_tbl := lw_at lw_m8 197 rfl
theorem q2013 : (Jvm.Cond.instanceMethod ({ cls := "OverFirstModel", name := "copies", desc := "(III)V" } : Jvm.MethodName)) ∈ lw_all := lw_g (lw_at lw_m8 198 rfl) rfl
theorem q2014 : (Jvm.Cond.code ({ cls := "OverFirstModel", name := "copies", desc := "(III)V" } : Jvm.MethodName) prog_23_method_56_code (5 : Nat) (Option.none : Option Jvm.ClassFile.FieldType)) ∈ lw_all := lw_g (lw_at lw_m8 199 rfl) rfl
theorem q2015 : (Jvm.Cond.methodLink "OverFirstModel" (332 : Nat) ({ cls := "OverFirstModel", name := "runTime", desc := "()I" } : Jvm.MethodName)) ∈ lw_all := lw_g (lw_at lw_m8 200 rfl) rfl
theorem q2016 : (Jvm.Cond.privateMethod ({ cls := "OverFirstModel", name := "runTime", desc := "()I" } : Jvm.MethodName)) ∈ lw_tbl := lw_at lw_m8 201 rfl
theorem q2017 : (Jvm.Cond.instanceMethod ({ cls := "OverFirstModel", name := "runTime", desc := "()I" } : Jvm.MethodName)) ∈ lw_all := lw_g (lw_at lw_m8 202 rfl) rfl
theorem q2018 : (Jvm.Cond.code ({ cls := "OverFirstModel", name := "runTime", desc := "()I" } : Jvm.MethodName) prog_23_method_60_code (1 : Nat) (Option.some Jvm.ClassFile.FieldType.int)) ∈ lw_all := lw_g (lw_at lw_m8 203 rfl) rfl
theorem q2020 : (Jvm.Cond.instanceMethod ({ cls := "OverFirstModel", name := "stay", desc := "(I)I" } : Jvm.MethodName)) ∈ lw_all := lw_g (lw_at lw_m8 205 rfl) rfl
theorem q2021 : (Jvm.Cond.selects "OverFirstModel" ({ cls := "OverFirstModel", name := "stay", desc := "(I)I" } : Jvm.MethodName) ({ cls := "OverFirstModel", name := "stay", desc := "(I)I" } : Jvm.MethodName)) ∈ lw_all := lw_g (lw_at lw_m8 206 rfl) rfl
theorem q2022 : (Jvm.Cond.code ({ cls := "OverFirstModel", name := "stay", desc := "(I)I" } : Jvm.MethodName) prog_23_method_63_code (2 : Nat) (Option.some Jvm.ClassFile.FieldType.int)) ∈ lw_all := lw_g (lw_at lw_m8 207 rfl) rfl
theorem q2024 : (Jvm.Cond.instanceMethod ({ cls := "OverFirstModel", name := "look", desc := "()Z" } : Jvm.MethodName)) ∈ lw_all := lw_g (lw_at lw_m8 209 rfl) rfl
theorem q2025 : (Jvm.Cond.selects "OverFirstModel" ({ cls := "OverFirstModel", name := "look", desc := "()Z" } : Jvm.MethodName) ({ cls := "OverFirstModel", name := "look", desc := "()Z" } : Jvm.MethodName)) ∈ lw_all := lw_g (lw_at lw_m8 210 rfl) rfl
theorem q2026 : (Jvm.Cond.code ({ cls := "OverFirstModel", name := "look", desc := "()Z" } : Jvm.MethodName) prog_23_method_64_code (3 : Nat) (Option.some Jvm.ClassFile.FieldType.boolean)) ∈ lw_all := lw_g (lw_at lw_m8 211 rfl) rfl
theorem q2028 : (Jvm.Cond.instanceMethod ({ cls := "OverFirstModel", name := "undo", desc := "()Z" } : Jvm.MethodName)) ∈ lw_all := lw_g (lw_at lw_m8 213 rfl) rfl
theorem q2029 : (Jvm.Cond.selects "OverFirstModel" ({ cls := "OverFirstModel", name := "undo", desc := "()Z" } : Jvm.MethodName) ({ cls := "OverFirstModel", name := "undo", desc := "()Z" } : Jvm.MethodName)) ∈ lw_all := lw_g (lw_at lw_m8 214 rfl) rfl
theorem q2030 : (Jvm.Cond.code ({ cls := "OverFirstModel", name := "undo", desc := "()Z" } : Jvm.MethodName) prog_23_method_65_code (1 : Nat) (Option.some Jvm.ClassFile.FieldType.boolean)) ∈ lw_all := lw_g (lw_at lw_m8 215 rfl) rfl
theorem q2032 : (Jvm.Cond.instanceMethod ({ cls := "OverFirstModel", name := "judged", desc := "()I" } : Jvm.MethodName)) ∈ lw_all := lw_g (lw_at lw_m8 217 rfl) rfl
theorem q2033 : (Jvm.Cond.selects "OverFirstModel" ({ cls := "OverFirstModel", name := "judged", desc := "()I" } : Jvm.MethodName) ({ cls := "OverFirstModel", name := "judged", desc := "()I" } : Jvm.MethodName)) ∈ lw_all := lw_g (lw_at lw_m8 218 rfl) rfl
theorem q2034 : (Jvm.Cond.code ({ cls := "OverFirstModel", name := "judged", desc := "()I" } : Jvm.MethodName) prog_23_method_66_code (8 : Nat) (Option.some Jvm.ClassFile.FieldType.int)) ∈ lw_all := lw_g (lw_at lw_m8 219 rfl) rfl
theorem q2036 : (Jvm.Cond.instanceMethod ({ cls := "OverFirstModel", name := "soonest", desc := "(IIII)I" } : Jvm.MethodName)) ∈ lw_all := lw_g (lw_at lw_m8 221 rfl) rfl
theorem q2037 : (Jvm.Cond.selects "OverFirstModel" ({ cls := "OverFirstModel", name := "soonest", desc := "(IIII)I" } : Jvm.MethodName) ({ cls := "OverFirstModel", name := "soonest", desc := "(IIII)I" } : Jvm.MethodName)) ∈ lw_all := lw_g (lw_at lw_m8 222 rfl) rfl
theorem q2038 : (Jvm.Cond.code ({ cls := "OverFirstModel", name := "soonest", desc := "(IIII)I" } : Jvm.MethodName) prog_23_method_69_code (11 : Nat) (Option.some Jvm.ClassFile.FieldType.int)) ∈ lw_all := lw_g (lw_at lw_m8 223 rfl) rfl
theorem q2039 : (Jvm.Cond.methodLink "OverFirstModel" (342 : Nat) ({ cls := "OverFirstModel", name := "soonestFrom", desc := "(III)I" } : Jvm.MethodName)) ∈ lw_all := lw_g (lw_at lw_m8 224 rfl) rfl
theorem q2040 : (Jvm.Cond.privateMethod ({ cls := "OverFirstModel", name := "soonestFrom", desc := "(III)I" } : Jvm.MethodName)) ∈ lw_tbl := lw_at lw_m8 225 rfl
theorem q2041 : (Jvm.Cond.instanceMethod ({ cls := "OverFirstModel", name := "soonestFrom", desc := "(III)I" } : Jvm.MethodName)) ∈ lw_all := lw_g (lw_at lw_m8 226 rfl) rfl
theorem q2042 : (Jvm.Cond.code ({ cls := "OverFirstModel", name := "soonestFrom", desc := "(III)I" } : Jvm.MethodName) prog_23_method_67_code (7 : Nat) (Option.some Jvm.ClassFile.FieldType.int)) ∈ lw_all := lw_g (lw_at lw_m8 227 rfl) rfl
theorem q2043 : (Jvm.Cond.methodLink "OverFirstModel" (335 : Nat) ({ cls := "OverFirstModel", name := "isHome", desc := "(II)Z" } : Jvm.MethodName)) ∈ lw_all := lw_g (lw_at lw_m8 228 rfl) rfl
theorem q2044 : (Jvm.Cond.privateMethod ({ cls := "OverFirstModel", name := "isHome", desc := "(II)Z" } : Jvm.MethodName)) ∈ lw_tbl := lw_at lw_m8 229 rfl
theorem q2045 : (Jvm.Cond.instanceMethod ({ cls := "OverFirstModel", name := "isHome", desc := "(II)Z" } : Jvm.MethodName)) ∈ lw_all := lw_g (lw_at lw_m8 230 rfl) rfl
theorem q2046 : (Jvm.Cond.code ({ cls := "OverFirstModel", name := "isHome", desc := "(II)Z" } : Jvm.MethodName) prog_23_method_48_code (3 : Nat) (Option.some Jvm.ClassFile.FieldType.boolean)) ∈ lw_all := lw_g (lw_at lw_m8 231 rfl) rfl
theorem q2047 : (Jvm.Cond.constant "OverFirstModel" (338 : Nat) (2000000000 : Int32)) ∈ lw_all := lw_g (lw_at lw_m8 232 rfl) rfl
theorem q2048 : (Jvm.Cond.methodLink "OverFirstModel" (339 : Nat) ({ cls := "OverFirstModel", name := "soonestBy", desc := "(IIII)I" } : Jvm.MethodName)) ∈ lw_all := lw_g (lw_at lw_m8 233 rfl) rfl
theorem q2049 : (Jvm.Cond.privateMethod ({ cls := "OverFirstModel", name := "soonestBy", desc := "(IIII)I" } : Jvm.MethodName)) ∈ lw_tbl := lw_at lw_m8 234 rfl
theorem q2050 : (Jvm.Cond.instanceMethod ({ cls := "OverFirstModel", name := "soonestBy", desc := "(IIII)I" } : Jvm.MethodName)) ∈ lw_all := lw_g (lw_at lw_m8 235 rfl) rfl
theorem q2051 : (Jvm.Cond.code ({ cls := "OverFirstModel", name := "soonestBy", desc := "(IIII)I" } : Jvm.MethodName) prog_23_method_68_code (5 : Nat) (Option.some Jvm.ClassFile.FieldType.int)) ∈ lw_all := lw_g (lw_at lw_m8 236 rfl) rfl
theorem q2053 : (Jvm.Cond.instanceMethod ({ cls := "OverFirstModel", name := "latest", desc := "(III)I" } : Jvm.MethodName)) ∈ lw_all := lw_g (lw_at lw_m8 238 rfl) rfl
theorem q2054 : (Jvm.Cond.selects "OverFirstModel" ({ cls := "OverFirstModel", name := "latest", desc := "(III)I" } : Jvm.MethodName) ({ cls := "OverFirstModel", name := "latest", desc := "(III)I" } : Jvm.MethodName)) ∈ lw_all := lw_g (lw_at lw_m8 239 rfl) rfl
theorem q2055 : (Jvm.Cond.code ({ cls := "OverFirstModel", name := "latest", desc := "(III)I" } : Jvm.MethodName) prog_23_method_70_code (7 : Nat) (Option.some Jvm.ClassFile.FieldType.int)) ∈ lw_all := lw_g (lw_at lw_m9 0 rfl) rfl
theorem q2057 : (Jvm.Cond.instanceMethod ({ cls := "OverFirstModel", name := "turning", desc := "(II)I" } : Jvm.MethodName)) ∈ lw_all := lw_g (lw_at lw_m9 2 rfl) rfl
theorem q2058 : (Jvm.Cond.selects "OverFirstModel" ({ cls := "OverFirstModel", name := "turning", desc := "(II)I" } : Jvm.MethodName) ({ cls := "OverFirstModel", name := "turning", desc := "(II)I" } : Jvm.MethodName)) ∈ lw_all := lw_g (lw_at lw_m9 3 rfl) rfl
theorem q2059 : (Jvm.Cond.code ({ cls := "OverFirstModel", name := "turning", desc := "(II)I" } : Jvm.MethodName) prog_23_method_72_code (4 : Nat) (Option.some Jvm.ClassFile.FieldType.int)) ∈ lw_all := lw_g (lw_at lw_m9 4 rfl) rfl
theorem q2060 : (Jvm.Cond.methodLink "OverFirstModel" (345 : Nat) ({ cls := "OverFirstModel", name := "turnsFrom", desc := "(IIIII)I" } : Jvm.MethodName)) ∈ lw_all := lw_g (lw_at lw_m9 5 rfl) rfl
theorem q2061 : (Jvm.Cond.privateMethod ({ cls := "OverFirstModel", name := "turnsFrom", desc := "(IIIII)I" } : Jvm.MethodName)) ∈ lw_tbl := lw_at lw_m9 6 rfl
theorem q2062 : (Jvm.Cond.instanceMethod ({ cls := "OverFirstModel", name := "turnsFrom", desc := "(IIIII)I" } : Jvm.MethodName)) ∈ lw_all := lw_g (lw_at lw_m9 7 rfl) rfl
theorem q2063 : (Jvm.Cond.code ({ cls := "OverFirstModel", name := "turnsFrom", desc := "(IIIII)I" } : Jvm.MethodName) prog_23_method_71_code (10 : Nat) (Option.some Jvm.ClassFile.FieldType.int)) ∈ lw_all := lw_g (lw_at lw_m9 8 rfl) rfl
theorem q2065 : (Jvm.Cond.instanceMethod ({ cls := "OverFirstModel", name := "mean", desc := "(IIII)I" } : Jvm.MethodName)) ∈ lw_all := lw_g (lw_at lw_m9 10 rfl) rfl
theorem q2066 : (Jvm.Cond.selects "OverFirstModel" ({ cls := "OverFirstModel", name := "mean", desc := "(IIII)I" } : Jvm.MethodName) ({ cls := "OverFirstModel", name := "mean", desc := "(IIII)I" } : Jvm.MethodName)) ∈ lw_all := lw_g (lw_at lw_m9 11 rfl) rfl
theorem q2067 : (Jvm.Cond.code ({ cls := "OverFirstModel", name := "mean", desc := "(IIII)I" } : Jvm.MethodName) prog_23_method_82_code (5 : Nat) (Option.some Jvm.ClassFile.FieldType.int)) ∈ lw_all := lw_g (lw_at lw_m9 12 rfl) rfl
theorem q2068 : (Jvm.Cond.methodLink "OverFirstModel" (383 : Nat) ({ cls := "OverFirstModel", name := "isGoer", desc := "(I)Z" } : Jvm.MethodName)) ∈ lw_all := lw_g (lw_at lw_m9 13 rfl) rfl
theorem q2069 : (Jvm.Cond.privateMethod ({ cls := "OverFirstModel", name := "isGoer", desc := "(I)Z" } : Jvm.MethodName)) ∈ lw_tbl := lw_at lw_m9 14 rfl
theorem q2070 : (Jvm.Cond.instanceMethod ({ cls := "OverFirstModel", name := "isGoer", desc := "(I)Z" } : Jvm.MethodName)) ∈ lw_all := lw_g (lw_at lw_m9 15 rfl) rfl
theorem q2071 : (Jvm.Cond.code ({ cls := "OverFirstModel", name := "isGoer", desc := "(I)Z" } : Jvm.MethodName) prog_23_method_80_code (2 : Nat) (Option.some Jvm.ClassFile.FieldType.boolean)) ∈ lw_all := lw_g (lw_at lw_m9 16 rfl) rfl
theorem q2072 : (Jvm.Cond.methodLink "OverFirstModel" (386 : Nat) ({ cls := "OverFirstModel", name := "isPlace", desc := "(III)Z" } : Jvm.MethodName)) ∈ lw_all := lw_g (lw_at lw_m9 17 rfl) rfl
theorem q2073 : (Jvm.Cond.privateMethod ({ cls := "OverFirstModel", name := "isPlace", desc := "(III)Z" } : Jvm.MethodName)) ∈ lw_tbl := lw_at lw_m9 18 rfl
theorem q2074 : (Jvm.Cond.instanceMethod ({ cls := "OverFirstModel", name := "isPlace", desc := "(III)Z" } : Jvm.MethodName)) ∈ lw_all := lw_g (lw_at lw_m9 19 rfl) rfl
theorem q2075 : (Jvm.Cond.code ({ cls := "OverFirstModel", name := "isPlace", desc := "(III)Z" } : Jvm.MethodName) prog_23_method_81_code (4 : Nat) (Option.some Jvm.ClassFile.FieldType.boolean)) ∈ lw_all := lw_g (lw_at lw_m9 20 rfl) rfl
theorem q2076 : (Jvm.Cond.methodLink "OverFirstModel" (389 : Nat) ({ cls := "OverFirstModel", name := "asks", desc := "(IZII)V" } : Jvm.MethodName)) ∈ lw_all := lw_g (lw_at lw_m9 21 rfl) rfl
theorem q2077 : (Jvm.Cond.privateMethod ({ cls := "OverFirstModel", name := "asks", desc := "(IZII)V" } : Jvm.MethodName)) ∈ lw_tbl := lw_at lw_m9 22 rfl
theorem q2078 : (Jvm.Cond.instanceMethod ({ cls := "OverFirstModel", name := "asks", desc := "(IZII)V" } : Jvm.MethodName)) ∈ lw_all := lw_g (lw_at lw_m9 23 rfl) rfl
theorem q2079 : (Jvm.Cond.code ({ cls := "OverFirstModel", name := "asks", desc := "(IZII)V" } : Jvm.MethodName) prog_23_method_73_code (5 : Nat) (Option.none : Option Jvm.ClassFile.FieldType)) ∈ lw_all := lw_g (lw_at lw_m9 24 rfl) rfl
theorem q2080 : (Jvm.Cond.methodLink "OverFirstModel" (377 : Nat) ({ cls := "OverFirstModel", name := "worthFrom", desc := "(III)I" } : Jvm.MethodName)) ∈ lw_all := lw_g (lw_at lw_m9 25 rfl) rfl
theorem q2081 : (Jvm.Cond.privateMethod ({ cls := "OverFirstModel", name := "worthFrom", desc := "(III)I" } : Jvm.MethodName)) ∈ lw_tbl := lw_at lw_m9 26 rfl
theorem q2082 : (Jvm.Cond.instanceMethod ({ cls := "OverFirstModel", name := "worthFrom", desc := "(III)I" } : Jvm.MethodName)) ∈ lw_all := lw_g (lw_at lw_m9 27 rfl) rfl
theorem q2083 : (Jvm.Cond.code ({ cls := "OverFirstModel", name := "worthFrom", desc := "(III)I" } : Jvm.MethodName) prog_23_method_75_code (7 : Nat) (Option.some Jvm.ClassFile.FieldType.int)) ∈ lw_all := lw_g (lw_at lw_m9 28 rfl) rfl
theorem q2084 : (Jvm.Cond.methodLink "OverFirstModel" (362 : Nat) ({ cls := "OverFirstModel", name := "isUnknown", desc := "(II)Z" } : Jvm.MethodName)) ∈ lw_all := lw_g (lw_at lw_m9 29 rfl) rfl
theorem q2085 : (Jvm.Cond.privateMethod ({ cls := "OverFirstModel", name := "isUnknown", desc := "(II)Z" } : Jvm.MethodName)) ∈ lw_tbl := lw_at lw_m9 30 rfl
theorem q2086 : (Jvm.Cond.instanceMethod ({ cls := "OverFirstModel", name := "isUnknown", desc := "(II)Z" } : Jvm.MethodName)) ∈ lw_all := lw_g (lw_at lw_m9 31 rfl) rfl
theorem q2087 : (Jvm.Cond.code ({ cls := "OverFirstModel", name := "isUnknown", desc := "(II)Z" } : Jvm.MethodName) prog_23_method_74_code (3 : Nat) (Option.some Jvm.ClassFile.FieldType.boolean)) ∈ lw_all := lw_g (lw_at lw_m9 32 rfl) rfl
theorem q2088 : (Jvm.Cond.methodLink "OverFirstModel" (365 : Nat) ({ cls := "OverFirstModel", name := "worthHidden", desc := "(III)I" } : Jvm.MethodName)) ∈ lw_all := lw_g (lw_at lw_m9 33 rfl) rfl
theorem q2089 : (Jvm.Cond.privateMethod ({ cls := "OverFirstModel", name := "worthHidden", desc := "(III)I" } : Jvm.MethodName)) ∈ lw_tbl := lw_at lw_m9 34 rfl
theorem q2090 : (Jvm.Cond.instanceMethod ({ cls := "OverFirstModel", name := "worthHidden", desc := "(III)I" } : Jvm.MethodName)) ∈ lw_all := lw_g (lw_at lw_m9 35 rfl) rfl
theorem q2091 : (Jvm.Cond.code ({ cls := "OverFirstModel", name := "worthHidden", desc := "(III)I" } : Jvm.MethodName) prog_23_method_76_code (10 : Nat) (Option.some Jvm.ClassFile.FieldType.int)) ∈ lw_all := lw_g (lw_at lw_m9 36 rfl) rfl
theorem q2092 : (Jvm.Cond.methodLink "OverFirstModel" (368 : Nat) ({ cls := "OverFirstModel", name := "worthSeen", desc := "(IIII)I" } : Jvm.MethodName)) ∈ lw_all := lw_g (lw_at lw_m9 37 rfl) rfl
theorem q2093 : (Jvm.Cond.privateMethod ({ cls := "OverFirstModel", name := "worthSeen", desc := "(IIII)I" } : Jvm.MethodName)) ∈ lw_tbl := lw_at lw_m9 38 rfl
theorem q2094 : (Jvm.Cond.instanceMethod ({ cls := "OverFirstModel", name := "worthSeen", desc := "(IIII)I" } : Jvm.MethodName)) ∈ lw_all := lw_g (lw_at lw_m9 39 rfl) rfl
theorem q2095 : (Jvm.Cond.code ({ cls := "OverFirstModel", name := "worthSeen", desc := "(IIII)I" } : Jvm.MethodName) prog_23_method_77_code (6 : Nat) (Option.some Jvm.ClassFile.FieldType.int)) ∈ lw_all := lw_g (lw_at lw_m9 40 rfl) rfl
theorem q2096 : (Jvm.Cond.methodLink "OverFirstModel" (371 : Nat) ({ cls := "OverFirstModel", name := "wayOf", desc := "(IIII)I" } : Jvm.MethodName)) ∈ lw_all := lw_g (lw_at lw_m9 41 rfl) rfl
theorem q2097 : (Jvm.Cond.privateMethod ({ cls := "OverFirstModel", name := "wayOf", desc := "(IIII)I" } : Jvm.MethodName)) ∈ lw_tbl := lw_at lw_m9 42 rfl
theorem q2098 : (Jvm.Cond.instanceMethod ({ cls := "OverFirstModel", name := "wayOf", desc := "(IIII)I" } : Jvm.MethodName)) ∈ lw_all := lw_g (lw_at lw_m9 43 rfl) rfl
theorem q2099 : (Jvm.Cond.code ({ cls := "OverFirstModel", name := "wayOf", desc := "(IIII)I" } : Jvm.MethodName) prog_23_method_79_code (9 : Nat) (Option.some Jvm.ClassFile.FieldType.int)) ∈ lw_all := lw_g (lw_at lw_m9 44 rfl) rfl
theorem q2100 : (Jvm.Cond.methodLink "OverFirstModel" (374 : Nat) ({ cls := "OverFirstModel", name := "worthBy", desc := "(IIIII)I" } : Jvm.MethodName)) ∈ lw_all := lw_g (lw_at lw_m9 45 rfl) rfl
theorem q2101 : (Jvm.Cond.privateMethod ({ cls := "OverFirstModel", name := "worthBy", desc := "(IIIII)I" } : Jvm.MethodName)) ∈ lw_tbl := lw_at lw_m9 46 rfl
theorem q2102 : (Jvm.Cond.instanceMethod ({ cls := "OverFirstModel", name := "worthBy", desc := "(IIIII)I" } : Jvm.MethodName)) ∈ lw_all := lw_g (lw_at lw_m9 47 rfl) rfl
theorem q2103 : (Jvm.Cond.code ({ cls := "OverFirstModel", name := "worthBy", desc := "(IIIII)I" } : Jvm.MethodName) prog_23_method_78_code (8 : Nat) (Option.some Jvm.ClassFile.FieldType.int)) ∈ lw_all := lw_g (lw_at lw_m9 48 rfl) rfl
theorem q2104 : (Jvm.Cond.methodLink "OverFirstModel" (380 : Nat) ({ cls := "OverFirstModel", name := "worthAt", desc := "(I)I" } : Jvm.MethodName)) ∈ lw_all := lw_g (lw_at lw_m9 49 rfl) rfl
theorem q2105 : (Jvm.Cond.privateMethod ({ cls := "OverFirstModel", name := "worthAt", desc := "(I)I" } : Jvm.MethodName)) ∈ lw_tbl := lw_at lw_m9 50 rfl
theorem q2106 : (Jvm.Cond.instanceMethod ({ cls := "OverFirstModel", name := "worthAt", desc := "(I)I" } : Jvm.MethodName)) ∈ lw_all := lw_g (lw_at lw_m9 51 rfl) rfl
theorem q2107 : (Jvm.Cond.code ({ cls := "OverFirstModel", name := "worthAt", desc := "(I)I" } : Jvm.MethodName) prog_23_method_37_code (5 : Nat) (Option.some Jvm.ClassFile.FieldType.int)) ∈ lw_all := lw_g (lw_at lw_m9 52 rfl) rfl
theorem q2108 : (Jvm.Cond.methodLink "OverFirstModel" (272 : Nat) ({ cls := "OverFirstModel", name := "both", desc := "(III)I" } : Jvm.MethodName)) ∈ lw_all := lw_g (lw_at lw_m9 53 rfl) rfl
theorem q2109 : (Jvm.Cond.static ({ cls := "OverFirstModel", name := "both", desc := "(III)I" } : Jvm.MethodName)) ∈ lw_all := lw_g (lw_at lw_m9 54 rfl) rfl
theorem q2110 : (Jvm.Cond.code ({ cls := "OverFirstModel", name := "both", desc := "(III)I" } : Jvm.MethodName) prog_23_method_38_code (3 : Nat) (Option.some Jvm.ClassFile.FieldType.int)) ∈ lw_all := lw_g (lw_at lw_m9 55 rfl) rfl
theorem q2112 : (Jvm.Cond.instanceMethod ({ cls := "OverFirstModel", name := "worst", desc := "(IIII)I" } : Jvm.MethodName)) ∈ lw_all := lw_g (lw_at lw_m9 57 rfl) rfl
theorem q2113 : (Jvm.Cond.selects "OverFirstModel" ({ cls := "OverFirstModel", name := "worst", desc := "(IIII)I" } : Jvm.MethodName) ({ cls := "OverFirstModel", name := "worst", desc := "(IIII)I" } : Jvm.MethodName)) ∈ lw_all := lw_g (lw_at lw_m9 58 rfl) rfl
theorem q2114 : (Jvm.Cond.code ({ cls := "OverFirstModel", name := "worst", desc := "(IIII)I" } : Jvm.MethodName) prog_23_method_83_code (5 : Nat) (Option.some Jvm.ClassFile.FieldType.int)) ∈ lw_all := lw_g (lw_at lw_m9 59 rfl) rfl
theorem q2116 : (Jvm.Cond.instanceMethod ({ cls := "OverFirstModel", name := "choice", desc := "(IIII)I" } : Jvm.MethodName)) ∈ lw_all := lw_g (lw_at lw_m9 61 rfl) rfl
theorem q2117 : (Jvm.Cond.selects "OverFirstModel" ({ cls := "OverFirstModel", name := "choice", desc := "(IIII)I" } : Jvm.MethodName) ({ cls := "OverFirstModel", name := "choice", desc := "(IIII)I" } : Jvm.MethodName)) ∈ lw_all := lw_g (lw_at lw_m9 62 rfl) rfl
theorem q2118 : (Jvm.Cond.code ({ cls := "OverFirstModel", name := "choice", desc := "(IIII)I" } : Jvm.MethodName) prog_23_method_84_code (6 : Nat) (Option.some Jvm.ClassFile.FieldType.int)) ∈ lw_all := lw_g (lw_at lw_m9 63 rfl) rfl
theorem q2120 : (Jvm.Cond.instanceMethod ({ cls := "OverFirstModel", name := "gap", desc := "(III)I" } : Jvm.MethodName)) ∈ lw_all := lw_g (lw_at lw_m9 65 rfl) rfl
theorem q2121 : (Jvm.Cond.selects "OverFirstModel" ({ cls := "OverFirstModel", name := "gap", desc := "(III)I" } : Jvm.MethodName) ({ cls := "OverFirstModel", name := "gap", desc := "(III)I" } : Jvm.MethodName)) ∈ lw_all := lw_g (lw_at lw_m9 66 rfl) rfl
theorem q2122 : (Jvm.Cond.code ({ cls := "OverFirstModel", name := "gap", desc := "(III)I" } : Jvm.MethodName) prog_23_method_85_code (6 : Nat) (Option.some Jvm.ClassFile.FieldType.int)) ∈ lw_all := lw_g (lw_at lw_m9 67 rfl) rfl
theorem q2124 : (Jvm.Cond.instanceMethod ({ cls := "OverFirstModel", name := "watch", desc := "(III)I" } : Jvm.MethodName)) ∈ lw_all := lw_g (lw_at lw_m9 69 rfl) rfl
theorem q2125 : (Jvm.Cond.selects "OverFirstModel" ({ cls := "OverFirstModel", name := "watch", desc := "(III)I" } : Jvm.MethodName) ({ cls := "OverFirstModel", name := "watch", desc := "(III)I" } : Jvm.MethodName)) ∈ lw_all := lw_g (lw_at lw_m9 70 rfl) rfl
theorem q2126 : (Jvm.Cond.code ({ cls := "OverFirstModel", name := "watch", desc := "(III)I" } : Jvm.MethodName) prog_23_method_86_code (8 : Nat) (Option.some Jvm.ClassFile.FieldType.int)) ∈ lw_all := lw_g (lw_at lw_m9 71 rfl) rfl
theorem q2128 : (Jvm.Cond.instanceMethod ({ cls := "OverFirstModel", name := "worthiest", desc := "(I)I" } : Jvm.MethodName)) ∈ lw_all := lw_g (lw_at lw_m9 73 rfl) rfl
theorem q2129 : (Jvm.Cond.selects "OverFirstModel" ({ cls := "OverFirstModel", name := "worthiest", desc := "(I)I" } : Jvm.MethodName) ({ cls := "OverFirstModel", name := "worthiest", desc := "(I)I" } : Jvm.MethodName)) ∈ lw_all := lw_g (lw_at lw_m9 74 rfl) rfl
theorem q2130 : (Jvm.Cond.code ({ cls := "OverFirstModel", name := "worthiest", desc := "(I)I" } : Jvm.MethodName) prog_23_method_87_code (9 : Nat) (Option.some Jvm.ClassFile.FieldType.int)) ∈ lw_all := lw_g (lw_at lw_m9 75 rfl) rfl
theorem q2131 : (Jvm.Cond.methodLink "OverFirstModel" (393 : Nat) ({ cls := "OverFirstModel", name := "meanFrom0", desc := "(I)I" } : Jvm.MethodName)) ∈ lw_all := lw_g (lw_at lw_m9 76 rfl) rfl
theorem q2132 : (Jvm.Cond.privateMethod ({ cls := "OverFirstModel", name := "meanFrom0", desc := "(I)I" } : Jvm.MethodName)) ∈ lw_tbl := lw_at lw_m9 77 rfl
theorem q2133 : (Jvm.Cond.instanceMethod ({ cls := "OverFirstModel", name := "meanFrom0", desc := "(I)I" } : Jvm.MethodName)) ∈ lw_all := lw_g (lw_at lw_m9 78 rfl) rfl
theorem q2134 : (Jvm.Cond.code ({ cls := "OverFirstModel", name := "meanFrom0", desc := "(I)I" } : Jvm.MethodName) prog_23_method_88_code (2 : Nat) (Option.some Jvm.ClassFile.FieldType.int)) ∈ lw_all := lw_g (lw_at lw_m9 79 rfl) rfl
theorem q2135 : (Jvm.Cond.methodLink "OverFirstModel" (396 : Nat) ({ cls := "OverFirstModel", name := "watch", desc := "(III)I" } : Jvm.MethodName)) ∈ lw_all := lw_g (lw_at lw_m9 80 rfl) rfl
theorem q2137 : (Jvm.Cond.instanceMethod ({ cls := "OverFirstModel", name := "odds", desc := "(III)I" } : Jvm.MethodName)) ∈ lw_all := lw_g (lw_at lw_m9 82 rfl) rfl
theorem q2138 : (Jvm.Cond.selects "OverFirstModel" ({ cls := "OverFirstModel", name := "odds", desc := "(III)I" } : Jvm.MethodName) ({ cls := "OverFirstModel", name := "odds", desc := "(III)I" } : Jvm.MethodName)) ∈ lw_all := lw_g (lw_at lw_m9 83 rfl) rfl
theorem q2139 : (Jvm.Cond.code ({ cls := "OverFirstModel", name := "odds", desc := "(III)I" } : Jvm.MethodName) prog_23_method_90_code (4 : Nat) (Option.some Jvm.ClassFile.FieldType.int)) ∈ lw_all := lw_g (lw_at lw_m9 84 rfl) rfl
theorem q2140 : (Jvm.Cond.methodLink "OverFirstModel" (408 : Nat) ({ cls := "OverFirstModel", name := "chanceFrom", desc := "(III)I" } : Jvm.MethodName)) ∈ lw_all := lw_g (lw_at lw_m9 85 rfl) rfl
theorem q2141 : (Jvm.Cond.privateMethod ({ cls := "OverFirstModel", name := "chanceFrom", desc := "(III)I" } : Jvm.MethodName)) ∈ lw_tbl := lw_at lw_m9 86 rfl
theorem q2142 : (Jvm.Cond.instanceMethod ({ cls := "OverFirstModel", name := "chanceFrom", desc := "(III)I" } : Jvm.MethodName)) ∈ lw_all := lw_g (lw_at lw_m9 87 rfl) rfl
theorem q2143 : (Jvm.Cond.code ({ cls := "OverFirstModel", name := "chanceFrom", desc := "(III)I" } : Jvm.MethodName) prog_23_method_89_code (11 : Nat) (Option.some Jvm.ClassFile.FieldType.int)) ∈ lw_all := lw_g (lw_at lw_m9 88 rfl) rfl
theorem q2145 : (Jvm.Cond.instanceMethod ({ cls := "OverFirstModel", name := "pace", desc := "(II)I" } : Jvm.MethodName)) ∈ lw_all := lw_g (lw_at lw_m9 90 rfl) rfl
theorem q2146 : (Jvm.Cond.selects "OverFirstModel" ({ cls := "OverFirstModel", name := "pace", desc := "(II)I" } : Jvm.MethodName) ({ cls := "OverFirstModel", name := "pace", desc := "(II)I" } : Jvm.MethodName)) ∈ lw_all := lw_g (lw_at lw_m9 91 rfl) rfl
theorem q2147 : (Jvm.Cond.code ({ cls := "OverFirstModel", name := "pace", desc := "(II)I" } : Jvm.MethodName) prog_23_method_96_code (9 : Nat) (Option.some Jvm.ClassFile.FieldType.int)) ∈ lw_all := lw_g (lw_at lw_m9 92 rfl) rfl
theorem q2148 : (Jvm.Cond.methodLink "OverFirstModel" (429 : Nat) ({ cls := "OverFirstModel", name := "bestPace", desc := "(III)I" } : Jvm.MethodName)) ∈ lw_all := lw_g (lw_at lw_m9 93 rfl) rfl
theorem q2149 : (Jvm.Cond.privateMethod ({ cls := "OverFirstModel", name := "bestPace", desc := "(III)I" } : Jvm.MethodName)) ∈ lw_tbl := lw_at lw_m9 94 rfl
theorem q2150 : (Jvm.Cond.instanceMethod ({ cls := "OverFirstModel", name := "bestPace", desc := "(III)I" } : Jvm.MethodName)) ∈ lw_all := lw_g (lw_at lw_m9 95 rfl) rfl
theorem q2151 : (Jvm.Cond.code ({ cls := "OverFirstModel", name := "bestPace", desc := "(III)I" } : Jvm.MethodName) prog_23_method_94_code (8 : Nat) (Option.some Jvm.ClassFile.FieldType.int)) ∈ lw_all := lw_g (lw_at lw_m9 96 rfl) rfl
theorem q2152 : (Jvm.Cond.methodLink "OverFirstModel" (414 : Nat) ({ cls := "OverFirstModel", name := "fastest", desc := "()I" } : Jvm.MethodName)) ∈ lw_all := lw_g (lw_at lw_m9 97 rfl) rfl
theorem q2153 : (Jvm.Cond.privateMethod ({ cls := "OverFirstModel", name := "fastest", desc := "()I" } : Jvm.MethodName)) ∈ lw_tbl := lw_at lw_m9 98 rfl
theorem q2154 : (Jvm.Cond.instanceMethod ({ cls := "OverFirstModel", name := "fastest", desc := "()I" } : Jvm.MethodName)) ∈ lw_all := lw_g (lw_at lw_m9 99 rfl) rfl
theorem q2155 : (Jvm.Cond.code ({ cls := "OverFirstModel", name := "fastest", desc := "()I" } : Jvm.MethodName) prog_23_method_91_code (1 : Nat) (Option.some Jvm.ClassFile.FieldType.int)) ∈ lw_all := lw_g (lw_at lw_m9 100 rfl) rfl
theorem q2156 : (Jvm.Cond.methodLink "OverFirstModel" (411 : Nat) ({ cls := "OverFirstModel", name := "slowTime", desc := "()I" } : Jvm.MethodName)) ∈ lw_all := lw_g (lw_at lw_m9 101 rfl) rfl
theorem q2157 : (Jvm.Cond.privateMethod ({ cls := "OverFirstModel", name := "slowTime", desc := "()I" } : Jvm.MethodName)) ∈ lw_tbl := lw_at lw_m9 102 rfl
theorem q2158 : (Jvm.Cond.instanceMethod ({ cls := "OverFirstModel", name := "slowTime", desc := "()I" } : Jvm.MethodName)) ∈ lw_all := lw_g (lw_at lw_m9 103 rfl) rfl
theorem q2159 : (Jvm.Cond.code ({ cls := "OverFirstModel", name := "slowTime", desc := "()I" } : Jvm.MethodName) prog_23_method_61_code (1 : Nat) (Option.some Jvm.ClassFile.FieldType.int)) ∈ lw_all := lw_g (lw_at lw_m9 104 rfl) rfl
theorem q2160 : (Jvm.Cond.methodLink "OverFirstModel" (417 : Nat) ({ cls := "OverFirstModel", name := "slowest", desc := "()I" } : Jvm.MethodName)) ∈ lw_all := lw_g (lw_at lw_m9 105 rfl) rfl
theorem q2161 : (Jvm.Cond.privateMethod ({ cls := "OverFirstModel", name := "slowest", desc := "()I" } : Jvm.MethodName)) ∈ lw_tbl := lw_at lw_m9 106 rfl
theorem q2162 : (Jvm.Cond.instanceMethod ({ cls := "OverFirstModel", name := "slowest", desc := "()I" } : Jvm.MethodName)) ∈ lw_all := lw_g (lw_at lw_m9 107 rfl) rfl
theorem q2163 : (Jvm.Cond.code ({ cls := "OverFirstModel", name := "slowest", desc := "()I" } : Jvm.MethodName) prog_23_method_92_code (1 : Nat) (Option.some Jvm.ClassFile.FieldType.int)) ∈ lw_all := lw_g (lw_at lw_m9 108 rfl) rfl
theorem q2164 : (Jvm.Cond.methodLink "OverFirstModel" (420 : Nat) ({ cls := "OverFirstModel", name := "paceBy", desc := "(IIII)I" } : Jvm.MethodName)) ∈ lw_all := lw_g (lw_at lw_m9 109 rfl) rfl
theorem q2165 : (Jvm.Cond.privateMethod ({ cls := "OverFirstModel", name := "paceBy", desc := "(IIII)I" } : Jvm.MethodName)) ∈ lw_tbl := lw_at lw_m9 110 rfl
theorem q2166 : (Jvm.Cond.instanceMethod ({ cls := "OverFirstModel", name := "paceBy", desc := "(IIII)I" } : Jvm.MethodName)) ∈ lw_all := lw_g (lw_at lw_m9 111 rfl) rfl
theorem q2167 : (Jvm.Cond.code ({ cls := "OverFirstModel", name := "paceBy", desc := "(IIII)I" } : Jvm.MethodName) prog_23_method_95_code (11 : Nat) (Option.some Jvm.ClassFile.FieldType.int)) ∈ lw_all := lw_g (lw_at lw_m9 112 rfl) rfl
theorem q2168 : (Jvm.Cond.methodLink "OverFirstModel" (423 : Nat) ({ cls := "OverFirstModel", name := "xAt", desc := "(I)I" } : Jvm.MethodName)) ∈ lw_all := lw_g (lw_at lw_m9 113 rfl) rfl
theorem q2169 : (Jvm.Cond.privateMethod ({ cls := "OverFirstModel", name := "xAt", desc := "(I)I" } : Jvm.MethodName)) ∈ lw_tbl := lw_at lw_m9 114 rfl
theorem q2170 : (Jvm.Cond.instanceMethod ({ cls := "OverFirstModel", name := "xAt", desc := "(I)I" } : Jvm.MethodName)) ∈ lw_all := lw_g (lw_at lw_m9 115 rfl) rfl
theorem q2171 : (Jvm.Cond.code ({ cls := "OverFirstModel", name := "xAt", desc := "(I)I" } : Jvm.MethodName) prog_23_method_93_code (4 : Nat) (Option.some Jvm.ClassFile.FieldType.int)) ∈ lw_all := lw_g (lw_at lw_m9 116 rfl) rfl
theorem q2172 : (Jvm.Cond.constant "OverFirstModel" (432 : Nat) (100000 : Int32)) ∈ lw_all := lw_g (lw_at lw_m9 117 rfl) rfl
theorem q2174 : (Jvm.Cond.instanceMethod ({ cls := "OverFirstModel", name := "tried", desc := "(IIZI)Z" } : Jvm.MethodName)) ∈ lw_all := lw_g (lw_at lw_m9 119 rfl) rfl
theorem q2175 : (Jvm.Cond.selects "OverFirstModel" ({ cls := "OverFirstModel", name := "tried", desc := "(IIZI)Z" } : Jvm.MethodName) ({ cls := "OverFirstModel", name := "tried", desc := "(IIZI)Z" } : Jvm.MethodName)) ∈ lw_all := lw_g (lw_at lw_m9 120 rfl) rfl
theorem q2176 : (Jvm.Cond.code ({ cls := "OverFirstModel", name := "tried", desc := "(IIZI)Z" } : Jvm.MethodName) prog_23_method_97_code (6 : Nat) (Option.some Jvm.ClassFile.FieldType.boolean)) ∈ lw_all := lw_g (lw_at lw_m9 121 rfl) rfl
theorem q2178 : (Jvm.Cond.instanceMethod ({ cls := "OverFirstModel", name := "does", desc := "(III)J" } : Jvm.MethodName)) ∈ lw_all := lw_g (lw_at lw_m9 123 rfl) rfl
theorem q2179 : (Jvm.Cond.selects "OverFirstModel" ({ cls := "OverFirstModel", name := "does", desc := "(III)J" } : Jvm.MethodName) ({ cls := "OverFirstModel", name := "does", desc := "(III)J" } : Jvm.MethodName)) ∈ lw_all := lw_g (lw_at lw_m9 124 rfl) rfl
theorem q2180 : (Jvm.Cond.code ({ cls := "OverFirstModel", name := "does", desc := "(III)J" } : Jvm.MethodName) prog_23_method_98_code (18 : Nat) (Option.some Jvm.ClassFile.FieldType.long)) ∈ lw_all := lw_g (lw_at lw_m9 125 rfl) rfl
theorem q2181 : (Jvm.Cond.constantLong "OverFirstModel" (433 : Nat) (-1 : Int64)) ∈ lw_all := lw_g (lw_at lw_m9 126 rfl) rfl
theorem q2183 : (Jvm.Cond.instanceMethod ({ cls := "OverFirstModel", name := "wave", desc := "(IIIZI)I" } : Jvm.MethodName)) ∈ lw_all := lw_g (lw_at lw_m9 128 rfl) rfl
theorem q2184 : (Jvm.Cond.selects "OverFirstModel" ({ cls := "OverFirstModel", name := "wave", desc := "(IIIZI)I" } : Jvm.MethodName) ({ cls := "OverFirstModel", name := "wave", desc := "(IIIZI)I" } : Jvm.MethodName)) ∈ lw_all := lw_g (lw_at lw_m9 129 rfl) rfl
theorem q2185 : (Jvm.Cond.code ({ cls := "OverFirstModel", name := "wave", desc := "(IIIZI)I" } : Jvm.MethodName) prog_23_method_102_code (11 : Nat) (Option.some Jvm.ClassFile.FieldType.int)) ∈ lw_all := lw_g (lw_at lw_m9 130 rfl) rfl
theorem q2186 : (Jvm.Cond.methodLink "OverFirstModel" (446 : Nat) ({ cls := "OverFirstModel", name := "turned", desc := "(III)J" } : Jvm.MethodName)) ∈ lw_all := lw_g (lw_at lw_m9 131 rfl) rfl
theorem q2187 : (Jvm.Cond.static ({ cls := "OverFirstModel", name := "turned", desc := "(III)J" } : Jvm.MethodName)) ∈ lw_all := lw_g (lw_at lw_m9 132 rfl) rfl
theorem q2188 : (Jvm.Cond.code ({ cls := "OverFirstModel", name := "turned", desc := "(III)J" } : Jvm.MethodName) prog_23_method_99_code (6 : Nat) (Option.some Jvm.ClassFile.FieldType.long)) ∈ lw_all := lw_g (lw_at lw_m9 133 rfl) rfl
theorem q2189 : (Jvm.Cond.methodLink "OverFirstModel" (442 : Nat) ({ cls := "OverFirstModel", name := "triesWave", desc := "(IIIJJZ)V" } : Jvm.MethodName)) ∈ lw_all := lw_g (lw_at lw_m9 134 rfl) rfl
theorem q2190 : (Jvm.Cond.privateMethod ({ cls := "OverFirstModel", name := "triesWave", desc := "(IIIJJZ)V" } : Jvm.MethodName)) ∈ lw_tbl := lw_at lw_m9 135 rfl
theorem q2191 : (Jvm.Cond.instanceMethod ({ cls := "OverFirstModel", name := "triesWave", desc := "(IIIJJZ)V" } : Jvm.MethodName)) ∈ lw_all := lw_g (lw_at lw_m9 136 rfl) rfl
theorem q2192 : (Jvm.Cond.code ({ cls := "OverFirstModel", name := "triesWave", desc := "(IIIJJZ)V" } : Jvm.MethodName) prog_23_method_101_code (11 : Nat) (Option.none : Option Jvm.ClassFile.FieldType)) ∈ lw_all := lw_g (lw_at lw_m9 137 rfl) rfl
theorem q2193 : (Jvm.Cond.methodLink "OverFirstModel" (435 : Nat) ({ cls := "OverFirstModel", name := "ones", desc := "(J)I" } : Jvm.MethodName)) ∈ lw_all := lw_g (lw_at lw_m9 138 rfl) rfl
theorem q2194 : (Jvm.Cond.static ({ cls := "OverFirstModel", name := "ones", desc := "(J)I" } : Jvm.MethodName)) ∈ lw_all := lw_g (lw_at lw_m9 139 rfl) rfl
theorem q2195 : (Jvm.Cond.code ({ cls := "OverFirstModel", name := "ones", desc := "(J)I" } : Jvm.MethodName) prog_23_method_100_code (4 : Nat) (Option.some Jvm.ClassFile.FieldType.int)) ∈ lw_all := lw_g (lw_at lw_m9 140 rfl) rfl
theorem q2197 : (Jvm.Cond.instanceMethod ({ cls := "OverFirstModel", name := "rules", desc := "()I" } : Jvm.MethodName)) ∈ lw_all := lw_g (lw_at lw_m9 142 rfl) rfl
theorem q2198 : (Jvm.Cond.selects "OverFirstModel" ({ cls := "OverFirstModel", name := "rules", desc := "()I" } : Jvm.MethodName) ({ cls := "OverFirstModel", name := "rules", desc := "()I" } : Jvm.MethodName)) ∈ lw_all := lw_g (lw_at lw_m9 143 rfl) rfl
theorem q2199 : (Jvm.Cond.code ({ cls := "OverFirstModel", name := "rules", desc := "()I" } : Jvm.MethodName) prog_23_method_103_code (5 : Nat) (Option.some Jvm.ClassFile.FieldType.int)) ∈ lw_all := lw_g (lw_at lw_m9 144 rfl) rfl
theorem q2201 : (Jvm.Cond.instanceMethod ({ cls := "OverFirstModel", name := "was", desc := "(III)Z" } : Jvm.MethodName)) ∈ lw_all := lw_g (lw_at lw_m9 146 rfl) rfl
theorem q2202 : (Jvm.Cond.selects "OverFirstModel" ({ cls := "OverFirstModel", name := "was", desc := "(III)Z" } : Jvm.MethodName) ({ cls := "OverFirstModel", name := "was", desc := "(III)Z" } : Jvm.MethodName)) ∈ lw_all := lw_g (lw_at lw_m9 147 rfl) rfl
theorem q2203 : (Jvm.Cond.code ({ cls := "OverFirstModel", name := "was", desc := "(III)Z" } : Jvm.MethodName) prog_23_method_104_code (5 : Nat) (Option.some Jvm.ClassFile.FieldType.boolean)) ∈ lw_all := lw_g (lw_at lw_m9 148 rfl) rfl
theorem q2205 : (Jvm.Cond.instanceMethod ({ cls := "OverFirstModel", name := "fits", desc := "(I)J" } : Jvm.MethodName)) ∈ lw_all := lw_g (lw_at lw_m9 150 rfl) rfl
theorem q2206 : (Jvm.Cond.selects "OverFirstModel" ({ cls := "OverFirstModel", name := "fits", desc := "(I)J" } : Jvm.MethodName) ({ cls := "OverFirstModel", name := "fits", desc := "(I)J" } : Jvm.MethodName)) ∈ lw_all := lw_g (lw_at lw_m9 151 rfl) rfl
theorem q2207 : (Jvm.Cond.code ({ cls := "OverFirstModel", name := "fits", desc := "(I)J" } : Jvm.MethodName) prog_23_method_108_code (6 : Nat) (Option.some Jvm.ClassFile.FieldType.long)) ∈ lw_all := lw_g (lw_at lw_m9 152 rfl) rfl
theorem q2208 : (Jvm.Cond.methodLink "OverFirstModel" (457 : Nat) ({ cls := "OverFirstModel", name := "goesOn", desc := "(IIIIJI)V" } : Jvm.MethodName)) ∈ lw_all := lw_g (lw_at lw_m9 153 rfl) rfl
theorem q2209 : (Jvm.Cond.privateMethod ({ cls := "OverFirstModel", name := "goesOn", desc := "(IIIIJI)V" } : Jvm.MethodName)) ∈ lw_tbl := lw_at lw_m9 154 rfl
theorem q2210 : (Jvm.Cond.instanceMethod ({ cls := "OverFirstModel", name := "goesOn", desc := "(IIIIJI)V" } : Jvm.MethodName)) ∈ lw_all := lw_g (lw_at lw_m9 155 rfl) rfl
theorem q2211 : (Jvm.Cond.code ({ cls := "OverFirstModel", name := "goesOn", desc := "(IIIIJI)V" } : Jvm.MethodName) prog_23_method_105_code (14 : Nat) (Option.none : Option Jvm.ClassFile.FieldType)) ∈ lw_all := lw_g (lw_at lw_m9 156 rfl) rfl
theorem q2212 : (Jvm.Cond.methodLink "OverFirstModel" (450 : Nat) ({ cls := "OverFirstModel", name := "wasBetween", desc := "(IIII)I" } : Jvm.MethodName)) ∈ lw_all := lw_g (lw_at lw_m9 157 rfl) rfl
theorem q2213 : (Jvm.Cond.privateMethod ({ cls := "OverFirstModel", name := "wasBetween", desc := "(IIII)I" } : Jvm.MethodName)) ∈ lw_tbl := lw_at lw_m9 158 rfl
theorem q2214 : (Jvm.Cond.instanceMethod ({ cls := "OverFirstModel", name := "wasBetween", desc := "(IIII)I" } : Jvm.MethodName)) ∈ lw_all := lw_g (lw_at lw_m9 159 rfl) rfl
theorem q2215 : (Jvm.Cond.code ({ cls := "OverFirstModel", name := "wasBetween", desc := "(IIII)I" } : Jvm.MethodName) prog_23_method_106_code (8 : Nat) (Option.some Jvm.ClassFile.FieldType.int)) ∈ lw_all := lw_g (lw_at lw_m9 160 rfl) rfl
theorem q2216 : (Jvm.Cond.methodLink "OverFirstModel" (453 : Nat) ({ cls := "OverFirstModel", name := "fits0", desc := "(IJI)V" } : Jvm.MethodName)) ∈ lw_all := lw_g (lw_at lw_m9 161 rfl) rfl
theorem q2217 : (Jvm.Cond.privateMethod ({ cls := "OverFirstModel", name := "fits0", desc := "(IJI)V" } : Jvm.MethodName)) ∈ lw_tbl := lw_at lw_m9 162 rfl
theorem q2218 : (Jvm.Cond.instanceMethod ({ cls := "OverFirstModel", name := "fits0", desc := "(IJI)V" } : Jvm.MethodName)) ∈ lw_all := lw_g (lw_at lw_m9 163 rfl) rfl
theorem q2219 : (Jvm.Cond.code ({ cls := "OverFirstModel", name := "fits0", desc := "(IJI)V" } : Jvm.MethodName) prog_23_method_107_code (5 : Nat) (Option.none : Option Jvm.ClassFile.FieldType)) ∈ lw_all := lw_g (lw_at lw_m9 164 rfl) rfl
theorem q2221 : (Jvm.Cond.instanceMethod ({ cls := "OverFirstModel", name := "nights", desc := "(IIII)I" } : Jvm.MethodName)) ∈ lw_all := lw_g (lw_at lw_m9 166 rfl) rfl
theorem q2222 : (Jvm.Cond.selects "OverFirstModel" ({ cls := "OverFirstModel", name := "nights", desc := "(IIII)I" } : Jvm.MethodName) ({ cls := "OverFirstModel", name := "nights", desc := "(IIII)I" } : Jvm.MethodName)) ∈ lw_all := lw_g (lw_at lw_m9 167 rfl) rfl
theorem q2223 : (Jvm.Cond.code ({ cls := "OverFirstModel", name := "nights", desc := "(IIII)I" } : Jvm.MethodName) prog_23_method_112_code (9 : Nat) (Option.some Jvm.ClassFile.FieldType.int)) ∈ lw_all := lw_g (lw_at lw_m9 168 rfl) rfl
theorem q2224 : (Jvm.Cond.methodLink "OverFirstModel" (485 : Nat) ({ cls := "OverFirstModel", name := "draws", desc := "()V" } : Jvm.MethodName)) ∈ lw_all := lw_g (lw_at lw_m9 169 rfl) rfl
theorem q2225 : (Jvm.Cond.privateMethod ({ cls := "OverFirstModel", name := "draws", desc := "()V" } : Jvm.MethodName)) ∈ lw_tbl := lw_at lw_m9 170 rfl
theorem q2226 : (Jvm.Cond.instanceMethod ({ cls := "OverFirstModel", name := "draws", desc := "()V" } : Jvm.MethodName)) ∈ lw_all := lw_g (lw_at lw_m9 171 rfl) rfl
theorem q2227 : (Jvm.Cond.code ({ cls := "OverFirstModel", name := "draws", desc := "()V" } : Jvm.MethodName) prog_23_method_110_code (3 : Nat) (Option.none : Option Jvm.ClassFile.FieldType)) ∈ lw_all := lw_g (lw_at lw_m9 172 rfl) rfl
theorem q2228 : (Jvm.Cond.methodLink "OverFirstModel" (482 : Nat) ({ cls := "OverFirstModel", name := "draw", desc := "(I)I" } : Jvm.MethodName)) ∈ lw_all := lw_g (lw_at lw_m9 173 rfl) rfl
theorem q2229 : (Jvm.Cond.privateMethod ({ cls := "OverFirstModel", name := "draw", desc := "(I)I" } : Jvm.MethodName)) ∈ lw_tbl := lw_at lw_m9 174 rfl
theorem q2230 : (Jvm.Cond.instanceMethod ({ cls := "OverFirstModel", name := "draw", desc := "(I)I" } : Jvm.MethodName)) ∈ lw_all := lw_g (lw_at lw_m9 175 rfl) rfl
theorem q2231 : (Jvm.Cond.code ({ cls := "OverFirstModel", name := "draw", desc := "(I)I" } : Jvm.MethodName) prog_23_method_109_code (2 : Nat) (Option.some Jvm.ClassFile.FieldType.int)) ∈ lw_all := lw_g (lw_at lw_m9 176 rfl) rfl
theorem q2232 : (Jvm.Cond.constantLong "OverFirstModel" (474 : Nat) (1103515245 : Int64)) ∈ lw_all := lw_g (lw_at lw_m9 177 rfl) rfl
theorem q2233 : (Jvm.Cond.constantLong "OverFirstModel" (476 : Nat) (12345 : Int64)) ∈ lw_all := lw_g (lw_at lw_m9 178 rfl) rfl
theorem q2234 : (Jvm.Cond.constantLong "OverFirstModel" (478 : Nat) (2147483648 : Int64)) ∈ lw_all := lw_g (lw_at lw_m9 179 rfl) rfl
theorem q2235 : (Jvm.Cond.constantLong "OverFirstModel" (480 : Nat) (65536 : Int64)) ∈ lw_all := lw_g (lw_at lw_m9 180 rfl) rfl
theorem q2236 : (Jvm.Cond.methodLink "OverFirstModel" (488 : Nat) ({ cls := "OverFirstModel", name := "night", desc := "()I" } : Jvm.MethodName)) ∈ lw_all := lw_g (lw_at lw_m9 181 rfl) rfl
theorem q2237 : (Jvm.Cond.privateMethod ({ cls := "OverFirstModel", name := "night", desc := "()I" } : Jvm.MethodName)) ∈ lw_tbl := lw_at lw_m9 182 rfl
theorem q2238 : (Jvm.Cond.instanceMethod ({ cls := "OverFirstModel", name := "night", desc := "()I" } : Jvm.MethodName)) ∈ lw_all := lw_g (lw_at lw_m9 183 rfl) rfl
theorem q2239 : (Jvm.Cond.code ({ cls := "OverFirstModel", name := "night", desc := "()I" } : Jvm.MethodName) prog_23_method_111_code (6 : Nat) (Option.some Jvm.ClassFile.FieldType.int)) ∈ lw_all := lw_g (lw_at lw_m9 184 rfl) rfl
theorem q2241 : (Jvm.Cond.instanceMethod ({ cls := "OverFirstModel", name := "mark", desc := "(IZ)Z" } : Jvm.MethodName)) ∈ lw_all := lw_g (lw_at lw_m9 186 rfl) rfl
theorem q2242 : (Jvm.Cond.selects "OverFirstModel" ({ cls := "OverFirstModel", name := "mark", desc := "(IZ)Z" } : Jvm.MethodName) ({ cls := "OverFirstModel", name := "mark", desc := "(IZ)Z" } : Jvm.MethodName)) ∈ lw_all := lw_g (lw_at lw_m9 187 rfl) rfl
theorem q2243 : (Jvm.Cond.code ({ cls := "OverFirstModel", name := "mark", desc := "(IZ)Z" } : Jvm.MethodName) prog_23_method_113_code (3 : Nat) (Option.some Jvm.ClassFile.FieldType.boolean)) ∈ lw_all := lw_g (lw_at lw_m9 188 rfl) rfl
theorem q2245 : (Jvm.Cond.instanceMethod ({ cls := "OverFirstModel", name := "count", desc := "(I)I" } : Jvm.MethodName)) ∈ lw_all := lw_g (lw_at lw_m9 190 rfl) rfl
theorem q2246 : (Jvm.Cond.selects "OverFirstModel" ({ cls := "OverFirstModel", name := "count", desc := "(I)I" } : Jvm.MethodName) ({ cls := "OverFirstModel", name := "count", desc := "(I)I" } : Jvm.MethodName)) ∈ lw_all := lw_g (lw_at lw_m9 191 rfl) rfl
theorem q2247 : (Jvm.Cond.code ({ cls := "OverFirstModel", name := "count", desc := "(I)I" } : Jvm.MethodName) prog_23_method_114_code (4 : Nat) (Option.some Jvm.ClassFile.FieldType.int)) ∈ lw_all := lw_g (lw_at lw_m9 192 rfl) rfl
theorem q2269 : (Jvm.Cond.castable "OverFirstModel" "java/lang/Object") ∈ lw_tbl := lw_at lw_m9 214 rfl
theorem in_X9 : ∀ w ∈ wsX90, w ∈ lw_all := lw_in wsX90 [1716, 1718, 1720, 1722, 1724, 1726, 1728, 1730, 1732, 1734, 1736, 1738, 1740, 1742, 1744, 1746, 1748, 1750, 1752, 1754, 1756, 1758, 1760, 1762, 1764, 1766, 1768, 1770, 1772, 1774, 1776, 1778, 1780, 1782, 1784, 1786, 1788, 1790, 1792, 1794, 1796, 1798, 1800, 1802, 1804, 1806, 1808, 1810] (by decide +kernel) (by decide +kernel)
