/-! OverFirst$Reader -/
set_option maxRecDepth 100000
def RX1 : String := "OverFirst$Reader"
def TX1 : u_T := fun k => match k with
  | 0 => ("OverFirst$Reader", "text", "[B", false)
  | 1 => ("OverFirst$Reader", "size", "I", false)
  | 2 => ("OverFirst$Reader", "to", "I", false)
  | 3 => ("OverFirst$Reader", "kind", "I", false)
  | 4 => ("OverFirst$Reader", "from", "I", false)
  | 5 => ("OverFirst$Reader", "value", "I", false)
  | 6 => ("OverFirst$Reader", "within", "I", false)
  | _ => ("OverFirst$Reader", "town", "LOverFirst$Town;", false)
def tyX1 : Nat → FieldType := fun k => match k with
  | 0 => .array .byte
  | 1 => .int
  | 2 => .int
  | 3 => .int
  | 4 => .int
  | 5 => .int
  | 6 => .int
  | _ => .object "OverFirst$Town"
abbrev wsX10 : List Cond := u_ws RX1 TX1 8
theorem nmX1 : ∀ a, a < 8 → ∀ b, b < 8 → a ≠ b → (TX1 a).2.1 ≠ (TX1 b).2.1 := by decide +kernel
theorem tyX1_ok : ∀ k, k < 8 → parseFieldDescriptor (TX1 k).2.2.1 = some (tyX1 k) := by decide +kernel
abbrev cX1_init : ByteArray := prog_14_method_1_code
def yX1_init : MethodName := ⟨RX1, "<init>", "()V"⟩
theorem dX1_init_0 : decode cX1_init 0 = .ok (.aload_n 0, 1) := by decide +kernel
theorem dX1_init_1 : decode cX1_init 1 = .ok (.invokespecial 3, 3) := by decide +kernel
theorem dX1_init_4 : decode cX1_init 4 = .ok (.return_, 1) := by decide +kernel
abbrev cX1_begin : ByteArray := prog_14_method_2_code
def yX1_begin : MethodName := ⟨RX1, "begin", "([BI)V"⟩
def dkwX1_begin_1 : List UInt8 := [177]
abbrev dktX1_begin_1 : List UInt8 := dkwX1_begin_1 ++ []
def dkwX1_begin_0 : List UInt8 := [42, 43, 181, 0, 9, 42, 28, 181, 0, 15, 42, 3, 181, 0, 19, 42, 3, 181, 0, 22, 42, 182, 0, 25]
abbrev dktX1_begin_0 : List UInt8 := dkwX1_begin_0 ++ dktX1_begin_1
theorem dksX1_begin_0 : cX1_begin.data.toList.drop 0 = dktX1_begin_0 := by decide +kernel
theorem dksX1_begin_1 : cX1_begin.data.toList.drop 24 = dktX1_begin_1 := dk_seg dksX1_begin_0 24 rfl rfl
theorem dX1_begin_0 : decode cX1_begin 0 = .ok (.aload_n 0, 1) := dk_42 (dk_at dksX1_begin_0 0 rfl rfl)
theorem dX1_begin_1 : decode cX1_begin 1 = .ok (.aload_n 1, 1) := dk_43 (dk_at dksX1_begin_0 1 rfl rfl)
theorem dX1_begin_2 : decode cX1_begin 2 = .ok (.putfield 9, 3) := dk_181 0 9 (dk_at dksX1_begin_0 2 rfl rfl)
theorem dX1_begin_5 : decode cX1_begin 5 = .ok (.aload_n 0, 1) := dk_42 (dk_at dksX1_begin_0 5 rfl rfl)
theorem dX1_begin_6 : decode cX1_begin 6 = .ok (.iload_n 2, 1) := dk_28 (dk_at dksX1_begin_0 6 rfl rfl)
theorem dX1_begin_7 : decode cX1_begin 7 = .ok (.putfield 15, 3) := dk_181 0 15 (dk_at dksX1_begin_0 7 rfl rfl)
theorem dX1_begin_10 : decode cX1_begin 10 = .ok (.aload_n 0, 1) := dk_42 (dk_at dksX1_begin_0 10 rfl rfl)
theorem dX1_begin_11 : decode cX1_begin 11 = .ok (.iconst 0, 1) := dk_3 (dk_at dksX1_begin_0 11 rfl rfl)
theorem dX1_begin_12 : decode cX1_begin 12 = .ok (.putfield 19, 3) := dk_181 0 19 (dk_at dksX1_begin_0 12 rfl rfl)
theorem dX1_begin_15 : decode cX1_begin 15 = .ok (.aload_n 0, 1) := dk_42 (dk_at dksX1_begin_0 15 rfl rfl)
theorem dX1_begin_16 : decode cX1_begin 16 = .ok (.iconst 0, 1) := dk_3 (dk_at dksX1_begin_0 16 rfl rfl)
theorem dX1_begin_17 : decode cX1_begin 17 = .ok (.putfield 22, 3) := dk_181 0 22 (dk_at dksX1_begin_0 17 rfl rfl)
theorem dX1_begin_20 : decode cX1_begin 20 = .ok (.aload_n 0, 1) := dk_42 (dk_at dksX1_begin_0 20 rfl rfl)
theorem dX1_begin_21 : decode cX1_begin 21 = .ok (.invokevirtual 25, 3) := dk_182 0 25 (dk_at dksX1_begin_0 21 rfl rfl)
theorem dX1_begin_24 : decode cX1_begin 24 = .ok (.return_, 1) := dk_177 (dk_at dksX1_begin_1 0 rfl rfl)
abbrev cX1_next : ByteArray := prog_14_method_6_code
def yX1_next : MethodName := ⟨RX1, "next", "()V"⟩
def dkwX1_next_12 : List UInt8 := [6, 167, 0, 4, 7, 181, 0, 31, 42, 89, 180, 0, 19, 4, 96, 181, 0, 19, 177]
abbrev dktX1_next_12 : List UInt8 := dkwX1_next_12 ++ []
def dkwX1_next_11 : List UInt8 := [181, 0, 31, 167, 0, 39, 42, 18, 48, 42, 42, 180, 0, 19, 182, 0, 34, 146, 182, 0, 50, 155, 0, 7]
abbrev dktX1_next_11 : List UInt8 := dkwX1_next_11 ++ dktX1_next_12
def dkwX1_next_10 : List UInt8 := [167, 255, 189, 42, 42, 180, 0, 19, 42, 180, 0, 28, 100, 7, 164, 0, 7, 7, 167, 0, 4, 5]
abbrev dktX1_next_10 : List UInt8 := dkwX1_next_10 ++ dktX1_next_11
def dkwX1_next_9 : List UInt8 := [96, 16, 48, 100, 167, 0, 7, 42, 180, 0, 45, 181, 0, 45, 42, 89, 180, 0, 19, 4, 96, 181, 0, 19]
abbrev dktX1_next_9 : List UInt8 := dkwX1_next_9 ++ dktX1_next_10
def dkwX1_next_8 : List UInt8 := [42, 180, 0, 28, 100, 7, 162, 0, 25, 16, 10, 42, 180, 0, 45, 104, 42, 42, 180, 0, 19, 182, 0, 34]
abbrev dktX1_next_8 : List UInt8 := dkwX1_next_8 ++ dktX1_next_9
def dkwX1_next_7 : List UInt8 := [42, 3, 181, 0, 45, 42, 42, 180, 0, 19, 182, 0, 34, 184, 0, 42, 153, 0, 59, 42, 42, 180, 0, 19]
abbrev dktX1_next_7 : List UInt8 := dkwX1_next_7 ++ dktX1_next_8
def dkwX1_next_6 : List UInt8 := [167, 0, 4, 4, 181, 0, 31, 167, 0, 153, 42, 42, 180, 0, 19, 182, 0, 34, 184, 0, 42, 153, 0, 103]
abbrev dktX1_next_6 : List UInt8 := dkwX1_next_6 ++ dktX1_next_7
def dkwX1_next_5 : List UInt8 := [181, 0, 19, 167, 255, 232, 42, 42, 180, 0, 19, 42, 180, 0, 28, 100, 16, 8, 164, 0, 7, 7]
abbrev dktX1_next_5 : List UInt8 := dkwX1_next_5 ++ dktX1_next_6
def dkwX1_next_4 : List UInt8 := [153, 0, 56, 42, 42, 180, 0, 19, 182, 0, 34, 184, 0, 38, 153, 0, 16, 42, 89, 180, 0, 19, 4, 96]
abbrev dktX1_next_4 : List UInt8 := dkwX1_next_4 ++ dktX1_next_5
def dkwX1_next_3 : List UInt8 := [160, 0, 11, 42, 3, 181, 0, 31, 167, 0, 220, 42, 42, 180, 0, 19, 182, 0, 34, 184, 0, 38]
abbrev dktX1_next_3 : List UInt8 := dkwX1_next_3 ++ dktX1_next_4
def dkwX1_next_2 : List UInt8 := [181, 0, 19, 167, 255, 207, 42, 42, 180, 0, 19, 181, 0, 28, 42, 180, 0, 19, 42, 180, 0, 15]
abbrev dktX1_next_2 : List UInt8 := dkwX1_next_2 ++ dktX1_next_3
def dkwX1_next_1 : List UInt8 := [159, 0, 17, 42, 180, 0, 9, 42, 180, 0, 19, 51, 16, 32, 160, 0, 16, 42, 89, 180, 0, 19, 4, 96]
abbrev dktX1_next_1 : List UInt8 := dkwX1_next_1 ++ dktX1_next_2
def dkwX1_next_0 : List UInt8 := [42, 180, 0, 19, 42, 180, 0, 15, 162, 0, 44, 42, 180, 0, 9, 42, 180, 0, 19, 51, 16, 10]
abbrev dktX1_next_0 : List UInt8 := dkwX1_next_0 ++ dktX1_next_1
theorem dksX1_next_0 : cX1_next.data.toList.drop 0 = dktX1_next_0 := by decide +kernel
theorem dksX1_next_1 : cX1_next.data.toList.drop 22 = dktX1_next_1 := dk_seg dksX1_next_0 22 rfl rfl
theorem dksX1_next_2 : cX1_next.data.toList.drop 46 = dktX1_next_2 := dk_seg dksX1_next_1 24 rfl rfl
theorem dksX1_next_3 : cX1_next.data.toList.drop 68 = dktX1_next_3 := dk_seg dksX1_next_2 22 rfl rfl
theorem dksX1_next_4 : cX1_next.data.toList.drop 90 = dktX1_next_4 := dk_seg dksX1_next_3 22 rfl rfl
theorem dksX1_next_5 : cX1_next.data.toList.drop 114 = dktX1_next_5 := dk_seg dksX1_next_4 24 rfl rfl
theorem dksX1_next_6 : cX1_next.data.toList.drop 136 = dktX1_next_6 := dk_seg dksX1_next_5 22 rfl rfl
theorem dksX1_next_7 : cX1_next.data.toList.drop 160 = dktX1_next_7 := dk_seg dksX1_next_6 24 rfl rfl
theorem dksX1_next_8 : cX1_next.data.toList.drop 184 = dktX1_next_8 := dk_seg dksX1_next_7 24 rfl rfl
theorem dksX1_next_9 : cX1_next.data.toList.drop 208 = dktX1_next_9 := dk_seg dksX1_next_8 24 rfl rfl
theorem dksX1_next_10 : cX1_next.data.toList.drop 232 = dktX1_next_10 := dk_seg dksX1_next_9 24 rfl rfl
theorem dksX1_next_11 : cX1_next.data.toList.drop 254 = dktX1_next_11 := dk_seg dksX1_next_10 22 rfl rfl
theorem dksX1_next_12 : cX1_next.data.toList.drop 278 = dktX1_next_12 := dk_seg dksX1_next_11 24 rfl rfl
theorem dX1_next_0 : decode cX1_next 0 = .ok (.aload_n 0, 1) := dk_42 (dk_at dksX1_next_0 0 rfl rfl)
theorem dX1_next_1 : decode cX1_next 1 = .ok (.getfield 19, 3) := dk_180 0 19 (dk_at dksX1_next_0 1 rfl rfl)
theorem dX1_next_4 : decode cX1_next 4 = .ok (.aload_n 0, 1) := dk_42 (dk_at dksX1_next_0 4 rfl rfl)
theorem dX1_next_5 : decode cX1_next 5 = .ok (.getfield 15, 3) := dk_180 0 15 (dk_at dksX1_next_0 5 rfl rfl)
theorem dX1_next_8 : decode cX1_next 8 = .ok (.if_icmp .ge 44, 3) := dk_162 0 44 (dk_at dksX1_next_0 8 rfl rfl)
theorem dX1_next_11 : decode cX1_next 11 = .ok (.aload_n 0, 1) := dk_42 (dk_at dksX1_next_0 11 rfl rfl)
theorem dX1_next_12 : decode cX1_next 12 = .ok (.getfield 9, 3) := dk_180 0 9 (dk_at dksX1_next_0 12 rfl rfl)
theorem dX1_next_15 : decode cX1_next 15 = .ok (.aload_n 0, 1) := dk_42 (dk_at dksX1_next_0 15 rfl rfl)
theorem dX1_next_16 : decode cX1_next 16 = .ok (.getfield 19, 3) := dk_180 0 19 (dk_at dksX1_next_0 16 rfl rfl)
theorem dX1_next_19 : decode cX1_next 19 = .ok (.baload, 1) := dk_51 (dk_at dksX1_next_0 19 rfl rfl)
theorem dX1_next_20 : decode cX1_next 20 = .ok (.bipush 10, 2) := dk_16 10 (dk_at dksX1_next_0 20 rfl rfl)
theorem dX1_next_22 : decode cX1_next 22 = .ok (.if_icmp .eq 17, 3) := dk_159 0 17 (dk_at dksX1_next_1 0 rfl rfl)
theorem dX1_next_25 : decode cX1_next 25 = .ok (.aload_n 0, 1) := dk_42 (dk_at dksX1_next_1 3 rfl rfl)
theorem dX1_next_26 : decode cX1_next 26 = .ok (.getfield 9, 3) := dk_180 0 9 (dk_at dksX1_next_1 4 rfl rfl)
theorem dX1_next_29 : decode cX1_next 29 = .ok (.aload_n 0, 1) := dk_42 (dk_at dksX1_next_1 7 rfl rfl)
theorem dX1_next_30 : decode cX1_next 30 = .ok (.getfield 19, 3) := dk_180 0 19 (dk_at dksX1_next_1 8 rfl rfl)
theorem dX1_next_33 : decode cX1_next 33 = .ok (.baload, 1) := dk_51 (dk_at dksX1_next_1 11 rfl rfl)
theorem dX1_next_34 : decode cX1_next 34 = .ok (.bipush 32, 2) := dk_16 32 (dk_at dksX1_next_1 12 rfl rfl)
theorem dX1_next_36 : decode cX1_next 36 = .ok (.if_icmp .ne 16, 3) := dk_160 0 16 (dk_at dksX1_next_1 14 rfl rfl)
theorem dX1_next_39 : decode cX1_next 39 = .ok (.aload_n 0, 1) := dk_42 (dk_at dksX1_next_1 17 rfl rfl)
theorem dX1_next_40 : decode cX1_next 40 = .ok (.dup, 1) := dk_89 (dk_at dksX1_next_1 18 rfl rfl)
theorem dX1_next_41 : decode cX1_next 41 = .ok (.getfield 19, 3) := dk_180 0 19 (dk_at dksX1_next_1 19 rfl rfl)
theorem dX1_next_44 : decode cX1_next 44 = .ok (.iconst 1, 1) := dk_4 (dk_at dksX1_next_1 22 rfl rfl)
theorem dX1_next_45 : decode cX1_next 45 = .ok (.iadd, 1) := dk_96 (dk_at dksX1_next_1 23 rfl rfl)
theorem dX1_next_46 : decode cX1_next 46 = .ok (.putfield 19, 3) := dk_181 0 19 (dk_at dksX1_next_2 0 rfl rfl)
theorem dX1_next_49 : decode cX1_next 49 = .ok (.goto (-49), 3) := dk_167 255 207 (dk_at dksX1_next_2 3 rfl rfl)
theorem dX1_next_52 : decode cX1_next 52 = .ok (.aload_n 0, 1) := dk_42 (dk_at dksX1_next_2 6 rfl rfl)
theorem dX1_next_53 : decode cX1_next 53 = .ok (.aload_n 0, 1) := dk_42 (dk_at dksX1_next_2 7 rfl rfl)
theorem dX1_next_54 : decode cX1_next 54 = .ok (.getfield 19, 3) := dk_180 0 19 (dk_at dksX1_next_2 8 rfl rfl)
theorem dX1_next_57 : decode cX1_next 57 = .ok (.putfield 28, 3) := dk_181 0 28 (dk_at dksX1_next_2 11 rfl rfl)
theorem dX1_next_60 : decode cX1_next 60 = .ok (.aload_n 0, 1) := dk_42 (dk_at dksX1_next_2 14 rfl rfl)
theorem dX1_next_61 : decode cX1_next 61 = .ok (.getfield 19, 3) := dk_180 0 19 (dk_at dksX1_next_2 15 rfl rfl)
theorem dX1_next_64 : decode cX1_next 64 = .ok (.aload_n 0, 1) := dk_42 (dk_at dksX1_next_2 18 rfl rfl)
theorem dX1_next_65 : decode cX1_next 65 = .ok (.getfield 15, 3) := dk_180 0 15 (dk_at dksX1_next_2 19 rfl rfl)
theorem dX1_next_68 : decode cX1_next 68 = .ok (.if_icmp .ne 11, 3) := dk_160 0 11 (dk_at dksX1_next_3 0 rfl rfl)
theorem dX1_next_71 : decode cX1_next 71 = .ok (.aload_n 0, 1) := dk_42 (dk_at dksX1_next_3 3 rfl rfl)
theorem dX1_next_72 : decode cX1_next 72 = .ok (.iconst 0, 1) := dk_3 (dk_at dksX1_next_3 4 rfl rfl)
theorem dX1_next_73 : decode cX1_next 73 = .ok (.putfield 31, 3) := dk_181 0 31 (dk_at dksX1_next_3 5 rfl rfl)
theorem dX1_next_76 : decode cX1_next 76 = .ok (.goto 220, 3) := dk_167 0 220 (dk_at dksX1_next_3 8 rfl rfl)
theorem dX1_next_79 : decode cX1_next 79 = .ok (.aload_n 0, 1) := dk_42 (dk_at dksX1_next_3 11 rfl rfl)
theorem dX1_next_80 : decode cX1_next 80 = .ok (.aload_n 0, 1) := dk_42 (dk_at dksX1_next_3 12 rfl rfl)
theorem dX1_next_81 : decode cX1_next 81 = .ok (.getfield 19, 3) := dk_180 0 19 (dk_at dksX1_next_3 13 rfl rfl)
theorem dX1_next_84 : decode cX1_next 84 = .ok (.invokevirtual 34, 3) := dk_182 0 34 (dk_at dksX1_next_3 16 rfl rfl)
theorem dX1_next_87 : decode cX1_next 87 = .ok (.invokestatic 38, 3) := dk_184 0 38 (dk_at dksX1_next_3 19 rfl rfl)
theorem dX1_next_90 : decode cX1_next 90 = .ok (.ifCond .eq 56, 3) := dk_153 0 56 (dk_at dksX1_next_4 0 rfl rfl)
theorem dX1_next_93 : decode cX1_next 93 = .ok (.aload_n 0, 1) := dk_42 (dk_at dksX1_next_4 3 rfl rfl)
theorem dX1_next_94 : decode cX1_next 94 = .ok (.aload_n 0, 1) := dk_42 (dk_at dksX1_next_4 4 rfl rfl)
theorem dX1_next_95 : decode cX1_next 95 = .ok (.getfield 19, 3) := dk_180 0 19 (dk_at dksX1_next_4 5 rfl rfl)
theorem dX1_next_98 : decode cX1_next 98 = .ok (.invokevirtual 34, 3) := dk_182 0 34 (dk_at dksX1_next_4 8 rfl rfl)
theorem dX1_next_101 : decode cX1_next 101 = .ok (.invokestatic 38, 3) := dk_184 0 38 (dk_at dksX1_next_4 11 rfl rfl)
theorem dX1_next_104 : decode cX1_next 104 = .ok (.ifCond .eq 16, 3) := dk_153 0 16 (dk_at dksX1_next_4 14 rfl rfl)
theorem dX1_next_107 : decode cX1_next 107 = .ok (.aload_n 0, 1) := dk_42 (dk_at dksX1_next_4 17 rfl rfl)
theorem dX1_next_108 : decode cX1_next 108 = .ok (.dup, 1) := dk_89 (dk_at dksX1_next_4 18 rfl rfl)
theorem dX1_next_109 : decode cX1_next 109 = .ok (.getfield 19, 3) := dk_180 0 19 (dk_at dksX1_next_4 19 rfl rfl)
theorem dX1_next_112 : decode cX1_next 112 = .ok (.iconst 1, 1) := dk_4 (dk_at dksX1_next_4 22 rfl rfl)
theorem dX1_next_113 : decode cX1_next 113 = .ok (.iadd, 1) := dk_96 (dk_at dksX1_next_4 23 rfl rfl)
theorem dX1_next_114 : decode cX1_next 114 = .ok (.putfield 19, 3) := dk_181 0 19 (dk_at dksX1_next_5 0 rfl rfl)
theorem dX1_next_117 : decode cX1_next 117 = .ok (.goto (-24), 3) := dk_167 255 232 (dk_at dksX1_next_5 3 rfl rfl)
theorem dX1_next_120 : decode cX1_next 120 = .ok (.aload_n 0, 1) := dk_42 (dk_at dksX1_next_5 6 rfl rfl)
theorem dX1_next_121 : decode cX1_next 121 = .ok (.aload_n 0, 1) := dk_42 (dk_at dksX1_next_5 7 rfl rfl)
theorem dX1_next_122 : decode cX1_next 122 = .ok (.getfield 19, 3) := dk_180 0 19 (dk_at dksX1_next_5 8 rfl rfl)
theorem dX1_next_125 : decode cX1_next 125 = .ok (.aload_n 0, 1) := dk_42 (dk_at dksX1_next_5 11 rfl rfl)
theorem dX1_next_126 : decode cX1_next 126 = .ok (.getfield 28, 3) := dk_180 0 28 (dk_at dksX1_next_5 12 rfl rfl)
theorem dX1_next_129 : decode cX1_next 129 = .ok (.isub, 1) := dk_100 (dk_at dksX1_next_5 15 rfl rfl)
theorem dX1_next_130 : decode cX1_next 130 = .ok (.bipush 8, 2) := dk_16 8 (dk_at dksX1_next_5 16 rfl rfl)
theorem dX1_next_132 : decode cX1_next 132 = .ok (.if_icmp .le 7, 3) := dk_164 0 7 (dk_at dksX1_next_5 18 rfl rfl)
theorem dX1_next_135 : decode cX1_next 135 = .ok (.iconst 4, 1) := dk_7 (dk_at dksX1_next_5 21 rfl rfl)
theorem dX1_next_136 : decode cX1_next 136 = .ok (.goto 4, 3) := dk_167 0 4 (dk_at dksX1_next_6 0 rfl rfl)
theorem dX1_next_139 : decode cX1_next 139 = .ok (.iconst 1, 1) := dk_4 (dk_at dksX1_next_6 3 rfl rfl)
theorem dX1_next_140 : decode cX1_next 140 = .ok (.putfield 31, 3) := dk_181 0 31 (dk_at dksX1_next_6 4 rfl rfl)
theorem dX1_next_143 : decode cX1_next 143 = .ok (.goto 153, 3) := dk_167 0 153 (dk_at dksX1_next_6 7 rfl rfl)
theorem dX1_next_146 : decode cX1_next 146 = .ok (.aload_n 0, 1) := dk_42 (dk_at dksX1_next_6 10 rfl rfl)
theorem dX1_next_147 : decode cX1_next 147 = .ok (.aload_n 0, 1) := dk_42 (dk_at dksX1_next_6 11 rfl rfl)
theorem dX1_next_148 : decode cX1_next 148 = .ok (.getfield 19, 3) := dk_180 0 19 (dk_at dksX1_next_6 12 rfl rfl)
theorem dX1_next_151 : decode cX1_next 151 = .ok (.invokevirtual 34, 3) := dk_182 0 34 (dk_at dksX1_next_6 15 rfl rfl)
theorem dX1_next_154 : decode cX1_next 154 = .ok (.invokestatic 42, 3) := dk_184 0 42 (dk_at dksX1_next_6 18 rfl rfl)
theorem dX1_next_157 : decode cX1_next 157 = .ok (.ifCond .eq 103, 3) := dk_153 0 103 (dk_at dksX1_next_6 21 rfl rfl)
theorem dX1_next_160 : decode cX1_next 160 = .ok (.aload_n 0, 1) := dk_42 (dk_at dksX1_next_7 0 rfl rfl)
theorem dX1_next_161 : decode cX1_next 161 = .ok (.iconst 0, 1) := dk_3 (dk_at dksX1_next_7 1 rfl rfl)
theorem dX1_next_162 : decode cX1_next 162 = .ok (.putfield 45, 3) := dk_181 0 45 (dk_at dksX1_next_7 2 rfl rfl)
theorem dX1_next_165 : decode cX1_next 165 = .ok (.aload_n 0, 1) := dk_42 (dk_at dksX1_next_7 5 rfl rfl)
theorem dX1_next_166 : decode cX1_next 166 = .ok (.aload_n 0, 1) := dk_42 (dk_at dksX1_next_7 6 rfl rfl)
theorem dX1_next_167 : decode cX1_next 167 = .ok (.getfield 19, 3) := dk_180 0 19 (dk_at dksX1_next_7 7 rfl rfl)
theorem dX1_next_170 : decode cX1_next 170 = .ok (.invokevirtual 34, 3) := dk_182 0 34 (dk_at dksX1_next_7 10 rfl rfl)
theorem dX1_next_173 : decode cX1_next 173 = .ok (.invokestatic 42, 3) := dk_184 0 42 (dk_at dksX1_next_7 13 rfl rfl)
theorem dX1_next_176 : decode cX1_next 176 = .ok (.ifCond .eq 59, 3) := dk_153 0 59 (dk_at dksX1_next_7 16 rfl rfl)
theorem dX1_next_179 : decode cX1_next 179 = .ok (.aload_n 0, 1) := dk_42 (dk_at dksX1_next_7 19 rfl rfl)
theorem dX1_next_180 : decode cX1_next 180 = .ok (.aload_n 0, 1) := dk_42 (dk_at dksX1_next_7 20 rfl rfl)
theorem dX1_next_181 : decode cX1_next 181 = .ok (.getfield 19, 3) := dk_180 0 19 (dk_at dksX1_next_7 21 rfl rfl)
theorem dX1_next_184 : decode cX1_next 184 = .ok (.aload_n 0, 1) := dk_42 (dk_at dksX1_next_8 0 rfl rfl)
theorem dX1_next_185 : decode cX1_next 185 = .ok (.getfield 28, 3) := dk_180 0 28 (dk_at dksX1_next_8 1 rfl rfl)
theorem dX1_next_188 : decode cX1_next 188 = .ok (.isub, 1) := dk_100 (dk_at dksX1_next_8 4 rfl rfl)
theorem dX1_next_189 : decode cX1_next 189 = .ok (.iconst 4, 1) := dk_7 (dk_at dksX1_next_8 5 rfl rfl)
theorem dX1_next_190 : decode cX1_next 190 = .ok (.if_icmp .ge 25, 3) := dk_162 0 25 (dk_at dksX1_next_8 6 rfl rfl)
theorem dX1_next_193 : decode cX1_next 193 = .ok (.bipush 10, 2) := dk_16 10 (dk_at dksX1_next_8 9 rfl rfl)
theorem dX1_next_195 : decode cX1_next 195 = .ok (.aload_n 0, 1) := dk_42 (dk_at dksX1_next_8 11 rfl rfl)
theorem dX1_next_196 : decode cX1_next 196 = .ok (.getfield 45, 3) := dk_180 0 45 (dk_at dksX1_next_8 12 rfl rfl)
theorem dX1_next_199 : decode cX1_next 199 = .ok (.imul, 1) := dk_104 (dk_at dksX1_next_8 15 rfl rfl)
theorem dX1_next_200 : decode cX1_next 200 = .ok (.aload_n 0, 1) := dk_42 (dk_at dksX1_next_8 16 rfl rfl)
theorem dX1_next_201 : decode cX1_next 201 = .ok (.aload_n 0, 1) := dk_42 (dk_at dksX1_next_8 17 rfl rfl)
theorem dX1_next_202 : decode cX1_next 202 = .ok (.getfield 19, 3) := dk_180 0 19 (dk_at dksX1_next_8 18 rfl rfl)
theorem dX1_next_205 : decode cX1_next 205 = .ok (.invokevirtual 34, 3) := dk_182 0 34 (dk_at dksX1_next_8 21 rfl rfl)
theorem dX1_next_208 : decode cX1_next 208 = .ok (.iadd, 1) := dk_96 (dk_at dksX1_next_9 0 rfl rfl)
theorem dX1_next_209 : decode cX1_next 209 = .ok (.bipush 48, 2) := dk_16 48 (dk_at dksX1_next_9 1 rfl rfl)
theorem dX1_next_211 : decode cX1_next 211 = .ok (.isub, 1) := dk_100 (dk_at dksX1_next_9 3 rfl rfl)
theorem dX1_next_212 : decode cX1_next 212 = .ok (.goto 7, 3) := dk_167 0 7 (dk_at dksX1_next_9 4 rfl rfl)
theorem dX1_next_215 : decode cX1_next 215 = .ok (.aload_n 0, 1) := dk_42 (dk_at dksX1_next_9 7 rfl rfl)
theorem dX1_next_216 : decode cX1_next 216 = .ok (.getfield 45, 3) := dk_180 0 45 (dk_at dksX1_next_9 8 rfl rfl)
theorem dX1_next_219 : decode cX1_next 219 = .ok (.putfield 45, 3) := dk_181 0 45 (dk_at dksX1_next_9 11 rfl rfl)
theorem dX1_next_222 : decode cX1_next 222 = .ok (.aload_n 0, 1) := dk_42 (dk_at dksX1_next_9 14 rfl rfl)
theorem dX1_next_223 : decode cX1_next 223 = .ok (.dup, 1) := dk_89 (dk_at dksX1_next_9 15 rfl rfl)
theorem dX1_next_224 : decode cX1_next 224 = .ok (.getfield 19, 3) := dk_180 0 19 (dk_at dksX1_next_9 16 rfl rfl)
theorem dX1_next_227 : decode cX1_next 227 = .ok (.iconst 1, 1) := dk_4 (dk_at dksX1_next_9 19 rfl rfl)
theorem dX1_next_228 : decode cX1_next 228 = .ok (.iadd, 1) := dk_96 (dk_at dksX1_next_9 20 rfl rfl)
theorem dX1_next_229 : decode cX1_next 229 = .ok (.putfield 19, 3) := dk_181 0 19 (dk_at dksX1_next_9 21 rfl rfl)
theorem dX1_next_232 : decode cX1_next 232 = .ok (.goto (-67), 3) := dk_167 255 189 (dk_at dksX1_next_10 0 rfl rfl)
theorem dX1_next_235 : decode cX1_next 235 = .ok (.aload_n 0, 1) := dk_42 (dk_at dksX1_next_10 3 rfl rfl)
theorem dX1_next_236 : decode cX1_next 236 = .ok (.aload_n 0, 1) := dk_42 (dk_at dksX1_next_10 4 rfl rfl)
theorem dX1_next_237 : decode cX1_next 237 = .ok (.getfield 19, 3) := dk_180 0 19 (dk_at dksX1_next_10 5 rfl rfl)
theorem dX1_next_240 : decode cX1_next 240 = .ok (.aload_n 0, 1) := dk_42 (dk_at dksX1_next_10 8 rfl rfl)
theorem dX1_next_241 : decode cX1_next 241 = .ok (.getfield 28, 3) := dk_180 0 28 (dk_at dksX1_next_10 9 rfl rfl)
theorem dX1_next_244 : decode cX1_next 244 = .ok (.isub, 1) := dk_100 (dk_at dksX1_next_10 12 rfl rfl)
theorem dX1_next_245 : decode cX1_next 245 = .ok (.iconst 4, 1) := dk_7 (dk_at dksX1_next_10 13 rfl rfl)
theorem dX1_next_246 : decode cX1_next 246 = .ok (.if_icmp .le 7, 3) := dk_164 0 7 (dk_at dksX1_next_10 14 rfl rfl)
theorem dX1_next_249 : decode cX1_next 249 = .ok (.iconst 4, 1) := dk_7 (dk_at dksX1_next_10 17 rfl rfl)
theorem dX1_next_250 : decode cX1_next 250 = .ok (.goto 4, 3) := dk_167 0 4 (dk_at dksX1_next_10 18 rfl rfl)
theorem dX1_next_253 : decode cX1_next 253 = .ok (.iconst 2, 1) := dk_5 (dk_at dksX1_next_10 21 rfl rfl)
theorem dX1_next_254 : decode cX1_next 254 = .ok (.putfield 31, 3) := dk_181 0 31 (dk_at dksX1_next_11 0 rfl rfl)
theorem dX1_next_257 : decode cX1_next 257 = .ok (.goto 39, 3) := dk_167 0 39 (dk_at dksX1_next_11 3 rfl rfl)
theorem dX1_next_260 : decode cX1_next 260 = .ok (.aload_n 0, 1) := dk_42 (dk_at dksX1_next_11 6 rfl rfl)
theorem dX1_next_261 : decode cX1_next 261 = .ok (.ldc 48, 2) := dk_18 48 (dk_at dksX1_next_11 7 rfl rfl)
theorem dX1_next_263 : decode cX1_next 263 = .ok (.aload_n 0, 1) := dk_42 (dk_at dksX1_next_11 9 rfl rfl)
theorem dX1_next_264 : decode cX1_next 264 = .ok (.aload_n 0, 1) := dk_42 (dk_at dksX1_next_11 10 rfl rfl)
theorem dX1_next_265 : decode cX1_next 265 = .ok (.getfield 19, 3) := dk_180 0 19 (dk_at dksX1_next_11 11 rfl rfl)
theorem dX1_next_268 : decode cX1_next 268 = .ok (.invokevirtual 34, 3) := dk_182 0 34 (dk_at dksX1_next_11 14 rfl rfl)
theorem dX1_next_271 : decode cX1_next 271 = .ok (.i2c, 1) := dk_146 (dk_at dksX1_next_11 17 rfl rfl)
theorem dX1_next_272 : decode cX1_next 272 = .ok (.invokevirtual 50, 3) := dk_182 0 50 (dk_at dksX1_next_11 18 rfl rfl)
theorem dX1_next_275 : decode cX1_next 275 = .ok (.ifCond .lt 7, 3) := dk_155 0 7 (dk_at dksX1_next_11 21 rfl rfl)
theorem dX1_next_278 : decode cX1_next 278 = .ok (.iconst 3, 1) := dk_6 (dk_at dksX1_next_12 0 rfl rfl)
theorem dX1_next_279 : decode cX1_next 279 = .ok (.goto 4, 3) := dk_167 0 4 (dk_at dksX1_next_12 1 rfl rfl)
theorem dX1_next_282 : decode cX1_next 282 = .ok (.iconst 4, 1) := dk_7 (dk_at dksX1_next_12 4 rfl rfl)
theorem dX1_next_283 : decode cX1_next 283 = .ok (.putfield 31, 3) := dk_181 0 31 (dk_at dksX1_next_12 5 rfl rfl)
theorem dX1_next_286 : decode cX1_next 286 = .ok (.aload_n 0, 1) := dk_42 (dk_at dksX1_next_12 8 rfl rfl)
theorem dX1_next_287 : decode cX1_next 287 = .ok (.dup, 1) := dk_89 (dk_at dksX1_next_12 9 rfl rfl)
theorem dX1_next_288 : decode cX1_next 288 = .ok (.getfield 19, 3) := dk_180 0 19 (dk_at dksX1_next_12 10 rfl rfl)
theorem dX1_next_291 : decode cX1_next 291 = .ok (.iconst 1, 1) := dk_4 (dk_at dksX1_next_12 13 rfl rfl)
theorem dX1_next_292 : decode cX1_next 292 = .ok (.iadd, 1) := dk_96 (dk_at dksX1_next_12 14 rfl rfl)
theorem dX1_next_293 : decode cX1_next 293 = .ok (.putfield 19, 3) := dk_181 0 19 (dk_at dksX1_next_12 15 rfl rfl)
theorem dX1_next_296 : decode cX1_next 296 = .ok (.return_, 1) := dk_177 (dk_at dksX1_next_12 18 rfl rfl)
abbrev cX1_at : ByteArray := prog_14_method_3_code
def yX1_at : MethodName := ⟨RX1, "at", "(I)I"⟩
def dkwX1_at_0 : List UInt8 := [27, 42, 180, 0, 15, 162, 0, 12, 42, 180, 0, 9, 27, 51, 167, 0, 4, 3, 172]
abbrev dktX1_at_0 : List UInt8 := dkwX1_at_0 ++ []
theorem dksX1_at_0 : cX1_at.data.toList.drop 0 = dktX1_at_0 := by decide +kernel
theorem dX1_at_0 : decode cX1_at 0 = .ok (.iload_n 1, 1) := dk_27 (dk_at dksX1_at_0 0 rfl rfl)
theorem dX1_at_1 : decode cX1_at 1 = .ok (.aload_n 0, 1) := dk_42 (dk_at dksX1_at_0 1 rfl rfl)
theorem dX1_at_2 : decode cX1_at 2 = .ok (.getfield 15, 3) := dk_180 0 15 (dk_at dksX1_at_0 2 rfl rfl)
theorem dX1_at_5 : decode cX1_at 5 = .ok (.if_icmp .ge 12, 3) := dk_162 0 12 (dk_at dksX1_at_0 5 rfl rfl)
theorem dX1_at_8 : decode cX1_at 8 = .ok (.aload_n 0, 1) := dk_42 (dk_at dksX1_at_0 8 rfl rfl)
theorem dX1_at_9 : decode cX1_at 9 = .ok (.getfield 9, 3) := dk_180 0 9 (dk_at dksX1_at_0 9 rfl rfl)
theorem dX1_at_12 : decode cX1_at 12 = .ok (.iload_n 1, 1) := dk_27 (dk_at dksX1_at_0 12 rfl rfl)
theorem dX1_at_13 : decode cX1_at 13 = .ok (.baload, 1) := dk_51 (dk_at dksX1_at_0 13 rfl rfl)
theorem dX1_at_14 : decode cX1_at 14 = .ok (.goto 4, 3) := dk_167 0 4 (dk_at dksX1_at_0 14 rfl rfl)
theorem dX1_at_17 : decode cX1_at 17 = .ok (.iconst 0, 1) := dk_3 (dk_at dksX1_at_0 17 rfl rfl)
theorem dX1_at_18 : decode cX1_at 18 = .ok (.ireturn, 1) := dk_172 (dk_at dksX1_at_0 18 rfl rfl)
abbrev cX1_isLetter : ByteArray := prog_14_method_4_code
def yX1_isLetter : MethodName := ⟨RX1, "isLetter", "(I)Z"⟩
def dkwX1_isLetter_0 : List UInt8 := [26, 16, 97, 161, 0, 13, 26, 16, 122, 163, 0, 7, 4, 167, 0, 4, 3, 172]
abbrev dktX1_isLetter_0 : List UInt8 := dkwX1_isLetter_0 ++ []
theorem dksX1_isLetter_0 : cX1_isLetter.data.toList.drop 0 = dktX1_isLetter_0 := by decide +kernel
theorem dX1_isLetter_0 : decode cX1_isLetter 0 = .ok (.iload_n 0, 1) := dk_26 (dk_at dksX1_isLetter_0 0 rfl rfl)
theorem dX1_isLetter_1 : decode cX1_isLetter 1 = .ok (.bipush 97, 2) := dk_16 97 (dk_at dksX1_isLetter_0 1 rfl rfl)
theorem dX1_isLetter_3 : decode cX1_isLetter 3 = .ok (.if_icmp .lt 13, 3) := dk_161 0 13 (dk_at dksX1_isLetter_0 3 rfl rfl)
theorem dX1_isLetter_6 : decode cX1_isLetter 6 = .ok (.iload_n 0, 1) := dk_26 (dk_at dksX1_isLetter_0 6 rfl rfl)
theorem dX1_isLetter_7 : decode cX1_isLetter 7 = .ok (.bipush 122, 2) := dk_16 122 (dk_at dksX1_isLetter_0 7 rfl rfl)
theorem dX1_isLetter_9 : decode cX1_isLetter 9 = .ok (.if_icmp .gt 7, 3) := dk_163 0 7 (dk_at dksX1_isLetter_0 9 rfl rfl)
theorem dX1_isLetter_12 : decode cX1_isLetter 12 = .ok (.iconst 1, 1) := dk_4 (dk_at dksX1_isLetter_0 12 rfl rfl)
theorem dX1_isLetter_13 : decode cX1_isLetter 13 = .ok (.goto 4, 3) := dk_167 0 4 (dk_at dksX1_isLetter_0 13 rfl rfl)
theorem dX1_isLetter_16 : decode cX1_isLetter 16 = .ok (.iconst 0, 1) := dk_3 (dk_at dksX1_isLetter_0 16 rfl rfl)
theorem dX1_isLetter_17 : decode cX1_isLetter 17 = .ok (.ireturn, 1) := dk_172 (dk_at dksX1_isLetter_0 17 rfl rfl)
abbrev cX1_isDigit : ByteArray := prog_14_method_5_code
def yX1_isDigit : MethodName := ⟨RX1, "isDigit", "(I)Z"⟩
def dkwX1_isDigit_0 : List UInt8 := [26, 16, 48, 161, 0, 13, 26, 16, 57, 163, 0, 7, 4, 167, 0, 4, 3, 172]
abbrev dktX1_isDigit_0 : List UInt8 := dkwX1_isDigit_0 ++ []
theorem dksX1_isDigit_0 : cX1_isDigit.data.toList.drop 0 = dktX1_isDigit_0 := by decide +kernel
theorem dX1_isDigit_0 : decode cX1_isDigit 0 = .ok (.iload_n 0, 1) := dk_26 (dk_at dksX1_isDigit_0 0 rfl rfl)
theorem dX1_isDigit_1 : decode cX1_isDigit 1 = .ok (.bipush 48, 2) := dk_16 48 (dk_at dksX1_isDigit_0 1 rfl rfl)
theorem dX1_isDigit_3 : decode cX1_isDigit 3 = .ok (.if_icmp .lt 13, 3) := dk_161 0 13 (dk_at dksX1_isDigit_0 3 rfl rfl)
theorem dX1_isDigit_6 : decode cX1_isDigit 6 = .ok (.iload_n 0, 1) := dk_26 (dk_at dksX1_isDigit_0 6 rfl rfl)
theorem dX1_isDigit_7 : decode cX1_isDigit 7 = .ok (.bipush 57, 2) := dk_16 57 (dk_at dksX1_isDigit_0 7 rfl rfl)
theorem dX1_isDigit_9 : decode cX1_isDigit 9 = .ok (.if_icmp .gt 7, 3) := dk_163 0 7 (dk_at dksX1_isDigit_0 9 rfl rfl)
theorem dX1_isDigit_12 : decode cX1_isDigit 12 = .ok (.iconst 1, 1) := dk_4 (dk_at dksX1_isDigit_0 12 rfl rfl)
theorem dX1_isDigit_13 : decode cX1_isDigit 13 = .ok (.goto 4, 3) := dk_167 0 4 (dk_at dksX1_isDigit_0 13 rfl rfl)
theorem dX1_isDigit_16 : decode cX1_isDigit 16 = .ok (.iconst 0, 1) := dk_3 (dk_at dksX1_isDigit_0 16 rfl rfl)
theorem dX1_isDigit_17 : decode cX1_isDigit 17 = .ok (.ireturn, 1) := dk_172 (dk_at dksX1_isDigit_0 17 rfl rfl)
abbrev cX1_town : ByteArray := prog_14_method_16_code
def yX1_town : MethodName := ⟨RX1, "town", "()LOverFirst$Town;"⟩
def dkwX1_town_11 : List UInt8 := [167, 255, 50, 42, 180, 0, 98, 176]
abbrev dktX1_town_11 : List UInt8 := dkwX1_town_11 ++ []
def dkwX1_town_10 : List UInt8 := [16, 6, 160, 0, 10, 42, 182, 0, 166, 167, 0, 7, 42, 182, 0, 169, 42, 16, 59, 182, 0, 155]
abbrev dktX1_town_10 : List UInt8 := dkwX1_town_10 ++ dktX1_town_11
def dkwX1_town_9 : List UInt8 := [180, 0, 98, 4, 181, 0, 139, 167, 0, 32, 27, 8, 160, 0, 10, 42, 182, 0, 163, 167, 0, 20, 27]
abbrev dktX1_town_9 : List UInt8 := dkwX1_town_9 ++ dktX1_town_10
def dkwX1_town_8 : List UInt8 := [180, 0, 98, 42, 3, 16, 9, 182, 0, 124, 181, 0, 136, 167, 0, 48, 27, 7, 160, 0, 14, 42]
abbrev dktX1_town_8 : List UInt8 := dkwX1_town_8 ++ dktX1_town_9
def dkwX1_town_7 : List UInt8 := [180, 0, 98, 42, 4, 16, 30, 182, 0, 124, 181, 0, 133, 167, 0, 70, 27, 6, 160, 0, 20, 42]
abbrev dktX1_town_7 : List UInt8 := dkwX1_town_7 ++ dktX1_town_8
def dkwX1_town_6 : List UInt8 := [180, 0, 98, 42, 4, 16, 30, 182, 0, 124, 181, 0, 130, 167, 0, 92, 27, 5, 160, 0, 20, 42]
abbrev dktX1_town_6 : List UInt8 := dkwX1_town_6 ++ dktX1_town_7
def dkwX1_town_5 : List UInt8 := [42, 180, 0, 98, 42, 4, 16, 30, 182, 0, 124, 181, 0, 127, 167, 0, 114, 27, 4, 160, 0, 20, 42]
abbrev dktX1_town_5 : List UInt8 := dkwX1_town_5 ++ dktX1_town_6
def dkwX1_town_4 : List UInt8 := [180, 0, 102, 182, 0, 108, 7, 160, 0, 9, 42, 8, 182, 0, 75, 191, 42, 182, 0, 25, 27, 154, 0, 20]
abbrev dktX1_town_4 : List UInt8 := dkwX1_town_4 ++ dktX1_town_5
def dkwX1_town_3 : List UInt8 := [27, 182, 0, 160, 153, 0, 9, 42, 6, 182, 0, 75, 191, 27, 16, 7, 160, 0, 23, 42, 180, 0, 98]
abbrev dktX1_town_3 : List UInt8 := dkwX1_town_3 ++ dktX1_town_4
def dkwX1_town_2 : List UInt8 := [180, 0, 31, 153, 0, 205, 42, 18, 158, 182, 0, 71, 60, 27, 156, 0, 9, 42, 4, 182, 0, 75, 191, 42]
abbrev dktX1_town_2 : List UInt8 := dkwX1_town_2 ++ dktX1_town_3
def dkwX1_town_1 : List UInt8 := [181, 0, 149, 42, 180, 0, 98, 42, 4, 16, 9, 182, 0, 124, 181, 0, 152, 42, 16, 59, 182, 0, 155, 42]
abbrev dktX1_town_1 : List UInt8 := dkwX1_town_1 ++ dktX1_town_2
def dkwX1_town_0 : List UInt8 := [42, 187, 0, 103, 89, 183, 0, 143, 181, 0, 98, 42, 180, 0, 98, 42, 18, 144, 4, 16, 6, 182, 0, 146]
abbrev dktX1_town_0 : List UInt8 := dkwX1_town_0 ++ dktX1_town_1
theorem dksX1_town_0 : cX1_town.data.toList.drop 0 = dktX1_town_0 := by decide +kernel
theorem dksX1_town_1 : cX1_town.data.toList.drop 24 = dktX1_town_1 := dk_seg dksX1_town_0 24 rfl rfl
theorem dksX1_town_2 : cX1_town.data.toList.drop 48 = dktX1_town_2 := dk_seg dksX1_town_1 24 rfl rfl
theorem dksX1_town_3 : cX1_town.data.toList.drop 72 = dktX1_town_3 := dk_seg dksX1_town_2 24 rfl rfl
theorem dksX1_town_4 : cX1_town.data.toList.drop 95 = dktX1_town_4 := dk_seg dksX1_town_3 23 rfl rfl
theorem dksX1_town_5 : cX1_town.data.toList.drop 119 = dktX1_town_5 := dk_seg dksX1_town_4 24 rfl rfl
theorem dksX1_town_6 : cX1_town.data.toList.drop 142 = dktX1_town_6 := dk_seg dksX1_town_5 23 rfl rfl
theorem dksX1_town_7 : cX1_town.data.toList.drop 164 = dktX1_town_7 := dk_seg dksX1_town_6 22 rfl rfl
theorem dksX1_town_8 : cX1_town.data.toList.drop 186 = dktX1_town_8 := dk_seg dksX1_town_7 22 rfl rfl
theorem dksX1_town_9 : cX1_town.data.toList.drop 208 = dktX1_town_9 := dk_seg dksX1_town_8 22 rfl rfl
theorem dksX1_town_10 : cX1_town.data.toList.drop 231 = dktX1_town_10 := dk_seg dksX1_town_9 23 rfl rfl
theorem dksX1_town_11 : cX1_town.data.toList.drop 253 = dktX1_town_11 := dk_seg dksX1_town_10 22 rfl rfl
theorem dX1_town_0 : decode cX1_town 0 = .ok (.aload_n 0, 1) := dk_42 (dk_at dksX1_town_0 0 rfl rfl)
theorem dX1_town_1 : decode cX1_town 1 = .ok (.new 103, 3) := dk_187 0 103 (dk_at dksX1_town_0 1 rfl rfl)
theorem dX1_town_4 : decode cX1_town 4 = .ok (.dup, 1) := dk_89 (dk_at dksX1_town_0 4 rfl rfl)
theorem dX1_town_5 : decode cX1_town 5 = .ok (.invokespecial 143, 3) := dk_183 0 143 (dk_at dksX1_town_0 5 rfl rfl)
theorem dX1_town_8 : decode cX1_town 8 = .ok (.putfield 98, 3) := dk_181 0 98 (dk_at dksX1_town_0 8 rfl rfl)
theorem dX1_town_11 : decode cX1_town 11 = .ok (.aload_n 0, 1) := dk_42 (dk_at dksX1_town_0 11 rfl rfl)
theorem dX1_town_12 : decode cX1_town 12 = .ok (.getfield 98, 3) := dk_180 0 98 (dk_at dksX1_town_0 12 rfl rfl)
theorem dX1_town_15 : decode cX1_town 15 = .ok (.aload_n 0, 1) := dk_42 (dk_at dksX1_town_0 15 rfl rfl)
theorem dX1_town_16 : decode cX1_town 16 = .ok (.ldc 144, 2) := dk_18 144 (dk_at dksX1_town_0 16 rfl rfl)
theorem dX1_town_18 : decode cX1_town 18 = .ok (.iconst 1, 1) := dk_4 (dk_at dksX1_town_0 18 rfl rfl)
theorem dX1_town_19 : decode cX1_town 19 = .ok (.bipush 6, 2) := dk_16 6 (dk_at dksX1_town_0 19 rfl rfl)
theorem dX1_town_21 : decode cX1_town 21 = .ok (.invokevirtual 146, 3) := dk_182 0 146 (dk_at dksX1_town_0 21 rfl rfl)
theorem dX1_town_24 : decode cX1_town 24 = .ok (.putfield 149, 3) := dk_181 0 149 (dk_at dksX1_town_1 0 rfl rfl)
theorem dX1_town_27 : decode cX1_town 27 = .ok (.aload_n 0, 1) := dk_42 (dk_at dksX1_town_1 3 rfl rfl)
theorem dX1_town_28 : decode cX1_town 28 = .ok (.getfield 98, 3) := dk_180 0 98 (dk_at dksX1_town_1 4 rfl rfl)
theorem dX1_town_31 : decode cX1_town 31 = .ok (.aload_n 0, 1) := dk_42 (dk_at dksX1_town_1 7 rfl rfl)
theorem dX1_town_32 : decode cX1_town 32 = .ok (.iconst 1, 1) := dk_4 (dk_at dksX1_town_1 8 rfl rfl)
theorem dX1_town_33 : decode cX1_town 33 = .ok (.bipush 9, 2) := dk_16 9 (dk_at dksX1_town_1 9 rfl rfl)
theorem dX1_town_35 : decode cX1_town 35 = .ok (.invokevirtual 124, 3) := dk_182 0 124 (dk_at dksX1_town_1 11 rfl rfl)
theorem dX1_town_38 : decode cX1_town 38 = .ok (.putfield 152, 3) := dk_181 0 152 (dk_at dksX1_town_1 14 rfl rfl)
theorem dX1_town_41 : decode cX1_town 41 = .ok (.aload_n 0, 1) := dk_42 (dk_at dksX1_town_1 17 rfl rfl)
theorem dX1_town_42 : decode cX1_town 42 = .ok (.bipush 59, 2) := dk_16 59 (dk_at dksX1_town_1 18 rfl rfl)
theorem dX1_town_44 : decode cX1_town 44 = .ok (.invokevirtual 155, 3) := dk_182 0 155 (dk_at dksX1_town_1 20 rfl rfl)
theorem dX1_town_47 : decode cX1_town 47 = .ok (.aload_n 0, 1) := dk_42 (dk_at dksX1_town_1 23 rfl rfl)
theorem dX1_town_48 : decode cX1_town 48 = .ok (.getfield 31, 3) := dk_180 0 31 (dk_at dksX1_town_2 0 rfl rfl)
theorem dX1_town_51 : decode cX1_town 51 = .ok (.ifCond .eq 205, 3) := dk_153 0 205 (dk_at dksX1_town_2 3 rfl rfl)
theorem dX1_town_54 : decode cX1_town 54 = .ok (.aload_n 0, 1) := dk_42 (dk_at dksX1_town_2 6 rfl rfl)
theorem dX1_town_55 : decode cX1_town 55 = .ok (.ldc 158, 2) := dk_18 158 (dk_at dksX1_town_2 7 rfl rfl)
theorem dX1_town_57 : decode cX1_town 57 = .ok (.invokevirtual 71, 3) := dk_182 0 71 (dk_at dksX1_town_2 9 rfl rfl)
theorem dX1_town_60 : decode cX1_town 60 = .ok (.istore_n 1, 1) := dk_60 (dk_at dksX1_town_2 12 rfl rfl)
theorem dX1_town_61 : decode cX1_town 61 = .ok (.iload_n 1, 1) := dk_27 (dk_at dksX1_town_2 13 rfl rfl)
theorem dX1_town_62 : decode cX1_town 62 = .ok (.ifCond .ge 9, 3) := dk_156 0 9 (dk_at dksX1_town_2 14 rfl rfl)
theorem dX1_town_65 : decode cX1_town 65 = .ok (.aload_n 0, 1) := dk_42 (dk_at dksX1_town_2 17 rfl rfl)
theorem dX1_town_66 : decode cX1_town 66 = .ok (.iconst 1, 1) := dk_4 (dk_at dksX1_town_2 18 rfl rfl)
theorem dX1_town_67 : decode cX1_town 67 = .ok (.invokevirtual 75, 3) := dk_182 0 75 (dk_at dksX1_town_2 19 rfl rfl)
theorem dX1_town_70 : decode cX1_town 70 = .ok (.athrow, 1) := dk_191 (dk_at dksX1_town_2 22 rfl rfl)
theorem dX1_town_71 : decode cX1_town 71 = .ok (.aload_n 0, 1) := dk_42 (dk_at dksX1_town_2 23 rfl rfl)
theorem dX1_town_72 : decode cX1_town 72 = .ok (.iload_n 1, 1) := dk_27 (dk_at dksX1_town_3 0 rfl rfl)
theorem dX1_town_73 : decode cX1_town 73 = .ok (.invokevirtual 160, 3) := dk_182 0 160 (dk_at dksX1_town_3 1 rfl rfl)
theorem dX1_town_76 : decode cX1_town 76 = .ok (.ifCond .eq 9, 3) := dk_153 0 9 (dk_at dksX1_town_3 4 rfl rfl)
theorem dX1_town_79 : decode cX1_town 79 = .ok (.aload_n 0, 1) := dk_42 (dk_at dksX1_town_3 7 rfl rfl)
theorem dX1_town_80 : decode cX1_town 80 = .ok (.iconst 3, 1) := dk_6 (dk_at dksX1_town_3 8 rfl rfl)
theorem dX1_town_81 : decode cX1_town 81 = .ok (.invokevirtual 75, 3) := dk_182 0 75 (dk_at dksX1_town_3 9 rfl rfl)
theorem dX1_town_84 : decode cX1_town 84 = .ok (.athrow, 1) := dk_191 (dk_at dksX1_town_3 12 rfl rfl)
theorem dX1_town_85 : decode cX1_town 85 = .ok (.iload_n 1, 1) := dk_27 (dk_at dksX1_town_3 13 rfl rfl)
theorem dX1_town_86 : decode cX1_town 86 = .ok (.bipush 7, 2) := dk_16 7 (dk_at dksX1_town_3 14 rfl rfl)
theorem dX1_town_88 : decode cX1_town 88 = .ok (.if_icmp .ne 23, 3) := dk_160 0 23 (dk_at dksX1_town_3 16 rfl rfl)
theorem dX1_town_91 : decode cX1_town 91 = .ok (.aload_n 0, 1) := dk_42 (dk_at dksX1_town_3 19 rfl rfl)
theorem dX1_town_92 : decode cX1_town 92 = .ok (.getfield 98, 3) := dk_180 0 98 (dk_at dksX1_town_3 20 rfl rfl)
theorem dX1_town_95 : decode cX1_town 95 = .ok (.getfield 102, 3) := dk_180 0 102 (dk_at dksX1_town_4 0 rfl rfl)
theorem dX1_town_98 : decode cX1_town 98 = .ok (.invokevirtual 108, 3) := dk_182 0 108 (dk_at dksX1_town_4 3 rfl rfl)
theorem dX1_town_101 : decode cX1_town 101 = .ok (.iconst 4, 1) := dk_7 (dk_at dksX1_town_4 6 rfl rfl)
theorem dX1_town_102 : decode cX1_town 102 = .ok (.if_icmp .ne 9, 3) := dk_160 0 9 (dk_at dksX1_town_4 7 rfl rfl)
theorem dX1_town_105 : decode cX1_town 105 = .ok (.aload_n 0, 1) := dk_42 (dk_at dksX1_town_4 10 rfl rfl)
theorem dX1_town_106 : decode cX1_town 106 = .ok (.iconst 5, 1) := dk_8 (dk_at dksX1_town_4 11 rfl rfl)
theorem dX1_town_107 : decode cX1_town 107 = .ok (.invokevirtual 75, 3) := dk_182 0 75 (dk_at dksX1_town_4 12 rfl rfl)
theorem dX1_town_110 : decode cX1_town 110 = .ok (.athrow, 1) := dk_191 (dk_at dksX1_town_4 15 rfl rfl)
theorem dX1_town_111 : decode cX1_town 111 = .ok (.aload_n 0, 1) := dk_42 (dk_at dksX1_town_4 16 rfl rfl)
theorem dX1_town_112 : decode cX1_town 112 = .ok (.invokevirtual 25, 3) := dk_182 0 25 (dk_at dksX1_town_4 17 rfl rfl)
theorem dX1_town_115 : decode cX1_town 115 = .ok (.iload_n 1, 1) := dk_27 (dk_at dksX1_town_4 20 rfl rfl)
theorem dX1_town_116 : decode cX1_town 116 = .ok (.ifCond .ne 20, 3) := dk_154 0 20 (dk_at dksX1_town_4 21 rfl rfl)
theorem dX1_town_119 : decode cX1_town 119 = .ok (.aload_n 0, 1) := dk_42 (dk_at dksX1_town_5 0 rfl rfl)
theorem dX1_town_120 : decode cX1_town 120 = .ok (.getfield 98, 3) := dk_180 0 98 (dk_at dksX1_town_5 1 rfl rfl)
theorem dX1_town_123 : decode cX1_town 123 = .ok (.aload_n 0, 1) := dk_42 (dk_at dksX1_town_5 4 rfl rfl)
theorem dX1_town_124 : decode cX1_town 124 = .ok (.iconst 1, 1) := dk_4 (dk_at dksX1_town_5 5 rfl rfl)
theorem dX1_town_125 : decode cX1_town 125 = .ok (.bipush 30, 2) := dk_16 30 (dk_at dksX1_town_5 6 rfl rfl)
theorem dX1_town_127 : decode cX1_town 127 = .ok (.invokevirtual 124, 3) := dk_182 0 124 (dk_at dksX1_town_5 8 rfl rfl)
theorem dX1_town_130 : decode cX1_town 130 = .ok (.putfield 127, 3) := dk_181 0 127 (dk_at dksX1_town_5 11 rfl rfl)
theorem dX1_town_133 : decode cX1_town 133 = .ok (.goto 114, 3) := dk_167 0 114 (dk_at dksX1_town_5 14 rfl rfl)
theorem dX1_town_136 : decode cX1_town 136 = .ok (.iload_n 1, 1) := dk_27 (dk_at dksX1_town_5 17 rfl rfl)
theorem dX1_town_137 : decode cX1_town 137 = .ok (.iconst 1, 1) := dk_4 (dk_at dksX1_town_5 18 rfl rfl)
theorem dX1_town_138 : decode cX1_town 138 = .ok (.if_icmp .ne 20, 3) := dk_160 0 20 (dk_at dksX1_town_5 19 rfl rfl)
theorem dX1_town_141 : decode cX1_town 141 = .ok (.aload_n 0, 1) := dk_42 (dk_at dksX1_town_5 22 rfl rfl)
theorem dX1_town_142 : decode cX1_town 142 = .ok (.getfield 98, 3) := dk_180 0 98 (dk_at dksX1_town_6 0 rfl rfl)
theorem dX1_town_145 : decode cX1_town 145 = .ok (.aload_n 0, 1) := dk_42 (dk_at dksX1_town_6 3 rfl rfl)
theorem dX1_town_146 : decode cX1_town 146 = .ok (.iconst 1, 1) := dk_4 (dk_at dksX1_town_6 4 rfl rfl)
theorem dX1_town_147 : decode cX1_town 147 = .ok (.bipush 30, 2) := dk_16 30 (dk_at dksX1_town_6 5 rfl rfl)
theorem dX1_town_149 : decode cX1_town 149 = .ok (.invokevirtual 124, 3) := dk_182 0 124 (dk_at dksX1_town_6 7 rfl rfl)
theorem dX1_town_152 : decode cX1_town 152 = .ok (.putfield 130, 3) := dk_181 0 130 (dk_at dksX1_town_6 10 rfl rfl)
theorem dX1_town_155 : decode cX1_town 155 = .ok (.goto 92, 3) := dk_167 0 92 (dk_at dksX1_town_6 13 rfl rfl)
theorem dX1_town_158 : decode cX1_town 158 = .ok (.iload_n 1, 1) := dk_27 (dk_at dksX1_town_6 16 rfl rfl)
theorem dX1_town_159 : decode cX1_town 159 = .ok (.iconst 2, 1) := dk_5 (dk_at dksX1_town_6 17 rfl rfl)
theorem dX1_town_160 : decode cX1_town 160 = .ok (.if_icmp .ne 20, 3) := dk_160 0 20 (dk_at dksX1_town_6 18 rfl rfl)
theorem dX1_town_163 : decode cX1_town 163 = .ok (.aload_n 0, 1) := dk_42 (dk_at dksX1_town_6 21 rfl rfl)
theorem dX1_town_164 : decode cX1_town 164 = .ok (.getfield 98, 3) := dk_180 0 98 (dk_at dksX1_town_7 0 rfl rfl)
theorem dX1_town_167 : decode cX1_town 167 = .ok (.aload_n 0, 1) := dk_42 (dk_at dksX1_town_7 3 rfl rfl)
theorem dX1_town_168 : decode cX1_town 168 = .ok (.iconst 1, 1) := dk_4 (dk_at dksX1_town_7 4 rfl rfl)
theorem dX1_town_169 : decode cX1_town 169 = .ok (.bipush 30, 2) := dk_16 30 (dk_at dksX1_town_7 5 rfl rfl)
theorem dX1_town_171 : decode cX1_town 171 = .ok (.invokevirtual 124, 3) := dk_182 0 124 (dk_at dksX1_town_7 7 rfl rfl)
theorem dX1_town_174 : decode cX1_town 174 = .ok (.putfield 133, 3) := dk_181 0 133 (dk_at dksX1_town_7 10 rfl rfl)
theorem dX1_town_177 : decode cX1_town 177 = .ok (.goto 70, 3) := dk_167 0 70 (dk_at dksX1_town_7 13 rfl rfl)
theorem dX1_town_180 : decode cX1_town 180 = .ok (.iload_n 1, 1) := dk_27 (dk_at dksX1_town_7 16 rfl rfl)
theorem dX1_town_181 : decode cX1_town 181 = .ok (.iconst 3, 1) := dk_6 (dk_at dksX1_town_7 17 rfl rfl)
theorem dX1_town_182 : decode cX1_town 182 = .ok (.if_icmp .ne 20, 3) := dk_160 0 20 (dk_at dksX1_town_7 18 rfl rfl)
theorem dX1_town_185 : decode cX1_town 185 = .ok (.aload_n 0, 1) := dk_42 (dk_at dksX1_town_7 21 rfl rfl)
theorem dX1_town_186 : decode cX1_town 186 = .ok (.getfield 98, 3) := dk_180 0 98 (dk_at dksX1_town_8 0 rfl rfl)
theorem dX1_town_189 : decode cX1_town 189 = .ok (.aload_n 0, 1) := dk_42 (dk_at dksX1_town_8 3 rfl rfl)
theorem dX1_town_190 : decode cX1_town 190 = .ok (.iconst 0, 1) := dk_3 (dk_at dksX1_town_8 4 rfl rfl)
theorem dX1_town_191 : decode cX1_town 191 = .ok (.bipush 9, 2) := dk_16 9 (dk_at dksX1_town_8 5 rfl rfl)
theorem dX1_town_193 : decode cX1_town 193 = .ok (.invokevirtual 124, 3) := dk_182 0 124 (dk_at dksX1_town_8 7 rfl rfl)
theorem dX1_town_196 : decode cX1_town 196 = .ok (.putfield 136, 3) := dk_181 0 136 (dk_at dksX1_town_8 10 rfl rfl)
theorem dX1_town_199 : decode cX1_town 199 = .ok (.goto 48, 3) := dk_167 0 48 (dk_at dksX1_town_8 13 rfl rfl)
theorem dX1_town_202 : decode cX1_town 202 = .ok (.iload_n 1, 1) := dk_27 (dk_at dksX1_town_8 16 rfl rfl)
theorem dX1_town_203 : decode cX1_town 203 = .ok (.iconst 4, 1) := dk_7 (dk_at dksX1_town_8 17 rfl rfl)
theorem dX1_town_204 : decode cX1_town 204 = .ok (.if_icmp .ne 14, 3) := dk_160 0 14 (dk_at dksX1_town_8 18 rfl rfl)
theorem dX1_town_207 : decode cX1_town 207 = .ok (.aload_n 0, 1) := dk_42 (dk_at dksX1_town_8 21 rfl rfl)
theorem dX1_town_208 : decode cX1_town 208 = .ok (.getfield 98, 3) := dk_180 0 98 (dk_at dksX1_town_9 0 rfl rfl)
theorem dX1_town_211 : decode cX1_town 211 = .ok (.iconst 1, 1) := dk_4 (dk_at dksX1_town_9 3 rfl rfl)
theorem dX1_town_212 : decode cX1_town 212 = .ok (.putfield 139, 3) := dk_181 0 139 (dk_at dksX1_town_9 4 rfl rfl)
theorem dX1_town_215 : decode cX1_town 215 = .ok (.goto 32, 3) := dk_167 0 32 (dk_at dksX1_town_9 7 rfl rfl)
theorem dX1_town_218 : decode cX1_town 218 = .ok (.iload_n 1, 1) := dk_27 (dk_at dksX1_town_9 10 rfl rfl)
theorem dX1_town_219 : decode cX1_town 219 = .ok (.iconst 5, 1) := dk_8 (dk_at dksX1_town_9 11 rfl rfl)
theorem dX1_town_220 : decode cX1_town 220 = .ok (.if_icmp .ne 10, 3) := dk_160 0 10 (dk_at dksX1_town_9 12 rfl rfl)
theorem dX1_town_223 : decode cX1_town 223 = .ok (.aload_n 0, 1) := dk_42 (dk_at dksX1_town_9 15 rfl rfl)
theorem dX1_town_224 : decode cX1_town 224 = .ok (.invokevirtual 163, 3) := dk_182 0 163 (dk_at dksX1_town_9 16 rfl rfl)
theorem dX1_town_227 : decode cX1_town 227 = .ok (.goto 20, 3) := dk_167 0 20 (dk_at dksX1_town_9 19 rfl rfl)
theorem dX1_town_230 : decode cX1_town 230 = .ok (.iload_n 1, 1) := dk_27 (dk_at dksX1_town_9 22 rfl rfl)
theorem dX1_town_231 : decode cX1_town 231 = .ok (.bipush 6, 2) := dk_16 6 (dk_at dksX1_town_10 0 rfl rfl)
theorem dX1_town_233 : decode cX1_town 233 = .ok (.if_icmp .ne 10, 3) := dk_160 0 10 (dk_at dksX1_town_10 2 rfl rfl)
theorem dX1_town_236 : decode cX1_town 236 = .ok (.aload_n 0, 1) := dk_42 (dk_at dksX1_town_10 5 rfl rfl)
theorem dX1_town_237 : decode cX1_town 237 = .ok (.invokevirtual 166, 3) := dk_182 0 166 (dk_at dksX1_town_10 6 rfl rfl)
theorem dX1_town_240 : decode cX1_town 240 = .ok (.goto 7, 3) := dk_167 0 7 (dk_at dksX1_town_10 9 rfl rfl)
theorem dX1_town_243 : decode cX1_town 243 = .ok (.aload_n 0, 1) := dk_42 (dk_at dksX1_town_10 12 rfl rfl)
theorem dX1_town_244 : decode cX1_town 244 = .ok (.invokevirtual 169, 3) := dk_182 0 169 (dk_at dksX1_town_10 13 rfl rfl)
theorem dX1_town_247 : decode cX1_town 247 = .ok (.aload_n 0, 1) := dk_42 (dk_at dksX1_town_10 16 rfl rfl)
theorem dX1_town_248 : decode cX1_town 248 = .ok (.bipush 59, 2) := dk_16 59 (dk_at dksX1_town_10 17 rfl rfl)
theorem dX1_town_250 : decode cX1_town 250 = .ok (.invokevirtual 155, 3) := dk_182 0 155 (dk_at dksX1_town_10 19 rfl rfl)
theorem dX1_town_253 : decode cX1_town 253 = .ok (.goto (-206), 3) := dk_167 255 50 (dk_at dksX1_town_11 0 rfl rfl)
theorem dX1_town_256 : decode cX1_town 256 = .ok (.aload_n 0, 1) := dk_42 (dk_at dksX1_town_11 3 rfl rfl)
theorem dX1_town_257 : decode cX1_town 257 = .ok (.getfield 98, 3) := dk_180 0 98 (dk_at dksX1_town_11 4 rfl rfl)
theorem dX1_town_260 : decode cX1_town 260 = .ok (.areturn, 1) := dk_176 (dk_at dksX1_town_11 7 rfl rfl)
abbrev cX1_number : ByteArray := prog_14_method_14_code
def yX1_number : MethodName := ⟨RX1, "number", "(Ljava/lang/String;II)I"⟩
def dkwX1_number_0 : List UInt8 := [42, 43, 182, 0, 120, 42, 28, 29, 182, 0, 124, 172]
abbrev dktX1_number_0 : List UInt8 := dkwX1_number_0 ++ []
theorem dksX1_number_0 : cX1_number.data.toList.drop 0 = dktX1_number_0 := by decide +kernel
theorem dX1_number_0 : decode cX1_number 0 = .ok (.aload_n 0, 1) := dk_42 (dk_at dksX1_number_0 0 rfl rfl)
theorem dX1_number_1 : decode cX1_number 1 = .ok (.aload_n 1, 1) := dk_43 (dk_at dksX1_number_0 1 rfl rfl)
theorem dX1_number_2 : decode cX1_number 2 = .ok (.invokevirtual 120, 3) := dk_182 0 120 (dk_at dksX1_number_0 2 rfl rfl)
theorem dX1_number_5 : decode cX1_number 5 = .ok (.aload_n 0, 1) := dk_42 (dk_at dksX1_number_0 5 rfl rfl)
theorem dX1_number_6 : decode cX1_number 6 = .ok (.iload_n 2, 1) := dk_28 (dk_at dksX1_number_0 6 rfl rfl)
theorem dX1_number_7 : decode cX1_number 7 = .ok (.iload_n 3, 1) := dk_29 (dk_at dksX1_number_0 7 rfl rfl)
theorem dX1_number_8 : decode cX1_number 8 = .ok (.invokevirtual 124, 3) := dk_182 0 124 (dk_at dksX1_number_0 8 rfl rfl)
theorem dX1_number_11 : decode cX1_number 11 = .ok (.ireturn, 1) := dk_172 (dk_at dksX1_number_0 11 rfl rfl)
abbrev cX1_need : ByteArray := prog_14_method_9_code
def yX1_need : MethodName := ⟨RX1, "need", "(Ljava/lang/String;)V"⟩
def dkwX1_need_0 : List UInt8 := [42, 43, 182, 0, 71, 156, 0, 9, 42, 4, 182, 0, 75, 191, 42, 182, 0, 25, 177]
abbrev dktX1_need_0 : List UInt8 := dkwX1_need_0 ++ []
theorem dksX1_need_0 : cX1_need.data.toList.drop 0 = dktX1_need_0 := by decide +kernel
theorem dX1_need_0 : decode cX1_need 0 = .ok (.aload_n 0, 1) := dk_42 (dk_at dksX1_need_0 0 rfl rfl)
theorem dX1_need_1 : decode cX1_need 1 = .ok (.aload_n 1, 1) := dk_43 (dk_at dksX1_need_0 1 rfl rfl)
theorem dX1_need_2 : decode cX1_need 2 = .ok (.invokevirtual 71, 3) := dk_182 0 71 (dk_at dksX1_need_0 2 rfl rfl)
theorem dX1_need_5 : decode cX1_need 5 = .ok (.ifCond .ge 9, 3) := dk_156 0 9 (dk_at dksX1_need_0 5 rfl rfl)
theorem dX1_need_8 : decode cX1_need 8 = .ok (.aload_n 0, 1) := dk_42 (dk_at dksX1_need_0 8 rfl rfl)
theorem dX1_need_9 : decode cX1_need 9 = .ok (.iconst 1, 1) := dk_4 (dk_at dksX1_need_0 9 rfl rfl)
theorem dX1_need_10 : decode cX1_need 10 = .ok (.invokevirtual 75, 3) := dk_182 0 75 (dk_at dksX1_need_0 10 rfl rfl)
theorem dX1_need_13 : decode cX1_need 13 = .ok (.athrow, 1) := dk_191 (dk_at dksX1_need_0 13 rfl rfl)
theorem dX1_need_14 : decode cX1_need 14 = .ok (.aload_n 0, 1) := dk_42 (dk_at dksX1_need_0 14 rfl rfl)
theorem dX1_need_15 : decode cX1_need 15 = .ok (.invokevirtual 25, 3) := dk_182 0 25 (dk_at dksX1_need_0 15 rfl rfl)
theorem dX1_need_18 : decode cX1_need 18 = .ok (.return_, 1) := dk_177 (dk_at dksX1_need_0 18 rfl rfl)
abbrev cX1_which : ByteArray := prog_14_method_8_code
def yX1_which : MethodName := ⟨RX1, "which", "(Ljava/lang/String;)I"⟩
def dkwX1_which_5 : List UInt8 := [96, 62, 132, 2, 1, 167, 255, 140, 2, 172]
abbrev dktX1_which_5 : List UInt8 := dkwX1_which_5 ++ []
def dkwX1_which_4 : List UInt8 := [167, 0, 4, 3, 54, 5, 132, 6, 1, 167, 255, 211, 21, 5, 153, 0, 5, 28, 172, 29, 21, 4, 4, 96]
abbrev dktX1_which_4 : List UInt8 := dkwX1_which_4 ++ dktX1_which_5
def dkwX1_which_3 : List UInt8 := [180, 0, 9, 42, 180, 0, 28, 21, 6, 96, 51, 43, 29, 21, 6, 96, 182, 0, 67, 160, 0, 7, 4]
abbrev dktX1_which_3 : List UInt8 := dkwX1_which_3 ++ dktX1_which_4
def dkwX1_which_2 : List UInt8 := [167, 0, 4, 3, 54, 5, 3, 54, 6, 21, 5, 153, 0, 46, 21, 6, 21, 4, 162, 0, 39, 42]
abbrev dktX1_which_2 : List UInt8 := dkwX1_which_2 ++ dktX1_which_3
def dkwX1_which_1 : List UInt8 := [182, 0, 64, 29, 100, 54, 4, 42, 180, 0, 19, 42, 180, 0, 28, 100, 21, 4, 160, 0, 7, 4]
abbrev dktX1_which_1 : List UInt8 := dkwX1_which_1 ++ dktX1_which_2
def dkwX1_which_0 : List UInt8 := [3, 61, 3, 62, 29, 43, 182, 0, 60, 162, 0, 114, 42, 180, 0, 31, 4, 160, 0, 106, 43, 16, 32, 29]
abbrev dktX1_which_0 : List UInt8 := dkwX1_which_0 ++ dktX1_which_1
theorem dksX1_which_0 : cX1_which.data.toList.drop 0 = dktX1_which_0 := by decide +kernel
theorem dksX1_which_1 : cX1_which.data.toList.drop 24 = dktX1_which_1 := dk_seg dksX1_which_0 24 rfl rfl
theorem dksX1_which_2 : cX1_which.data.toList.drop 46 = dktX1_which_2 := dk_seg dksX1_which_1 22 rfl rfl
theorem dksX1_which_3 : cX1_which.data.toList.drop 68 = dktX1_which_3 := dk_seg dksX1_which_2 22 rfl rfl
theorem dksX1_which_4 : cX1_which.data.toList.drop 91 = dktX1_which_4 := dk_seg dksX1_which_3 23 rfl rfl
theorem dksX1_which_5 : cX1_which.data.toList.drop 115 = dktX1_which_5 := dk_seg dksX1_which_4 24 rfl rfl
theorem dX1_which_0 : decode cX1_which 0 = .ok (.iconst 0, 1) := dk_3 (dk_at dksX1_which_0 0 rfl rfl)
theorem dX1_which_1 : decode cX1_which 1 = .ok (.istore_n 2, 1) := dk_61 (dk_at dksX1_which_0 1 rfl rfl)
theorem dX1_which_2 : decode cX1_which 2 = .ok (.iconst 0, 1) := dk_3 (dk_at dksX1_which_0 2 rfl rfl)
theorem dX1_which_3 : decode cX1_which 3 = .ok (.istore_n 3, 1) := dk_62 (dk_at dksX1_which_0 3 rfl rfl)
theorem dX1_which_4 : decode cX1_which 4 = .ok (.iload_n 3, 1) := dk_29 (dk_at dksX1_which_0 4 rfl rfl)
theorem dX1_which_5 : decode cX1_which 5 = .ok (.aload_n 1, 1) := dk_43 (dk_at dksX1_which_0 5 rfl rfl)
theorem dX1_which_6 : decode cX1_which 6 = .ok (.invokevirtual 60, 3) := dk_182 0 60 (dk_at dksX1_which_0 6 rfl rfl)
theorem dX1_which_9 : decode cX1_which 9 = .ok (.if_icmp .ge 114, 3) := dk_162 0 114 (dk_at dksX1_which_0 9 rfl rfl)
theorem dX1_which_12 : decode cX1_which 12 = .ok (.aload_n 0, 1) := dk_42 (dk_at dksX1_which_0 12 rfl rfl)
theorem dX1_which_13 : decode cX1_which 13 = .ok (.getfield 31, 3) := dk_180 0 31 (dk_at dksX1_which_0 13 rfl rfl)
theorem dX1_which_16 : decode cX1_which 16 = .ok (.iconst 1, 1) := dk_4 (dk_at dksX1_which_0 16 rfl rfl)
theorem dX1_which_17 : decode cX1_which 17 = .ok (.if_icmp .ne 106, 3) := dk_160 0 106 (dk_at dksX1_which_0 17 rfl rfl)
theorem dX1_which_20 : decode cX1_which 20 = .ok (.aload_n 1, 1) := dk_43 (dk_at dksX1_which_0 20 rfl rfl)
theorem dX1_which_21 : decode cX1_which 21 = .ok (.bipush 32, 2) := dk_16 32 (dk_at dksX1_which_0 21 rfl rfl)
theorem dX1_which_23 : decode cX1_which 23 = .ok (.iload_n 3, 1) := dk_29 (dk_at dksX1_which_0 23 rfl rfl)
theorem dX1_which_24 : decode cX1_which 24 = .ok (.invokevirtual 64, 3) := dk_182 0 64 (dk_at dksX1_which_1 0 rfl rfl)
theorem dX1_which_27 : decode cX1_which 27 = .ok (.iload_n 3, 1) := dk_29 (dk_at dksX1_which_1 3 rfl rfl)
theorem dX1_which_28 : decode cX1_which 28 = .ok (.isub, 1) := dk_100 (dk_at dksX1_which_1 4 rfl rfl)
theorem dX1_which_29 : decode cX1_which 29 = .ok (.istore 4, 2) := dk_54 4 (dk_at dksX1_which_1 5 rfl rfl)
theorem dX1_which_31 : decode cX1_which 31 = .ok (.aload_n 0, 1) := dk_42 (dk_at dksX1_which_1 7 rfl rfl)
theorem dX1_which_32 : decode cX1_which 32 = .ok (.getfield 19, 3) := dk_180 0 19 (dk_at dksX1_which_1 8 rfl rfl)
theorem dX1_which_35 : decode cX1_which 35 = .ok (.aload_n 0, 1) := dk_42 (dk_at dksX1_which_1 11 rfl rfl)
theorem dX1_which_36 : decode cX1_which 36 = .ok (.getfield 28, 3) := dk_180 0 28 (dk_at dksX1_which_1 12 rfl rfl)
theorem dX1_which_39 : decode cX1_which 39 = .ok (.isub, 1) := dk_100 (dk_at dksX1_which_1 15 rfl rfl)
theorem dX1_which_40 : decode cX1_which 40 = .ok (.iload 4, 2) := dk_21 4 (dk_at dksX1_which_1 16 rfl rfl)
theorem dX1_which_42 : decode cX1_which 42 = .ok (.if_icmp .ne 7, 3) := dk_160 0 7 (dk_at dksX1_which_1 18 rfl rfl)
theorem dX1_which_45 : decode cX1_which 45 = .ok (.iconst 1, 1) := dk_4 (dk_at dksX1_which_1 21 rfl rfl)
theorem dX1_which_46 : decode cX1_which 46 = .ok (.goto 4, 3) := dk_167 0 4 (dk_at dksX1_which_2 0 rfl rfl)
theorem dX1_which_49 : decode cX1_which 49 = .ok (.iconst 0, 1) := dk_3 (dk_at dksX1_which_2 3 rfl rfl)
theorem dX1_which_50 : decode cX1_which 50 = .ok (.istore 5, 2) := dk_54 5 (dk_at dksX1_which_2 4 rfl rfl)
theorem dX1_which_52 : decode cX1_which 52 = .ok (.iconst 0, 1) := dk_3 (dk_at dksX1_which_2 6 rfl rfl)
theorem dX1_which_53 : decode cX1_which 53 = .ok (.istore 6, 2) := dk_54 6 (dk_at dksX1_which_2 7 rfl rfl)
theorem dX1_which_55 : decode cX1_which 55 = .ok (.iload 5, 2) := dk_21 5 (dk_at dksX1_which_2 9 rfl rfl)
theorem dX1_which_57 : decode cX1_which 57 = .ok (.ifCond .eq 46, 3) := dk_153 0 46 (dk_at dksX1_which_2 11 rfl rfl)
theorem dX1_which_60 : decode cX1_which 60 = .ok (.iload 6, 2) := dk_21 6 (dk_at dksX1_which_2 14 rfl rfl)
theorem dX1_which_62 : decode cX1_which 62 = .ok (.iload 4, 2) := dk_21 4 (dk_at dksX1_which_2 16 rfl rfl)
theorem dX1_which_64 : decode cX1_which 64 = .ok (.if_icmp .ge 39, 3) := dk_162 0 39 (dk_at dksX1_which_2 18 rfl rfl)
theorem dX1_which_67 : decode cX1_which 67 = .ok (.aload_n 0, 1) := dk_42 (dk_at dksX1_which_2 21 rfl rfl)
theorem dX1_which_68 : decode cX1_which 68 = .ok (.getfield 9, 3) := dk_180 0 9 (dk_at dksX1_which_3 0 rfl rfl)
theorem dX1_which_71 : decode cX1_which 71 = .ok (.aload_n 0, 1) := dk_42 (dk_at dksX1_which_3 3 rfl rfl)
theorem dX1_which_72 : decode cX1_which 72 = .ok (.getfield 28, 3) := dk_180 0 28 (dk_at dksX1_which_3 4 rfl rfl)
theorem dX1_which_75 : decode cX1_which 75 = .ok (.iload 6, 2) := dk_21 6 (dk_at dksX1_which_3 7 rfl rfl)
theorem dX1_which_77 : decode cX1_which 77 = .ok (.iadd, 1) := dk_96 (dk_at dksX1_which_3 9 rfl rfl)
theorem dX1_which_78 : decode cX1_which 78 = .ok (.baload, 1) := dk_51 (dk_at dksX1_which_3 10 rfl rfl)
theorem dX1_which_79 : decode cX1_which 79 = .ok (.aload_n 1, 1) := dk_43 (dk_at dksX1_which_3 11 rfl rfl)
theorem dX1_which_80 : decode cX1_which 80 = .ok (.iload_n 3, 1) := dk_29 (dk_at dksX1_which_3 12 rfl rfl)
theorem dX1_which_81 : decode cX1_which 81 = .ok (.iload 6, 2) := dk_21 6 (dk_at dksX1_which_3 13 rfl rfl)
theorem dX1_which_83 : decode cX1_which 83 = .ok (.iadd, 1) := dk_96 (dk_at dksX1_which_3 15 rfl rfl)
theorem dX1_which_84 : decode cX1_which 84 = .ok (.invokevirtual 67, 3) := dk_182 0 67 (dk_at dksX1_which_3 16 rfl rfl)
theorem dX1_which_87 : decode cX1_which 87 = .ok (.if_icmp .ne 7, 3) := dk_160 0 7 (dk_at dksX1_which_3 19 rfl rfl)
theorem dX1_which_90 : decode cX1_which 90 = .ok (.iconst 1, 1) := dk_4 (dk_at dksX1_which_3 22 rfl rfl)
theorem dX1_which_91 : decode cX1_which 91 = .ok (.goto 4, 3) := dk_167 0 4 (dk_at dksX1_which_4 0 rfl rfl)
theorem dX1_which_94 : decode cX1_which 94 = .ok (.iconst 0, 1) := dk_3 (dk_at dksX1_which_4 3 rfl rfl)
theorem dX1_which_95 : decode cX1_which 95 = .ok (.istore 5, 2) := dk_54 5 (dk_at dksX1_which_4 4 rfl rfl)
theorem dX1_which_97 : decode cX1_which 97 = .ok (.iinc 6 1, 3) := dk_132 6 1 (dk_at dksX1_which_4 6 rfl rfl)
theorem dX1_which_100 : decode cX1_which 100 = .ok (.goto (-45), 3) := dk_167 255 211 (dk_at dksX1_which_4 9 rfl rfl)
theorem dX1_which_103 : decode cX1_which 103 = .ok (.iload 5, 2) := dk_21 5 (dk_at dksX1_which_4 12 rfl rfl)
theorem dX1_which_105 : decode cX1_which 105 = .ok (.ifCond .eq 5, 3) := dk_153 0 5 (dk_at dksX1_which_4 14 rfl rfl)
theorem dX1_which_108 : decode cX1_which 108 = .ok (.iload_n 2, 1) := dk_28 (dk_at dksX1_which_4 17 rfl rfl)
theorem dX1_which_109 : decode cX1_which 109 = .ok (.ireturn, 1) := dk_172 (dk_at dksX1_which_4 18 rfl rfl)
theorem dX1_which_110 : decode cX1_which 110 = .ok (.iload_n 3, 1) := dk_29 (dk_at dksX1_which_4 19 rfl rfl)
theorem dX1_which_111 : decode cX1_which 111 = .ok (.iload 4, 2) := dk_21 4 (dk_at dksX1_which_4 20 rfl rfl)
theorem dX1_which_113 : decode cX1_which 113 = .ok (.iconst 1, 1) := dk_4 (dk_at dksX1_which_4 22 rfl rfl)
theorem dX1_which_114 : decode cX1_which 114 = .ok (.iadd, 1) := dk_96 (dk_at dksX1_which_4 23 rfl rfl)
theorem dX1_which_115 : decode cX1_which 115 = .ok (.iadd, 1) := dk_96 (dk_at dksX1_which_5 0 rfl rfl)
theorem dX1_which_116 : decode cX1_which 116 = .ok (.istore_n 3, 1) := dk_62 (dk_at dksX1_which_5 1 rfl rfl)
theorem dX1_which_117 : decode cX1_which 117 = .ok (.iinc 2 1, 3) := dk_132 2 1 (dk_at dksX1_which_5 2 rfl rfl)
theorem dX1_which_120 : decode cX1_which 120 = .ok (.goto (-116), 3) := dk_167 255 140 (dk_at dksX1_which_5 5 rfl rfl)
theorem dX1_which_123 : decode cX1_which 123 = .ok (.iconst (-1), 1) := dk_2 (dk_at dksX1_which_5 8 rfl rfl)
theorem dX1_which_124 : decode cX1_which 124 = .ok (.ireturn, 1) := dk_172 (dk_at dksX1_which_5 9 rfl rfl)
abbrev cX1_wrong : ByteArray := prog_14_method_7_code
def yX1_wrong : MethodName := ⟨RX1, "wrong", "(I)LOverFirst$Wrong;"⟩
def dkwX1_wrong_0 : List UInt8 := [187, 0, 55, 89, 27, 42, 180, 0, 28, 183, 0, 57, 176]
abbrev dktX1_wrong_0 : List UInt8 := dkwX1_wrong_0 ++ []
theorem dksX1_wrong_0 : cX1_wrong.data.toList.drop 0 = dktX1_wrong_0 := by decide +kernel
theorem dX1_wrong_0 : decode cX1_wrong 0 = .ok (.new 55, 3) := dk_187 0 55 (dk_at dksX1_wrong_0 0 rfl rfl)
theorem dX1_wrong_3 : decode cX1_wrong 3 = .ok (.dup, 1) := dk_89 (dk_at dksX1_wrong_0 3 rfl rfl)
theorem dX1_wrong_4 : decode cX1_wrong 4 = .ok (.iload_n 1, 1) := dk_27 (dk_at dksX1_wrong_0 4 rfl rfl)
theorem dX1_wrong_5 : decode cX1_wrong 5 = .ok (.aload_n 0, 1) := dk_42 (dk_at dksX1_wrong_0 5 rfl rfl)
theorem dX1_wrong_6 : decode cX1_wrong 6 = .ok (.getfield 28, 3) := dk_180 0 28 (dk_at dksX1_wrong_0 6 rfl rfl)
theorem dX1_wrong_9 : decode cX1_wrong 9 = .ok (.invokespecial 57, 3) := dk_183 0 57 (dk_at dksX1_wrong_0 9 rfl rfl)
theorem dX1_wrong_12 : decode cX1_wrong 12 = .ok (.areturn, 1) := dk_176 (dk_at dksX1_wrong_0 12 rfl rfl)
abbrev cX1_number_2 : ByteArray := prog_14_method_12_code
def yX1_number_2 : MethodName := ⟨RX1, "number", "(II)I"⟩
def dkwX1_number_2_1 : List UInt8 := [180, 0, 45, 28, 164, 0, 9, 42, 7, 182, 0, 75, 191, 42, 180, 0, 45, 62, 42, 182, 0, 25, 29, 172]
abbrev dktX1_number_2_1 : List UInt8 := dkwX1_number_2_1 ++ []
def dkwX1_number_2_0 : List UInt8 := [42, 180, 0, 31, 5, 159, 0, 9, 42, 4, 182, 0, 75, 191, 42, 180, 0, 45, 27, 161, 0, 11, 42]
abbrev dktX1_number_2_0 : List UInt8 := dkwX1_number_2_0 ++ dktX1_number_2_1
theorem dksX1_number_2_0 : cX1_number_2.data.toList.drop 0 = dktX1_number_2_0 := by decide +kernel
theorem dksX1_number_2_1 : cX1_number_2.data.toList.drop 23 = dktX1_number_2_1 := dk_seg dksX1_number_2_0 23 rfl rfl
theorem dX1_number_2_0 : decode cX1_number_2 0 = .ok (.aload_n 0, 1) := dk_42 (dk_at dksX1_number_2_0 0 rfl rfl)
theorem dX1_number_2_1 : decode cX1_number_2 1 = .ok (.getfield 31, 3) := dk_180 0 31 (dk_at dksX1_number_2_0 1 rfl rfl)
theorem dX1_number_2_4 : decode cX1_number_2 4 = .ok (.iconst 2, 1) := dk_5 (dk_at dksX1_number_2_0 4 rfl rfl)
theorem dX1_number_2_5 : decode cX1_number_2 5 = .ok (.if_icmp .eq 9, 3) := dk_159 0 9 (dk_at dksX1_number_2_0 5 rfl rfl)
theorem dX1_number_2_8 : decode cX1_number_2 8 = .ok (.aload_n 0, 1) := dk_42 (dk_at dksX1_number_2_0 8 rfl rfl)
theorem dX1_number_2_9 : decode cX1_number_2 9 = .ok (.iconst 1, 1) := dk_4 (dk_at dksX1_number_2_0 9 rfl rfl)
theorem dX1_number_2_10 : decode cX1_number_2 10 = .ok (.invokevirtual 75, 3) := dk_182 0 75 (dk_at dksX1_number_2_0 10 rfl rfl)
theorem dX1_number_2_13 : decode cX1_number_2 13 = .ok (.athrow, 1) := dk_191 (dk_at dksX1_number_2_0 13 rfl rfl)
theorem dX1_number_2_14 : decode cX1_number_2 14 = .ok (.aload_n 0, 1) := dk_42 (dk_at dksX1_number_2_0 14 rfl rfl)
theorem dX1_number_2_15 : decode cX1_number_2 15 = .ok (.getfield 45, 3) := dk_180 0 45 (dk_at dksX1_number_2_0 15 rfl rfl)
theorem dX1_number_2_18 : decode cX1_number_2 18 = .ok (.iload_n 1, 1) := dk_27 (dk_at dksX1_number_2_0 18 rfl rfl)
theorem dX1_number_2_19 : decode cX1_number_2 19 = .ok (.if_icmp .lt 11, 3) := dk_161 0 11 (dk_at dksX1_number_2_0 19 rfl rfl)
theorem dX1_number_2_22 : decode cX1_number_2 22 = .ok (.aload_n 0, 1) := dk_42 (dk_at dksX1_number_2_0 22 rfl rfl)
theorem dX1_number_2_23 : decode cX1_number_2 23 = .ok (.getfield 45, 3) := dk_180 0 45 (dk_at dksX1_number_2_1 0 rfl rfl)
theorem dX1_number_2_26 : decode cX1_number_2 26 = .ok (.iload_n 2, 1) := dk_28 (dk_at dksX1_number_2_1 3 rfl rfl)
theorem dX1_number_2_27 : decode cX1_number_2 27 = .ok (.if_icmp .le 9, 3) := dk_164 0 9 (dk_at dksX1_number_2_1 4 rfl rfl)
theorem dX1_number_2_30 : decode cX1_number_2 30 = .ok (.aload_n 0, 1) := dk_42 (dk_at dksX1_number_2_1 7 rfl rfl)
theorem dX1_number_2_31 : decode cX1_number_2 31 = .ok (.iconst 4, 1) := dk_7 (dk_at dksX1_number_2_1 8 rfl rfl)
theorem dX1_number_2_32 : decode cX1_number_2 32 = .ok (.invokevirtual 75, 3) := dk_182 0 75 (dk_at dksX1_number_2_1 9 rfl rfl)
theorem dX1_number_2_35 : decode cX1_number_2 35 = .ok (.athrow, 1) := dk_191 (dk_at dksX1_number_2_1 12 rfl rfl)
theorem dX1_number_2_36 : decode cX1_number_2 36 = .ok (.aload_n 0, 1) := dk_42 (dk_at dksX1_number_2_1 13 rfl rfl)
theorem dX1_number_2_37 : decode cX1_number_2 37 = .ok (.getfield 45, 3) := dk_180 0 45 (dk_at dksX1_number_2_1 14 rfl rfl)
theorem dX1_number_2_40 : decode cX1_number_2 40 = .ok (.istore_n 3, 1) := dk_62 (dk_at dksX1_number_2_1 17 rfl rfl)
theorem dX1_number_2_41 : decode cX1_number_2 41 = .ok (.aload_n 0, 1) := dk_42 (dk_at dksX1_number_2_1 18 rfl rfl)
theorem dX1_number_2_42 : decode cX1_number_2 42 = .ok (.invokevirtual 25, 3) := dk_182 0 25 (dk_at dksX1_number_2_1 19 rfl rfl)
theorem dX1_number_2_45 : decode cX1_number_2 45 = .ok (.iload_n 3, 1) := dk_29 (dk_at dksX1_number_2_1 22 rfl rfl)
theorem dX1_number_2_46 : decode cX1_number_2 46 = .ok (.ireturn, 1) := dk_172 (dk_at dksX1_number_2_1 23 rfl rfl)
abbrev cX1_need_2 : ByteArray := prog_14_method_11_code
def yX1_need_2 : MethodName := ⟨RX1, "need", "(C)V"⟩
def dkwX1_need_2_0 : List UInt8 := [42, 27, 182, 0, 79, 154, 0, 9, 42, 4, 182, 0, 75, 191, 42, 182, 0, 25, 177]
abbrev dktX1_need_2_0 : List UInt8 := dkwX1_need_2_0 ++ []
theorem dksX1_need_2_0 : cX1_need_2.data.toList.drop 0 = dktX1_need_2_0 := by decide +kernel
theorem dX1_need_2_0 : decode cX1_need_2 0 = .ok (.aload_n 0, 1) := dk_42 (dk_at dksX1_need_2_0 0 rfl rfl)
theorem dX1_need_2_1 : decode cX1_need_2 1 = .ok (.iload_n 1, 1) := dk_27 (dk_at dksX1_need_2_0 1 rfl rfl)
theorem dX1_need_2_2 : decode cX1_need_2 2 = .ok (.invokevirtual 79, 3) := dk_182 0 79 (dk_at dksX1_need_2_0 2 rfl rfl)
theorem dX1_need_2_5 : decode cX1_need_2 5 = .ok (.ifCond .ne 9, 3) := dk_154 0 9 (dk_at dksX1_need_2_0 5 rfl rfl)
theorem dX1_need_2_8 : decode cX1_need_2 8 = .ok (.aload_n 0, 1) := dk_42 (dk_at dksX1_need_2_0 8 rfl rfl)
theorem dX1_need_2_9 : decode cX1_need_2 9 = .ok (.iconst 1, 1) := dk_4 (dk_at dksX1_need_2_0 9 rfl rfl)
theorem dX1_need_2_10 : decode cX1_need_2 10 = .ok (.invokevirtual 75, 3) := dk_182 0 75 (dk_at dksX1_need_2_0 10 rfl rfl)
theorem dX1_need_2_13 : decode cX1_need_2 13 = .ok (.athrow, 1) := dk_191 (dk_at dksX1_need_2_0 13 rfl rfl)
theorem dX1_need_2_14 : decode cX1_need_2 14 = .ok (.aload_n 0, 1) := dk_42 (dk_at dksX1_need_2_0 14 rfl rfl)
theorem dX1_need_2_15 : decode cX1_need_2 15 = .ok (.invokevirtual 25, 3) := dk_182 0 25 (dk_at dksX1_need_2_0 15 rfl rfl)
theorem dX1_need_2_18 : decode cX1_need_2 18 = .ok (.return_, 1) := dk_177 (dk_at dksX1_need_2_0 18 rfl rfl)
abbrev cX1_isSign : ByteArray := prog_14_method_10_code
def yX1_isSign : MethodName := ⟨RX1, "isSign", "(C)Z"⟩
def dkwX1_isSign_1 : List UInt8 := [167, 0, 4, 3, 172]
abbrev dktX1_isSign_1 : List UInt8 := dkwX1_isSign_1 ++ []
def dkwX1_isSign_0 : List UInt8 := [42, 180, 0, 31, 6, 160, 0, 20, 42, 180, 0, 9, 42, 180, 0, 28, 51, 27, 160, 0, 7, 4]
abbrev dktX1_isSign_0 : List UInt8 := dkwX1_isSign_0 ++ dktX1_isSign_1
theorem dksX1_isSign_0 : cX1_isSign.data.toList.drop 0 = dktX1_isSign_0 := by decide +kernel
theorem dksX1_isSign_1 : cX1_isSign.data.toList.drop 22 = dktX1_isSign_1 := dk_seg dksX1_isSign_0 22 rfl rfl
theorem dX1_isSign_0 : decode cX1_isSign 0 = .ok (.aload_n 0, 1) := dk_42 (dk_at dksX1_isSign_0 0 rfl rfl)
theorem dX1_isSign_1 : decode cX1_isSign 1 = .ok (.getfield 31, 3) := dk_180 0 31 (dk_at dksX1_isSign_0 1 rfl rfl)
theorem dX1_isSign_4 : decode cX1_isSign 4 = .ok (.iconst 3, 1) := dk_6 (dk_at dksX1_isSign_0 4 rfl rfl)
theorem dX1_isSign_5 : decode cX1_isSign 5 = .ok (.if_icmp .ne 20, 3) := dk_160 0 20 (dk_at dksX1_isSign_0 5 rfl rfl)
theorem dX1_isSign_8 : decode cX1_isSign 8 = .ok (.aload_n 0, 1) := dk_42 (dk_at dksX1_isSign_0 8 rfl rfl)
theorem dX1_isSign_9 : decode cX1_isSign 9 = .ok (.getfield 9, 3) := dk_180 0 9 (dk_at dksX1_isSign_0 9 rfl rfl)
theorem dX1_isSign_12 : decode cX1_isSign 12 = .ok (.aload_n 0, 1) := dk_42 (dk_at dksX1_isSign_0 12 rfl rfl)
theorem dX1_isSign_13 : decode cX1_isSign 13 = .ok (.getfield 28, 3) := dk_180 0 28 (dk_at dksX1_isSign_0 13 rfl rfl)
theorem dX1_isSign_16 : decode cX1_isSign 16 = .ok (.baload, 1) := dk_51 (dk_at dksX1_isSign_0 16 rfl rfl)
theorem dX1_isSign_17 : decode cX1_isSign 17 = .ok (.iload_n 1, 1) := dk_27 (dk_at dksX1_isSign_0 17 rfl rfl)
theorem dX1_isSign_18 : decode cX1_isSign 18 = .ok (.if_icmp .ne 7, 3) := dk_160 0 7 (dk_at dksX1_isSign_0 18 rfl rfl)
theorem dX1_isSign_21 : decode cX1_isSign 21 = .ok (.iconst 1, 1) := dk_4 (dk_at dksX1_isSign_0 21 rfl rfl)
theorem dX1_isSign_22 : decode cX1_isSign 22 = .ok (.goto 4, 3) := dk_167 0 4 (dk_at dksX1_isSign_1 0 rfl rfl)
theorem dX1_isSign_25 : decode cX1_isSign 25 = .ok (.iconst 0, 1) := dk_3 (dk_at dksX1_isSign_1 3 rfl rfl)
theorem dX1_isSign_26 : decode cX1_isSign 26 = .ok (.ireturn, 1) := dk_172 (dk_at dksX1_isSign_1 4 rfl rfl)
abbrev cX1_isTold : ByteArray := prog_14_method_15_code
def yX1_isTold : MethodName := ⟨RX1, "isTold", "(I)Z"⟩
def dkwX1_isTold_4 : List UInt8 := [160, 0, 17, 42, 180, 0, 98, 180, 0, 139, 153, 0, 7, 4, 167, 0, 4, 3, 172]
abbrev dktX1_isTold_4 : List UInt8 := dkwX1_isTold_4 ++ []
def dkwX1_isTold_3 : List UInt8 := [160, 0, 21, 42, 180, 0, 98, 180, 0, 136, 155, 0, 7, 4, 167, 0, 27, 3, 167, 0, 23, 27, 7]
abbrev dktX1_isTold_3 : List UInt8 := dkwX1_isTold_3 ++ dktX1_isTold_4
def dkwX1_isTold_2 : List UInt8 := [160, 0, 21, 42, 180, 0, 98, 180, 0, 133, 155, 0, 7, 4, 167, 0, 50, 3, 167, 0, 46, 27, 6]
abbrev dktX1_isTold_2 : List UInt8 := dkwX1_isTold_2 ++ dktX1_isTold_3
def dkwX1_isTold_1 : List UInt8 := [160, 0, 21, 42, 180, 0, 98, 180, 0, 130, 155, 0, 7, 4, 167, 0, 73, 3, 167, 0, 69, 27, 5]
abbrev dktX1_isTold_1 : List UInt8 := dkwX1_isTold_1 ++ dktX1_isTold_2
def dkwX1_isTold_0 : List UInt8 := [27, 154, 0, 21, 42, 180, 0, 98, 180, 0, 127, 155, 0, 7, 4, 167, 0, 96, 3, 167, 0, 92, 27, 4]
abbrev dktX1_isTold_0 : List UInt8 := dkwX1_isTold_0 ++ dktX1_isTold_1
theorem dksX1_isTold_0 : cX1_isTold.data.toList.drop 0 = dktX1_isTold_0 := by decide +kernel
theorem dksX1_isTold_1 : cX1_isTold.data.toList.drop 24 = dktX1_isTold_1 := dk_seg dksX1_isTold_0 24 rfl rfl
theorem dksX1_isTold_2 : cX1_isTold.data.toList.drop 47 = dktX1_isTold_2 := dk_seg dksX1_isTold_1 23 rfl rfl
theorem dksX1_isTold_3 : cX1_isTold.data.toList.drop 70 = dktX1_isTold_3 := dk_seg dksX1_isTold_2 23 rfl rfl
theorem dksX1_isTold_4 : cX1_isTold.data.toList.drop 93 = dktX1_isTold_4 := dk_seg dksX1_isTold_3 23 rfl rfl
theorem dX1_isTold_0 : decode cX1_isTold 0 = .ok (.iload_n 1, 1) := dk_27 (dk_at dksX1_isTold_0 0 rfl rfl)
theorem dX1_isTold_1 : decode cX1_isTold 1 = .ok (.ifCond .ne 21, 3) := dk_154 0 21 (dk_at dksX1_isTold_0 1 rfl rfl)
theorem dX1_isTold_4 : decode cX1_isTold 4 = .ok (.aload_n 0, 1) := dk_42 (dk_at dksX1_isTold_0 4 rfl rfl)
theorem dX1_isTold_5 : decode cX1_isTold 5 = .ok (.getfield 98, 3) := dk_180 0 98 (dk_at dksX1_isTold_0 5 rfl rfl)
theorem dX1_isTold_8 : decode cX1_isTold 8 = .ok (.getfield 127, 3) := dk_180 0 127 (dk_at dksX1_isTold_0 8 rfl rfl)
theorem dX1_isTold_11 : decode cX1_isTold 11 = .ok (.ifCond .lt 7, 3) := dk_155 0 7 (dk_at dksX1_isTold_0 11 rfl rfl)
theorem dX1_isTold_14 : decode cX1_isTold 14 = .ok (.iconst 1, 1) := dk_4 (dk_at dksX1_isTold_0 14 rfl rfl)
theorem dX1_isTold_15 : decode cX1_isTold 15 = .ok (.goto 96, 3) := dk_167 0 96 (dk_at dksX1_isTold_0 15 rfl rfl)
theorem dX1_isTold_18 : decode cX1_isTold 18 = .ok (.iconst 0, 1) := dk_3 (dk_at dksX1_isTold_0 18 rfl rfl)
theorem dX1_isTold_19 : decode cX1_isTold 19 = .ok (.goto 92, 3) := dk_167 0 92 (dk_at dksX1_isTold_0 19 rfl rfl)
theorem dX1_isTold_22 : decode cX1_isTold 22 = .ok (.iload_n 1, 1) := dk_27 (dk_at dksX1_isTold_0 22 rfl rfl)
theorem dX1_isTold_23 : decode cX1_isTold 23 = .ok (.iconst 1, 1) := dk_4 (dk_at dksX1_isTold_0 23 rfl rfl)
theorem dX1_isTold_24 : decode cX1_isTold 24 = .ok (.if_icmp .ne 21, 3) := dk_160 0 21 (dk_at dksX1_isTold_1 0 rfl rfl)
theorem dX1_isTold_27 : decode cX1_isTold 27 = .ok (.aload_n 0, 1) := dk_42 (dk_at dksX1_isTold_1 3 rfl rfl)
theorem dX1_isTold_28 : decode cX1_isTold 28 = .ok (.getfield 98, 3) := dk_180 0 98 (dk_at dksX1_isTold_1 4 rfl rfl)
theorem dX1_isTold_31 : decode cX1_isTold 31 = .ok (.getfield 130, 3) := dk_180 0 130 (dk_at dksX1_isTold_1 7 rfl rfl)
theorem dX1_isTold_34 : decode cX1_isTold 34 = .ok (.ifCond .lt 7, 3) := dk_155 0 7 (dk_at dksX1_isTold_1 10 rfl rfl)
theorem dX1_isTold_37 : decode cX1_isTold 37 = .ok (.iconst 1, 1) := dk_4 (dk_at dksX1_isTold_1 13 rfl rfl)
theorem dX1_isTold_38 : decode cX1_isTold 38 = .ok (.goto 73, 3) := dk_167 0 73 (dk_at dksX1_isTold_1 14 rfl rfl)
theorem dX1_isTold_41 : decode cX1_isTold 41 = .ok (.iconst 0, 1) := dk_3 (dk_at dksX1_isTold_1 17 rfl rfl)
theorem dX1_isTold_42 : decode cX1_isTold 42 = .ok (.goto 69, 3) := dk_167 0 69 (dk_at dksX1_isTold_1 18 rfl rfl)
theorem dX1_isTold_45 : decode cX1_isTold 45 = .ok (.iload_n 1, 1) := dk_27 (dk_at dksX1_isTold_1 21 rfl rfl)
theorem dX1_isTold_46 : decode cX1_isTold 46 = .ok (.iconst 2, 1) := dk_5 (dk_at dksX1_isTold_1 22 rfl rfl)
theorem dX1_isTold_47 : decode cX1_isTold 47 = .ok (.if_icmp .ne 21, 3) := dk_160 0 21 (dk_at dksX1_isTold_2 0 rfl rfl)
theorem dX1_isTold_50 : decode cX1_isTold 50 = .ok (.aload_n 0, 1) := dk_42 (dk_at dksX1_isTold_2 3 rfl rfl)
theorem dX1_isTold_51 : decode cX1_isTold 51 = .ok (.getfield 98, 3) := dk_180 0 98 (dk_at dksX1_isTold_2 4 rfl rfl)
theorem dX1_isTold_54 : decode cX1_isTold 54 = .ok (.getfield 133, 3) := dk_180 0 133 (dk_at dksX1_isTold_2 7 rfl rfl)
theorem dX1_isTold_57 : decode cX1_isTold 57 = .ok (.ifCond .lt 7, 3) := dk_155 0 7 (dk_at dksX1_isTold_2 10 rfl rfl)
theorem dX1_isTold_60 : decode cX1_isTold 60 = .ok (.iconst 1, 1) := dk_4 (dk_at dksX1_isTold_2 13 rfl rfl)
theorem dX1_isTold_61 : decode cX1_isTold 61 = .ok (.goto 50, 3) := dk_167 0 50 (dk_at dksX1_isTold_2 14 rfl rfl)
theorem dX1_isTold_64 : decode cX1_isTold 64 = .ok (.iconst 0, 1) := dk_3 (dk_at dksX1_isTold_2 17 rfl rfl)
theorem dX1_isTold_65 : decode cX1_isTold 65 = .ok (.goto 46, 3) := dk_167 0 46 (dk_at dksX1_isTold_2 18 rfl rfl)
theorem dX1_isTold_68 : decode cX1_isTold 68 = .ok (.iload_n 1, 1) := dk_27 (dk_at dksX1_isTold_2 21 rfl rfl)
theorem dX1_isTold_69 : decode cX1_isTold 69 = .ok (.iconst 3, 1) := dk_6 (dk_at dksX1_isTold_2 22 rfl rfl)
theorem dX1_isTold_70 : decode cX1_isTold 70 = .ok (.if_icmp .ne 21, 3) := dk_160 0 21 (dk_at dksX1_isTold_3 0 rfl rfl)
theorem dX1_isTold_73 : decode cX1_isTold 73 = .ok (.aload_n 0, 1) := dk_42 (dk_at dksX1_isTold_3 3 rfl rfl)
theorem dX1_isTold_74 : decode cX1_isTold 74 = .ok (.getfield 98, 3) := dk_180 0 98 (dk_at dksX1_isTold_3 4 rfl rfl)
theorem dX1_isTold_77 : decode cX1_isTold 77 = .ok (.getfield 136, 3) := dk_180 0 136 (dk_at dksX1_isTold_3 7 rfl rfl)
theorem dX1_isTold_80 : decode cX1_isTold 80 = .ok (.ifCond .lt 7, 3) := dk_155 0 7 (dk_at dksX1_isTold_3 10 rfl rfl)
theorem dX1_isTold_83 : decode cX1_isTold 83 = .ok (.iconst 1, 1) := dk_4 (dk_at dksX1_isTold_3 13 rfl rfl)
theorem dX1_isTold_84 : decode cX1_isTold 84 = .ok (.goto 27, 3) := dk_167 0 27 (dk_at dksX1_isTold_3 14 rfl rfl)
theorem dX1_isTold_87 : decode cX1_isTold 87 = .ok (.iconst 0, 1) := dk_3 (dk_at dksX1_isTold_3 17 rfl rfl)
theorem dX1_isTold_88 : decode cX1_isTold 88 = .ok (.goto 23, 3) := dk_167 0 23 (dk_at dksX1_isTold_3 18 rfl rfl)
theorem dX1_isTold_91 : decode cX1_isTold 91 = .ok (.iload_n 1, 1) := dk_27 (dk_at dksX1_isTold_3 21 rfl rfl)
theorem dX1_isTold_92 : decode cX1_isTold 92 = .ok (.iconst 4, 1) := dk_7 (dk_at dksX1_isTold_3 22 rfl rfl)
theorem dX1_isTold_93 : decode cX1_isTold 93 = .ok (.if_icmp .ne 17, 3) := dk_160 0 17 (dk_at dksX1_isTold_4 0 rfl rfl)
theorem dX1_isTold_96 : decode cX1_isTold 96 = .ok (.aload_n 0, 1) := dk_42 (dk_at dksX1_isTold_4 3 rfl rfl)
theorem dX1_isTold_97 : decode cX1_isTold 97 = .ok (.getfield 98, 3) := dk_180 0 98 (dk_at dksX1_isTold_4 4 rfl rfl)
theorem dX1_isTold_100 : decode cX1_isTold 100 = .ok (.getfield 139, 3) := dk_180 0 139 (dk_at dksX1_isTold_4 7 rfl rfl)
theorem dX1_isTold_103 : decode cX1_isTold 103 = .ok (.ifCond .eq 7, 3) := dk_153 0 7 (dk_at dksX1_isTold_4 10 rfl rfl)
theorem dX1_isTold_106 : decode cX1_isTold 106 = .ok (.iconst 1, 1) := dk_4 (dk_at dksX1_isTold_4 13 rfl rfl)
theorem dX1_isTold_107 : decode cX1_isTold 107 = .ok (.goto 4, 3) := dk_167 0 4 (dk_at dksX1_isTold_4 14 rfl rfl)
theorem dX1_isTold_110 : decode cX1_isTold 110 = .ok (.iconst 0, 1) := dk_3 (dk_at dksX1_isTold_4 17 rfl rfl)
theorem dX1_isTold_111 : decode cX1_isTold 111 = .ok (.ireturn, 1) := dk_172 (dk_at dksX1_isTold_4 18 rfl rfl)
abbrev cX1_light : ByteArray := prog_14_method_17_code
def yX1_light : MethodName := ⟨RX1, "light", "()V"⟩
def dkwX1_light_13 : List UInt8 := [167, 0, 16, 187, 0, 212, 89, 21, 4, 21, 5, 21, 6, 183, 0, 214, 83, 177]
abbrev dktX1_light_13 : List UInt8 := dkwX1_light_13 ++ []
def dkwX1_light_12 : List UInt8 := [183, 0, 208, 167, 0, 37, 29, 5, 160, 0, 19, 187, 0, 209, 89, 21, 4, 21, 5, 21, 6, 183, 0, 211]
abbrev dktX1_light_12 : List UInt8 := dkwX1_light_12 ++ dktX1_light_13
def dkwX1_light_11 : List UInt8 := [21, 6, 183, 0, 203, 167, 0, 58, 29, 4, 160, 0, 19, 187, 0, 206, 89, 21, 4, 21, 5, 21, 6]
abbrev dktX1_light_11 : List UInt8 := dkwX1_light_11 ++ dktX1_light_12
def dkwX1_light_10 : List UInt8 := [180, 0, 98, 180, 0, 198, 28, 16, 6, 104, 27, 96, 29, 154, 0, 19, 187, 0, 201, 89, 21, 4, 21, 5]
abbrev dktX1_light_10 : List UInt8 := dkwX1_light_10 ++ dktX1_light_11
def dkwX1_light_9 : List UInt8 := [181, 0, 185, 29, 4, 160, 0, 16, 42, 180, 0, 98, 89, 180, 0, 195, 4, 96, 181, 0, 195, 42]
abbrev dktX1_light_9 : List UInt8 := dkwX1_light_9 ++ dktX1_light_10
def dkwX1_light_8 : List UInt8 := [180, 0, 98, 180, 0, 185, 42, 180, 0, 98, 180, 0, 185, 21, 4, 184, 0, 188, 108, 21, 4, 104]
abbrev dktX1_light_8 : List UInt8 := dkwX1_light_8 ++ dktX1_light_9
def dkwX1_light_7 : List UInt8 := [54, 5, 42, 18, 193, 3, 21, 4, 182, 0, 146, 54, 6, 29, 5, 162, 0, 33, 42, 180, 0, 98, 42]
abbrev dktX1_light_7 : List UInt8 := dkwX1_light_7 ++ dktX1_light_8
def dkwX1_light_6 : List UInt8 := [182, 0, 75, 191, 42, 4, 16, 60, 182, 0, 124, 54, 4, 42, 18, 191, 3, 21, 4, 4, 100, 182, 0, 146]
abbrev dktX1_light_6 : List UInt8 := dkwX1_light_6 ++ dktX1_light_7
def dkwX1_light_5 : List UInt8 := [180, 0, 185, 42, 182, 0, 179, 184, 0, 188, 108, 42, 182, 0, 179, 104, 17, 4, 176, 164, 0, 9, 42, 7]
abbrev dktX1_light_5 : List UInt8 := dkwX1_light_5 ++ dktX1_light_6
def dkwX1_light_4 : List UInt8 := [182, 0, 179, 4, 16, 60, 184, 0, 181, 153, 0, 42, 42, 180, 0, 98, 180, 0, 185, 42, 180, 0, 98]
abbrev dktX1_light_4 : List UInt8 := dkwX1_light_4 ++ dktX1_light_5
def dkwX1_light_3 : List UInt8 := [182, 0, 25, 42, 18, 177, 182, 0, 120, 42, 180, 0, 31, 5, 160, 0, 60, 29, 5, 162, 0, 55, 42]
abbrev dktX1_light_3 : List UInt8 := dkwX1_light_3 ++ dktX1_light_4
def dkwX1_light_2 : List UInt8 := [182, 0, 124, 61, 42, 18, 175, 182, 0, 71, 62, 29, 156, 0, 9, 42, 4, 182, 0, 75, 191, 42]
abbrev dktX1_light_2 : List UInt8 := dkwX1_light_2 ++ dktX1_light_3
def dkwX1_light_1 : List UInt8 := [27, 182, 0, 172, 153, 0, 9, 42, 6, 182, 0, 75, 191, 42, 3, 42, 180, 0, 98, 180, 0, 152, 4, 100]
abbrev dktX1_light_1 : List UInt8 := dkwX1_light_1 ++ dktX1_light_2
def dkwX1_light_0 : List UInt8 := [42, 3, 42, 180, 0, 98, 180, 0, 149, 4, 100, 182, 0, 124, 60, 42, 180, 0, 31, 5, 160, 0, 17, 42]
abbrev dktX1_light_0 : List UInt8 := dkwX1_light_0 ++ dktX1_light_1
theorem dksX1_light_0 : cX1_light.data.toList.drop 0 = dktX1_light_0 := by decide +kernel
theorem dksX1_light_1 : cX1_light.data.toList.drop 24 = dktX1_light_1 := dk_seg dksX1_light_0 24 rfl rfl
theorem dksX1_light_2 : cX1_light.data.toList.drop 48 = dktX1_light_2 := dk_seg dksX1_light_1 24 rfl rfl
theorem dksX1_light_3 : cX1_light.data.toList.drop 70 = dktX1_light_3 := dk_seg dksX1_light_2 22 rfl rfl
theorem dksX1_light_4 : cX1_light.data.toList.drop 93 = dktX1_light_4 := dk_seg dksX1_light_3 23 rfl rfl
theorem dksX1_light_5 : cX1_light.data.toList.drop 116 = dktX1_light_5 := dk_seg dksX1_light_4 23 rfl rfl
theorem dksX1_light_6 : cX1_light.data.toList.drop 140 = dktX1_light_6 := dk_seg dksX1_light_5 24 rfl rfl
theorem dksX1_light_7 : cX1_light.data.toList.drop 164 = dktX1_light_7 := dk_seg dksX1_light_6 24 rfl rfl
theorem dksX1_light_8 : cX1_light.data.toList.drop 187 = dktX1_light_8 := dk_seg dksX1_light_7 23 rfl rfl
theorem dksX1_light_9 : cX1_light.data.toList.drop 209 = dktX1_light_9 := dk_seg dksX1_light_8 22 rfl rfl
theorem dksX1_light_10 : cX1_light.data.toList.drop 231 = dktX1_light_10 := dk_seg dksX1_light_9 22 rfl rfl
theorem dksX1_light_11 : cX1_light.data.toList.drop 255 = dktX1_light_11 := dk_seg dksX1_light_10 24 rfl rfl
theorem dksX1_light_12 : cX1_light.data.toList.drop 278 = dktX1_light_12 := dk_seg dksX1_light_11 23 rfl rfl
theorem dksX1_light_13 : cX1_light.data.toList.drop 302 = dktX1_light_13 := dk_seg dksX1_light_12 24 rfl rfl
theorem dX1_light_0 : decode cX1_light 0 = .ok (.aload_n 0, 1) := dk_42 (dk_at dksX1_light_0 0 rfl rfl)
theorem dX1_light_1 : decode cX1_light 1 = .ok (.iconst 0, 1) := dk_3 (dk_at dksX1_light_0 1 rfl rfl)
theorem dX1_light_2 : decode cX1_light 2 = .ok (.aload_n 0, 1) := dk_42 (dk_at dksX1_light_0 2 rfl rfl)
theorem dX1_light_3 : decode cX1_light 3 = .ok (.getfield 98, 3) := dk_180 0 98 (dk_at dksX1_light_0 3 rfl rfl)
theorem dX1_light_6 : decode cX1_light 6 = .ok (.getfield 149, 3) := dk_180 0 149 (dk_at dksX1_light_0 6 rfl rfl)
theorem dX1_light_9 : decode cX1_light 9 = .ok (.iconst 1, 1) := dk_4 (dk_at dksX1_light_0 9 rfl rfl)
theorem dX1_light_10 : decode cX1_light 10 = .ok (.isub, 1) := dk_100 (dk_at dksX1_light_0 10 rfl rfl)
theorem dX1_light_11 : decode cX1_light 11 = .ok (.invokevirtual 124, 3) := dk_182 0 124 (dk_at dksX1_light_0 11 rfl rfl)
theorem dX1_light_14 : decode cX1_light 14 = .ok (.istore_n 1, 1) := dk_60 (dk_at dksX1_light_0 14 rfl rfl)
theorem dX1_light_15 : decode cX1_light 15 = .ok (.aload_n 0, 1) := dk_42 (dk_at dksX1_light_0 15 rfl rfl)
theorem dX1_light_16 : decode cX1_light 16 = .ok (.getfield 31, 3) := dk_180 0 31 (dk_at dksX1_light_0 16 rfl rfl)
theorem dX1_light_19 : decode cX1_light 19 = .ok (.iconst 2, 1) := dk_5 (dk_at dksX1_light_0 19 rfl rfl)
theorem dX1_light_20 : decode cX1_light 20 = .ok (.if_icmp .ne 17, 3) := dk_160 0 17 (dk_at dksX1_light_0 20 rfl rfl)
theorem dX1_light_23 : decode cX1_light 23 = .ok (.aload_n 0, 1) := dk_42 (dk_at dksX1_light_0 23 rfl rfl)
theorem dX1_light_24 : decode cX1_light 24 = .ok (.iload_n 1, 1) := dk_27 (dk_at dksX1_light_1 0 rfl rfl)
theorem dX1_light_25 : decode cX1_light 25 = .ok (.invokevirtual 172, 3) := dk_182 0 172 (dk_at dksX1_light_1 1 rfl rfl)
theorem dX1_light_28 : decode cX1_light 28 = .ok (.ifCond .eq 9, 3) := dk_153 0 9 (dk_at dksX1_light_1 4 rfl rfl)
theorem dX1_light_31 : decode cX1_light 31 = .ok (.aload_n 0, 1) := dk_42 (dk_at dksX1_light_1 7 rfl rfl)
theorem dX1_light_32 : decode cX1_light 32 = .ok (.iconst 3, 1) := dk_6 (dk_at dksX1_light_1 8 rfl rfl)
theorem dX1_light_33 : decode cX1_light 33 = .ok (.invokevirtual 75, 3) := dk_182 0 75 (dk_at dksX1_light_1 9 rfl rfl)
theorem dX1_light_36 : decode cX1_light 36 = .ok (.athrow, 1) := dk_191 (dk_at dksX1_light_1 12 rfl rfl)
theorem dX1_light_37 : decode cX1_light 37 = .ok (.aload_n 0, 1) := dk_42 (dk_at dksX1_light_1 13 rfl rfl)
theorem dX1_light_38 : decode cX1_light 38 = .ok (.iconst 0, 1) := dk_3 (dk_at dksX1_light_1 14 rfl rfl)
theorem dX1_light_39 : decode cX1_light 39 = .ok (.aload_n 0, 1) := dk_42 (dk_at dksX1_light_1 15 rfl rfl)
theorem dX1_light_40 : decode cX1_light 40 = .ok (.getfield 98, 3) := dk_180 0 98 (dk_at dksX1_light_1 16 rfl rfl)
theorem dX1_light_43 : decode cX1_light 43 = .ok (.getfield 152, 3) := dk_180 0 152 (dk_at dksX1_light_1 19 rfl rfl)
theorem dX1_light_46 : decode cX1_light 46 = .ok (.iconst 1, 1) := dk_4 (dk_at dksX1_light_1 22 rfl rfl)
theorem dX1_light_47 : decode cX1_light 47 = .ok (.isub, 1) := dk_100 (dk_at dksX1_light_1 23 rfl rfl)
theorem dX1_light_48 : decode cX1_light 48 = .ok (.invokevirtual 124, 3) := dk_182 0 124 (dk_at dksX1_light_2 0 rfl rfl)
theorem dX1_light_51 : decode cX1_light 51 = .ok (.istore_n 2, 1) := dk_61 (dk_at dksX1_light_2 3 rfl rfl)
theorem dX1_light_52 : decode cX1_light 52 = .ok (.aload_n 0, 1) := dk_42 (dk_at dksX1_light_2 4 rfl rfl)
theorem dX1_light_53 : decode cX1_light 53 = .ok (.ldc 175, 2) := dk_18 175 (dk_at dksX1_light_2 5 rfl rfl)
theorem dX1_light_55 : decode cX1_light 55 = .ok (.invokevirtual 71, 3) := dk_182 0 71 (dk_at dksX1_light_2 7 rfl rfl)
theorem dX1_light_58 : decode cX1_light 58 = .ok (.istore_n 3, 1) := dk_62 (dk_at dksX1_light_2 10 rfl rfl)
theorem dX1_light_59 : decode cX1_light 59 = .ok (.iload_n 3, 1) := dk_29 (dk_at dksX1_light_2 11 rfl rfl)
theorem dX1_light_60 : decode cX1_light 60 = .ok (.ifCond .ge 9, 3) := dk_156 0 9 (dk_at dksX1_light_2 12 rfl rfl)
theorem dX1_light_63 : decode cX1_light 63 = .ok (.aload_n 0, 1) := dk_42 (dk_at dksX1_light_2 15 rfl rfl)
theorem dX1_light_64 : decode cX1_light 64 = .ok (.iconst 1, 1) := dk_4 (dk_at dksX1_light_2 16 rfl rfl)
theorem dX1_light_65 : decode cX1_light 65 = .ok (.invokevirtual 75, 3) := dk_182 0 75 (dk_at dksX1_light_2 17 rfl rfl)
theorem dX1_light_68 : decode cX1_light 68 = .ok (.athrow, 1) := dk_191 (dk_at dksX1_light_2 20 rfl rfl)
theorem dX1_light_69 : decode cX1_light 69 = .ok (.aload_n 0, 1) := dk_42 (dk_at dksX1_light_2 21 rfl rfl)
theorem dX1_light_70 : decode cX1_light 70 = .ok (.invokevirtual 25, 3) := dk_182 0 25 (dk_at dksX1_light_3 0 rfl rfl)
theorem dX1_light_73 : decode cX1_light 73 = .ok (.aload_n 0, 1) := dk_42 (dk_at dksX1_light_3 3 rfl rfl)
theorem dX1_light_74 : decode cX1_light 74 = .ok (.ldc 177, 2) := dk_18 177 (dk_at dksX1_light_3 4 rfl rfl)
theorem dX1_light_76 : decode cX1_light 76 = .ok (.invokevirtual 120, 3) := dk_182 0 120 (dk_at dksX1_light_3 6 rfl rfl)
theorem dX1_light_79 : decode cX1_light 79 = .ok (.aload_n 0, 1) := dk_42 (dk_at dksX1_light_3 9 rfl rfl)
theorem dX1_light_80 : decode cX1_light 80 = .ok (.getfield 31, 3) := dk_180 0 31 (dk_at dksX1_light_3 10 rfl rfl)
theorem dX1_light_83 : decode cX1_light 83 = .ok (.iconst 2, 1) := dk_5 (dk_at dksX1_light_3 13 rfl rfl)
theorem dX1_light_84 : decode cX1_light 84 = .ok (.if_icmp .ne 60, 3) := dk_160 0 60 (dk_at dksX1_light_3 14 rfl rfl)
theorem dX1_light_87 : decode cX1_light 87 = .ok (.iload_n 3, 1) := dk_29 (dk_at dksX1_light_3 17 rfl rfl)
theorem dX1_light_88 : decode cX1_light 88 = .ok (.iconst 2, 1) := dk_5 (dk_at dksX1_light_3 18 rfl rfl)
theorem dX1_light_89 : decode cX1_light 89 = .ok (.if_icmp .ge 55, 3) := dk_162 0 55 (dk_at dksX1_light_3 19 rfl rfl)
theorem dX1_light_92 : decode cX1_light 92 = .ok (.aload_n 0, 1) := dk_42 (dk_at dksX1_light_3 22 rfl rfl)
theorem dX1_light_93 : decode cX1_light 93 = .ok (.invokevirtual 179, 3) := dk_182 0 179 (dk_at dksX1_light_4 0 rfl rfl)
theorem dX1_light_96 : decode cX1_light 96 = .ok (.iconst 1, 1) := dk_4 (dk_at dksX1_light_4 3 rfl rfl)
theorem dX1_light_97 : decode cX1_light 97 = .ok (.bipush 60, 2) := dk_16 60 (dk_at dksX1_light_4 4 rfl rfl)
theorem dX1_light_99 : decode cX1_light 99 = .ok (.invokestatic 181, 3) := dk_184 0 181 (dk_at dksX1_light_4 6 rfl rfl)
theorem dX1_light_102 : decode cX1_light 102 = .ok (.ifCond .eq 42, 3) := dk_153 0 42 (dk_at dksX1_light_4 9 rfl rfl)
theorem dX1_light_105 : decode cX1_light 105 = .ok (.aload_n 0, 1) := dk_42 (dk_at dksX1_light_4 12 rfl rfl)
theorem dX1_light_106 : decode cX1_light 106 = .ok (.getfield 98, 3) := dk_180 0 98 (dk_at dksX1_light_4 13 rfl rfl)
theorem dX1_light_109 : decode cX1_light 109 = .ok (.getfield 185, 3) := dk_180 0 185 (dk_at dksX1_light_4 16 rfl rfl)
theorem dX1_light_112 : decode cX1_light 112 = .ok (.aload_n 0, 1) := dk_42 (dk_at dksX1_light_4 19 rfl rfl)
theorem dX1_light_113 : decode cX1_light 113 = .ok (.getfield 98, 3) := dk_180 0 98 (dk_at dksX1_light_4 20 rfl rfl)
theorem dX1_light_116 : decode cX1_light 116 = .ok (.getfield 185, 3) := dk_180 0 185 (dk_at dksX1_light_5 0 rfl rfl)
theorem dX1_light_119 : decode cX1_light 119 = .ok (.aload_n 0, 1) := dk_42 (dk_at dksX1_light_5 3 rfl rfl)
theorem dX1_light_120 : decode cX1_light 120 = .ok (.invokevirtual 179, 3) := dk_182 0 179 (dk_at dksX1_light_5 4 rfl rfl)
theorem dX1_light_123 : decode cX1_light 123 = .ok (.invokestatic 188, 3) := dk_184 0 188 (dk_at dksX1_light_5 7 rfl rfl)
theorem dX1_light_126 : decode cX1_light 126 = .ok (.idiv, 1) := dk_108 (dk_at dksX1_light_5 10 rfl rfl)
theorem dX1_light_127 : decode cX1_light 127 = .ok (.aload_n 0, 1) := dk_42 (dk_at dksX1_light_5 11 rfl rfl)
theorem dX1_light_128 : decode cX1_light 128 = .ok (.invokevirtual 179, 3) := dk_182 0 179 (dk_at dksX1_light_5 12 rfl rfl)
theorem dX1_light_131 : decode cX1_light 131 = .ok (.imul, 1) := dk_104 (dk_at dksX1_light_5 15 rfl rfl)
theorem dX1_light_132 : decode cX1_light 132 = .ok (.sipush 1200, 3) := dk_17 4 176 (dk_at dksX1_light_5 16 rfl rfl)
theorem dX1_light_135 : decode cX1_light 135 = .ok (.if_icmp .le 9, 3) := dk_164 0 9 (dk_at dksX1_light_5 19 rfl rfl)
theorem dX1_light_138 : decode cX1_light 138 = .ok (.aload_n 0, 1) := dk_42 (dk_at dksX1_light_5 22 rfl rfl)
theorem dX1_light_139 : decode cX1_light 139 = .ok (.iconst 4, 1) := dk_7 (dk_at dksX1_light_5 23 rfl rfl)
theorem dX1_light_140 : decode cX1_light 140 = .ok (.invokevirtual 75, 3) := dk_182 0 75 (dk_at dksX1_light_6 0 rfl rfl)
theorem dX1_light_143 : decode cX1_light 143 = .ok (.athrow, 1) := dk_191 (dk_at dksX1_light_6 3 rfl rfl)
theorem dX1_light_144 : decode cX1_light 144 = .ok (.aload_n 0, 1) := dk_42 (dk_at dksX1_light_6 4 rfl rfl)
theorem dX1_light_145 : decode cX1_light 145 = .ok (.iconst 1, 1) := dk_4 (dk_at dksX1_light_6 5 rfl rfl)
theorem dX1_light_146 : decode cX1_light 146 = .ok (.bipush 60, 2) := dk_16 60 (dk_at dksX1_light_6 6 rfl rfl)
theorem dX1_light_148 : decode cX1_light 148 = .ok (.invokevirtual 124, 3) := dk_182 0 124 (dk_at dksX1_light_6 8 rfl rfl)
theorem dX1_light_151 : decode cX1_light 151 = .ok (.istore 4, 2) := dk_54 4 (dk_at dksX1_light_6 11 rfl rfl)
theorem dX1_light_153 : decode cX1_light 153 = .ok (.aload_n 0, 1) := dk_42 (dk_at dksX1_light_6 13 rfl rfl)
theorem dX1_light_154 : decode cX1_light 154 = .ok (.ldc 191, 2) := dk_18 191 (dk_at dksX1_light_6 14 rfl rfl)
theorem dX1_light_156 : decode cX1_light 156 = .ok (.iconst 0, 1) := dk_3 (dk_at dksX1_light_6 16 rfl rfl)
theorem dX1_light_157 : decode cX1_light 157 = .ok (.iload 4, 2) := dk_21 4 (dk_at dksX1_light_6 17 rfl rfl)
theorem dX1_light_159 : decode cX1_light 159 = .ok (.iconst 1, 1) := dk_4 (dk_at dksX1_light_6 19 rfl rfl)
theorem dX1_light_160 : decode cX1_light 160 = .ok (.isub, 1) := dk_100 (dk_at dksX1_light_6 20 rfl rfl)
theorem dX1_light_161 : decode cX1_light 161 = .ok (.invokevirtual 146, 3) := dk_182 0 146 (dk_at dksX1_light_6 21 rfl rfl)
theorem dX1_light_164 : decode cX1_light 164 = .ok (.istore 5, 2) := dk_54 5 (dk_at dksX1_light_7 0 rfl rfl)
theorem dX1_light_166 : decode cX1_light 166 = .ok (.aload_n 0, 1) := dk_42 (dk_at dksX1_light_7 2 rfl rfl)
theorem dX1_light_167 : decode cX1_light 167 = .ok (.ldc 193, 2) := dk_18 193 (dk_at dksX1_light_7 3 rfl rfl)
theorem dX1_light_169 : decode cX1_light 169 = .ok (.iconst 0, 1) := dk_3 (dk_at dksX1_light_7 5 rfl rfl)
theorem dX1_light_170 : decode cX1_light 170 = .ok (.iload 4, 2) := dk_21 4 (dk_at dksX1_light_7 6 rfl rfl)
theorem dX1_light_172 : decode cX1_light 172 = .ok (.invokevirtual 146, 3) := dk_182 0 146 (dk_at dksX1_light_7 8 rfl rfl)
theorem dX1_light_175 : decode cX1_light 175 = .ok (.istore 6, 2) := dk_54 6 (dk_at dksX1_light_7 11 rfl rfl)
theorem dX1_light_177 : decode cX1_light 177 = .ok (.iload_n 3, 1) := dk_29 (dk_at dksX1_light_7 13 rfl rfl)
theorem dX1_light_178 : decode cX1_light 178 = .ok (.iconst 2, 1) := dk_5 (dk_at dksX1_light_7 14 rfl rfl)
theorem dX1_light_179 : decode cX1_light 179 = .ok (.if_icmp .ge 33, 3) := dk_162 0 33 (dk_at dksX1_light_7 15 rfl rfl)
theorem dX1_light_182 : decode cX1_light 182 = .ok (.aload_n 0, 1) := dk_42 (dk_at dksX1_light_7 18 rfl rfl)
theorem dX1_light_183 : decode cX1_light 183 = .ok (.getfield 98, 3) := dk_180 0 98 (dk_at dksX1_light_7 19 rfl rfl)
theorem dX1_light_186 : decode cX1_light 186 = .ok (.aload_n 0, 1) := dk_42 (dk_at dksX1_light_7 22 rfl rfl)
theorem dX1_light_187 : decode cX1_light 187 = .ok (.getfield 98, 3) := dk_180 0 98 (dk_at dksX1_light_8 0 rfl rfl)
theorem dX1_light_190 : decode cX1_light 190 = .ok (.getfield 185, 3) := dk_180 0 185 (dk_at dksX1_light_8 3 rfl rfl)
theorem dX1_light_193 : decode cX1_light 193 = .ok (.aload_n 0, 1) := dk_42 (dk_at dksX1_light_8 6 rfl rfl)
theorem dX1_light_194 : decode cX1_light 194 = .ok (.getfield 98, 3) := dk_180 0 98 (dk_at dksX1_light_8 7 rfl rfl)
theorem dX1_light_197 : decode cX1_light 197 = .ok (.getfield 185, 3) := dk_180 0 185 (dk_at dksX1_light_8 10 rfl rfl)
theorem dX1_light_200 : decode cX1_light 200 = .ok (.iload 4, 2) := dk_21 4 (dk_at dksX1_light_8 13 rfl rfl)
theorem dX1_light_202 : decode cX1_light 202 = .ok (.invokestatic 188, 3) := dk_184 0 188 (dk_at dksX1_light_8 15 rfl rfl)
theorem dX1_light_205 : decode cX1_light 205 = .ok (.idiv, 1) := dk_108 (dk_at dksX1_light_8 18 rfl rfl)
theorem dX1_light_206 : decode cX1_light 206 = .ok (.iload 4, 2) := dk_21 4 (dk_at dksX1_light_8 19 rfl rfl)
theorem dX1_light_208 : decode cX1_light 208 = .ok (.imul, 1) := dk_104 (dk_at dksX1_light_8 21 rfl rfl)
theorem dX1_light_209 : decode cX1_light 209 = .ok (.putfield 185, 3) := dk_181 0 185 (dk_at dksX1_light_9 0 rfl rfl)
theorem dX1_light_212 : decode cX1_light 212 = .ok (.iload_n 3, 1) := dk_29 (dk_at dksX1_light_9 3 rfl rfl)
theorem dX1_light_213 : decode cX1_light 213 = .ok (.iconst 1, 1) := dk_4 (dk_at dksX1_light_9 4 rfl rfl)
theorem dX1_light_214 : decode cX1_light 214 = .ok (.if_icmp .ne 16, 3) := dk_160 0 16 (dk_at dksX1_light_9 5 rfl rfl)
theorem dX1_light_217 : decode cX1_light 217 = .ok (.aload_n 0, 1) := dk_42 (dk_at dksX1_light_9 8 rfl rfl)
theorem dX1_light_218 : decode cX1_light 218 = .ok (.getfield 98, 3) := dk_180 0 98 (dk_at dksX1_light_9 9 rfl rfl)
theorem dX1_light_221 : decode cX1_light 221 = .ok (.dup, 1) := dk_89 (dk_at dksX1_light_9 12 rfl rfl)
theorem dX1_light_222 : decode cX1_light 222 = .ok (.getfield 195, 3) := dk_180 0 195 (dk_at dksX1_light_9 13 rfl rfl)
theorem dX1_light_225 : decode cX1_light 225 = .ok (.iconst 1, 1) := dk_4 (dk_at dksX1_light_9 16 rfl rfl)
theorem dX1_light_226 : decode cX1_light 226 = .ok (.iadd, 1) := dk_96 (dk_at dksX1_light_9 17 rfl rfl)
theorem dX1_light_227 : decode cX1_light 227 = .ok (.putfield 195, 3) := dk_181 0 195 (dk_at dksX1_light_9 18 rfl rfl)
theorem dX1_light_230 : decode cX1_light 230 = .ok (.aload_n 0, 1) := dk_42 (dk_at dksX1_light_9 21 rfl rfl)
theorem dX1_light_231 : decode cX1_light 231 = .ok (.getfield 98, 3) := dk_180 0 98 (dk_at dksX1_light_10 0 rfl rfl)
theorem dX1_light_234 : decode cX1_light 234 = .ok (.getfield 198, 3) := dk_180 0 198 (dk_at dksX1_light_10 3 rfl rfl)
theorem dX1_light_237 : decode cX1_light 237 = .ok (.iload_n 2, 1) := dk_28 (dk_at dksX1_light_10 6 rfl rfl)
theorem dX1_light_238 : decode cX1_light 238 = .ok (.bipush 6, 2) := dk_16 6 (dk_at dksX1_light_10 7 rfl rfl)
theorem dX1_light_240 : decode cX1_light 240 = .ok (.imul, 1) := dk_104 (dk_at dksX1_light_10 9 rfl rfl)
theorem dX1_light_241 : decode cX1_light 241 = .ok (.iload_n 1, 1) := dk_27 (dk_at dksX1_light_10 10 rfl rfl)
theorem dX1_light_242 : decode cX1_light 242 = .ok (.iadd, 1) := dk_96 (dk_at dksX1_light_10 11 rfl rfl)
theorem dX1_light_243 : decode cX1_light 243 = .ok (.iload_n 3, 1) := dk_29 (dk_at dksX1_light_10 12 rfl rfl)
theorem dX1_light_244 : decode cX1_light 244 = .ok (.ifCond .ne 19, 3) := dk_154 0 19 (dk_at dksX1_light_10 13 rfl rfl)
theorem dX1_light_247 : decode cX1_light 247 = .ok (.new 201, 3) := dk_187 0 201 (dk_at dksX1_light_10 16 rfl rfl)
theorem dX1_light_250 : decode cX1_light 250 = .ok (.dup, 1) := dk_89 (dk_at dksX1_light_10 19 rfl rfl)
theorem dX1_light_251 : decode cX1_light 251 = .ok (.iload 4, 2) := dk_21 4 (dk_at dksX1_light_10 20 rfl rfl)
theorem dX1_light_253 : decode cX1_light 253 = .ok (.iload 5, 2) := dk_21 5 (dk_at dksX1_light_10 22 rfl rfl)
theorem dX1_light_255 : decode cX1_light 255 = .ok (.iload 6, 2) := dk_21 6 (dk_at dksX1_light_11 0 rfl rfl)
theorem dX1_light_257 : decode cX1_light 257 = .ok (.invokespecial 203, 3) := dk_183 0 203 (dk_at dksX1_light_11 2 rfl rfl)
theorem dX1_light_260 : decode cX1_light 260 = .ok (.goto 58, 3) := dk_167 0 58 (dk_at dksX1_light_11 5 rfl rfl)
theorem dX1_light_263 : decode cX1_light 263 = .ok (.iload_n 3, 1) := dk_29 (dk_at dksX1_light_11 8 rfl rfl)
theorem dX1_light_264 : decode cX1_light 264 = .ok (.iconst 1, 1) := dk_4 (dk_at dksX1_light_11 9 rfl rfl)
theorem dX1_light_265 : decode cX1_light 265 = .ok (.if_icmp .ne 19, 3) := dk_160 0 19 (dk_at dksX1_light_11 10 rfl rfl)
theorem dX1_light_268 : decode cX1_light 268 = .ok (.new 206, 3) := dk_187 0 206 (dk_at dksX1_light_11 13 rfl rfl)
theorem dX1_light_271 : decode cX1_light 271 = .ok (.dup, 1) := dk_89 (dk_at dksX1_light_11 16 rfl rfl)
theorem dX1_light_272 : decode cX1_light 272 = .ok (.iload 4, 2) := dk_21 4 (dk_at dksX1_light_11 17 rfl rfl)
theorem dX1_light_274 : decode cX1_light 274 = .ok (.iload 5, 2) := dk_21 5 (dk_at dksX1_light_11 19 rfl rfl)
theorem dX1_light_276 : decode cX1_light 276 = .ok (.iload 6, 2) := dk_21 6 (dk_at dksX1_light_11 21 rfl rfl)
theorem dX1_light_278 : decode cX1_light 278 = .ok (.invokespecial 208, 3) := dk_183 0 208 (dk_at dksX1_light_12 0 rfl rfl)
theorem dX1_light_281 : decode cX1_light 281 = .ok (.goto 37, 3) := dk_167 0 37 (dk_at dksX1_light_12 3 rfl rfl)
theorem dX1_light_284 : decode cX1_light 284 = .ok (.iload_n 3, 1) := dk_29 (dk_at dksX1_light_12 6 rfl rfl)
theorem dX1_light_285 : decode cX1_light 285 = .ok (.iconst 2, 1) := dk_5 (dk_at dksX1_light_12 7 rfl rfl)
theorem dX1_light_286 : decode cX1_light 286 = .ok (.if_icmp .ne 19, 3) := dk_160 0 19 (dk_at dksX1_light_12 8 rfl rfl)
theorem dX1_light_289 : decode cX1_light 289 = .ok (.new 209, 3) := dk_187 0 209 (dk_at dksX1_light_12 11 rfl rfl)
theorem dX1_light_292 : decode cX1_light 292 = .ok (.dup, 1) := dk_89 (dk_at dksX1_light_12 14 rfl rfl)
theorem dX1_light_293 : decode cX1_light 293 = .ok (.iload 4, 2) := dk_21 4 (dk_at dksX1_light_12 15 rfl rfl)
theorem dX1_light_295 : decode cX1_light 295 = .ok (.iload 5, 2) := dk_21 5 (dk_at dksX1_light_12 17 rfl rfl)
theorem dX1_light_297 : decode cX1_light 297 = .ok (.iload 6, 2) := dk_21 6 (dk_at dksX1_light_12 19 rfl rfl)
theorem dX1_light_299 : decode cX1_light 299 = .ok (.invokespecial 211, 3) := dk_183 0 211 (dk_at dksX1_light_12 21 rfl rfl)
theorem dX1_light_302 : decode cX1_light 302 = .ok (.goto 16, 3) := dk_167 0 16 (dk_at dksX1_light_13 0 rfl rfl)
theorem dX1_light_305 : decode cX1_light 305 = .ok (.new 212, 3) := dk_187 0 212 (dk_at dksX1_light_13 3 rfl rfl)
theorem dX1_light_308 : decode cX1_light 308 = .ok (.dup, 1) := dk_89 (dk_at dksX1_light_13 6 rfl rfl)
theorem dX1_light_309 : decode cX1_light 309 = .ok (.iload 4, 2) := dk_21 4 (dk_at dksX1_light_13 7 rfl rfl)
theorem dX1_light_311 : decode cX1_light 311 = .ok (.iload 5, 2) := dk_21 5 (dk_at dksX1_light_13 9 rfl rfl)
theorem dX1_light_313 : decode cX1_light 313 = .ok (.iload 6, 2) := dk_21 6 (dk_at dksX1_light_13 11 rfl rfl)
theorem dX1_light_315 : decode cX1_light 315 = .ok (.invokespecial 214, 3) := dk_183 0 214 (dk_at dksX1_light_13 13 rfl rfl)
theorem dX1_light_318 : decode cX1_light 318 = .ok (.aastore, 1) := dk_83 (dk_at dksX1_light_13 16 rfl rfl)
theorem dX1_light_319 : decode cX1_light 319 = .ok (.return_, 1) := dk_177 (dk_at dksX1_light_13 17 rfl rfl)
abbrev cX1_isLit : ByteArray := prog_14_method_19_code
def yX1_isLit : MethodName := ⟨RX1, "isLit", "(I)Z"⟩
def dkwX1_isLit_1 : List UInt8 := [180, 0, 198, 42, 182, 0, 179, 16, 6, 104, 27, 96, 50, 198, 0, 7, 4, 167, 0, 4, 3, 172]
abbrev dktX1_isLit_1 : List UInt8 := dkwX1_isLit_1 ++ []
def dkwX1_isLit_0 : List UInt8 := [42, 182, 0, 179, 3, 42, 180, 0, 98, 180, 0, 152, 4, 100, 184, 0, 181, 153, 0, 27, 42, 180, 0, 98]
abbrev dktX1_isLit_0 : List UInt8 := dkwX1_isLit_0 ++ dktX1_isLit_1
theorem dksX1_isLit_0 : cX1_isLit.data.toList.drop 0 = dktX1_isLit_0 := by decide +kernel
theorem dksX1_isLit_1 : cX1_isLit.data.toList.drop 24 = dktX1_isLit_1 := dk_seg dksX1_isLit_0 24 rfl rfl
theorem dX1_isLit_0 : decode cX1_isLit 0 = .ok (.aload_n 0, 1) := dk_42 (dk_at dksX1_isLit_0 0 rfl rfl)
theorem dX1_isLit_1 : decode cX1_isLit 1 = .ok (.invokevirtual 179, 3) := dk_182 0 179 (dk_at dksX1_isLit_0 1 rfl rfl)
theorem dX1_isLit_4 : decode cX1_isLit 4 = .ok (.iconst 0, 1) := dk_3 (dk_at dksX1_isLit_0 4 rfl rfl)
theorem dX1_isLit_5 : decode cX1_isLit 5 = .ok (.aload_n 0, 1) := dk_42 (dk_at dksX1_isLit_0 5 rfl rfl)
theorem dX1_isLit_6 : decode cX1_isLit 6 = .ok (.getfield 98, 3) := dk_180 0 98 (dk_at dksX1_isLit_0 6 rfl rfl)
theorem dX1_isLit_9 : decode cX1_isLit 9 = .ok (.getfield 152, 3) := dk_180 0 152 (dk_at dksX1_isLit_0 9 rfl rfl)
theorem dX1_isLit_12 : decode cX1_isLit 12 = .ok (.iconst 1, 1) := dk_4 (dk_at dksX1_isLit_0 12 rfl rfl)
theorem dX1_isLit_13 : decode cX1_isLit 13 = .ok (.isub, 1) := dk_100 (dk_at dksX1_isLit_0 13 rfl rfl)
theorem dX1_isLit_14 : decode cX1_isLit 14 = .ok (.invokestatic 181, 3) := dk_184 0 181 (dk_at dksX1_isLit_0 14 rfl rfl)
theorem dX1_isLit_17 : decode cX1_isLit 17 = .ok (.ifCond .eq 27, 3) := dk_153 0 27 (dk_at dksX1_isLit_0 17 rfl rfl)
theorem dX1_isLit_20 : decode cX1_isLit 20 = .ok (.aload_n 0, 1) := dk_42 (dk_at dksX1_isLit_0 20 rfl rfl)
theorem dX1_isLit_21 : decode cX1_isLit 21 = .ok (.getfield 98, 3) := dk_180 0 98 (dk_at dksX1_isLit_0 21 rfl rfl)
theorem dX1_isLit_24 : decode cX1_isLit 24 = .ok (.getfield 198, 3) := dk_180 0 198 (dk_at dksX1_isLit_1 0 rfl rfl)
theorem dX1_isLit_27 : decode cX1_isLit 27 = .ok (.aload_n 0, 1) := dk_42 (dk_at dksX1_isLit_1 3 rfl rfl)
theorem dX1_isLit_28 : decode cX1_isLit 28 = .ok (.invokevirtual 179, 3) := dk_182 0 179 (dk_at dksX1_isLit_1 4 rfl rfl)
theorem dX1_isLit_31 : decode cX1_isLit 31 = .ok (.bipush 6, 2) := dk_16 6 (dk_at dksX1_isLit_1 7 rfl rfl)
theorem dX1_isLit_33 : decode cX1_isLit 33 = .ok (.imul, 1) := dk_104 (dk_at dksX1_isLit_1 9 rfl rfl)
theorem dX1_isLit_34 : decode cX1_isLit 34 = .ok (.iload_n 1, 1) := dk_27 (dk_at dksX1_isLit_1 10 rfl rfl)
theorem dX1_isLit_35 : decode cX1_isLit 35 = .ok (.iadd, 1) := dk_96 (dk_at dksX1_isLit_1 11 rfl rfl)
theorem dX1_isLit_36 : decode cX1_isLit 36 = .ok (.aaload, 1) := dk_50 (dk_at dksX1_isLit_1 12 rfl rfl)
theorem dX1_isLit_37 : decode cX1_isLit 37 = .ok (.ifnull 7, 3) := dk_198 0 7 (dk_at dksX1_isLit_1 13 rfl rfl)
theorem dX1_isLit_40 : decode cX1_isLit 40 = .ok (.iconst 1, 1) := dk_4 (dk_at dksX1_isLit_1 16 rfl rfl)
theorem dX1_isLit_41 : decode cX1_isLit 41 = .ok (.goto 4, 3) := dk_167 0 4 (dk_at dksX1_isLit_1 17 rfl rfl)
theorem dX1_isLit_44 : decode cX1_isLit 44 = .ok (.iconst 0, 1) := dk_3 (dk_at dksX1_isLit_1 20 rfl rfl)
theorem dX1_isLit_45 : decode cX1_isLit 45 = .ok (.ireturn, 1) := dk_172 (dk_at dksX1_isLit_1 21 rfl rfl)
abbrev cX1_value : ByteArray := prog_14_method_18_code
def yX1_value : MethodName := ⟨RX1, "value", "()I"⟩
def dkwX1_value_1 : List UInt8 := [51, 96, 16, 48, 100, 60, 132, 2, 1, 167, 255, 230, 27, 172]
abbrev dktX1_value_1 : List UInt8 := dkwX1_value_1 ++ []
def dkwX1_value_0 : List UInt8 := [3, 60, 42, 180, 0, 28, 61, 28, 42, 180, 0, 19, 162, 0, 24, 27, 16, 10, 104, 42, 180, 0, 9, 28]
abbrev dktX1_value_0 : List UInt8 := dkwX1_value_0 ++ dktX1_value_1
theorem dksX1_value_0 : cX1_value.data.toList.drop 0 = dktX1_value_0 := by decide +kernel
theorem dksX1_value_1 : cX1_value.data.toList.drop 24 = dktX1_value_1 := dk_seg dksX1_value_0 24 rfl rfl
theorem dX1_value_0 : decode cX1_value 0 = .ok (.iconst 0, 1) := dk_3 (dk_at dksX1_value_0 0 rfl rfl)
theorem dX1_value_1 : decode cX1_value 1 = .ok (.istore_n 1, 1) := dk_60 (dk_at dksX1_value_0 1 rfl rfl)
theorem dX1_value_2 : decode cX1_value 2 = .ok (.aload_n 0, 1) := dk_42 (dk_at dksX1_value_0 2 rfl rfl)
theorem dX1_value_3 : decode cX1_value 3 = .ok (.getfield 28, 3) := dk_180 0 28 (dk_at dksX1_value_0 3 rfl rfl)
theorem dX1_value_6 : decode cX1_value 6 = .ok (.istore_n 2, 1) := dk_61 (dk_at dksX1_value_0 6 rfl rfl)
theorem dX1_value_7 : decode cX1_value 7 = .ok (.iload_n 2, 1) := dk_28 (dk_at dksX1_value_0 7 rfl rfl)
theorem dX1_value_8 : decode cX1_value 8 = .ok (.aload_n 0, 1) := dk_42 (dk_at dksX1_value_0 8 rfl rfl)
theorem dX1_value_9 : decode cX1_value 9 = .ok (.getfield 19, 3) := dk_180 0 19 (dk_at dksX1_value_0 9 rfl rfl)
theorem dX1_value_12 : decode cX1_value 12 = .ok (.if_icmp .ge 24, 3) := dk_162 0 24 (dk_at dksX1_value_0 12 rfl rfl)
theorem dX1_value_15 : decode cX1_value 15 = .ok (.iload_n 1, 1) := dk_27 (dk_at dksX1_value_0 15 rfl rfl)
theorem dX1_value_16 : decode cX1_value 16 = .ok (.bipush 10, 2) := dk_16 10 (dk_at dksX1_value_0 16 rfl rfl)
theorem dX1_value_18 : decode cX1_value 18 = .ok (.imul, 1) := dk_104 (dk_at dksX1_value_0 18 rfl rfl)
theorem dX1_value_19 : decode cX1_value 19 = .ok (.aload_n 0, 1) := dk_42 (dk_at dksX1_value_0 19 rfl rfl)
theorem dX1_value_20 : decode cX1_value 20 = .ok (.getfield 9, 3) := dk_180 0 9 (dk_at dksX1_value_0 20 rfl rfl)
theorem dX1_value_23 : decode cX1_value 23 = .ok (.iload_n 2, 1) := dk_28 (dk_at dksX1_value_0 23 rfl rfl)
theorem dX1_value_24 : decode cX1_value 24 = .ok (.baload, 1) := dk_51 (dk_at dksX1_value_1 0 rfl rfl)
theorem dX1_value_25 : decode cX1_value 25 = .ok (.iadd, 1) := dk_96 (dk_at dksX1_value_1 1 rfl rfl)
theorem dX1_value_26 : decode cX1_value 26 = .ok (.bipush 48, 2) := dk_16 48 (dk_at dksX1_value_1 2 rfl rfl)
theorem dX1_value_28 : decode cX1_value 28 = .ok (.isub, 1) := dk_100 (dk_at dksX1_value_1 4 rfl rfl)
theorem dX1_value_29 : decode cX1_value 29 = .ok (.istore_n 1, 1) := dk_60 (dk_at dksX1_value_1 5 rfl rfl)
theorem dX1_value_30 : decode cX1_value 30 = .ok (.iinc 2 1, 3) := dk_132 2 1 (dk_at dksX1_value_1 6 rfl rfl)
theorem dX1_value_33 : decode cX1_value 33 = .ok (.goto (-26), 3) := dk_167 255 230 (dk_at dksX1_value_1 9 rfl rfl)
theorem dX1_value_36 : decode cX1_value 36 = .ok (.iload_n 1, 1) := dk_27 (dk_at dksX1_value_1 12 rfl rfl)
theorem dX1_value_37 : decode cX1_value 37 = .ok (.ireturn, 1) := dk_172 (dk_at dksX1_value_1 13 rfl rfl)
abbrev cX1_bar : ByteArray := prog_14_method_20_code
def yX1_bar : MethodName := ⟨RX1, "bar", "()V"⟩
def dkwX1_bar_3 : List UInt8 := [182, 0, 75, 191, 42, 182, 0, 25, 42, 180, 0, 98, 180, 0, 217, 28, 92, 46, 4, 29, 120, 128, 79, 177]
abbrev dktX1_bar_3 : List UInt8 := dkwX1_bar_3 ++ []
def dkwX1_bar_2 : List UInt8 := [182, 0, 75, 191, 42, 180, 0, 98, 180, 0, 217, 28, 46, 29, 122, 4, 126, 4, 160, 0, 9, 42, 6]
abbrev dktX1_bar_2 : List UInt8 := dkwX1_bar_2 ++ dktX1_bar_3
def dkwX1_bar_1 : List UInt8 := [4, 100, 182, 0, 124, 16, 6, 104, 27, 96, 61, 42, 18, 215, 182, 0, 71, 62, 29, 156, 0, 9, 42, 4]
abbrev dktX1_bar_1 : List UInt8 := dkwX1_bar_1 ++ dktX1_bar_2
def dkwX1_bar_0 : List UInt8 := [42, 3, 42, 180, 0, 98, 180, 0, 149, 4, 100, 182, 0, 124, 60, 42, 3, 42, 180, 0, 98, 180, 0, 152]
abbrev dktX1_bar_0 : List UInt8 := dkwX1_bar_0 ++ dktX1_bar_1
theorem dksX1_bar_0 : cX1_bar.data.toList.drop 0 = dktX1_bar_0 := by decide +kernel
theorem dksX1_bar_1 : cX1_bar.data.toList.drop 24 = dktX1_bar_1 := dk_seg dksX1_bar_0 24 rfl rfl
theorem dksX1_bar_2 : cX1_bar.data.toList.drop 48 = dktX1_bar_2 := dk_seg dksX1_bar_1 24 rfl rfl
theorem dksX1_bar_3 : cX1_bar.data.toList.drop 71 = dktX1_bar_3 := dk_seg dksX1_bar_2 23 rfl rfl
theorem dX1_bar_0 : decode cX1_bar 0 = .ok (.aload_n 0, 1) := dk_42 (dk_at dksX1_bar_0 0 rfl rfl)
theorem dX1_bar_1 : decode cX1_bar 1 = .ok (.iconst 0, 1) := dk_3 (dk_at dksX1_bar_0 1 rfl rfl)
theorem dX1_bar_2 : decode cX1_bar 2 = .ok (.aload_n 0, 1) := dk_42 (dk_at dksX1_bar_0 2 rfl rfl)
theorem dX1_bar_3 : decode cX1_bar 3 = .ok (.getfield 98, 3) := dk_180 0 98 (dk_at dksX1_bar_0 3 rfl rfl)
theorem dX1_bar_6 : decode cX1_bar 6 = .ok (.getfield 149, 3) := dk_180 0 149 (dk_at dksX1_bar_0 6 rfl rfl)
theorem dX1_bar_9 : decode cX1_bar 9 = .ok (.iconst 1, 1) := dk_4 (dk_at dksX1_bar_0 9 rfl rfl)
theorem dX1_bar_10 : decode cX1_bar 10 = .ok (.isub, 1) := dk_100 (dk_at dksX1_bar_0 10 rfl rfl)
theorem dX1_bar_11 : decode cX1_bar 11 = .ok (.invokevirtual 124, 3) := dk_182 0 124 (dk_at dksX1_bar_0 11 rfl rfl)
theorem dX1_bar_14 : decode cX1_bar 14 = .ok (.istore_n 1, 1) := dk_60 (dk_at dksX1_bar_0 14 rfl rfl)
theorem dX1_bar_15 : decode cX1_bar 15 = .ok (.aload_n 0, 1) := dk_42 (dk_at dksX1_bar_0 15 rfl rfl)
theorem dX1_bar_16 : decode cX1_bar 16 = .ok (.iconst 0, 1) := dk_3 (dk_at dksX1_bar_0 16 rfl rfl)
theorem dX1_bar_17 : decode cX1_bar 17 = .ok (.aload_n 0, 1) := dk_42 (dk_at dksX1_bar_0 17 rfl rfl)
theorem dX1_bar_18 : decode cX1_bar 18 = .ok (.getfield 98, 3) := dk_180 0 98 (dk_at dksX1_bar_0 18 rfl rfl)
theorem dX1_bar_21 : decode cX1_bar 21 = .ok (.getfield 152, 3) := dk_180 0 152 (dk_at dksX1_bar_0 21 rfl rfl)
theorem dX1_bar_24 : decode cX1_bar 24 = .ok (.iconst 1, 1) := dk_4 (dk_at dksX1_bar_1 0 rfl rfl)
theorem dX1_bar_25 : decode cX1_bar 25 = .ok (.isub, 1) := dk_100 (dk_at dksX1_bar_1 1 rfl rfl)
theorem dX1_bar_26 : decode cX1_bar 26 = .ok (.invokevirtual 124, 3) := dk_182 0 124 (dk_at dksX1_bar_1 2 rfl rfl)
theorem dX1_bar_29 : decode cX1_bar 29 = .ok (.bipush 6, 2) := dk_16 6 (dk_at dksX1_bar_1 5 rfl rfl)
theorem dX1_bar_31 : decode cX1_bar 31 = .ok (.imul, 1) := dk_104 (dk_at dksX1_bar_1 7 rfl rfl)
theorem dX1_bar_32 : decode cX1_bar 32 = .ok (.iload_n 1, 1) := dk_27 (dk_at dksX1_bar_1 8 rfl rfl)
theorem dX1_bar_33 : decode cX1_bar 33 = .ok (.iadd, 1) := dk_96 (dk_at dksX1_bar_1 9 rfl rfl)
theorem dX1_bar_34 : decode cX1_bar 34 = .ok (.istore_n 2, 1) := dk_61 (dk_at dksX1_bar_1 10 rfl rfl)
theorem dX1_bar_35 : decode cX1_bar 35 = .ok (.aload_n 0, 1) := dk_42 (dk_at dksX1_bar_1 11 rfl rfl)
theorem dX1_bar_36 : decode cX1_bar 36 = .ok (.ldc 215, 2) := dk_18 215 (dk_at dksX1_bar_1 12 rfl rfl)
theorem dX1_bar_38 : decode cX1_bar 38 = .ok (.invokevirtual 71, 3) := dk_182 0 71 (dk_at dksX1_bar_1 14 rfl rfl)
theorem dX1_bar_41 : decode cX1_bar 41 = .ok (.istore_n 3, 1) := dk_62 (dk_at dksX1_bar_1 17 rfl rfl)
theorem dX1_bar_42 : decode cX1_bar 42 = .ok (.iload_n 3, 1) := dk_29 (dk_at dksX1_bar_1 18 rfl rfl)
theorem dX1_bar_43 : decode cX1_bar 43 = .ok (.ifCond .ge 9, 3) := dk_156 0 9 (dk_at dksX1_bar_1 19 rfl rfl)
theorem dX1_bar_46 : decode cX1_bar 46 = .ok (.aload_n 0, 1) := dk_42 (dk_at dksX1_bar_1 22 rfl rfl)
theorem dX1_bar_47 : decode cX1_bar 47 = .ok (.iconst 1, 1) := dk_4 (dk_at dksX1_bar_1 23 rfl rfl)
theorem dX1_bar_48 : decode cX1_bar 48 = .ok (.invokevirtual 75, 3) := dk_182 0 75 (dk_at dksX1_bar_2 0 rfl rfl)
theorem dX1_bar_51 : decode cX1_bar 51 = .ok (.athrow, 1) := dk_191 (dk_at dksX1_bar_2 3 rfl rfl)
theorem dX1_bar_52 : decode cX1_bar 52 = .ok (.aload_n 0, 1) := dk_42 (dk_at dksX1_bar_2 4 rfl rfl)
theorem dX1_bar_53 : decode cX1_bar 53 = .ok (.getfield 98, 3) := dk_180 0 98 (dk_at dksX1_bar_2 5 rfl rfl)
theorem dX1_bar_56 : decode cX1_bar 56 = .ok (.getfield 217, 3) := dk_180 0 217 (dk_at dksX1_bar_2 8 rfl rfl)
theorem dX1_bar_59 : decode cX1_bar 59 = .ok (.iload_n 2, 1) := dk_28 (dk_at dksX1_bar_2 11 rfl rfl)
theorem dX1_bar_60 : decode cX1_bar 60 = .ok (.iaload, 1) := dk_46 (dk_at dksX1_bar_2 12 rfl rfl)
theorem dX1_bar_61 : decode cX1_bar 61 = .ok (.iload_n 3, 1) := dk_29 (dk_at dksX1_bar_2 13 rfl rfl)
theorem dX1_bar_62 : decode cX1_bar 62 = .ok (.ishr, 1) := dk_122 (dk_at dksX1_bar_2 14 rfl rfl)
theorem dX1_bar_63 : decode cX1_bar 63 = .ok (.iconst 1, 1) := dk_4 (dk_at dksX1_bar_2 15 rfl rfl)
theorem dX1_bar_64 : decode cX1_bar 64 = .ok (.iand, 1) := dk_126 (dk_at dksX1_bar_2 16 rfl rfl)
theorem dX1_bar_65 : decode cX1_bar 65 = .ok (.iconst 1, 1) := dk_4 (dk_at dksX1_bar_2 17 rfl rfl)
theorem dX1_bar_66 : decode cX1_bar 66 = .ok (.if_icmp .ne 9, 3) := dk_160 0 9 (dk_at dksX1_bar_2 18 rfl rfl)
theorem dX1_bar_69 : decode cX1_bar 69 = .ok (.aload_n 0, 1) := dk_42 (dk_at dksX1_bar_2 21 rfl rfl)
theorem dX1_bar_70 : decode cX1_bar 70 = .ok (.iconst 3, 1) := dk_6 (dk_at dksX1_bar_2 22 rfl rfl)
theorem dX1_bar_71 : decode cX1_bar 71 = .ok (.invokevirtual 75, 3) := dk_182 0 75 (dk_at dksX1_bar_3 0 rfl rfl)
theorem dX1_bar_74 : decode cX1_bar 74 = .ok (.athrow, 1) := dk_191 (dk_at dksX1_bar_3 3 rfl rfl)
theorem dX1_bar_75 : decode cX1_bar 75 = .ok (.aload_n 0, 1) := dk_42 (dk_at dksX1_bar_3 4 rfl rfl)
theorem dX1_bar_76 : decode cX1_bar 76 = .ok (.invokevirtual 25, 3) := dk_182 0 25 (dk_at dksX1_bar_3 5 rfl rfl)
theorem dX1_bar_79 : decode cX1_bar 79 = .ok (.aload_n 0, 1) := dk_42 (dk_at dksX1_bar_3 8 rfl rfl)
theorem dX1_bar_80 : decode cX1_bar 80 = .ok (.getfield 98, 3) := dk_180 0 98 (dk_at dksX1_bar_3 9 rfl rfl)
theorem dX1_bar_83 : decode cX1_bar 83 = .ok (.getfield 217, 3) := dk_180 0 217 (dk_at dksX1_bar_3 12 rfl rfl)
theorem dX1_bar_86 : decode cX1_bar 86 = .ok (.iload_n 2, 1) := dk_28 (dk_at dksX1_bar_3 15 rfl rfl)
theorem dX1_bar_87 : decode cX1_bar 87 = .ok (.dup2, 1) := dk_92 (dk_at dksX1_bar_3 16 rfl rfl)
theorem dX1_bar_88 : decode cX1_bar 88 = .ok (.iaload, 1) := dk_46 (dk_at dksX1_bar_3 17 rfl rfl)
theorem dX1_bar_89 : decode cX1_bar 89 = .ok (.iconst 1, 1) := dk_4 (dk_at dksX1_bar_3 18 rfl rfl)
theorem dX1_bar_90 : decode cX1_bar 90 = .ok (.iload_n 3, 1) := dk_29 (dk_at dksX1_bar_3 19 rfl rfl)
theorem dX1_bar_91 : decode cX1_bar 91 = .ok (.ishl, 1) := dk_120 (dk_at dksX1_bar_3 20 rfl rfl)
theorem dX1_bar_92 : decode cX1_bar 92 = .ok (.ior, 1) := dk_128 (dk_at dksX1_bar_3 21 rfl rfl)
theorem dX1_bar_93 : decode cX1_bar 93 = .ok (.iastore, 1) := dk_79 (dk_at dksX1_bar_3 22 rfl rfl)
theorem dX1_bar_94 : decode cX1_bar 94 = .ok (.return_, 1) := dk_177 (dk_at dksX1_bar_3 23 rfl rfl)
abbrev cX1_rule : ByteArray := prog_14_method_21_code
def yX1_rule : MethodName := ⟨RX1, "rule", "()V"⟩
def dkwX1_rule_1 : List UInt8 := [182, 0, 235, 87, 42, 180, 0, 98, 180, 0, 102, 43, 182, 0, 235, 87, 177]
abbrev dktX1_rule_1 : List UInt8 := dkwX1_rule_1 ++ []
def dkwX1_rule_0 : List UInt8 := [42, 182, 0, 220, 76, 42, 180, 0, 98, 180, 0, 223, 187, 0, 226, 89, 42, 182, 0, 228, 183, 0, 232]
abbrev dktX1_rule_0 : List UInt8 := dkwX1_rule_0 ++ dktX1_rule_1
theorem dksX1_rule_0 : cX1_rule.data.toList.drop 0 = dktX1_rule_0 := by decide +kernel
theorem dksX1_rule_1 : cX1_rule.data.toList.drop 23 = dktX1_rule_1 := dk_seg dksX1_rule_0 23 rfl rfl
theorem dX1_rule_0 : decode cX1_rule 0 = .ok (.aload_n 0, 1) := dk_42 (dk_at dksX1_rule_0 0 rfl rfl)
theorem dX1_rule_1 : decode cX1_rule 1 = .ok (.invokevirtual 220, 3) := dk_182 0 220 (dk_at dksX1_rule_0 1 rfl rfl)
theorem dX1_rule_4 : decode cX1_rule 4 = .ok (.astore_n 1, 1) := dk_76 (dk_at dksX1_rule_0 4 rfl rfl)
theorem dX1_rule_5 : decode cX1_rule 5 = .ok (.aload_n 0, 1) := dk_42 (dk_at dksX1_rule_0 5 rfl rfl)
theorem dX1_rule_6 : decode cX1_rule 6 = .ok (.getfield 98, 3) := dk_180 0 98 (dk_at dksX1_rule_0 6 rfl rfl)
theorem dX1_rule_9 : decode cX1_rule 9 = .ok (.getfield 223, 3) := dk_180 0 223 (dk_at dksX1_rule_0 9 rfl rfl)
theorem dX1_rule_12 : decode cX1_rule 12 = .ok (.new 226, 3) := dk_187 0 226 (dk_at dksX1_rule_0 12 rfl rfl)
theorem dX1_rule_15 : decode cX1_rule 15 = .ok (.dup, 1) := dk_89 (dk_at dksX1_rule_0 15 rfl rfl)
theorem dX1_rule_16 : decode cX1_rule 16 = .ok (.aload_n 0, 1) := dk_42 (dk_at dksX1_rule_0 16 rfl rfl)
theorem dX1_rule_17 : decode cX1_rule 17 = .ok (.invokevirtual 228, 3) := dk_182 0 228 (dk_at dksX1_rule_0 17 rfl rfl)
theorem dX1_rule_20 : decode cX1_rule 20 = .ok (.invokespecial 232, 3) := dk_183 0 232 (dk_at dksX1_rule_0 20 rfl rfl)
theorem dX1_rule_23 : decode cX1_rule 23 = .ok (.invokevirtual 235, 3) := dk_182 0 235 (dk_at dksX1_rule_1 0 rfl rfl)
theorem dX1_rule_26 : decode cX1_rule 26 = .ok (.pop, 1) := dk_87 (dk_at dksX1_rule_1 3 rfl rfl)
theorem dX1_rule_27 : decode cX1_rule 27 = .ok (.aload_n 0, 1) := dk_42 (dk_at dksX1_rule_1 4 rfl rfl)
theorem dX1_rule_28 : decode cX1_rule 28 = .ok (.getfield 98, 3) := dk_180 0 98 (dk_at dksX1_rule_1 5 rfl rfl)
theorem dX1_rule_31 : decode cX1_rule 31 = .ok (.getfield 102, 3) := dk_180 0 102 (dk_at dksX1_rule_1 8 rfl rfl)
theorem dX1_rule_34 : decode cX1_rule 34 = .ok (.aload_n 1, 1) := dk_43 (dk_at dksX1_rule_1 11 rfl rfl)
theorem dX1_rule_35 : decode cX1_rule 35 = .ok (.invokevirtual 235, 3) := dk_182 0 235 (dk_at dksX1_rule_1 12 rfl rfl)
theorem dX1_rule_38 : decode cX1_rule 38 = .ok (.pop, 1) := dk_87 (dk_at dksX1_rule_1 15 rfl rfl)
theorem dX1_rule_39 : decode cX1_rule 39 = .ok (.return_, 1) := dk_177 (dk_at dksX1_rule_1 16 rfl rfl)
abbrev cX1_fresh : ByteArray := prog_14_method_13_code
def yX1_fresh : MethodName := ⟨RX1, "fresh", "()Ljava/lang/String;"⟩
def dkwX1_fresh_5 : List UInt8 := [167, 255, 212, 42, 182, 0, 25, 44, 176]
abbrev dktX1_fresh_5 : List UInt8 := dkwX1_fresh_5 ++ []
def dkwX1_fresh_4 : List UInt8 := [182, 0, 112, 192, 0, 51, 44, 182, 0, 116, 153, 0, 9, 42, 6, 182, 0, 75, 191, 132, 3, 1]
abbrev dktX1_fresh_4 : List UInt8 := dkwX1_fresh_4 ++ dktX1_fresh_5
def dkwX1_fresh_3 : List UInt8 := [29, 42, 180, 0, 98, 180, 0, 102, 182, 0, 108, 162, 0, 36, 42, 180, 0, 98, 180, 0, 102, 29]
abbrev dktX1_fresh_3 : List UInt8 := dkwX1_fresh_3 ++ dktX1_fresh_4
def dkwX1_fresh_2 : List UInt8 := [42, 180, 0, 9, 28, 51, 146, 182, 0, 90, 87, 132, 2, 1, 167, 255, 233, 43, 182, 0, 94, 77, 3, 62]
abbrev dktX1_fresh_2 : List UInt8 := dkwX1_fresh_2 ++ dktX1_fresh_3
def dkwX1_fresh_1 : List UInt8 := [187, 0, 85, 89, 16, 8, 183, 0, 87, 76, 42, 180, 0, 28, 61, 28, 42, 180, 0, 19, 162, 0, 21, 43]
abbrev dktX1_fresh_1 : List UInt8 := dkwX1_fresh_1 ++ dktX1_fresh_2
def dkwX1_fresh_0 : List UInt8 := [42, 180, 0, 31, 4, 160, 0, 12, 42, 18, 83, 182, 0, 71, 155, 0, 9, 42, 4, 182, 0, 75, 191]
abbrev dktX1_fresh_0 : List UInt8 := dkwX1_fresh_0 ++ dktX1_fresh_1
theorem dksX1_fresh_0 : cX1_fresh.data.toList.drop 0 = dktX1_fresh_0 := by decide +kernel
theorem dksX1_fresh_1 : cX1_fresh.data.toList.drop 23 = dktX1_fresh_1 := dk_seg dksX1_fresh_0 23 rfl rfl
theorem dksX1_fresh_2 : cX1_fresh.data.toList.drop 47 = dktX1_fresh_2 := dk_seg dksX1_fresh_1 24 rfl rfl
theorem dksX1_fresh_3 : cX1_fresh.data.toList.drop 71 = dktX1_fresh_3 := dk_seg dksX1_fresh_2 24 rfl rfl
theorem dksX1_fresh_4 : cX1_fresh.data.toList.drop 93 = dktX1_fresh_4 := dk_seg dksX1_fresh_3 22 rfl rfl
theorem dksX1_fresh_5 : cX1_fresh.data.toList.drop 115 = dktX1_fresh_5 := dk_seg dksX1_fresh_4 22 rfl rfl
theorem dX1_fresh_0 : decode cX1_fresh 0 = .ok (.aload_n 0, 1) := dk_42 (dk_at dksX1_fresh_0 0 rfl rfl)
theorem dX1_fresh_1 : decode cX1_fresh 1 = .ok (.getfield 31, 3) := dk_180 0 31 (dk_at dksX1_fresh_0 1 rfl rfl)
theorem dX1_fresh_4 : decode cX1_fresh 4 = .ok (.iconst 1, 1) := dk_4 (dk_at dksX1_fresh_0 4 rfl rfl)
theorem dX1_fresh_5 : decode cX1_fresh 5 = .ok (.if_icmp .ne 12, 3) := dk_160 0 12 (dk_at dksX1_fresh_0 5 rfl rfl)
theorem dX1_fresh_8 : decode cX1_fresh 8 = .ok (.aload_n 0, 1) := dk_42 (dk_at dksX1_fresh_0 8 rfl rfl)
theorem dX1_fresh_9 : decode cX1_fresh 9 = .ok (.ldc 83, 2) := dk_18 83 (dk_at dksX1_fresh_0 9 rfl rfl)
theorem dX1_fresh_11 : decode cX1_fresh 11 = .ok (.invokevirtual 71, 3) := dk_182 0 71 (dk_at dksX1_fresh_0 11 rfl rfl)
theorem dX1_fresh_14 : decode cX1_fresh 14 = .ok (.ifCond .lt 9, 3) := dk_155 0 9 (dk_at dksX1_fresh_0 14 rfl rfl)
theorem dX1_fresh_17 : decode cX1_fresh 17 = .ok (.aload_n 0, 1) := dk_42 (dk_at dksX1_fresh_0 17 rfl rfl)
theorem dX1_fresh_18 : decode cX1_fresh 18 = .ok (.iconst 1, 1) := dk_4 (dk_at dksX1_fresh_0 18 rfl rfl)
theorem dX1_fresh_19 : decode cX1_fresh 19 = .ok (.invokevirtual 75, 3) := dk_182 0 75 (dk_at dksX1_fresh_0 19 rfl rfl)
theorem dX1_fresh_22 : decode cX1_fresh 22 = .ok (.athrow, 1) := dk_191 (dk_at dksX1_fresh_0 22 rfl rfl)
theorem dX1_fresh_23 : decode cX1_fresh 23 = .ok (.new 85, 3) := dk_187 0 85 (dk_at dksX1_fresh_1 0 rfl rfl)
theorem dX1_fresh_26 : decode cX1_fresh 26 = .ok (.dup, 1) := dk_89 (dk_at dksX1_fresh_1 3 rfl rfl)
theorem dX1_fresh_27 : decode cX1_fresh 27 = .ok (.bipush 8, 2) := dk_16 8 (dk_at dksX1_fresh_1 4 rfl rfl)
theorem dX1_fresh_29 : decode cX1_fresh 29 = .ok (.invokespecial 87, 3) := dk_183 0 87 (dk_at dksX1_fresh_1 6 rfl rfl)
theorem dX1_fresh_32 : decode cX1_fresh 32 = .ok (.astore_n 1, 1) := dk_76 (dk_at dksX1_fresh_1 9 rfl rfl)
theorem dX1_fresh_33 : decode cX1_fresh 33 = .ok (.aload_n 0, 1) := dk_42 (dk_at dksX1_fresh_1 10 rfl rfl)
theorem dX1_fresh_34 : decode cX1_fresh 34 = .ok (.getfield 28, 3) := dk_180 0 28 (dk_at dksX1_fresh_1 11 rfl rfl)
theorem dX1_fresh_37 : decode cX1_fresh 37 = .ok (.istore_n 2, 1) := dk_61 (dk_at dksX1_fresh_1 14 rfl rfl)
theorem dX1_fresh_38 : decode cX1_fresh 38 = .ok (.iload_n 2, 1) := dk_28 (dk_at dksX1_fresh_1 15 rfl rfl)
theorem dX1_fresh_39 : decode cX1_fresh 39 = .ok (.aload_n 0, 1) := dk_42 (dk_at dksX1_fresh_1 16 rfl rfl)
theorem dX1_fresh_40 : decode cX1_fresh 40 = .ok (.getfield 19, 3) := dk_180 0 19 (dk_at dksX1_fresh_1 17 rfl rfl)
theorem dX1_fresh_43 : decode cX1_fresh 43 = .ok (.if_icmp .ge 21, 3) := dk_162 0 21 (dk_at dksX1_fresh_1 20 rfl rfl)
theorem dX1_fresh_46 : decode cX1_fresh 46 = .ok (.aload_n 1, 1) := dk_43 (dk_at dksX1_fresh_1 23 rfl rfl)
theorem dX1_fresh_47 : decode cX1_fresh 47 = .ok (.aload_n 0, 1) := dk_42 (dk_at dksX1_fresh_2 0 rfl rfl)
theorem dX1_fresh_48 : decode cX1_fresh 48 = .ok (.getfield 9, 3) := dk_180 0 9 (dk_at dksX1_fresh_2 1 rfl rfl)
theorem dX1_fresh_51 : decode cX1_fresh 51 = .ok (.iload_n 2, 1) := dk_28 (dk_at dksX1_fresh_2 4 rfl rfl)
theorem dX1_fresh_52 : decode cX1_fresh 52 = .ok (.baload, 1) := dk_51 (dk_at dksX1_fresh_2 5 rfl rfl)
theorem dX1_fresh_53 : decode cX1_fresh 53 = .ok (.i2c, 1) := dk_146 (dk_at dksX1_fresh_2 6 rfl rfl)
theorem dX1_fresh_54 : decode cX1_fresh 54 = .ok (.invokevirtual 90, 3) := dk_182 0 90 (dk_at dksX1_fresh_2 7 rfl rfl)
theorem dX1_fresh_57 : decode cX1_fresh 57 = .ok (.pop, 1) := dk_87 (dk_at dksX1_fresh_2 10 rfl rfl)
theorem dX1_fresh_58 : decode cX1_fresh 58 = .ok (.iinc 2 1, 3) := dk_132 2 1 (dk_at dksX1_fresh_2 11 rfl rfl)
theorem dX1_fresh_61 : decode cX1_fresh 61 = .ok (.goto (-23), 3) := dk_167 255 233 (dk_at dksX1_fresh_2 14 rfl rfl)
theorem dX1_fresh_64 : decode cX1_fresh 64 = .ok (.aload_n 1, 1) := dk_43 (dk_at dksX1_fresh_2 17 rfl rfl)
theorem dX1_fresh_65 : decode cX1_fresh 65 = .ok (.invokevirtual 94, 3) := dk_182 0 94 (dk_at dksX1_fresh_2 18 rfl rfl)
theorem dX1_fresh_68 : decode cX1_fresh 68 = .ok (.astore_n 2, 1) := dk_77 (dk_at dksX1_fresh_2 21 rfl rfl)
theorem dX1_fresh_69 : decode cX1_fresh 69 = .ok (.iconst 0, 1) := dk_3 (dk_at dksX1_fresh_2 22 rfl rfl)
theorem dX1_fresh_70 : decode cX1_fresh 70 = .ok (.istore_n 3, 1) := dk_62 (dk_at dksX1_fresh_2 23 rfl rfl)
theorem dX1_fresh_71 : decode cX1_fresh 71 = .ok (.iload_n 3, 1) := dk_29 (dk_at dksX1_fresh_3 0 rfl rfl)
theorem dX1_fresh_72 : decode cX1_fresh 72 = .ok (.aload_n 0, 1) := dk_42 (dk_at dksX1_fresh_3 1 rfl rfl)
theorem dX1_fresh_73 : decode cX1_fresh 73 = .ok (.getfield 98, 3) := dk_180 0 98 (dk_at dksX1_fresh_3 2 rfl rfl)
theorem dX1_fresh_76 : decode cX1_fresh 76 = .ok (.getfield 102, 3) := dk_180 0 102 (dk_at dksX1_fresh_3 5 rfl rfl)
theorem dX1_fresh_79 : decode cX1_fresh 79 = .ok (.invokevirtual 108, 3) := dk_182 0 108 (dk_at dksX1_fresh_3 8 rfl rfl)
theorem dX1_fresh_82 : decode cX1_fresh 82 = .ok (.if_icmp .ge 36, 3) := dk_162 0 36 (dk_at dksX1_fresh_3 11 rfl rfl)
theorem dX1_fresh_85 : decode cX1_fresh 85 = .ok (.aload_n 0, 1) := dk_42 (dk_at dksX1_fresh_3 14 rfl rfl)
theorem dX1_fresh_86 : decode cX1_fresh 86 = .ok (.getfield 98, 3) := dk_180 0 98 (dk_at dksX1_fresh_3 15 rfl rfl)
theorem dX1_fresh_89 : decode cX1_fresh 89 = .ok (.getfield 102, 3) := dk_180 0 102 (dk_at dksX1_fresh_3 18 rfl rfl)
theorem dX1_fresh_92 : decode cX1_fresh 92 = .ok (.iload_n 3, 1) := dk_29 (dk_at dksX1_fresh_3 21 rfl rfl)
theorem dX1_fresh_93 : decode cX1_fresh 93 = .ok (.invokevirtual 112, 3) := dk_182 0 112 (dk_at dksX1_fresh_4 0 rfl rfl)
theorem dX1_fresh_96 : decode cX1_fresh 96 = .ok (.checkcast 51, 3) := dk_192 0 51 (dk_at dksX1_fresh_4 3 rfl rfl)
theorem dX1_fresh_99 : decode cX1_fresh 99 = .ok (.aload_n 2, 1) := dk_44 (dk_at dksX1_fresh_4 6 rfl rfl)
theorem dX1_fresh_100 : decode cX1_fresh 100 = .ok (.invokevirtual 116, 3) := dk_182 0 116 (dk_at dksX1_fresh_4 7 rfl rfl)
theorem dX1_fresh_103 : decode cX1_fresh 103 = .ok (.ifCond .eq 9, 3) := dk_153 0 9 (dk_at dksX1_fresh_4 10 rfl rfl)
theorem dX1_fresh_106 : decode cX1_fresh 106 = .ok (.aload_n 0, 1) := dk_42 (dk_at dksX1_fresh_4 13 rfl rfl)
theorem dX1_fresh_107 : decode cX1_fresh 107 = .ok (.iconst 3, 1) := dk_6 (dk_at dksX1_fresh_4 14 rfl rfl)
theorem dX1_fresh_108 : decode cX1_fresh 108 = .ok (.invokevirtual 75, 3) := dk_182 0 75 (dk_at dksX1_fresh_4 15 rfl rfl)
theorem dX1_fresh_111 : decode cX1_fresh 111 = .ok (.athrow, 1) := dk_191 (dk_at dksX1_fresh_4 18 rfl rfl)
theorem dX1_fresh_112 : decode cX1_fresh 112 = .ok (.iinc 3 1, 3) := dk_132 3 1 (dk_at dksX1_fresh_4 19 rfl rfl)
theorem dX1_fresh_115 : decode cX1_fresh 115 = .ok (.goto (-44), 3) := dk_167 255 212 (dk_at dksX1_fresh_5 0 rfl rfl)
theorem dX1_fresh_118 : decode cX1_fresh 118 = .ok (.aload_n 0, 1) := dk_42 (dk_at dksX1_fresh_5 3 rfl rfl)
theorem dX1_fresh_119 : decode cX1_fresh 119 = .ok (.invokevirtual 25, 3) := dk_182 0 25 (dk_at dksX1_fresh_5 4 rfl rfl)
theorem dX1_fresh_122 : decode cX1_fresh 122 = .ok (.aload_n 2, 1) := dk_44 (dk_at dksX1_fresh_5 7 rfl rfl)
theorem dX1_fresh_123 : decode cX1_fresh 123 = .ok (.areturn, 1) := dk_176 (dk_at dksX1_fresh_5 8 rfl rfl)
abbrev cX1_expression : ByteArray := prog_14_method_23_code
def yX1_expression : MethodName := ⟨RX1, "expression", "()LOverFirst$Expression;"⟩
def dkwX1_expression_2 : List UInt8 := [167, 255, 214]
abbrev dktX1_expression_2 : List UInt8 := dkwX1_expression_2 ++ []
def dkwX1_expression_1 : List UInt8 := [187, 1, 2, 89, 28, 154, 0, 8, 16, 38, 167, 0, 5, 16, 124, 43, 42, 182, 0, 253, 183, 1, 4, 76]
abbrev dktX1_expression_1 : List UInt8 := dkwX1_expression_1 ++ dktX1_expression_2
def dkwX1_expression_0 : List UInt8 := [42, 182, 0, 253, 76, 42, 19, 1, 0, 182, 0, 71, 61, 28, 156, 0, 5, 43, 176, 42, 182, 0, 25]
abbrev dktX1_expression_0 : List UInt8 := dkwX1_expression_0 ++ dktX1_expression_1
theorem dksX1_expression_0 : cX1_expression.data.toList.drop 0 = dktX1_expression_0 := by decide +kernel
theorem dksX1_expression_1 : cX1_expression.data.toList.drop 23 = dktX1_expression_1 := dk_seg dksX1_expression_0 23 rfl rfl
theorem dksX1_expression_2 : cX1_expression.data.toList.drop 47 = dktX1_expression_2 := dk_seg dksX1_expression_1 24 rfl rfl
theorem dX1_expression_0 : decode cX1_expression 0 = .ok (.aload_n 0, 1) := dk_42 (dk_at dksX1_expression_0 0 rfl rfl)
theorem dX1_expression_1 : decode cX1_expression 1 = .ok (.invokevirtual 253, 3) := dk_182 0 253 (dk_at dksX1_expression_0 1 rfl rfl)
theorem dX1_expression_4 : decode cX1_expression 4 = .ok (.astore_n 1, 1) := dk_76 (dk_at dksX1_expression_0 4 rfl rfl)
theorem dX1_expression_5 : decode cX1_expression 5 = .ok (.aload_n 0, 1) := dk_42 (dk_at dksX1_expression_0 5 rfl rfl)
theorem dX1_expression_6 : decode cX1_expression 6 = .ok (.ldc_w 256, 3) := dk_19 1 0 (dk_at dksX1_expression_0 6 rfl rfl)
theorem dX1_expression_9 : decode cX1_expression 9 = .ok (.invokevirtual 71, 3) := dk_182 0 71 (dk_at dksX1_expression_0 9 rfl rfl)
theorem dX1_expression_12 : decode cX1_expression 12 = .ok (.istore_n 2, 1) := dk_61 (dk_at dksX1_expression_0 12 rfl rfl)
theorem dX1_expression_13 : decode cX1_expression 13 = .ok (.iload_n 2, 1) := dk_28 (dk_at dksX1_expression_0 13 rfl rfl)
theorem dX1_expression_14 : decode cX1_expression 14 = .ok (.ifCond .ge 5, 3) := dk_156 0 5 (dk_at dksX1_expression_0 14 rfl rfl)
theorem dX1_expression_17 : decode cX1_expression 17 = .ok (.aload_n 1, 1) := dk_43 (dk_at dksX1_expression_0 17 rfl rfl)
theorem dX1_expression_18 : decode cX1_expression 18 = .ok (.areturn, 1) := dk_176 (dk_at dksX1_expression_0 18 rfl rfl)
theorem dX1_expression_19 : decode cX1_expression 19 = .ok (.aload_n 0, 1) := dk_42 (dk_at dksX1_expression_0 19 rfl rfl)
theorem dX1_expression_20 : decode cX1_expression 20 = .ok (.invokevirtual 25, 3) := dk_182 0 25 (dk_at dksX1_expression_0 20 rfl rfl)
theorem dX1_expression_23 : decode cX1_expression 23 = .ok (.new 258, 3) := dk_187 1 2 (dk_at dksX1_expression_1 0 rfl rfl)
theorem dX1_expression_26 : decode cX1_expression 26 = .ok (.dup, 1) := dk_89 (dk_at dksX1_expression_1 3 rfl rfl)
theorem dX1_expression_27 : decode cX1_expression 27 = .ok (.iload_n 2, 1) := dk_28 (dk_at dksX1_expression_1 4 rfl rfl)
theorem dX1_expression_28 : decode cX1_expression 28 = .ok (.ifCond .ne 8, 3) := dk_154 0 8 (dk_at dksX1_expression_1 5 rfl rfl)
theorem dX1_expression_31 : decode cX1_expression 31 = .ok (.bipush 38, 2) := dk_16 38 (dk_at dksX1_expression_1 8 rfl rfl)
theorem dX1_expression_33 : decode cX1_expression 33 = .ok (.goto 5, 3) := dk_167 0 5 (dk_at dksX1_expression_1 10 rfl rfl)
theorem dX1_expression_36 : decode cX1_expression 36 = .ok (.bipush 124, 2) := dk_16 124 (dk_at dksX1_expression_1 13 rfl rfl)
theorem dX1_expression_38 : decode cX1_expression 38 = .ok (.aload_n 1, 1) := dk_43 (dk_at dksX1_expression_1 15 rfl rfl)
theorem dX1_expression_39 : decode cX1_expression 39 = .ok (.aload_n 0, 1) := dk_42 (dk_at dksX1_expression_1 16 rfl rfl)
theorem dX1_expression_40 : decode cX1_expression 40 = .ok (.invokevirtual 253, 3) := dk_182 0 253 (dk_at dksX1_expression_1 17 rfl rfl)
theorem dX1_expression_43 : decode cX1_expression 43 = .ok (.invokespecial 260, 3) := dk_183 1 4 (dk_at dksX1_expression_1 20 rfl rfl)
theorem dX1_expression_46 : decode cX1_expression 46 = .ok (.astore_n 1, 1) := dk_76 (dk_at dksX1_expression_1 23 rfl rfl)
theorem dX1_expression_47 : decode cX1_expression 47 = .ok (.goto (-42), 3) := dk_167 255 214 (dk_at dksX1_expression_2 0 rfl rfl)
abbrev cX1_test : ByteArray := prog_14_method_24_code
def yX1_test : MethodName := ⟨RX1, "test", "()LOverFirst$Expression;"⟩
def dkwX1_test_2 : List UInt8 := [182, 0, 25, 187, 1, 2, 89, 28, 43, 42, 182, 1, 7, 183, 1, 4, 176]
abbrev dktX1_test_2 : List UInt8 := dkwX1_test_2 ++ []
def dkwX1_test_1 : List UInt8 := [182, 0, 79, 153, 0, 8, 16, 61, 167, 0, 5, 16, 32, 61, 28, 16, 32, 160, 0, 5, 43, 176, 42]
abbrev dktX1_test_1 : List UInt8 := dkwX1_test_1 ++ dktX1_test_2
def dkwX1_test_0 : List UInt8 := [42, 182, 1, 7, 76, 42, 16, 60, 182, 0, 79, 153, 0, 8, 16, 60, 167, 0, 19, 42, 16, 61]
abbrev dktX1_test_0 : List UInt8 := dkwX1_test_0 ++ dktX1_test_1
theorem dksX1_test_0 : cX1_test.data.toList.drop 0 = dktX1_test_0 := by decide +kernel
theorem dksX1_test_1 : cX1_test.data.toList.drop 22 = dktX1_test_1 := dk_seg dksX1_test_0 22 rfl rfl
theorem dksX1_test_2 : cX1_test.data.toList.drop 45 = dktX1_test_2 := dk_seg dksX1_test_1 23 rfl rfl
theorem dX1_test_0 : decode cX1_test 0 = .ok (.aload_n 0, 1) := dk_42 (dk_at dksX1_test_0 0 rfl rfl)
theorem dX1_test_1 : decode cX1_test 1 = .ok (.invokevirtual 263, 3) := dk_182 1 7 (dk_at dksX1_test_0 1 rfl rfl)
theorem dX1_test_4 : decode cX1_test 4 = .ok (.astore_n 1, 1) := dk_76 (dk_at dksX1_test_0 4 rfl rfl)
theorem dX1_test_5 : decode cX1_test 5 = .ok (.aload_n 0, 1) := dk_42 (dk_at dksX1_test_0 5 rfl rfl)
theorem dX1_test_6 : decode cX1_test 6 = .ok (.bipush 60, 2) := dk_16 60 (dk_at dksX1_test_0 6 rfl rfl)
theorem dX1_test_8 : decode cX1_test 8 = .ok (.invokevirtual 79, 3) := dk_182 0 79 (dk_at dksX1_test_0 8 rfl rfl)
theorem dX1_test_11 : decode cX1_test 11 = .ok (.ifCond .eq 8, 3) := dk_153 0 8 (dk_at dksX1_test_0 11 rfl rfl)
theorem dX1_test_14 : decode cX1_test 14 = .ok (.bipush 60, 2) := dk_16 60 (dk_at dksX1_test_0 14 rfl rfl)
theorem dX1_test_16 : decode cX1_test 16 = .ok (.goto 19, 3) := dk_167 0 19 (dk_at dksX1_test_0 16 rfl rfl)
theorem dX1_test_19 : decode cX1_test 19 = .ok (.aload_n 0, 1) := dk_42 (dk_at dksX1_test_0 19 rfl rfl)
theorem dX1_test_20 : decode cX1_test 20 = .ok (.bipush 61, 2) := dk_16 61 (dk_at dksX1_test_0 20 rfl rfl)
theorem dX1_test_22 : decode cX1_test 22 = .ok (.invokevirtual 79, 3) := dk_182 0 79 (dk_at dksX1_test_1 0 rfl rfl)
theorem dX1_test_25 : decode cX1_test 25 = .ok (.ifCond .eq 8, 3) := dk_153 0 8 (dk_at dksX1_test_1 3 rfl rfl)
theorem dX1_test_28 : decode cX1_test 28 = .ok (.bipush 61, 2) := dk_16 61 (dk_at dksX1_test_1 6 rfl rfl)
theorem dX1_test_30 : decode cX1_test 30 = .ok (.goto 5, 3) := dk_167 0 5 (dk_at dksX1_test_1 8 rfl rfl)
theorem dX1_test_33 : decode cX1_test 33 = .ok (.bipush 32, 2) := dk_16 32 (dk_at dksX1_test_1 11 rfl rfl)
theorem dX1_test_35 : decode cX1_test 35 = .ok (.istore_n 2, 1) := dk_61 (dk_at dksX1_test_1 13 rfl rfl)
theorem dX1_test_36 : decode cX1_test 36 = .ok (.iload_n 2, 1) := dk_28 (dk_at dksX1_test_1 14 rfl rfl)
theorem dX1_test_37 : decode cX1_test 37 = .ok (.bipush 32, 2) := dk_16 32 (dk_at dksX1_test_1 15 rfl rfl)
theorem dX1_test_39 : decode cX1_test 39 = .ok (.if_icmp .ne 5, 3) := dk_160 0 5 (dk_at dksX1_test_1 17 rfl rfl)
theorem dX1_test_42 : decode cX1_test 42 = .ok (.aload_n 1, 1) := dk_43 (dk_at dksX1_test_1 20 rfl rfl)
theorem dX1_test_43 : decode cX1_test 43 = .ok (.areturn, 1) := dk_176 (dk_at dksX1_test_1 21 rfl rfl)
theorem dX1_test_44 : decode cX1_test 44 = .ok (.aload_n 0, 1) := dk_42 (dk_at dksX1_test_1 22 rfl rfl)
theorem dX1_test_45 : decode cX1_test 45 = .ok (.invokevirtual 25, 3) := dk_182 0 25 (dk_at dksX1_test_2 0 rfl rfl)
theorem dX1_test_48 : decode cX1_test 48 = .ok (.new 258, 3) := dk_187 1 2 (dk_at dksX1_test_2 3 rfl rfl)
theorem dX1_test_51 : decode cX1_test 51 = .ok (.dup, 1) := dk_89 (dk_at dksX1_test_2 6 rfl rfl)
theorem dX1_test_52 : decode cX1_test 52 = .ok (.iload_n 2, 1) := dk_28 (dk_at dksX1_test_2 7 rfl rfl)
theorem dX1_test_53 : decode cX1_test 53 = .ok (.aload_n 1, 1) := dk_43 (dk_at dksX1_test_2 8 rfl rfl)
theorem dX1_test_54 : decode cX1_test 54 = .ok (.aload_n 0, 1) := dk_42 (dk_at dksX1_test_2 9 rfl rfl)
theorem dX1_test_55 : decode cX1_test 55 = .ok (.invokevirtual 263, 3) := dk_182 1 7 (dk_at dksX1_test_2 10 rfl rfl)
theorem dX1_test_58 : decode cX1_test 58 = .ok (.invokespecial 260, 3) := dk_183 1 4 (dk_at dksX1_test_2 13 rfl rfl)
theorem dX1_test_61 : decode cX1_test 61 = .ok (.areturn, 1) := dk_176 (dk_at dksX1_test_2 16 rfl rfl)
abbrev cX1_sum : ByteArray := prog_14_method_25_code
def yX1_sum : MethodName := ⟨RX1, "sum", "()LOverFirst$Expression;"⟩
def dkwX1_sum_2 : List UInt8 := [28, 43, 42, 182, 1, 10, 183, 1, 4, 76, 167, 255, 203, 43, 176]
abbrev dktX1_sum_2 : List UInt8 := dkwX1_sum_2 ++ []
def dkwX1_sum_1 : List UInt8 := [16, 43, 182, 0, 79, 153, 0, 8, 16, 43, 167, 0, 5, 16, 45, 61, 42, 182, 0, 25, 187, 1, 2, 89]
abbrev dktX1_sum_1 : List UInt8 := dkwX1_sum_1 ++ dktX1_sum_2
def dkwX1_sum_0 : List UInt8 := [42, 182, 1, 10, 76, 42, 16, 43, 182, 0, 79, 154, 0, 12, 42, 16, 45, 182, 0, 79, 153, 0, 41, 42]
abbrev dktX1_sum_0 : List UInt8 := dkwX1_sum_0 ++ dktX1_sum_1
theorem dksX1_sum_0 : cX1_sum.data.toList.drop 0 = dktX1_sum_0 := by decide +kernel
theorem dksX1_sum_1 : cX1_sum.data.toList.drop 24 = dktX1_sum_1 := dk_seg dksX1_sum_0 24 rfl rfl
theorem dksX1_sum_2 : cX1_sum.data.toList.drop 48 = dktX1_sum_2 := dk_seg dksX1_sum_1 24 rfl rfl
theorem dX1_sum_0 : decode cX1_sum 0 = .ok (.aload_n 0, 1) := dk_42 (dk_at dksX1_sum_0 0 rfl rfl)
theorem dX1_sum_1 : decode cX1_sum 1 = .ok (.invokevirtual 266, 3) := dk_182 1 10 (dk_at dksX1_sum_0 1 rfl rfl)
theorem dX1_sum_4 : decode cX1_sum 4 = .ok (.astore_n 1, 1) := dk_76 (dk_at dksX1_sum_0 4 rfl rfl)
theorem dX1_sum_5 : decode cX1_sum 5 = .ok (.aload_n 0, 1) := dk_42 (dk_at dksX1_sum_0 5 rfl rfl)
theorem dX1_sum_6 : decode cX1_sum 6 = .ok (.bipush 43, 2) := dk_16 43 (dk_at dksX1_sum_0 6 rfl rfl)
theorem dX1_sum_8 : decode cX1_sum 8 = .ok (.invokevirtual 79, 3) := dk_182 0 79 (dk_at dksX1_sum_0 8 rfl rfl)
theorem dX1_sum_11 : decode cX1_sum 11 = .ok (.ifCond .ne 12, 3) := dk_154 0 12 (dk_at dksX1_sum_0 11 rfl rfl)
theorem dX1_sum_14 : decode cX1_sum 14 = .ok (.aload_n 0, 1) := dk_42 (dk_at dksX1_sum_0 14 rfl rfl)
theorem dX1_sum_15 : decode cX1_sum 15 = .ok (.bipush 45, 2) := dk_16 45 (dk_at dksX1_sum_0 15 rfl rfl)
theorem dX1_sum_17 : decode cX1_sum 17 = .ok (.invokevirtual 79, 3) := dk_182 0 79 (dk_at dksX1_sum_0 17 rfl rfl)
theorem dX1_sum_20 : decode cX1_sum 20 = .ok (.ifCond .eq 41, 3) := dk_153 0 41 (dk_at dksX1_sum_0 20 rfl rfl)
theorem dX1_sum_23 : decode cX1_sum 23 = .ok (.aload_n 0, 1) := dk_42 (dk_at dksX1_sum_0 23 rfl rfl)
theorem dX1_sum_24 : decode cX1_sum 24 = .ok (.bipush 43, 2) := dk_16 43 (dk_at dksX1_sum_1 0 rfl rfl)
theorem dX1_sum_26 : decode cX1_sum 26 = .ok (.invokevirtual 79, 3) := dk_182 0 79 (dk_at dksX1_sum_1 2 rfl rfl)
theorem dX1_sum_29 : decode cX1_sum 29 = .ok (.ifCond .eq 8, 3) := dk_153 0 8 (dk_at dksX1_sum_1 5 rfl rfl)
theorem dX1_sum_32 : decode cX1_sum 32 = .ok (.bipush 43, 2) := dk_16 43 (dk_at dksX1_sum_1 8 rfl rfl)
theorem dX1_sum_34 : decode cX1_sum 34 = .ok (.goto 5, 3) := dk_167 0 5 (dk_at dksX1_sum_1 10 rfl rfl)
theorem dX1_sum_37 : decode cX1_sum 37 = .ok (.bipush 45, 2) := dk_16 45 (dk_at dksX1_sum_1 13 rfl rfl)
theorem dX1_sum_39 : decode cX1_sum 39 = .ok (.istore_n 2, 1) := dk_61 (dk_at dksX1_sum_1 15 rfl rfl)
theorem dX1_sum_40 : decode cX1_sum 40 = .ok (.aload_n 0, 1) := dk_42 (dk_at dksX1_sum_1 16 rfl rfl)
theorem dX1_sum_41 : decode cX1_sum 41 = .ok (.invokevirtual 25, 3) := dk_182 0 25 (dk_at dksX1_sum_1 17 rfl rfl)
theorem dX1_sum_44 : decode cX1_sum 44 = .ok (.new 258, 3) := dk_187 1 2 (dk_at dksX1_sum_1 20 rfl rfl)
theorem dX1_sum_47 : decode cX1_sum 47 = .ok (.dup, 1) := dk_89 (dk_at dksX1_sum_1 23 rfl rfl)
theorem dX1_sum_48 : decode cX1_sum 48 = .ok (.iload_n 2, 1) := dk_28 (dk_at dksX1_sum_2 0 rfl rfl)
theorem dX1_sum_49 : decode cX1_sum 49 = .ok (.aload_n 1, 1) := dk_43 (dk_at dksX1_sum_2 1 rfl rfl)
theorem dX1_sum_50 : decode cX1_sum 50 = .ok (.aload_n 0, 1) := dk_42 (dk_at dksX1_sum_2 2 rfl rfl)
theorem dX1_sum_51 : decode cX1_sum 51 = .ok (.invokevirtual 266, 3) := dk_182 1 10 (dk_at dksX1_sum_2 3 rfl rfl)
theorem dX1_sum_54 : decode cX1_sum 54 = .ok (.invokespecial 260, 3) := dk_183 1 4 (dk_at dksX1_sum_2 6 rfl rfl)
theorem dX1_sum_57 : decode cX1_sum 57 = .ok (.astore_n 1, 1) := dk_76 (dk_at dksX1_sum_2 9 rfl rfl)
theorem dX1_sum_58 : decode cX1_sum 58 = .ok (.goto (-53), 3) := dk_167 255 203 (dk_at dksX1_sum_2 10 rfl rfl)
theorem dX1_sum_61 : decode cX1_sum 61 = .ok (.aload_n 1, 1) := dk_43 (dk_at dksX1_sum_2 13 rfl rfl)
theorem dX1_sum_62 : decode cX1_sum 62 = .ok (.areturn, 1) := dk_176 (dk_at dksX1_sum_2 14 rfl rfl)
abbrev cX1_product : ByteArray := prog_14_method_26_code
def yX1_product : MethodName := ⟨RX1, "product", "()LOverFirst$Expression;"⟩
def dkwX1_product_1 : List UInt8 := [43, 42, 182, 1, 13, 183, 1, 4, 76, 167, 255, 228, 43, 176]
abbrev dktX1_product_1 : List UInt8 := dkwX1_product_1 ++ []
def dkwX1_product_0 : List UInt8 := [42, 182, 1, 13, 76, 42, 16, 42, 182, 0, 79, 153, 0, 25, 42, 182, 0, 25, 187, 1, 2, 89, 16, 42]
abbrev dktX1_product_0 : List UInt8 := dkwX1_product_0 ++ dktX1_product_1
theorem dksX1_product_0 : cX1_product.data.toList.drop 0 = dktX1_product_0 := by decide +kernel
theorem dksX1_product_1 : cX1_product.data.toList.drop 24 = dktX1_product_1 := dk_seg dksX1_product_0 24 rfl rfl
theorem dX1_product_0 : decode cX1_product 0 = .ok (.aload_n 0, 1) := dk_42 (dk_at dksX1_product_0 0 rfl rfl)
theorem dX1_product_1 : decode cX1_product 1 = .ok (.invokevirtual 269, 3) := dk_182 1 13 (dk_at dksX1_product_0 1 rfl rfl)
theorem dX1_product_4 : decode cX1_product 4 = .ok (.astore_n 1, 1) := dk_76 (dk_at dksX1_product_0 4 rfl rfl)
theorem dX1_product_5 : decode cX1_product 5 = .ok (.aload_n 0, 1) := dk_42 (dk_at dksX1_product_0 5 rfl rfl)
theorem dX1_product_6 : decode cX1_product 6 = .ok (.bipush 42, 2) := dk_16 42 (dk_at dksX1_product_0 6 rfl rfl)
theorem dX1_product_8 : decode cX1_product 8 = .ok (.invokevirtual 79, 3) := dk_182 0 79 (dk_at dksX1_product_0 8 rfl rfl)
theorem dX1_product_11 : decode cX1_product 11 = .ok (.ifCond .eq 25, 3) := dk_153 0 25 (dk_at dksX1_product_0 11 rfl rfl)
theorem dX1_product_14 : decode cX1_product 14 = .ok (.aload_n 0, 1) := dk_42 (dk_at dksX1_product_0 14 rfl rfl)
theorem dX1_product_15 : decode cX1_product 15 = .ok (.invokevirtual 25, 3) := dk_182 0 25 (dk_at dksX1_product_0 15 rfl rfl)
theorem dX1_product_18 : decode cX1_product 18 = .ok (.new 258, 3) := dk_187 1 2 (dk_at dksX1_product_0 18 rfl rfl)
theorem dX1_product_21 : decode cX1_product 21 = .ok (.dup, 1) := dk_89 (dk_at dksX1_product_0 21 rfl rfl)
theorem dX1_product_22 : decode cX1_product 22 = .ok (.bipush 42, 2) := dk_16 42 (dk_at dksX1_product_0 22 rfl rfl)
theorem dX1_product_24 : decode cX1_product 24 = .ok (.aload_n 1, 1) := dk_43 (dk_at dksX1_product_1 0 rfl rfl)
theorem dX1_product_25 : decode cX1_product 25 = .ok (.aload_n 0, 1) := dk_42 (dk_at dksX1_product_1 1 rfl rfl)
theorem dX1_product_26 : decode cX1_product 26 = .ok (.invokevirtual 269, 3) := dk_182 1 13 (dk_at dksX1_product_1 2 rfl rfl)
theorem dX1_product_29 : decode cX1_product 29 = .ok (.invokespecial 260, 3) := dk_183 1 4 (dk_at dksX1_product_1 5 rfl rfl)
theorem dX1_product_32 : decode cX1_product 32 = .ok (.astore_n 1, 1) := dk_76 (dk_at dksX1_product_1 8 rfl rfl)
theorem dX1_product_33 : decode cX1_product 33 = .ok (.goto (-28), 3) := dk_167 255 228 (dk_at dksX1_product_1 9 rfl rfl)
theorem dX1_product_36 : decode cX1_product 36 = .ok (.aload_n 1, 1) := dk_43 (dk_at dksX1_product_1 12 rfl rfl)
theorem dX1_product_37 : decode cX1_product 37 = .ok (.areturn, 1) := dk_176 (dk_at dksX1_product_1 13 rfl rfl)
abbrev cX1_part : ByteArray := prog_14_method_27_code
def yX1_part : MethodName := ⟨RX1, "part", "()LOverFirst$Expression;"⟩
def dkwX1_part_7 : List UInt8 := [181, 0, 22, 25, 4, 176]
abbrev dktX1_part_7 : List UInt8 := dkwX1_part_7 ++ []
def dkwX1_part_6 : List UInt8 := [182, 0, 228, 58, 4, 29, 153, 0, 9, 42, 16, 41, 182, 0, 155, 42, 89, 180, 0, 22, 4, 100]
abbrev dktX1_part_6 : List UInt8 := dkwX1_part_6 ++ dktX1_part_7
def dkwX1_part_5 : List UInt8 := [181, 0, 22, 28, 153, 0, 17, 187, 1, 26, 89, 42, 182, 1, 13, 183, 1, 28, 167, 0, 7, 42]
abbrev dktX1_part_5 : List UInt8 := dkwX1_part_5 ++ dktX1_part_6
def dkwX1_part_4 : List UInt8 := [182, 0, 25, 27, 155, 0, 12, 187, 1, 23, 89, 27, 183, 1, 25, 176, 42, 89, 180, 0, 22, 4, 96]
abbrev dktX1_part_4 : List UInt8 := dkwX1_part_4 ++ dktX1_part_5
def dkwX1_part_3 : List UInt8 := [180, 0, 31, 5, 160, 0, 19, 187, 1, 20, 89, 42, 3, 17, 39, 15, 182, 0, 124, 183, 1, 22, 176, 42]
abbrev dktX1_part_3 : List UInt8 := dkwX1_part_3 ++ dktX1_part_4
def dkwX1_part_2 : List UInt8 := [159, 0, 9, 42, 4, 182, 0, 75, 191, 42, 180, 0, 22, 8, 160, 0, 9, 42, 8, 182, 0, 75, 191, 42]
abbrev dktX1_part_2 : List UInt8 := dkwX1_part_2 ++ dktX1_part_3
def dkwX1_part_1 : List UInt8 := [42, 16, 40, 182, 0, 79, 62, 27, 156, 0, 25, 28, 154, 0, 21, 29, 154, 0, 17, 42, 180, 0, 31, 5]
abbrev dktX1_part_1 : List UInt8 := dkwX1_part_1 ++ dktX1_part_2
def dkwX1_part_0 : List UInt8 := [42, 19, 1, 16, 182, 0, 71, 60, 42, 19, 1, 18, 182, 0, 71, 155, 0, 7, 4, 167, 0, 4, 3, 61]
abbrev dktX1_part_0 : List UInt8 := dkwX1_part_0 ++ dktX1_part_1
theorem dksX1_part_0 : cX1_part.data.toList.drop 0 = dktX1_part_0 := by decide +kernel
theorem dksX1_part_1 : cX1_part.data.toList.drop 24 = dktX1_part_1 := dk_seg dksX1_part_0 24 rfl rfl
theorem dksX1_part_2 : cX1_part.data.toList.drop 48 = dktX1_part_2 := dk_seg dksX1_part_1 24 rfl rfl
theorem dksX1_part_3 : cX1_part.data.toList.drop 72 = dktX1_part_3 := dk_seg dksX1_part_2 24 rfl rfl
theorem dksX1_part_4 : cX1_part.data.toList.drop 96 = dktX1_part_4 := dk_seg dksX1_part_3 24 rfl rfl
theorem dksX1_part_5 : cX1_part.data.toList.drop 119 = dktX1_part_5 := dk_seg dksX1_part_4 23 rfl rfl
theorem dksX1_part_6 : cX1_part.data.toList.drop 141 = dktX1_part_6 := dk_seg dksX1_part_5 22 rfl rfl
theorem dksX1_part_7 : cX1_part.data.toList.drop 163 = dktX1_part_7 := dk_seg dksX1_part_6 22 rfl rfl
theorem dX1_part_0 : decode cX1_part 0 = .ok (.aload_n 0, 1) := dk_42 (dk_at dksX1_part_0 0 rfl rfl)
theorem dX1_part_1 : decode cX1_part 1 = .ok (.ldc_w 272, 3) := dk_19 1 16 (dk_at dksX1_part_0 1 rfl rfl)
theorem dX1_part_4 : decode cX1_part 4 = .ok (.invokevirtual 71, 3) := dk_182 0 71 (dk_at dksX1_part_0 4 rfl rfl)
theorem dX1_part_7 : decode cX1_part 7 = .ok (.istore_n 1, 1) := dk_60 (dk_at dksX1_part_0 7 rfl rfl)
theorem dX1_part_8 : decode cX1_part 8 = .ok (.aload_n 0, 1) := dk_42 (dk_at dksX1_part_0 8 rfl rfl)
theorem dX1_part_9 : decode cX1_part 9 = .ok (.ldc_w 274, 3) := dk_19 1 18 (dk_at dksX1_part_0 9 rfl rfl)
theorem dX1_part_12 : decode cX1_part 12 = .ok (.invokevirtual 71, 3) := dk_182 0 71 (dk_at dksX1_part_0 12 rfl rfl)
theorem dX1_part_15 : decode cX1_part 15 = .ok (.ifCond .lt 7, 3) := dk_155 0 7 (dk_at dksX1_part_0 15 rfl rfl)
theorem dX1_part_18 : decode cX1_part 18 = .ok (.iconst 1, 1) := dk_4 (dk_at dksX1_part_0 18 rfl rfl)
theorem dX1_part_19 : decode cX1_part 19 = .ok (.goto 4, 3) := dk_167 0 4 (dk_at dksX1_part_0 19 rfl rfl)
theorem dX1_part_22 : decode cX1_part 22 = .ok (.iconst 0, 1) := dk_3 (dk_at dksX1_part_0 22 rfl rfl)
theorem dX1_part_23 : decode cX1_part 23 = .ok (.istore_n 2, 1) := dk_61 (dk_at dksX1_part_0 23 rfl rfl)
theorem dX1_part_24 : decode cX1_part 24 = .ok (.aload_n 0, 1) := dk_42 (dk_at dksX1_part_1 0 rfl rfl)
theorem dX1_part_25 : decode cX1_part 25 = .ok (.bipush 40, 2) := dk_16 40 (dk_at dksX1_part_1 1 rfl rfl)
theorem dX1_part_27 : decode cX1_part 27 = .ok (.invokevirtual 79, 3) := dk_182 0 79 (dk_at dksX1_part_1 3 rfl rfl)
theorem dX1_part_30 : decode cX1_part 30 = .ok (.istore_n 3, 1) := dk_62 (dk_at dksX1_part_1 6 rfl rfl)
theorem dX1_part_31 : decode cX1_part 31 = .ok (.iload_n 1, 1) := dk_27 (dk_at dksX1_part_1 7 rfl rfl)
theorem dX1_part_32 : decode cX1_part 32 = .ok (.ifCond .ge 25, 3) := dk_156 0 25 (dk_at dksX1_part_1 8 rfl rfl)
theorem dX1_part_35 : decode cX1_part 35 = .ok (.iload_n 2, 1) := dk_28 (dk_at dksX1_part_1 11 rfl rfl)
theorem dX1_part_36 : decode cX1_part 36 = .ok (.ifCond .ne 21, 3) := dk_154 0 21 (dk_at dksX1_part_1 12 rfl rfl)
theorem dX1_part_39 : decode cX1_part 39 = .ok (.iload_n 3, 1) := dk_29 (dk_at dksX1_part_1 15 rfl rfl)
theorem dX1_part_40 : decode cX1_part 40 = .ok (.ifCond .ne 17, 3) := dk_154 0 17 (dk_at dksX1_part_1 16 rfl rfl)
theorem dX1_part_43 : decode cX1_part 43 = .ok (.aload_n 0, 1) := dk_42 (dk_at dksX1_part_1 19 rfl rfl)
theorem dX1_part_44 : decode cX1_part 44 = .ok (.getfield 31, 3) := dk_180 0 31 (dk_at dksX1_part_1 20 rfl rfl)
theorem dX1_part_47 : decode cX1_part 47 = .ok (.iconst 2, 1) := dk_5 (dk_at dksX1_part_1 23 rfl rfl)
theorem dX1_part_48 : decode cX1_part 48 = .ok (.if_icmp .eq 9, 3) := dk_159 0 9 (dk_at dksX1_part_2 0 rfl rfl)
theorem dX1_part_51 : decode cX1_part 51 = .ok (.aload_n 0, 1) := dk_42 (dk_at dksX1_part_2 3 rfl rfl)
theorem dX1_part_52 : decode cX1_part 52 = .ok (.iconst 1, 1) := dk_4 (dk_at dksX1_part_2 4 rfl rfl)
theorem dX1_part_53 : decode cX1_part 53 = .ok (.invokevirtual 75, 3) := dk_182 0 75 (dk_at dksX1_part_2 5 rfl rfl)
theorem dX1_part_56 : decode cX1_part 56 = .ok (.athrow, 1) := dk_191 (dk_at dksX1_part_2 8 rfl rfl)
theorem dX1_part_57 : decode cX1_part 57 = .ok (.aload_n 0, 1) := dk_42 (dk_at dksX1_part_2 9 rfl rfl)
theorem dX1_part_58 : decode cX1_part 58 = .ok (.getfield 22, 3) := dk_180 0 22 (dk_at dksX1_part_2 10 rfl rfl)
theorem dX1_part_61 : decode cX1_part 61 = .ok (.iconst 5, 1) := dk_8 (dk_at dksX1_part_2 13 rfl rfl)
theorem dX1_part_62 : decode cX1_part 62 = .ok (.if_icmp .ne 9, 3) := dk_160 0 9 (dk_at dksX1_part_2 14 rfl rfl)
theorem dX1_part_65 : decode cX1_part 65 = .ok (.aload_n 0, 1) := dk_42 (dk_at dksX1_part_2 17 rfl rfl)
theorem dX1_part_66 : decode cX1_part 66 = .ok (.iconst 5, 1) := dk_8 (dk_at dksX1_part_2 18 rfl rfl)
theorem dX1_part_67 : decode cX1_part 67 = .ok (.invokevirtual 75, 3) := dk_182 0 75 (dk_at dksX1_part_2 19 rfl rfl)
theorem dX1_part_70 : decode cX1_part 70 = .ok (.athrow, 1) := dk_191 (dk_at dksX1_part_2 22 rfl rfl)
theorem dX1_part_71 : decode cX1_part 71 = .ok (.aload_n 0, 1) := dk_42 (dk_at dksX1_part_2 23 rfl rfl)
theorem dX1_part_72 : decode cX1_part 72 = .ok (.getfield 31, 3) := dk_180 0 31 (dk_at dksX1_part_3 0 rfl rfl)
theorem dX1_part_75 : decode cX1_part 75 = .ok (.iconst 2, 1) := dk_5 (dk_at dksX1_part_3 3 rfl rfl)
theorem dX1_part_76 : decode cX1_part 76 = .ok (.if_icmp .ne 19, 3) := dk_160 0 19 (dk_at dksX1_part_3 4 rfl rfl)
theorem dX1_part_79 : decode cX1_part 79 = .ok (.new 276, 3) := dk_187 1 20 (dk_at dksX1_part_3 7 rfl rfl)
theorem dX1_part_82 : decode cX1_part 82 = .ok (.dup, 1) := dk_89 (dk_at dksX1_part_3 10 rfl rfl)
theorem dX1_part_83 : decode cX1_part 83 = .ok (.aload_n 0, 1) := dk_42 (dk_at dksX1_part_3 11 rfl rfl)
theorem dX1_part_84 : decode cX1_part 84 = .ok (.iconst 0, 1) := dk_3 (dk_at dksX1_part_3 12 rfl rfl)
theorem dX1_part_85 : decode cX1_part 85 = .ok (.sipush 9999, 3) := dk_17 39 15 (dk_at dksX1_part_3 13 rfl rfl)
theorem dX1_part_88 : decode cX1_part 88 = .ok (.invokevirtual 124, 3) := dk_182 0 124 (dk_at dksX1_part_3 16 rfl rfl)
theorem dX1_part_91 : decode cX1_part 91 = .ok (.invokespecial 278, 3) := dk_183 1 22 (dk_at dksX1_part_3 19 rfl rfl)
theorem dX1_part_94 : decode cX1_part 94 = .ok (.areturn, 1) := dk_176 (dk_at dksX1_part_3 22 rfl rfl)
theorem dX1_part_95 : decode cX1_part 95 = .ok (.aload_n 0, 1) := dk_42 (dk_at dksX1_part_3 23 rfl rfl)
theorem dX1_part_96 : decode cX1_part 96 = .ok (.invokevirtual 25, 3) := dk_182 0 25 (dk_at dksX1_part_4 0 rfl rfl)
theorem dX1_part_99 : decode cX1_part 99 = .ok (.iload_n 1, 1) := dk_27 (dk_at dksX1_part_4 3 rfl rfl)
theorem dX1_part_100 : decode cX1_part 100 = .ok (.ifCond .lt 12, 3) := dk_155 0 12 (dk_at dksX1_part_4 4 rfl rfl)
theorem dX1_part_103 : decode cX1_part 103 = .ok (.new 279, 3) := dk_187 1 23 (dk_at dksX1_part_4 7 rfl rfl)
theorem dX1_part_106 : decode cX1_part 106 = .ok (.dup, 1) := dk_89 (dk_at dksX1_part_4 10 rfl rfl)
theorem dX1_part_107 : decode cX1_part 107 = .ok (.iload_n 1, 1) := dk_27 (dk_at dksX1_part_4 11 rfl rfl)
theorem dX1_part_108 : decode cX1_part 108 = .ok (.invokespecial 281, 3) := dk_183 1 25 (dk_at dksX1_part_4 12 rfl rfl)
theorem dX1_part_111 : decode cX1_part 111 = .ok (.areturn, 1) := dk_176 (dk_at dksX1_part_4 15 rfl rfl)
theorem dX1_part_112 : decode cX1_part 112 = .ok (.aload_n 0, 1) := dk_42 (dk_at dksX1_part_4 16 rfl rfl)
theorem dX1_part_113 : decode cX1_part 113 = .ok (.dup, 1) := dk_89 (dk_at dksX1_part_4 17 rfl rfl)
theorem dX1_part_114 : decode cX1_part 114 = .ok (.getfield 22, 3) := dk_180 0 22 (dk_at dksX1_part_4 18 rfl rfl)
theorem dX1_part_117 : decode cX1_part 117 = .ok (.iconst 1, 1) := dk_4 (dk_at dksX1_part_4 21 rfl rfl)
theorem dX1_part_118 : decode cX1_part 118 = .ok (.iadd, 1) := dk_96 (dk_at dksX1_part_4 22 rfl rfl)
theorem dX1_part_119 : decode cX1_part 119 = .ok (.putfield 22, 3) := dk_181 0 22 (dk_at dksX1_part_5 0 rfl rfl)
theorem dX1_part_122 : decode cX1_part 122 = .ok (.iload_n 2, 1) := dk_28 (dk_at dksX1_part_5 3 rfl rfl)
theorem dX1_part_123 : decode cX1_part 123 = .ok (.ifCond .eq 17, 3) := dk_153 0 17 (dk_at dksX1_part_5 4 rfl rfl)
theorem dX1_part_126 : decode cX1_part 126 = .ok (.new 282, 3) := dk_187 1 26 (dk_at dksX1_part_5 7 rfl rfl)
theorem dX1_part_129 : decode cX1_part 129 = .ok (.dup, 1) := dk_89 (dk_at dksX1_part_5 10 rfl rfl)
theorem dX1_part_130 : decode cX1_part 130 = .ok (.aload_n 0, 1) := dk_42 (dk_at dksX1_part_5 11 rfl rfl)
theorem dX1_part_131 : decode cX1_part 131 = .ok (.invokevirtual 269, 3) := dk_182 1 13 (dk_at dksX1_part_5 12 rfl rfl)
theorem dX1_part_134 : decode cX1_part 134 = .ok (.invokespecial 284, 3) := dk_183 1 28 (dk_at dksX1_part_5 15 rfl rfl)
theorem dX1_part_137 : decode cX1_part 137 = .ok (.goto 7, 3) := dk_167 0 7 (dk_at dksX1_part_5 18 rfl rfl)
theorem dX1_part_140 : decode cX1_part 140 = .ok (.aload_n 0, 1) := dk_42 (dk_at dksX1_part_5 21 rfl rfl)
theorem dX1_part_141 : decode cX1_part 141 = .ok (.invokevirtual 228, 3) := dk_182 0 228 (dk_at dksX1_part_6 0 rfl rfl)
theorem dX1_part_144 : decode cX1_part 144 = .ok (.astore 4, 2) := dk_58 4 (dk_at dksX1_part_6 3 rfl rfl)
theorem dX1_part_146 : decode cX1_part 146 = .ok (.iload_n 3, 1) := dk_29 (dk_at dksX1_part_6 5 rfl rfl)
theorem dX1_part_147 : decode cX1_part 147 = .ok (.ifCond .eq 9, 3) := dk_153 0 9 (dk_at dksX1_part_6 6 rfl rfl)
theorem dX1_part_150 : decode cX1_part 150 = .ok (.aload_n 0, 1) := dk_42 (dk_at dksX1_part_6 9 rfl rfl)
theorem dX1_part_151 : decode cX1_part 151 = .ok (.bipush 41, 2) := dk_16 41 (dk_at dksX1_part_6 10 rfl rfl)
theorem dX1_part_153 : decode cX1_part 153 = .ok (.invokevirtual 155, 3) := dk_182 0 155 (dk_at dksX1_part_6 12 rfl rfl)
theorem dX1_part_156 : decode cX1_part 156 = .ok (.aload_n 0, 1) := dk_42 (dk_at dksX1_part_6 15 rfl rfl)
theorem dX1_part_157 : decode cX1_part 157 = .ok (.dup, 1) := dk_89 (dk_at dksX1_part_6 16 rfl rfl)
theorem dX1_part_158 : decode cX1_part 158 = .ok (.getfield 22, 3) := dk_180 0 22 (dk_at dksX1_part_6 17 rfl rfl)
theorem dX1_part_161 : decode cX1_part 161 = .ok (.iconst 1, 1) := dk_4 (dk_at dksX1_part_6 20 rfl rfl)
theorem dX1_part_162 : decode cX1_part 162 = .ok (.isub, 1) := dk_100 (dk_at dksX1_part_6 21 rfl rfl)
theorem dX1_part_163 : decode cX1_part 163 = .ok (.putfield 22, 3) := dk_181 0 22 (dk_at dksX1_part_7 0 rfl rfl)
theorem dX1_part_166 : decode cX1_part 166 = .ok (.aload 4, 2) := dk_25 4 (dk_at dksX1_part_7 3 rfl rfl)
theorem dX1_part_168 : decode cX1_part 168 = .ok (.areturn, 1) := dk_176 (dk_at dksX1_part_7 5 rfl rfl)
abbrev cX1_walk : ByteArray := prog_14_method_22_code
def yX1_walk : MethodName := ⟨RX1, "walk", "(LOverFirst$Town;)LOverFirst$Walk;"⟩
def dkwX1_walk_5 : List UInt8 := [132, 3, 1, 167, 0, 6, 132, 4, 1, 42, 16, 59, 182, 0, 155, 167, 255, 138, 44, 176]
abbrev dktX1_walk_5 : List UInt8 := dkwX1_walk_5 ++ []
def dkwX1_walk_4 : List UInt8 := [89, 180, 0, 244, 90, 4, 96, 181, 0, 244, 42, 3, 17, 39, 15, 182, 0, 124, 79, 21, 5, 154, 0, 9]
abbrev dktX1_walk_4 : List UInt8 := dkwX1_walk_4 ++ dktX1_walk_5
def dkwX1_walk_3 : List UInt8 := [182, 0, 75, 191, 42, 182, 0, 25, 44, 180, 0, 247, 44, 180, 0, 244, 21, 5, 79, 44, 180, 0, 250, 44]
abbrev dktX1_walk_3 : List UInt8 := dkwX1_walk_3 ++ dktX1_walk_4
def dkwX1_walk_2 : List UInt8 := [182, 0, 241, 154, 0, 9, 42, 5, 182, 0, 75, 191, 44, 180, 0, 244, 16, 13, 160, 0, 9, 42, 8]
abbrev dktX1_walk_2 : List UInt8 := dkwX1_walk_2 ++ dktX1_walk_3
def dkwX1_walk_1 : List UInt8 := [182, 0, 71, 54, 5, 21, 5, 156, 0, 9, 42, 4, 182, 0, 75, 191, 43, 29, 21, 4, 21, 5]
abbrev dktX1_walk_1 : List UInt8 := dkwX1_walk_1 ++ dktX1_walk_2
def dkwX1_walk_0 : List UInt8 := [187, 0, 238, 89, 183, 0, 240, 77, 3, 62, 3, 54, 4, 42, 180, 0, 31, 153, 0, 117, 42, 18, 215]
abbrev dktX1_walk_0 : List UInt8 := dkwX1_walk_0 ++ dktX1_walk_1
theorem dksX1_walk_0 : cX1_walk.data.toList.drop 0 = dktX1_walk_0 := by decide +kernel
theorem dksX1_walk_1 : cX1_walk.data.toList.drop 23 = dktX1_walk_1 := dk_seg dksX1_walk_0 23 rfl rfl
theorem dksX1_walk_2 : cX1_walk.data.toList.drop 45 = dktX1_walk_2 := dk_seg dksX1_walk_1 22 rfl rfl
theorem dksX1_walk_3 : cX1_walk.data.toList.drop 68 = dktX1_walk_3 := dk_seg dksX1_walk_2 23 rfl rfl
theorem dksX1_walk_4 : cX1_walk.data.toList.drop 92 = dktX1_walk_4 := dk_seg dksX1_walk_3 24 rfl rfl
theorem dksX1_walk_5 : cX1_walk.data.toList.drop 116 = dktX1_walk_5 := dk_seg dksX1_walk_4 24 rfl rfl
theorem dX1_walk_0 : decode cX1_walk 0 = .ok (.new 238, 3) := dk_187 0 238 (dk_at dksX1_walk_0 0 rfl rfl)
theorem dX1_walk_3 : decode cX1_walk 3 = .ok (.dup, 1) := dk_89 (dk_at dksX1_walk_0 3 rfl rfl)
theorem dX1_walk_4 : decode cX1_walk 4 = .ok (.invokespecial 240, 3) := dk_183 0 240 (dk_at dksX1_walk_0 4 rfl rfl)
theorem dX1_walk_7 : decode cX1_walk 7 = .ok (.astore_n 2, 1) := dk_77 (dk_at dksX1_walk_0 7 rfl rfl)
theorem dX1_walk_8 : decode cX1_walk 8 = .ok (.iconst 0, 1) := dk_3 (dk_at dksX1_walk_0 8 rfl rfl)
theorem dX1_walk_9 : decode cX1_walk 9 = .ok (.istore_n 3, 1) := dk_62 (dk_at dksX1_walk_0 9 rfl rfl)
theorem dX1_walk_10 : decode cX1_walk 10 = .ok (.iconst 0, 1) := dk_3 (dk_at dksX1_walk_0 10 rfl rfl)
theorem dX1_walk_11 : decode cX1_walk 11 = .ok (.istore 4, 2) := dk_54 4 (dk_at dksX1_walk_0 11 rfl rfl)
theorem dX1_walk_13 : decode cX1_walk 13 = .ok (.aload_n 0, 1) := dk_42 (dk_at dksX1_walk_0 13 rfl rfl)
theorem dX1_walk_14 : decode cX1_walk 14 = .ok (.getfield 31, 3) := dk_180 0 31 (dk_at dksX1_walk_0 14 rfl rfl)
theorem dX1_walk_17 : decode cX1_walk 17 = .ok (.ifCond .eq 117, 3) := dk_153 0 117 (dk_at dksX1_walk_0 17 rfl rfl)
theorem dX1_walk_20 : decode cX1_walk 20 = .ok (.aload_n 0, 1) := dk_42 (dk_at dksX1_walk_0 20 rfl rfl)
theorem dX1_walk_21 : decode cX1_walk 21 = .ok (.ldc 215, 2) := dk_18 215 (dk_at dksX1_walk_0 21 rfl rfl)
theorem dX1_walk_23 : decode cX1_walk 23 = .ok (.invokevirtual 71, 3) := dk_182 0 71 (dk_at dksX1_walk_1 0 rfl rfl)
theorem dX1_walk_26 : decode cX1_walk 26 = .ok (.istore 5, 2) := dk_54 5 (dk_at dksX1_walk_1 3 rfl rfl)
theorem dX1_walk_28 : decode cX1_walk 28 = .ok (.iload 5, 2) := dk_21 5 (dk_at dksX1_walk_1 5 rfl rfl)
theorem dX1_walk_30 : decode cX1_walk 30 = .ok (.ifCond .ge 9, 3) := dk_156 0 9 (dk_at dksX1_walk_1 7 rfl rfl)
theorem dX1_walk_33 : decode cX1_walk 33 = .ok (.aload_n 0, 1) := dk_42 (dk_at dksX1_walk_1 10 rfl rfl)
theorem dX1_walk_34 : decode cX1_walk 34 = .ok (.iconst 1, 1) := dk_4 (dk_at dksX1_walk_1 11 rfl rfl)
theorem dX1_walk_35 : decode cX1_walk 35 = .ok (.invokevirtual 75, 3) := dk_182 0 75 (dk_at dksX1_walk_1 12 rfl rfl)
theorem dX1_walk_38 : decode cX1_walk 38 = .ok (.athrow, 1) := dk_191 (dk_at dksX1_walk_1 15 rfl rfl)
theorem dX1_walk_39 : decode cX1_walk 39 = .ok (.aload_n 1, 1) := dk_43 (dk_at dksX1_walk_1 16 rfl rfl)
theorem dX1_walk_40 : decode cX1_walk 40 = .ok (.iload_n 3, 1) := dk_29 (dk_at dksX1_walk_1 17 rfl rfl)
theorem dX1_walk_41 : decode cX1_walk 41 = .ok (.iload 4, 2) := dk_21 4 (dk_at dksX1_walk_1 18 rfl rfl)
theorem dX1_walk_43 : decode cX1_walk 43 = .ok (.iload 5, 2) := dk_21 5 (dk_at dksX1_walk_1 20 rfl rfl)
theorem dX1_walk_45 : decode cX1_walk 45 = .ok (.invokevirtual 241, 3) := dk_182 0 241 (dk_at dksX1_walk_2 0 rfl rfl)
theorem dX1_walk_48 : decode cX1_walk 48 = .ok (.ifCond .ne 9, 3) := dk_154 0 9 (dk_at dksX1_walk_2 3 rfl rfl)
theorem dX1_walk_51 : decode cX1_walk 51 = .ok (.aload_n 0, 1) := dk_42 (dk_at dksX1_walk_2 6 rfl rfl)
theorem dX1_walk_52 : decode cX1_walk 52 = .ok (.iconst 2, 1) := dk_5 (dk_at dksX1_walk_2 7 rfl rfl)
theorem dX1_walk_53 : decode cX1_walk 53 = .ok (.invokevirtual 75, 3) := dk_182 0 75 (dk_at dksX1_walk_2 8 rfl rfl)
theorem dX1_walk_56 : decode cX1_walk 56 = .ok (.athrow, 1) := dk_191 (dk_at dksX1_walk_2 11 rfl rfl)
theorem dX1_walk_57 : decode cX1_walk 57 = .ok (.aload_n 2, 1) := dk_44 (dk_at dksX1_walk_2 12 rfl rfl)
theorem dX1_walk_58 : decode cX1_walk 58 = .ok (.getfield 244, 3) := dk_180 0 244 (dk_at dksX1_walk_2 13 rfl rfl)
theorem dX1_walk_61 : decode cX1_walk 61 = .ok (.bipush 13, 2) := dk_16 13 (dk_at dksX1_walk_2 16 rfl rfl)
theorem dX1_walk_63 : decode cX1_walk 63 = .ok (.if_icmp .ne 9, 3) := dk_160 0 9 (dk_at dksX1_walk_2 18 rfl rfl)
theorem dX1_walk_66 : decode cX1_walk 66 = .ok (.aload_n 0, 1) := dk_42 (dk_at dksX1_walk_2 21 rfl rfl)
theorem dX1_walk_67 : decode cX1_walk 67 = .ok (.iconst 5, 1) := dk_8 (dk_at dksX1_walk_2 22 rfl rfl)
theorem dX1_walk_68 : decode cX1_walk 68 = .ok (.invokevirtual 75, 3) := dk_182 0 75 (dk_at dksX1_walk_3 0 rfl rfl)
theorem dX1_walk_71 : decode cX1_walk 71 = .ok (.athrow, 1) := dk_191 (dk_at dksX1_walk_3 3 rfl rfl)
theorem dX1_walk_72 : decode cX1_walk 72 = .ok (.aload_n 0, 1) := dk_42 (dk_at dksX1_walk_3 4 rfl rfl)
theorem dX1_walk_73 : decode cX1_walk 73 = .ok (.invokevirtual 25, 3) := dk_182 0 25 (dk_at dksX1_walk_3 5 rfl rfl)
theorem dX1_walk_76 : decode cX1_walk 76 = .ok (.aload_n 2, 1) := dk_44 (dk_at dksX1_walk_3 8 rfl rfl)
theorem dX1_walk_77 : decode cX1_walk 77 = .ok (.getfield 247, 3) := dk_180 0 247 (dk_at dksX1_walk_3 9 rfl rfl)
theorem dX1_walk_80 : decode cX1_walk 80 = .ok (.aload_n 2, 1) := dk_44 (dk_at dksX1_walk_3 12 rfl rfl)
theorem dX1_walk_81 : decode cX1_walk 81 = .ok (.getfield 244, 3) := dk_180 0 244 (dk_at dksX1_walk_3 13 rfl rfl)
theorem dX1_walk_84 : decode cX1_walk 84 = .ok (.iload 5, 2) := dk_21 5 (dk_at dksX1_walk_3 16 rfl rfl)
theorem dX1_walk_86 : decode cX1_walk 86 = .ok (.iastore, 1) := dk_79 (dk_at dksX1_walk_3 18 rfl rfl)
theorem dX1_walk_87 : decode cX1_walk 87 = .ok (.aload_n 2, 1) := dk_44 (dk_at dksX1_walk_3 19 rfl rfl)
theorem dX1_walk_88 : decode cX1_walk 88 = .ok (.getfield 250, 3) := dk_180 0 250 (dk_at dksX1_walk_3 20 rfl rfl)
theorem dX1_walk_91 : decode cX1_walk 91 = .ok (.aload_n 2, 1) := dk_44 (dk_at dksX1_walk_3 23 rfl rfl)
theorem dX1_walk_92 : decode cX1_walk 92 = .ok (.dup, 1) := dk_89 (dk_at dksX1_walk_4 0 rfl rfl)
theorem dX1_walk_93 : decode cX1_walk 93 = .ok (.getfield 244, 3) := dk_180 0 244 (dk_at dksX1_walk_4 1 rfl rfl)
theorem dX1_walk_96 : decode cX1_walk 96 = .ok (.dup_x1, 1) := dk_90 (dk_at dksX1_walk_4 4 rfl rfl)
theorem dX1_walk_97 : decode cX1_walk 97 = .ok (.iconst 1, 1) := dk_4 (dk_at dksX1_walk_4 5 rfl rfl)
theorem dX1_walk_98 : decode cX1_walk 98 = .ok (.iadd, 1) := dk_96 (dk_at dksX1_walk_4 6 rfl rfl)
theorem dX1_walk_99 : decode cX1_walk 99 = .ok (.putfield 244, 3) := dk_181 0 244 (dk_at dksX1_walk_4 7 rfl rfl)
theorem dX1_walk_102 : decode cX1_walk 102 = .ok (.aload_n 0, 1) := dk_42 (dk_at dksX1_walk_4 10 rfl rfl)
theorem dX1_walk_103 : decode cX1_walk 103 = .ok (.iconst 0, 1) := dk_3 (dk_at dksX1_walk_4 11 rfl rfl)
theorem dX1_walk_104 : decode cX1_walk 104 = .ok (.sipush 9999, 3) := dk_17 39 15 (dk_at dksX1_walk_4 12 rfl rfl)
theorem dX1_walk_107 : decode cX1_walk 107 = .ok (.invokevirtual 124, 3) := dk_182 0 124 (dk_at dksX1_walk_4 15 rfl rfl)
theorem dX1_walk_110 : decode cX1_walk 110 = .ok (.iastore, 1) := dk_79 (dk_at dksX1_walk_4 18 rfl rfl)
theorem dX1_walk_111 : decode cX1_walk 111 = .ok (.iload 5, 2) := dk_21 5 (dk_at dksX1_walk_4 19 rfl rfl)
theorem dX1_walk_113 : decode cX1_walk 113 = .ok (.ifCond .ne 9, 3) := dk_154 0 9 (dk_at dksX1_walk_4 21 rfl rfl)
theorem dX1_walk_116 : decode cX1_walk 116 = .ok (.iinc 3 1, 3) := dk_132 3 1 (dk_at dksX1_walk_5 0 rfl rfl)
theorem dX1_walk_119 : decode cX1_walk 119 = .ok (.goto 6, 3) := dk_167 0 6 (dk_at dksX1_walk_5 3 rfl rfl)
theorem dX1_walk_122 : decode cX1_walk 122 = .ok (.iinc 4 1, 3) := dk_132 4 1 (dk_at dksX1_walk_5 6 rfl rfl)
theorem dX1_walk_125 : decode cX1_walk 125 = .ok (.aload_n 0, 1) := dk_42 (dk_at dksX1_walk_5 9 rfl rfl)
theorem dX1_walk_126 : decode cX1_walk 126 = .ok (.bipush 59, 2) := dk_16 59 (dk_at dksX1_walk_5 10 rfl rfl)
theorem dX1_walk_128 : decode cX1_walk 128 = .ok (.invokevirtual 155, 3) := dk_182 0 155 (dk_at dksX1_walk_5 12 rfl rfl)
theorem dX1_walk_131 : decode cX1_walk 131 = .ok (.goto (-118), 3) := dk_167 255 138 (dk_at dksX1_walk_5 15 rfl rfl)
theorem dX1_walk_134 : decode cX1_walk 134 = .ok (.aload_n 2, 1) := dk_44 (dk_at dksX1_walk_5 18 rfl rfl)
theorem dX1_walk_135 : decode cX1_walk 135 = .ok (.areturn, 1) := dk_176 (dk_at dksX1_walk_5 19 rfl rfl)
theorem q137 : (Jvm.Cond.initialized "OverFirst$Reader") ∈ lw_all := lw_g (lw_at lw_m1 2 rfl) rfl
theorem q186 : (Jvm.Cond.instantiable "OverFirst$Reader" (8 : Nat)) ∈ lw_all := lw_g (lw_at lw_m1 51 rfl) rfl
theorem q188 : (Jvm.Cond.instanceMethod ({ cls := "OverFirst$Reader", name := "<init>", desc := "()V" } : Jvm.MethodName)) ∈ lw_all := lw_g (lw_at lw_m1 53 rfl) rfl
theorem q189 : (Jvm.Cond.code ({ cls := "OverFirst$Reader", name := "<init>", desc := "()V" } : Jvm.MethodName) prog_14_method_1_code (1 : Nat) (Option.none : Option Jvm.ClassFile.FieldType)) ∈ lw_all := lw_g (lw_at lw_m1 54 rfl) rfl
theorem q190 : (Jvm.Cond.methodLink "OverFirst$Reader" (3 : Nat) ({ cls := "java/lang/Object", name := "<init>", desc := "()V" } : Jvm.MethodName)) ∈ lw_all := lw_g (lw_at lw_m1 55 rfl) rfl
theorem q191 : (Jvm.Cond.fieldLink "OverFirst$Reader" (9 : Nat) "OverFirst$Reader" "text" "[B") ∈ lw_all := lw_g (lw_at lw_m1 56 rfl) rfl
theorem q192 : (Jvm.Cond.fieldLink "OverFirst$Reader" (15 : Nat) "OverFirst$Reader" "size" "I") ∈ lw_all := lw_g (lw_at lw_m1 57 rfl) rfl
theorem q193 : (Jvm.Cond.fieldLink "OverFirst$Reader" (19 : Nat) "OverFirst$Reader" "to" "I") ∈ lw_all := lw_g (lw_at lw_m1 58 rfl) rfl
theorem q194 : (Jvm.Cond.fieldLink "OverFirst$Reader" (31 : Nat) "OverFirst$Reader" "kind" "I") ∈ lw_all := lw_g (lw_at lw_m1 59 rfl) rfl
theorem q195 : (Jvm.Cond.fieldLink "OverFirst$Reader" (28 : Nat) "OverFirst$Reader" "from" "I") ∈ lw_all := lw_g (lw_at lw_m1 60 rfl) rfl
theorem q196 : (Jvm.Cond.fieldLink "OverFirst$Reader" (45 : Nat) "OverFirst$Reader" "value" "I") ∈ lw_all := lw_g (lw_at lw_m1 61 rfl) rfl
theorem q197 : (Jvm.Cond.fieldLink "OverFirst$Reader" (22 : Nat) "OverFirst$Reader" "within" "I") ∈ lw_all := lw_g (lw_at lw_m1 62 rfl) rfl
theorem q198 : (Jvm.Cond.fieldLink "OverFirst$Reader" (98 : Nat) "OverFirst$Reader" "town" "LOverFirst$Town;") ∈ lw_all := lw_g (lw_at lw_m1 63 rfl) rfl
theorem q199 : (Jvm.Cond.lays "OverFirst$Reader" "OverFirst$Reader" "text" "[B") ∈ lw_all := lw_g (lw_at lw_m1 64 rfl) rfl
theorem q200 : (Jvm.Cond.soleField "OverFirst$Reader" "text") ∈ lw_all := lw_g (lw_at lw_m1 65 rfl) rfl
theorem q201 : (Jvm.Cond.lays "OverFirst$Reader" "OverFirst$Reader" "size" "I") ∈ lw_all := lw_g (lw_at lw_m1 66 rfl) rfl
theorem q202 : (Jvm.Cond.soleField "OverFirst$Reader" "size") ∈ lw_all := lw_g (lw_at lw_m1 67 rfl) rfl
theorem q203 : (Jvm.Cond.lays "OverFirst$Reader" "OverFirst$Reader" "to" "I") ∈ lw_all := lw_g (lw_at lw_m1 68 rfl) rfl
theorem q204 : (Jvm.Cond.soleField "OverFirst$Reader" "to") ∈ lw_all := lw_g (lw_at lw_m1 69 rfl) rfl
theorem q205 : (Jvm.Cond.lays "OverFirst$Reader" "OverFirst$Reader" "kind" "I") ∈ lw_all := lw_g (lw_at lw_m1 70 rfl) rfl
theorem q206 : (Jvm.Cond.soleField "OverFirst$Reader" "kind") ∈ lw_all := lw_g (lw_at lw_m1 71 rfl) rfl
theorem q207 : (Jvm.Cond.lays "OverFirst$Reader" "OverFirst$Reader" "from" "I") ∈ lw_all := lw_g (lw_at lw_m1 72 rfl) rfl
theorem q208 : (Jvm.Cond.soleField "OverFirst$Reader" "from") ∈ lw_all := lw_g (lw_at lw_m1 73 rfl) rfl
theorem q209 : (Jvm.Cond.lays "OverFirst$Reader" "OverFirst$Reader" "value" "I") ∈ lw_all := lw_g (lw_at lw_m1 74 rfl) rfl
theorem q210 : (Jvm.Cond.soleField "OverFirst$Reader" "value") ∈ lw_all := lw_g (lw_at lw_m1 75 rfl) rfl
theorem q211 : (Jvm.Cond.lays "OverFirst$Reader" "OverFirst$Reader" "within" "I") ∈ lw_all := lw_g (lw_at lw_m1 76 rfl) rfl
theorem q212 : (Jvm.Cond.soleField "OverFirst$Reader" "within") ∈ lw_all := lw_g (lw_at lw_m1 77 rfl) rfl
theorem q213 : (Jvm.Cond.lays "OverFirst$Reader" "OverFirst$Reader" "town" "LOverFirst$Town;") ∈ lw_all := lw_g (lw_at lw_m1 78 rfl) rfl
theorem q214 : (Jvm.Cond.soleField "OverFirst$Reader" "town") ∈ lw_all := lw_g (lw_at lw_m1 79 rfl) rfl
theorem q215 : (Jvm.Cond.superclass "OverFirst$Reader" "java/lang/Object") ∈ lw_all := lw_g (lw_at lw_m1 80 rfl) rfl
theorem q311 : (Jvm.Cond.selects "OverFirst$Reader" ({ cls := "java/lang/Object", name := "getClass", desc := "()Ljava/lang/Class;" } : Jvm.MethodName) ({ cls := "java/lang/Object", name := "getClass", desc := "()Ljava/lang/Class;" } : Jvm.MethodName)) ∈ lw_all := lw_g (lw_at lw_m1 176 rfl) rfl
theorem q352 : (Jvm.Cond.fieldLinkNest "OverFirst$Reader" (149 : Nat) "OverFirst$Town" "wide" "I" "OverFirst") ∈ lw_tbl := lw_at lw_m1 217 rfl
theorem q355 : (Jvm.Cond.fieldLinkNest "OverFirst$Reader" (152 : Nat) "OverFirst$Town" "deep" "I" "OverFirst") ∈ lw_tbl := lw_at lw_m1 220 rfl
theorem q357 : (Jvm.Cond.fieldLinkNest "OverFirst$Reader" (127 : Nat) "OverFirst$Town" "walk" "I" "OverFirst") ∈ lw_tbl := lw_at lw_m1 222 rfl
theorem q359 : (Jvm.Cond.fieldLinkNest "OverFirst$Reader" (130 : Nat) "OverFirst$Town" "run" "I" "OverFirst") ∈ lw_tbl := lw_at lw_m1 224 rfl
theorem q361 : (Jvm.Cond.fieldLinkNest "OverFirst$Reader" (133 : Nat) "OverFirst$Town" "slow" "I" "OverFirst") ∈ lw_tbl := lw_at lw_m1 226 rfl
theorem q363 : (Jvm.Cond.fieldLinkNest "OverFirst$Reader" (136 : Nat) "OverFirst$Town" "runs" "I" "OverFirst") ∈ lw_tbl := lw_at lw_m1 228 rfl
theorem q365 : (Jvm.Cond.fieldLinkNest "OverFirst$Reader" (185 : Nat) "OverFirst$Town" "common" "I" "OverFirst") ∈ lw_tbl := lw_at lw_m1 230 rfl
theorem q367 : (Jvm.Cond.fieldLinkNest "OverFirst$Reader" (195 : Nat) "OverFirst$Town" "hidden" "I" "OverFirst") ∈ lw_tbl := lw_at lw_m1 232 rfl
theorem q369 : (Jvm.Cond.fieldLinkNest "OverFirst$Reader" (139 : Nat) "OverFirst$Town" "isChild" "Z" "OverFirst") ∈ lw_tbl := lw_at lw_m1 234 rfl
theorem q372 : (Jvm.Cond.fieldLinkNest "OverFirst$Reader" (198 : Nat) "OverFirst$Town" "light" "[LOverFirst$Light;" "OverFirst") ∈ lw_tbl := lw_at lw_m1 237 rfl
theorem q375 : (Jvm.Cond.fieldLinkNest "OverFirst$Reader" (217 : Nat) "OverFirst$Town" "bar" "[I" "OverFirst") ∈ lw_tbl := lw_at lw_m2 0 rfl
theorem q377 : (Jvm.Cond.fieldLinkNest "OverFirst$Reader" (102 : Nat) "OverFirst$Town" "names" "Ljava/util/ArrayList;" "OverFirst") ∈ lw_tbl := lw_at lw_m2 2 rfl
theorem q380 : (Jvm.Cond.fieldLinkNest "OverFirst$Reader" (223 : Nat) "OverFirst$Town" "goers" "Ljava/util/ArrayList;" "OverFirst") ∈ lw_tbl := lw_at lw_m2 5 rfl
theorem q416 : (Jvm.Cond.fieldLinkNest "OverFirst$Reader" (247 : Nat) "OverFirst$Walk" "way" "[I" "OverFirst") ∈ lw_tbl := lw_at lw_m2 41 rfl
theorem q419 : (Jvm.Cond.fieldLinkNest "OverFirst$Reader" (250 : Nat) "OverFirst$Walk" "second" "[I" "OverFirst") ∈ lw_tbl := lw_at lw_m2 44 rfl
theorem q421 : (Jvm.Cond.fieldLinkNest "OverFirst$Reader" (244 : Nat) "OverFirst$Walk" "many" "I" "OverFirst") ∈ lw_tbl := lw_at lw_m2 46 rfl
theorem q590 : (Jvm.Cond.instanceMethod ({ cls := "OverFirst$Reader", name := "begin", desc := "([BI)V" } : Jvm.MethodName)) ∈ lw_all := lw_g (lw_at lw_m2 215 rfl) rfl
theorem q591 : (Jvm.Cond.selects "OverFirst$Reader" ({ cls := "OverFirst$Reader", name := "begin", desc := "([BI)V" } : Jvm.MethodName) ({ cls := "OverFirst$Reader", name := "begin", desc := "([BI)V" } : Jvm.MethodName)) ∈ lw_all := lw_g (lw_at lw_m2 216 rfl) rfl
theorem q592 : (Jvm.Cond.code ({ cls := "OverFirst$Reader", name := "begin", desc := "([BI)V" } : Jvm.MethodName) prog_14_method_2_code (3 : Nat) (Option.none : Option Jvm.ClassFile.FieldType)) ∈ lw_all := lw_g (lw_at lw_m2 217 rfl) rfl
theorem q593 : (Jvm.Cond.methodLink "OverFirst$Reader" (25 : Nat) ({ cls := "OverFirst$Reader", name := "next", desc := "()V" } : Jvm.MethodName)) ∈ lw_all := lw_g (lw_at lw_m2 218 rfl) rfl
theorem q594 : (Jvm.Cond.privateMethod ({ cls := "OverFirst$Reader", name := "next", desc := "()V" } : Jvm.MethodName)) ∈ lw_tbl := lw_at lw_m2 219 rfl
theorem q595 : (Jvm.Cond.instanceMethod ({ cls := "OverFirst$Reader", name := "next", desc := "()V" } : Jvm.MethodName)) ∈ lw_all := lw_g (lw_at lw_m2 220 rfl) rfl
theorem q596 : (Jvm.Cond.code ({ cls := "OverFirst$Reader", name := "next", desc := "()V" } : Jvm.MethodName) prog_14_method_6_code (1 : Nat) (Option.none : Option Jvm.ClassFile.FieldType)) ∈ lw_all := lw_g (lw_at lw_m2 221 rfl) rfl
theorem q597 : (Jvm.Cond.methodLink "OverFirst$Reader" (34 : Nat) ({ cls := "OverFirst$Reader", name := "at", desc := "(I)I" } : Jvm.MethodName)) ∈ lw_all := lw_g (lw_at lw_m2 222 rfl) rfl
theorem q598 : (Jvm.Cond.privateMethod ({ cls := "OverFirst$Reader", name := "at", desc := "(I)I" } : Jvm.MethodName)) ∈ lw_tbl := lw_at lw_m2 223 rfl
theorem q599 : (Jvm.Cond.instanceMethod ({ cls := "OverFirst$Reader", name := "at", desc := "(I)I" } : Jvm.MethodName)) ∈ lw_all := lw_g (lw_at lw_m2 224 rfl) rfl
theorem q600 : (Jvm.Cond.code ({ cls := "OverFirst$Reader", name := "at", desc := "(I)I" } : Jvm.MethodName) prog_14_method_3_code (2 : Nat) (Option.some Jvm.ClassFile.FieldType.int)) ∈ lw_all := lw_g (lw_at lw_m2 225 rfl) rfl
theorem q601 : (Jvm.Cond.methodLink "OverFirst$Reader" (38 : Nat) ({ cls := "OverFirst$Reader", name := "isLetter", desc := "(I)Z" } : Jvm.MethodName)) ∈ lw_all := lw_g (lw_at lw_m2 226 rfl) rfl
theorem q602 : (Jvm.Cond.static ({ cls := "OverFirst$Reader", name := "isLetter", desc := "(I)Z" } : Jvm.MethodName)) ∈ lw_all := lw_g (lw_at lw_m2 227 rfl) rfl
theorem q603 : (Jvm.Cond.code ({ cls := "OverFirst$Reader", name := "isLetter", desc := "(I)Z" } : Jvm.MethodName) prog_14_method_4_code (1 : Nat) (Option.some Jvm.ClassFile.FieldType.boolean)) ∈ lw_all := lw_g (lw_at lw_m2 228 rfl) rfl
theorem q604 : (Jvm.Cond.methodLink "OverFirst$Reader" (42 : Nat) ({ cls := "OverFirst$Reader", name := "isDigit", desc := "(I)Z" } : Jvm.MethodName)) ∈ lw_all := lw_g (lw_at lw_m2 229 rfl) rfl
theorem q605 : (Jvm.Cond.static ({ cls := "OverFirst$Reader", name := "isDigit", desc := "(I)Z" } : Jvm.MethodName)) ∈ lw_all := lw_g (lw_at lw_m2 230 rfl) rfl
theorem q606 : (Jvm.Cond.code ({ cls := "OverFirst$Reader", name := "isDigit", desc := "(I)Z" } : Jvm.MethodName) prog_14_method_5_code (1 : Nat) (Option.some Jvm.ClassFile.FieldType.boolean)) ∈ lw_all := lw_g (lw_at lw_m2 231 rfl) rfl
theorem q607 : (Jvm.Cond.stringRef "OverFirst$Reader" (48 : Nat) "()<=+-*;") ∈ lw_tbl := lw_at lw_m2 232 rfl
theorem q608 : (Jvm.Cond.methodLink "OverFirst$Reader" (50 : Nat) ({ cls := "java/lang/String", name := "indexOf", desc := "(I)I" } : Jvm.MethodName)) ∈ lw_all := lw_g (lw_at lw_m2 233 rfl) rfl
theorem q691 : (Jvm.Cond.instanceMethod ({ cls := "OverFirst$Reader", name := "town", desc := "()LOverFirst$Town;" } : Jvm.MethodName)) ∈ lw_all := lw_g (lw_at lw_m3 76 rfl) rfl
theorem q692 : (Jvm.Cond.selects "OverFirst$Reader" ({ cls := "OverFirst$Reader", name := "town", desc := "()LOverFirst$Town;" } : Jvm.MethodName) ({ cls := "OverFirst$Reader", name := "town", desc := "()LOverFirst$Town;" } : Jvm.MethodName)) ∈ lw_all := lw_g (lw_at lw_m3 77 rfl) rfl
theorem q693 : (Jvm.Cond.code ({ cls := "OverFirst$Reader", name := "town", desc := "()LOverFirst$Town;" } : Jvm.MethodName) prog_14_method_16_code (2 : Nat) (Option.some (Jvm.ClassFile.FieldType.object "OverFirst$Town"))) ∈ lw_all := lw_g (lw_at lw_m3 78 rfl) rfl
theorem q694 : (Jvm.Cond.classLink "OverFirst$Reader" (103 : Nat) "OverFirst$Town") ∈ lw_all := lw_g (lw_at lw_m3 79 rfl) rfl
theorem q695 : (Jvm.Cond.methodLink "OverFirst$Reader" (143 : Nat) ({ cls := "OverFirst$Town", name := "<init>", desc := "()V" } : Jvm.MethodName)) ∈ lw_all := lw_g (lw_at lw_m3 80 rfl) rfl
theorem q696 : (Jvm.Cond.stringRef "OverFirst$Reader" (144 : Nat) "town ") ∈ lw_tbl := lw_at lw_m3 81 rfl
theorem q697 : (Jvm.Cond.methodLink "OverFirst$Reader" (146 : Nat) ({ cls := "OverFirst$Reader", name := "number", desc := "(Ljava/lang/String;II)I" } : Jvm.MethodName)) ∈ lw_all := lw_g (lw_at lw_m3 82 rfl) rfl
theorem q698 : (Jvm.Cond.privateMethod ({ cls := "OverFirst$Reader", name := "number", desc := "(Ljava/lang/String;II)I" } : Jvm.MethodName)) ∈ lw_tbl := lw_at lw_m3 83 rfl
theorem q699 : (Jvm.Cond.instanceMethod ({ cls := "OverFirst$Reader", name := "number", desc := "(Ljava/lang/String;II)I" } : Jvm.MethodName)) ∈ lw_all := lw_g (lw_at lw_m3 84 rfl) rfl
theorem q700 : (Jvm.Cond.code ({ cls := "OverFirst$Reader", name := "number", desc := "(Ljava/lang/String;II)I" } : Jvm.MethodName) prog_14_method_14_code (4 : Nat) (Option.some Jvm.ClassFile.FieldType.int)) ∈ lw_all := lw_g (lw_at lw_m3 85 rfl) rfl
theorem q701 : (Jvm.Cond.methodLink "OverFirst$Reader" (120 : Nat) ({ cls := "OverFirst$Reader", name := "need", desc := "(Ljava/lang/String;)V" } : Jvm.MethodName)) ∈ lw_all := lw_g (lw_at lw_m3 86 rfl) rfl
theorem q702 : (Jvm.Cond.privateMethod ({ cls := "OverFirst$Reader", name := "need", desc := "(Ljava/lang/String;)V" } : Jvm.MethodName)) ∈ lw_tbl := lw_at lw_m3 87 rfl
theorem q703 : (Jvm.Cond.instanceMethod ({ cls := "OverFirst$Reader", name := "need", desc := "(Ljava/lang/String;)V" } : Jvm.MethodName)) ∈ lw_all := lw_g (lw_at lw_m3 88 rfl) rfl
theorem q704 : (Jvm.Cond.code ({ cls := "OverFirst$Reader", name := "need", desc := "(Ljava/lang/String;)V" } : Jvm.MethodName) prog_14_method_9_code (2 : Nat) (Option.none : Option Jvm.ClassFile.FieldType)) ∈ lw_all := lw_g (lw_at lw_m3 89 rfl) rfl
theorem q705 : (Jvm.Cond.methodLink "OverFirst$Reader" (71 : Nat) ({ cls := "OverFirst$Reader", name := "which", desc := "(Ljava/lang/String;)I" } : Jvm.MethodName)) ∈ lw_all := lw_g (lw_at lw_m3 90 rfl) rfl
theorem q706 : (Jvm.Cond.privateMethod ({ cls := "OverFirst$Reader", name := "which", desc := "(Ljava/lang/String;)I" } : Jvm.MethodName)) ∈ lw_tbl := lw_at lw_m3 91 rfl
theorem q707 : (Jvm.Cond.instanceMethod ({ cls := "OverFirst$Reader", name := "which", desc := "(Ljava/lang/String;)I" } : Jvm.MethodName)) ∈ lw_all := lw_g (lw_at lw_m3 92 rfl) rfl
theorem q708 : (Jvm.Cond.code ({ cls := "OverFirst$Reader", name := "which", desc := "(Ljava/lang/String;)I" } : Jvm.MethodName) prog_14_method_8_code (7 : Nat) (Option.some Jvm.ClassFile.FieldType.int)) ∈ lw_all := lw_g (lw_at lw_m3 93 rfl) rfl
theorem q709 : (Jvm.Cond.methodLink "OverFirst$Reader" (60 : Nat) ({ cls := "java/lang/String", name := "length", desc := "()I" } : Jvm.MethodName)) ∈ lw_all := lw_g (lw_at lw_m3 94 rfl) rfl
theorem q710 : (Jvm.Cond.methodLink "OverFirst$Reader" (64 : Nat) ({ cls := "java/lang/String", name := "indexOf", desc := "(II)I" } : Jvm.MethodName)) ∈ lw_all := lw_g (lw_at lw_m3 95 rfl) rfl
theorem q711 : (Jvm.Cond.methodLink "OverFirst$Reader" (67 : Nat) ({ cls := "java/lang/String", name := "charAt", desc := "(I)C" } : Jvm.MethodName)) ∈ lw_all := lw_g (lw_at lw_m3 96 rfl) rfl
theorem q731 : (Jvm.Cond.methodLink "OverFirst$Reader" (75 : Nat) ({ cls := "OverFirst$Reader", name := "wrong", desc := "(I)LOverFirst$Wrong;" } : Jvm.MethodName)) ∈ lw_all := lw_g (lw_at lw_m3 116 rfl) rfl
theorem q732 : (Jvm.Cond.privateMethod ({ cls := "OverFirst$Reader", name := "wrong", desc := "(I)LOverFirst$Wrong;" } : Jvm.MethodName)) ∈ lw_tbl := lw_at lw_m3 117 rfl
theorem q733 : (Jvm.Cond.instanceMethod ({ cls := "OverFirst$Reader", name := "wrong", desc := "(I)LOverFirst$Wrong;" } : Jvm.MethodName)) ∈ lw_all := lw_g (lw_at lw_m3 118 rfl) rfl
theorem q734 : (Jvm.Cond.code ({ cls := "OverFirst$Reader", name := "wrong", desc := "(I)LOverFirst$Wrong;" } : Jvm.MethodName) prog_14_method_7_code (2 : Nat) (Option.some (Jvm.ClassFile.FieldType.object "OverFirst$Wrong"))) ∈ lw_all := lw_g (lw_at lw_m3 119 rfl) rfl
theorem q735 : (Jvm.Cond.classLink "OverFirst$Reader" (55 : Nat) "OverFirst$Wrong") ∈ lw_all := lw_g (lw_at lw_m3 120 rfl) rfl
theorem q774 : (Jvm.Cond.methodLink "OverFirst$Reader" (57 : Nat) ({ cls := "OverFirst$Wrong", name := "<init>", desc := "(II)V" } : Jvm.MethodName)) ∈ lw_all := lw_g (lw_at lw_m3 159 rfl) rfl
theorem q803 : (Jvm.Cond.methodLink "OverFirst$Reader" (124 : Nat) ({ cls := "OverFirst$Reader", name := "number", desc := "(II)I" } : Jvm.MethodName)) ∈ lw_all := lw_g (lw_at lw_m3 188 rfl) rfl
theorem q804 : (Jvm.Cond.privateMethod ({ cls := "OverFirst$Reader", name := "number", desc := "(II)I" } : Jvm.MethodName)) ∈ lw_tbl := lw_at lw_m3 189 rfl
theorem q805 : (Jvm.Cond.instanceMethod ({ cls := "OverFirst$Reader", name := "number", desc := "(II)I" } : Jvm.MethodName)) ∈ lw_all := lw_g (lw_at lw_m3 190 rfl) rfl
theorem q806 : (Jvm.Cond.code ({ cls := "OverFirst$Reader", name := "number", desc := "(II)I" } : Jvm.MethodName) prog_14_method_12_code (4 : Nat) (Option.some Jvm.ClassFile.FieldType.int)) ∈ lw_all := lw_g (lw_at lw_m3 191 rfl) rfl
theorem q807 : (Jvm.Cond.methodLink "OverFirst$Reader" (155 : Nat) ({ cls := "OverFirst$Reader", name := "need", desc := "(C)V" } : Jvm.MethodName)) ∈ lw_all := lw_g (lw_at lw_m3 192 rfl) rfl
theorem q808 : (Jvm.Cond.privateMethod ({ cls := "OverFirst$Reader", name := "need", desc := "(C)V" } : Jvm.MethodName)) ∈ lw_tbl := lw_at lw_m3 193 rfl
theorem q809 : (Jvm.Cond.instanceMethod ({ cls := "OverFirst$Reader", name := "need", desc := "(C)V" } : Jvm.MethodName)) ∈ lw_all := lw_g (lw_at lw_m3 194 rfl) rfl
theorem q810 : (Jvm.Cond.code ({ cls := "OverFirst$Reader", name := "need", desc := "(C)V" } : Jvm.MethodName) prog_14_method_11_code (2 : Nat) (Option.none : Option Jvm.ClassFile.FieldType)) ∈ lw_all := lw_g (lw_at lw_m3 195 rfl) rfl
theorem q811 : (Jvm.Cond.methodLink "OverFirst$Reader" (79 : Nat) ({ cls := "OverFirst$Reader", name := "isSign", desc := "(C)Z" } : Jvm.MethodName)) ∈ lw_all := lw_g (lw_at lw_m3 196 rfl) rfl
theorem q812 : (Jvm.Cond.privateMethod ({ cls := "OverFirst$Reader", name := "isSign", desc := "(C)Z" } : Jvm.MethodName)) ∈ lw_tbl := lw_at lw_m3 197 rfl
theorem q813 : (Jvm.Cond.instanceMethod ({ cls := "OverFirst$Reader", name := "isSign", desc := "(C)Z" } : Jvm.MethodName)) ∈ lw_all := lw_g (lw_at lw_m3 198 rfl) rfl
theorem q814 : (Jvm.Cond.code ({ cls := "OverFirst$Reader", name := "isSign", desc := "(C)Z" } : Jvm.MethodName) prog_14_method_10_code (2 : Nat) (Option.some Jvm.ClassFile.FieldType.boolean)) ∈ lw_all := lw_g (lw_at lw_m3 199 rfl) rfl
theorem q815 : (Jvm.Cond.stringRef "OverFirst$Reader" (158 : Nat) "walk run slow runs child light bar rule ") ∈ lw_tbl := lw_at lw_m3 200 rfl
theorem q816 : (Jvm.Cond.methodLink "OverFirst$Reader" (160 : Nat) ({ cls := "OverFirst$Reader", name := "isTold", desc := "(I)Z" } : Jvm.MethodName)) ∈ lw_all := lw_g (lw_at lw_m3 201 rfl) rfl
theorem q817 : (Jvm.Cond.privateMethod ({ cls := "OverFirst$Reader", name := "isTold", desc := "(I)Z" } : Jvm.MethodName)) ∈ lw_tbl := lw_at lw_m3 202 rfl
theorem q818 : (Jvm.Cond.instanceMethod ({ cls := "OverFirst$Reader", name := "isTold", desc := "(I)Z" } : Jvm.MethodName)) ∈ lw_all := lw_g (lw_at lw_m3 203 rfl) rfl
theorem q819 : (Jvm.Cond.code ({ cls := "OverFirst$Reader", name := "isTold", desc := "(I)Z" } : Jvm.MethodName) prog_14_method_15_code (2 : Nat) (Option.some Jvm.ClassFile.FieldType.boolean)) ∈ lw_all := lw_g (lw_at lw_m3 204 rfl) rfl
theorem q820 : (Jvm.Cond.methodLink "OverFirst$Reader" (108 : Nat) ({ cls := "java/util/ArrayList", name := "size", desc := "()I" } : Jvm.MethodName)) ∈ lw_all := lw_g (lw_at lw_m3 205 rfl) rfl
theorem q824 : (Jvm.Cond.methodLink "OverFirst$Reader" (163 : Nat) ({ cls := "OverFirst$Reader", name := "light", desc := "()V" } : Jvm.MethodName)) ∈ lw_all := lw_g (lw_at lw_m3 209 rfl) rfl
theorem q825 : (Jvm.Cond.privateMethod ({ cls := "OverFirst$Reader", name := "light", desc := "()V" } : Jvm.MethodName)) ∈ lw_tbl := lw_at lw_m3 210 rfl
theorem q826 : (Jvm.Cond.instanceMethod ({ cls := "OverFirst$Reader", name := "light", desc := "()V" } : Jvm.MethodName)) ∈ lw_all := lw_g (lw_at lw_m3 211 rfl) rfl
theorem q827 : (Jvm.Cond.code ({ cls := "OverFirst$Reader", name := "light", desc := "()V" } : Jvm.MethodName) prog_14_method_17_code (7 : Nat) (Option.none : Option Jvm.ClassFile.FieldType)) ∈ lw_all := lw_g (lw_at lw_m3 212 rfl) rfl
theorem q828 : (Jvm.Cond.methodLink "OverFirst$Reader" (172 : Nat) ({ cls := "OverFirst$Reader", name := "isLit", desc := "(I)Z" } : Jvm.MethodName)) ∈ lw_all := lw_g (lw_at lw_m3 213 rfl) rfl
theorem q829 : (Jvm.Cond.privateMethod ({ cls := "OverFirst$Reader", name := "isLit", desc := "(I)Z" } : Jvm.MethodName)) ∈ lw_tbl := lw_at lw_m3 214 rfl
theorem q830 : (Jvm.Cond.instanceMethod ({ cls := "OverFirst$Reader", name := "isLit", desc := "(I)Z" } : Jvm.MethodName)) ∈ lw_all := lw_g (lw_at lw_m3 215 rfl) rfl
theorem q831 : (Jvm.Cond.code ({ cls := "OverFirst$Reader", name := "isLit", desc := "(I)Z" } : Jvm.MethodName) prog_14_method_19_code (2 : Nat) (Option.some Jvm.ClassFile.FieldType.boolean)) ∈ lw_all := lw_g (lw_at lw_m3 216 rfl) rfl
theorem q832 : (Jvm.Cond.methodLink "OverFirst$Reader" (179 : Nat) ({ cls := "OverFirst$Reader", name := "value", desc := "()I" } : Jvm.MethodName)) ∈ lw_all := lw_g (lw_at lw_m3 217 rfl) rfl
theorem q833 : (Jvm.Cond.privateMethod ({ cls := "OverFirst$Reader", name := "value", desc := "()I" } : Jvm.MethodName)) ∈ lw_tbl := lw_at lw_m3 218 rfl
theorem q834 : (Jvm.Cond.instanceMethod ({ cls := "OverFirst$Reader", name := "value", desc := "()I" } : Jvm.MethodName)) ∈ lw_all := lw_g (lw_at lw_m3 219 rfl) rfl
theorem q835 : (Jvm.Cond.code ({ cls := "OverFirst$Reader", name := "value", desc := "()I" } : Jvm.MethodName) prog_14_method_18_code (3 : Nat) (Option.some Jvm.ClassFile.FieldType.int)) ∈ lw_all := lw_g (lw_at lw_m3 220 rfl) rfl
theorem q836 : (Jvm.Cond.methodLinkNest "OverFirst$Reader" (181 : Nat) ({ cls := "OverFirst", name := "in", desc := "(III)Z" } : Jvm.MethodName) "OverFirst") ∈ lw_tbl := lw_at lw_m3 221 rfl
theorem q839 : (Jvm.Cond.stringRef "OverFirst$Reader" (175 : Nat) "clock hidden button police ") ∈ lw_tbl := lw_at lw_m3 224 rfl
theorem q840 : (Jvm.Cond.stringRef "OverFirst$Reader" (177 : Nat) "round ") ∈ lw_tbl := lw_at lw_m3 225 rfl
theorem q841 : (Jvm.Cond.methodLinkNest "OverFirst$Reader" (188 : Nat) ({ cls := "OverFirst", name := "gcd", desc := "(II)I" } : Jvm.MethodName) "OverFirst") ∈ lw_tbl := lw_at lw_m3 226 rfl
theorem q845 : (Jvm.Cond.stringRef "OverFirst$Reader" (191 : Nat) "over ") ∈ lw_tbl := lw_at lw_m3 230 rfl
theorem q846 : (Jvm.Cond.stringRef "OverFirst$Reader" (193 : Nat) "for ") ∈ lw_tbl := lw_at lw_m3 231 rfl
theorem q847 : (Jvm.Cond.classLink "OverFirst$Reader" (201 : Nat) "OverFirst$Timed") ∈ lw_all := lw_g (lw_at lw_m3 232 rfl) rfl
theorem q849 : (Jvm.Cond.methodLink "OverFirst$Reader" (203 : Nat) ({ cls := "OverFirst$Timed", name := "<init>", desc := "(III)V" } : Jvm.MethodName)) ∈ lw_all := lw_g (lw_at lw_m3 234 rfl) rfl
theorem q877 : (Jvm.Cond.classLink "OverFirst$Reader" (206 : Nat) "OverFirst$Hidden") ∈ lw_all := lw_g (lw_at lw_m4 22 rfl) rfl
theorem q879 : (Jvm.Cond.methodLink "OverFirst$Reader" (208 : Nat) ({ cls := "OverFirst$Hidden", name := "<init>", desc := "(III)V" } : Jvm.MethodName)) ∈ lw_all := lw_g (lw_at lw_m4 24 rfl) rfl
theorem q887 : (Jvm.Cond.classLink "OverFirst$Reader" (209 : Nat) "OverFirst$Button") ∈ lw_all := lw_g (lw_at lw_m4 32 rfl) rfl
theorem q889 : (Jvm.Cond.methodLink "OverFirst$Reader" (211 : Nat) ({ cls := "OverFirst$Button", name := "<init>", desc := "(III)V" } : Jvm.MethodName)) ∈ lw_all := lw_g (lw_at lw_m4 34 rfl) rfl
theorem q897 : (Jvm.Cond.classLink "OverFirst$Reader" (212 : Nat) "OverFirst$Police") ∈ lw_all := lw_g (lw_at lw_m4 42 rfl) rfl
theorem q899 : (Jvm.Cond.methodLink "OverFirst$Reader" (214 : Nat) ({ cls := "OverFirst$Police", name := "<init>", desc := "(III)V" } : Jvm.MethodName)) ∈ lw_all := lw_g (lw_at lw_m4 44 rfl) rfl
theorem q907 : (Jvm.Cond.methodLink "OverFirst$Reader" (166 : Nat) ({ cls := "OverFirst$Reader", name := "bar", desc := "()V" } : Jvm.MethodName)) ∈ lw_all := lw_g (lw_at lw_m4 52 rfl) rfl
theorem q908 : (Jvm.Cond.privateMethod ({ cls := "OverFirst$Reader", name := "bar", desc := "()V" } : Jvm.MethodName)) ∈ lw_tbl := lw_at lw_m4 53 rfl
theorem q909 : (Jvm.Cond.instanceMethod ({ cls := "OverFirst$Reader", name := "bar", desc := "()V" } : Jvm.MethodName)) ∈ lw_all := lw_g (lw_at lw_m4 54 rfl) rfl
theorem q910 : (Jvm.Cond.code ({ cls := "OverFirst$Reader", name := "bar", desc := "()V" } : Jvm.MethodName) prog_14_method_20_code (4 : Nat) (Option.none : Option Jvm.ClassFile.FieldType)) ∈ lw_all := lw_g (lw_at lw_m4 55 rfl) rfl
theorem q911 : (Jvm.Cond.stringRef "OverFirst$Reader" (215 : Nat) "over on ") ∈ lw_tbl := lw_at lw_m4 56 rfl
theorem q912 : (Jvm.Cond.methodLink "OverFirst$Reader" (169 : Nat) ({ cls := "OverFirst$Reader", name := "rule", desc := "()V" } : Jvm.MethodName)) ∈ lw_all := lw_g (lw_at lw_m4 57 rfl) rfl
theorem q913 : (Jvm.Cond.privateMethod ({ cls := "OverFirst$Reader", name := "rule", desc := "()V" } : Jvm.MethodName)) ∈ lw_tbl := lw_at lw_m4 58 rfl
theorem q914 : (Jvm.Cond.instanceMethod ({ cls := "OverFirst$Reader", name := "rule", desc := "()V" } : Jvm.MethodName)) ∈ lw_all := lw_g (lw_at lw_m4 59 rfl) rfl
theorem q915 : (Jvm.Cond.code ({ cls := "OverFirst$Reader", name := "rule", desc := "()V" } : Jvm.MethodName) prog_14_method_21_code (2 : Nat) (Option.none : Option Jvm.ClassFile.FieldType)) ∈ lw_all := lw_g (lw_at lw_m4 60 rfl) rfl
theorem q916 : (Jvm.Cond.methodLink "OverFirst$Reader" (220 : Nat) ({ cls := "OverFirst$Reader", name := "fresh", desc := "()Ljava/lang/String;" } : Jvm.MethodName)) ∈ lw_all := lw_g (lw_at lw_m4 61 rfl) rfl
theorem q917 : (Jvm.Cond.privateMethod ({ cls := "OverFirst$Reader", name := "fresh", desc := "()Ljava/lang/String;" } : Jvm.MethodName)) ∈ lw_tbl := lw_at lw_m4 62 rfl
theorem q918 : (Jvm.Cond.instanceMethod ({ cls := "OverFirst$Reader", name := "fresh", desc := "()Ljava/lang/String;" } : Jvm.MethodName)) ∈ lw_all := lw_g (lw_at lw_m4 63 rfl) rfl
theorem q919 : (Jvm.Cond.code ({ cls := "OverFirst$Reader", name := "fresh", desc := "()Ljava/lang/String;" } : Jvm.MethodName) prog_14_method_13_code (4 : Nat) (Option.some (Jvm.ClassFile.FieldType.object "java/lang/String"))) ∈ lw_all := lw_g (lw_at lw_m4 64 rfl) rfl
theorem q920 : (Jvm.Cond.stringRef "OverFirst$Reader" (83 : Nat) "town light bar rule walk run slow runs child round over on for clock hidden button police not and or ") ∈ lw_tbl := lw_at lw_m4 65 rfl
theorem q921 : (Jvm.Cond.classLink "OverFirst$Reader" (85 : Nat) "java/lang/StringBuilder") ∈ lw_all := lw_g (lw_at lw_m4 66 rfl) rfl
theorem q923 : (Jvm.Cond.methodLink "OverFirst$Reader" (87 : Nat) ({ cls := "java/lang/StringBuilder", name := "<init>", desc := "(I)V" } : Jvm.MethodName)) ∈ lw_all := lw_g (lw_at lw_m4 68 rfl) rfl
theorem q951 : (Jvm.Cond.methodLink "OverFirst$Reader" (90 : Nat) ({ cls := "java/lang/StringBuilder", name := "append", desc := "(C)Ljava/lang/StringBuilder;" } : Jvm.MethodName)) ∈ lw_all := lw_g (lw_at lw_m4 96 rfl) rfl
theorem q1011 : (Jvm.Cond.methodLink "OverFirst$Reader" (94 : Nat) ({ cls := "java/lang/StringBuilder", name := "toString", desc := "()Ljava/lang/String;" } : Jvm.MethodName)) ∈ lw_all := lw_g (lw_at lw_m4 156 rfl) rfl
theorem q1068 : (Jvm.Cond.methodLink "OverFirst$Reader" (112 : Nat) ({ cls := "java/util/ArrayList", name := "get", desc := "(I)Ljava/lang/Object;" } : Jvm.MethodName)) ∈ lw_all := lw_g (lw_at lw_m4 213 rfl) rfl
theorem q1080 : (Jvm.Cond.classLink "OverFirst$Reader" (51 : Nat) "java/lang/String") ∈ lw_all := lw_g (lw_at lw_m4 225 rfl) rfl
theorem q1081 : (Jvm.Cond.methodLink "OverFirst$Reader" (116 : Nat) ({ cls := "java/lang/String", name := "equals", desc := "(Ljava/lang/Object;)Z" } : Jvm.MethodName)) ∈ lw_all := lw_g (lw_at lw_m4 226 rfl) rfl
theorem q1089 : (Jvm.Cond.classLink "OverFirst$Reader" (226 : Nat) "OverFirst$Ruled") ∈ lw_all := lw_g (lw_at lw_m4 234 rfl) rfl
theorem q1091 : (Jvm.Cond.methodLink "OverFirst$Reader" (228 : Nat) ({ cls := "OverFirst$Reader", name := "expression", desc := "()LOverFirst$Expression;" } : Jvm.MethodName)) ∈ lw_all := lw_g (lw_at lw_m4 236 rfl) rfl
theorem q1092 : (Jvm.Cond.privateMethod ({ cls := "OverFirst$Reader", name := "expression", desc := "()LOverFirst$Expression;" } : Jvm.MethodName)) ∈ lw_tbl := lw_at lw_m4 237 rfl
theorem q1093 : (Jvm.Cond.instanceMethod ({ cls := "OverFirst$Reader", name := "expression", desc := "()LOverFirst$Expression;" } : Jvm.MethodName)) ∈ lw_all := lw_g (lw_at lw_m4 238 rfl) rfl
theorem q1094 : (Jvm.Cond.code ({ cls := "OverFirst$Reader", name := "expression", desc := "()LOverFirst$Expression;" } : Jvm.MethodName) prog_14_method_23_code (3 : Nat) (Option.some (Jvm.ClassFile.FieldType.object "OverFirst$Expression"))) ∈ lw_all := lw_g (lw_at lw_m4 239 rfl) rfl
theorem q1095 : (Jvm.Cond.methodLink "OverFirst$Reader" (253 : Nat) ({ cls := "OverFirst$Reader", name := "test", desc := "()LOverFirst$Expression;" } : Jvm.MethodName)) ∈ lw_all := lw_g (lw_at lw_m5 0 rfl) rfl
theorem q1096 : (Jvm.Cond.privateMethod ({ cls := "OverFirst$Reader", name := "test", desc := "()LOverFirst$Expression;" } : Jvm.MethodName)) ∈ lw_tbl := lw_at lw_m5 1 rfl
theorem q1097 : (Jvm.Cond.instanceMethod ({ cls := "OverFirst$Reader", name := "test", desc := "()LOverFirst$Expression;" } : Jvm.MethodName)) ∈ lw_all := lw_g (lw_at lw_m5 2 rfl) rfl
theorem q1098 : (Jvm.Cond.code ({ cls := "OverFirst$Reader", name := "test", desc := "()LOverFirst$Expression;" } : Jvm.MethodName) prog_14_method_24_code (3 : Nat) (Option.some (Jvm.ClassFile.FieldType.object "OverFirst$Expression"))) ∈ lw_all := lw_g (lw_at lw_m5 3 rfl) rfl
theorem q1099 : (Jvm.Cond.methodLink "OverFirst$Reader" (263 : Nat) ({ cls := "OverFirst$Reader", name := "sum", desc := "()LOverFirst$Expression;" } : Jvm.MethodName)) ∈ lw_all := lw_g (lw_at lw_m5 4 rfl) rfl
theorem q1100 : (Jvm.Cond.privateMethod ({ cls := "OverFirst$Reader", name := "sum", desc := "()LOverFirst$Expression;" } : Jvm.MethodName)) ∈ lw_tbl := lw_at lw_m5 5 rfl
theorem q1101 : (Jvm.Cond.instanceMethod ({ cls := "OverFirst$Reader", name := "sum", desc := "()LOverFirst$Expression;" } : Jvm.MethodName)) ∈ lw_all := lw_g (lw_at lw_m5 6 rfl) rfl
theorem q1102 : (Jvm.Cond.code ({ cls := "OverFirst$Reader", name := "sum", desc := "()LOverFirst$Expression;" } : Jvm.MethodName) prog_14_method_25_code (3 : Nat) (Option.some (Jvm.ClassFile.FieldType.object "OverFirst$Expression"))) ∈ lw_all := lw_g (lw_at lw_m5 7 rfl) rfl
theorem q1103 : (Jvm.Cond.methodLink "OverFirst$Reader" (266 : Nat) ({ cls := "OverFirst$Reader", name := "product", desc := "()LOverFirst$Expression;" } : Jvm.MethodName)) ∈ lw_all := lw_g (lw_at lw_m5 8 rfl) rfl
theorem q1104 : (Jvm.Cond.privateMethod ({ cls := "OverFirst$Reader", name := "product", desc := "()LOverFirst$Expression;" } : Jvm.MethodName)) ∈ lw_tbl := lw_at lw_m5 9 rfl
theorem q1105 : (Jvm.Cond.instanceMethod ({ cls := "OverFirst$Reader", name := "product", desc := "()LOverFirst$Expression;" } : Jvm.MethodName)) ∈ lw_all := lw_g (lw_at lw_m5 10 rfl) rfl
theorem q1106 : (Jvm.Cond.code ({ cls := "OverFirst$Reader", name := "product", desc := "()LOverFirst$Expression;" } : Jvm.MethodName) prog_14_method_26_code (2 : Nat) (Option.some (Jvm.ClassFile.FieldType.object "OverFirst$Expression"))) ∈ lw_all := lw_g (lw_at lw_m5 11 rfl) rfl
theorem q1107 : (Jvm.Cond.methodLink "OverFirst$Reader" (269 : Nat) ({ cls := "OverFirst$Reader", name := "part", desc := "()LOverFirst$Expression;" } : Jvm.MethodName)) ∈ lw_all := lw_g (lw_at lw_m5 12 rfl) rfl
theorem q1108 : (Jvm.Cond.privateMethod ({ cls := "OverFirst$Reader", name := "part", desc := "()LOverFirst$Expression;" } : Jvm.MethodName)) ∈ lw_tbl := lw_at lw_m5 13 rfl
theorem q1109 : (Jvm.Cond.instanceMethod ({ cls := "OverFirst$Reader", name := "part", desc := "()LOverFirst$Expression;" } : Jvm.MethodName)) ∈ lw_all := lw_g (lw_at lw_m5 14 rfl) rfl
theorem q1110 : (Jvm.Cond.code ({ cls := "OverFirst$Reader", name := "part", desc := "()LOverFirst$Expression;" } : Jvm.MethodName) prog_14_method_27_code (5 : Nat) (Option.some (Jvm.ClassFile.FieldType.object "OverFirst$Expression"))) ∈ lw_all := lw_g (lw_at lw_m5 15 rfl) rfl
theorem q1111 : (Jvm.Cond.stringRef "OverFirst$Reader" (272 : Nat) "over on left up ") ∈ lw_tbl := lw_at lw_m5 16 rfl
theorem q1112 : (Jvm.Cond.stringRef "OverFirst$Reader" (274 : Nat) "not ") ∈ lw_tbl := lw_at lw_m5 17 rfl
theorem q1113 : (Jvm.Cond.classLink "OverFirst$Reader" (276 : Nat) "OverFirst$Given") ∈ lw_all := lw_g (lw_at lw_m5 18 rfl) rfl
theorem q1115 : (Jvm.Cond.methodLink "OverFirst$Reader" (278 : Nat) ({ cls := "OverFirst$Given", name := "<init>", desc := "(I)V" } : Jvm.MethodName)) ∈ lw_all := lw_g (lw_at lw_m5 20 rfl) rfl
theorem q1126 : (Jvm.Cond.classLink "OverFirst$Reader" (279 : Nat) "OverFirst$Fact") ∈ lw_all := lw_g (lw_at lw_m5 31 rfl) rfl
theorem q1128 : (Jvm.Cond.methodLink "OverFirst$Reader" (281 : Nat) ({ cls := "OverFirst$Fact", name := "<init>", desc := "(I)V" } : Jvm.MethodName)) ∈ lw_all := lw_g (lw_at lw_m5 33 rfl) rfl
theorem q1136 : (Jvm.Cond.classLink "OverFirst$Reader" (282 : Nat) "OverFirst$Not") ∈ lw_all := lw_g (lw_at lw_m5 41 rfl) rfl
theorem q1138 : (Jvm.Cond.methodLink "OverFirst$Reader" (284 : Nat) ({ cls := "OverFirst$Not", name := "<init>", desc := "(LOverFirst$Expression;)V" } : Jvm.MethodName)) ∈ lw_all := lw_g (lw_at lw_m5 43 rfl) rfl
theorem q1146 : (Jvm.Cond.classLink "OverFirst$Reader" (258 : Nat) "OverFirst$Two") ∈ lw_all := lw_g (lw_at lw_m5 51 rfl) rfl
theorem q1148 : (Jvm.Cond.methodLink "OverFirst$Reader" (260 : Nat) ({ cls := "OverFirst$Two", name := "<init>", desc := "(CLOverFirst$Expression;LOverFirst$Expression;)V" } : Jvm.MethodName)) ∈ lw_all := lw_g (lw_at lw_m5 53 rfl) rfl
theorem q1162 : (Jvm.Cond.stringRef "OverFirst$Reader" (256 : Nat) "and or ") ∈ lw_tbl := lw_at lw_m5 67 rfl
theorem q1163 : (Jvm.Cond.methodLink "OverFirst$Reader" (232 : Nat) ({ cls := "OverFirst$Ruled", name := "<init>", desc := "(LOverFirst$Expression;)V" } : Jvm.MethodName)) ∈ lw_all := lw_g (lw_at lw_m5 68 rfl) rfl
theorem q1174 : (Jvm.Cond.methodLink "OverFirst$Reader" (235 : Nat) ({ cls := "java/util/ArrayList", name := "add", desc := "(Ljava/lang/Object;)Z" } : Jvm.MethodName)) ∈ lw_all := lw_g (lw_at lw_m5 79 rfl) rfl
theorem q1184 : (Jvm.Cond.instanceMethod ({ cls := "OverFirst$Reader", name := "walk", desc := "(LOverFirst$Town;)LOverFirst$Walk;" } : Jvm.MethodName)) ∈ lw_all := lw_g (lw_at lw_m5 89 rfl) rfl
theorem q1185 : (Jvm.Cond.selects "OverFirst$Reader" ({ cls := "OverFirst$Reader", name := "walk", desc := "(LOverFirst$Town;)LOverFirst$Walk;" } : Jvm.MethodName) ({ cls := "OverFirst$Reader", name := "walk", desc := "(LOverFirst$Town;)LOverFirst$Walk;" } : Jvm.MethodName)) ∈ lw_all := lw_g (lw_at lw_m5 90 rfl) rfl
theorem q1186 : (Jvm.Cond.code ({ cls := "OverFirst$Reader", name := "walk", desc := "(LOverFirst$Town;)LOverFirst$Walk;" } : Jvm.MethodName) prog_14_method_22_code (6 : Nat) (Option.some (Jvm.ClassFile.FieldType.object "OverFirst$Walk"))) ∈ lw_all := lw_g (lw_at lw_m5 91 rfl) rfl
theorem q1187 : (Jvm.Cond.classLink "OverFirst$Reader" (238 : Nat) "OverFirst$Walk") ∈ lw_all := lw_g (lw_at lw_m5 92 rfl) rfl
theorem q1188 : (Jvm.Cond.methodLinkNest "OverFirst$Reader" (240 : Nat) ({ cls := "OverFirst$Walk", name := "<init>", desc := "()V" } : Jvm.MethodName) "OverFirst") ∈ lw_tbl := lw_at lw_m5 93 rfl
theorem q1189 : (Jvm.Cond.methodLink "OverFirst$Reader" (241 : Nat) ({ cls := "OverFirst$Town", name := "leads", desc := "(III)Z" } : Jvm.MethodName)) ∈ lw_all := lw_g (lw_at lw_m5 94 rfl) rfl
theorem q2262 : (Jvm.Cond.castable "OverFirst$Reader" "java/lang/Object") ∈ lw_tbl := lw_at lw_m9 207 rfl
theorem in_X1 : ∀ w ∈ wsX10, w ∈ lw_all := lw_in wsX10 [199, 201, 203, 205, 207, 209, 211, 213] (by decide +kernel) (by decide +kernel)
/-! OverFirst$Town -/
set_option maxRecDepth 100000
def RX2 : String := "OverFirst$Town"
def TX2 : u_T := fun k => match k with
  | 0 => ("OverFirst$Town", "wide", "I", false)
  | 1 => ("OverFirst$Town", "deep", "I", false)
  | 2 => ("OverFirst$Town", "walk", "I", false)
  | 3 => ("OverFirst$Town", "run", "I", false)
  | 4 => ("OverFirst$Town", "slow", "I", false)
  | 5 => ("OverFirst$Town", "runs", "I", false)
  | 6 => ("OverFirst$Town", "common", "I", false)
  | 7 => ("OverFirst$Town", "hidden", "I", false)
  | 8 => ("OverFirst$Town", "isChild", "Z", false)
  | 9 => ("OverFirst$Town", "light", "[LOverFirst$Light;", true)
  | 10 => ("OverFirst$Town", "bar", "[I", true)
  | 11 => ("OverFirst$Town", "names", "Ljava/util/ArrayList;", true)
  | _ => ("OverFirst$Town", "goers", "Ljava/util/ArrayList;", true)
def tyX2 : Nat → FieldType := fun k => match k with
  | 0 => .int
  | 1 => .int
  | 2 => .int
  | 3 => .int
  | 4 => .int
  | 5 => .int
  | 6 => .int
  | 7 => .int
  | 8 => .boolean
  | 9 => .array (.object "OverFirst$Light")
  | 10 => .array .int
  | 11 => .object "java/util/ArrayList"
  | _ => .object "java/util/ArrayList"
abbrev wsX20 : List Cond := u_ws RX2 TX2 13
set_option maxRecDepth 100000 in
theorem nmX2 : ∀ a, a < 13 → ∀ b, b < 13 → a ≠ b → (TX2 a).2.1 ≠ (TX2 b).2.1 := by decide +kernel
set_option maxRecDepth 100000 in
theorem tyX2_ok : ∀ k, k < 13 → parseFieldDescriptor (TX2 k).2.2.1 = some (tyX2 k) := by decide +kernel
abbrev cX2_init : ByteArray := prog_18_method_1_code
def yX2_init : MethodName := ⟨RX2, "<init>", "()V"⟩
def dkwX2_init_5 : List UInt8 := [183, 0, 64, 182, 0, 58, 87, 42, 180, 0, 52, 187, 0, 65, 89, 183, 0, 67, 182, 0, 58, 87, 177]
abbrev dktX2_init_5 : List UInt8 := dkwX2_init_5 ++ []
def dkwX2_init_4 : List UInt8 := [42, 180, 0, 52, 187, 0, 55, 89, 4, 183, 0, 57, 182, 0, 58, 87, 42, 180, 0, 52, 187, 0, 62, 89]
abbrev dktX2_init_4 : List UInt8 := dkwX2_init_4 ++ dktX2_init_5
def dkwX2_init_3 : List UInt8 := [89, 7, 183, 0, 45, 181, 0, 52, 42, 180, 0, 52, 187, 0, 55, 89, 3, 183, 0, 57, 182, 0, 58, 87]
abbrev dktX2_init_3 : List UInt8 := dkwX2_init_3 ++ dktX2_init_4
def dkwX2_init_2 : List UInt8 := [42, 16, 54, 188, 10, 181, 0, 39, 42, 187, 0, 43, 89, 5, 183, 0, 45, 181, 0, 48, 42, 187, 0, 43]
abbrev dktX2_init_2 : List UInt8 := dkwX2_init_2 ++ dktX2_init_3
def dkwX2_init_1 : List UInt8 := [42, 2, 181, 0, 24, 42, 2, 181, 0, 27, 42, 4, 181, 0, 30, 42, 16, 54, 189, 0, 33, 181, 0, 35]
abbrev dktX2_init_1 : List UInt8 := dkwX2_init_1 ++ dktX2_init_2
def dkwX2_init_0 : List UInt8 := [42, 183, 0, 3, 42, 4, 181, 0, 9, 42, 4, 181, 0, 15, 42, 2, 181, 0, 18, 42, 2, 181, 0, 21]
abbrev dktX2_init_0 : List UInt8 := dkwX2_init_0 ++ dktX2_init_1
theorem dksX2_init_0 : cX2_init.data.toList.drop 0 = dktX2_init_0 := by decide +kernel
theorem dksX2_init_1 : cX2_init.data.toList.drop 24 = dktX2_init_1 := dk_seg dksX2_init_0 24 rfl rfl
theorem dksX2_init_2 : cX2_init.data.toList.drop 48 = dktX2_init_2 := dk_seg dksX2_init_1 24 rfl rfl
theorem dksX2_init_3 : cX2_init.data.toList.drop 72 = dktX2_init_3 := dk_seg dksX2_init_2 24 rfl rfl
theorem dksX2_init_4 : cX2_init.data.toList.drop 96 = dktX2_init_4 := dk_seg dksX2_init_3 24 rfl rfl
theorem dksX2_init_5 : cX2_init.data.toList.drop 120 = dktX2_init_5 := dk_seg dksX2_init_4 24 rfl rfl
theorem dX2_init_0 : decode cX2_init 0 = .ok (.aload_n 0, 1) := dk_42 (dk_at dksX2_init_0 0 rfl rfl)
theorem dX2_init_1 : decode cX2_init 1 = .ok (.invokespecial 3, 3) := dk_183 0 3 (dk_at dksX2_init_0 1 rfl rfl)
theorem dX2_init_4 : decode cX2_init 4 = .ok (.aload_n 0, 1) := dk_42 (dk_at dksX2_init_0 4 rfl rfl)
theorem dX2_init_5 : decode cX2_init 5 = .ok (.iconst 1, 1) := dk_4 (dk_at dksX2_init_0 5 rfl rfl)
theorem dX2_init_6 : decode cX2_init 6 = .ok (.putfield 9, 3) := dk_181 0 9 (dk_at dksX2_init_0 6 rfl rfl)
theorem dX2_init_9 : decode cX2_init 9 = .ok (.aload_n 0, 1) := dk_42 (dk_at dksX2_init_0 9 rfl rfl)
theorem dX2_init_10 : decode cX2_init 10 = .ok (.iconst 1, 1) := dk_4 (dk_at dksX2_init_0 10 rfl rfl)
theorem dX2_init_11 : decode cX2_init 11 = .ok (.putfield 15, 3) := dk_181 0 15 (dk_at dksX2_init_0 11 rfl rfl)
theorem dX2_init_14 : decode cX2_init 14 = .ok (.aload_n 0, 1) := dk_42 (dk_at dksX2_init_0 14 rfl rfl)
theorem dX2_init_15 : decode cX2_init 15 = .ok (.iconst (-1), 1) := dk_2 (dk_at dksX2_init_0 15 rfl rfl)
theorem dX2_init_16 : decode cX2_init 16 = .ok (.putfield 18, 3) := dk_181 0 18 (dk_at dksX2_init_0 16 rfl rfl)
theorem dX2_init_19 : decode cX2_init 19 = .ok (.aload_n 0, 1) := dk_42 (dk_at dksX2_init_0 19 rfl rfl)
theorem dX2_init_20 : decode cX2_init 20 = .ok (.iconst (-1), 1) := dk_2 (dk_at dksX2_init_0 20 rfl rfl)
theorem dX2_init_21 : decode cX2_init 21 = .ok (.putfield 21, 3) := dk_181 0 21 (dk_at dksX2_init_0 21 rfl rfl)
theorem dX2_init_24 : decode cX2_init 24 = .ok (.aload_n 0, 1) := dk_42 (dk_at dksX2_init_1 0 rfl rfl)
theorem dX2_init_25 : decode cX2_init 25 = .ok (.iconst (-1), 1) := dk_2 (dk_at dksX2_init_1 1 rfl rfl)
theorem dX2_init_26 : decode cX2_init 26 = .ok (.putfield 24, 3) := dk_181 0 24 (dk_at dksX2_init_1 2 rfl rfl)
theorem dX2_init_29 : decode cX2_init 29 = .ok (.aload_n 0, 1) := dk_42 (dk_at dksX2_init_1 5 rfl rfl)
theorem dX2_init_30 : decode cX2_init 30 = .ok (.iconst (-1), 1) := dk_2 (dk_at dksX2_init_1 6 rfl rfl)
theorem dX2_init_31 : decode cX2_init 31 = .ok (.putfield 27, 3) := dk_181 0 27 (dk_at dksX2_init_1 7 rfl rfl)
theorem dX2_init_34 : decode cX2_init 34 = .ok (.aload_n 0, 1) := dk_42 (dk_at dksX2_init_1 10 rfl rfl)
theorem dX2_init_35 : decode cX2_init 35 = .ok (.iconst 1, 1) := dk_4 (dk_at dksX2_init_1 11 rfl rfl)
theorem dX2_init_36 : decode cX2_init 36 = .ok (.putfield 30, 3) := dk_181 0 30 (dk_at dksX2_init_1 12 rfl rfl)
theorem dX2_init_39 : decode cX2_init 39 = .ok (.aload_n 0, 1) := dk_42 (dk_at dksX2_init_1 15 rfl rfl)
theorem dX2_init_40 : decode cX2_init 40 = .ok (.bipush 54, 2) := dk_16 54 (dk_at dksX2_init_1 16 rfl rfl)
theorem dX2_init_42 : decode cX2_init 42 = .ok (.anewarray 33, 3) := dk_189 0 33 (dk_at dksX2_init_1 18 rfl rfl)
theorem dX2_init_45 : decode cX2_init 45 = .ok (.putfield 35, 3) := dk_181 0 35 (dk_at dksX2_init_1 21 rfl rfl)
theorem dX2_init_48 : decode cX2_init 48 = .ok (.aload_n 0, 1) := dk_42 (dk_at dksX2_init_2 0 rfl rfl)
theorem dX2_init_49 : decode cX2_init 49 = .ok (.bipush 54, 2) := dk_16 54 (dk_at dksX2_init_2 1 rfl rfl)
theorem dX2_init_51 : decode cX2_init 51 = .ok (.newarray .int, 2) := dk_188_10 (dk_at dksX2_init_2 3 rfl rfl)
theorem dX2_init_53 : decode cX2_init 53 = .ok (.putfield 39, 3) := dk_181 0 39 (dk_at dksX2_init_2 5 rfl rfl)
theorem dX2_init_56 : decode cX2_init 56 = .ok (.aload_n 0, 1) := dk_42 (dk_at dksX2_init_2 8 rfl rfl)
theorem dX2_init_57 : decode cX2_init 57 = .ok (.new 43, 3) := dk_187 0 43 (dk_at dksX2_init_2 9 rfl rfl)
theorem dX2_init_60 : decode cX2_init 60 = .ok (.dup, 1) := dk_89 (dk_at dksX2_init_2 12 rfl rfl)
theorem dX2_init_61 : decode cX2_init 61 = .ok (.iconst 2, 1) := dk_5 (dk_at dksX2_init_2 13 rfl rfl)
theorem dX2_init_62 : decode cX2_init 62 = .ok (.invokespecial 45, 3) := dk_183 0 45 (dk_at dksX2_init_2 14 rfl rfl)
theorem dX2_init_65 : decode cX2_init 65 = .ok (.putfield 48, 3) := dk_181 0 48 (dk_at dksX2_init_2 17 rfl rfl)
theorem dX2_init_68 : decode cX2_init 68 = .ok (.aload_n 0, 1) := dk_42 (dk_at dksX2_init_2 20 rfl rfl)
theorem dX2_init_69 : decode cX2_init 69 = .ok (.new 43, 3) := dk_187 0 43 (dk_at dksX2_init_2 21 rfl rfl)
theorem dX2_init_72 : decode cX2_init 72 = .ok (.dup, 1) := dk_89 (dk_at dksX2_init_3 0 rfl rfl)
theorem dX2_init_73 : decode cX2_init 73 = .ok (.iconst 4, 1) := dk_7 (dk_at dksX2_init_3 1 rfl rfl)
theorem dX2_init_74 : decode cX2_init 74 = .ok (.invokespecial 45, 3) := dk_183 0 45 (dk_at dksX2_init_3 2 rfl rfl)
theorem dX2_init_77 : decode cX2_init 77 = .ok (.putfield 52, 3) := dk_181 0 52 (dk_at dksX2_init_3 5 rfl rfl)
theorem dX2_init_80 : decode cX2_init 80 = .ok (.aload_n 0, 1) := dk_42 (dk_at dksX2_init_3 8 rfl rfl)
theorem dX2_init_81 : decode cX2_init 81 = .ok (.getfield 52, 3) := dk_180 0 52 (dk_at dksX2_init_3 9 rfl rfl)
theorem dX2_init_84 : decode cX2_init 84 = .ok (.new 55, 3) := dk_187 0 55 (dk_at dksX2_init_3 12 rfl rfl)
theorem dX2_init_87 : decode cX2_init 87 = .ok (.dup, 1) := dk_89 (dk_at dksX2_init_3 15 rfl rfl)
theorem dX2_init_88 : decode cX2_init 88 = .ok (.iconst 0, 1) := dk_3 (dk_at dksX2_init_3 16 rfl rfl)
theorem dX2_init_89 : decode cX2_init 89 = .ok (.invokespecial 57, 3) := dk_183 0 57 (dk_at dksX2_init_3 17 rfl rfl)
theorem dX2_init_92 : decode cX2_init 92 = .ok (.invokevirtual 58, 3) := dk_182 0 58 (dk_at dksX2_init_3 20 rfl rfl)
theorem dX2_init_95 : decode cX2_init 95 = .ok (.pop, 1) := dk_87 (dk_at dksX2_init_3 23 rfl rfl)
theorem dX2_init_96 : decode cX2_init 96 = .ok (.aload_n 0, 1) := dk_42 (dk_at dksX2_init_4 0 rfl rfl)
theorem dX2_init_97 : decode cX2_init 97 = .ok (.getfield 52, 3) := dk_180 0 52 (dk_at dksX2_init_4 1 rfl rfl)
theorem dX2_init_100 : decode cX2_init 100 = .ok (.new 55, 3) := dk_187 0 55 (dk_at dksX2_init_4 4 rfl rfl)
theorem dX2_init_103 : decode cX2_init 103 = .ok (.dup, 1) := dk_89 (dk_at dksX2_init_4 7 rfl rfl)
theorem dX2_init_104 : decode cX2_init 104 = .ok (.iconst 1, 1) := dk_4 (dk_at dksX2_init_4 8 rfl rfl)
theorem dX2_init_105 : decode cX2_init 105 = .ok (.invokespecial 57, 3) := dk_183 0 57 (dk_at dksX2_init_4 9 rfl rfl)
theorem dX2_init_108 : decode cX2_init 108 = .ok (.invokevirtual 58, 3) := dk_182 0 58 (dk_at dksX2_init_4 12 rfl rfl)
theorem dX2_init_111 : decode cX2_init 111 = .ok (.pop, 1) := dk_87 (dk_at dksX2_init_4 15 rfl rfl)
theorem dX2_init_112 : decode cX2_init 112 = .ok (.aload_n 0, 1) := dk_42 (dk_at dksX2_init_4 16 rfl rfl)
theorem dX2_init_113 : decode cX2_init 113 = .ok (.getfield 52, 3) := dk_180 0 52 (dk_at dksX2_init_4 17 rfl rfl)
theorem dX2_init_116 : decode cX2_init 116 = .ok (.new 62, 3) := dk_187 0 62 (dk_at dksX2_init_4 20 rfl rfl)
theorem dX2_init_119 : decode cX2_init 119 = .ok (.dup, 1) := dk_89 (dk_at dksX2_init_4 23 rfl rfl)
theorem dX2_init_120 : decode cX2_init 120 = .ok (.invokespecial 64, 3) := dk_183 0 64 (dk_at dksX2_init_5 0 rfl rfl)
theorem dX2_init_123 : decode cX2_init 123 = .ok (.invokevirtual 58, 3) := dk_182 0 58 (dk_at dksX2_init_5 3 rfl rfl)
theorem dX2_init_126 : decode cX2_init 126 = .ok (.pop, 1) := dk_87 (dk_at dksX2_init_5 6 rfl rfl)
theorem dX2_init_127 : decode cX2_init 127 = .ok (.aload_n 0, 1) := dk_42 (dk_at dksX2_init_5 7 rfl rfl)
theorem dX2_init_128 : decode cX2_init 128 = .ok (.getfield 52, 3) := dk_180 0 52 (dk_at dksX2_init_5 8 rfl rfl)
theorem dX2_init_131 : decode cX2_init 131 = .ok (.new 65, 3) := dk_187 0 65 (dk_at dksX2_init_5 11 rfl rfl)
theorem dX2_init_134 : decode cX2_init 134 = .ok (.dup, 1) := dk_89 (dk_at dksX2_init_5 14 rfl rfl)
theorem dX2_init_135 : decode cX2_init 135 = .ok (.invokespecial 67, 3) := dk_183 0 67 (dk_at dksX2_init_5 15 rfl rfl)
theorem dX2_init_138 : decode cX2_init 138 = .ok (.invokevirtual 58, 3) := dk_182 0 58 (dk_at dksX2_init_5 18 rfl rfl)
theorem dX2_init_141 : decode cX2_init 141 = .ok (.pop, 1) := dk_87 (dk_at dksX2_init_5 21 rfl rfl)
theorem dX2_init_142 : decode cX2_init 142 = .ok (.return_, 1) := dk_177 (dk_at dksX2_init_5 22 rfl rfl)
abbrev cX2_leads : ByteArray := prog_18_method_7_code
def yX2_leads : MethodName := ⟨RX2, "leads", "(III)Z"⟩
def dkwX2_leads_2 : List UInt8 := [167, 0, 4, 3, 172]
abbrev dktX2_leads_2 : List UInt8 := dkwX2_leads_2 ++ []
def dkwX2_leads_1 : List UInt8 := [162, 0, 25, 42, 180, 0, 39, 28, 16, 6, 104, 27, 96, 46, 29, 122, 4, 126, 154, 0, 7, 4]
abbrev dktX2_leads_1 : List UInt8 := dkwX2_leads_1 ++ dktX2_leads_2
def dkwX2_leads_0 : List UInt8 := [29, 154, 0, 16, 27, 4, 96, 42, 180, 0, 9, 162, 0, 38, 167, 0, 13, 28, 4, 96, 42, 180, 0, 15]
abbrev dktX2_leads_0 : List UInt8 := dkwX2_leads_0 ++ dktX2_leads_1
theorem dksX2_leads_0 : cX2_leads.data.toList.drop 0 = dktX2_leads_0 := by decide +kernel
theorem dksX2_leads_1 : cX2_leads.data.toList.drop 24 = dktX2_leads_1 := dk_seg dksX2_leads_0 24 rfl rfl
theorem dksX2_leads_2 : cX2_leads.data.toList.drop 46 = dktX2_leads_2 := dk_seg dksX2_leads_1 22 rfl rfl
theorem dX2_leads_0 : decode cX2_leads 0 = .ok (.iload_n 3, 1) := dk_29 (dk_at dksX2_leads_0 0 rfl rfl)
theorem dX2_leads_1 : decode cX2_leads 1 = .ok (.ifCond .ne 16, 3) := dk_154 0 16 (dk_at dksX2_leads_0 1 rfl rfl)
theorem dX2_leads_4 : decode cX2_leads 4 = .ok (.iload_n 1, 1) := dk_27 (dk_at dksX2_leads_0 4 rfl rfl)
theorem dX2_leads_5 : decode cX2_leads 5 = .ok (.iconst 1, 1) := dk_4 (dk_at dksX2_leads_0 5 rfl rfl)
theorem dX2_leads_6 : decode cX2_leads 6 = .ok (.iadd, 1) := dk_96 (dk_at dksX2_leads_0 6 rfl rfl)
theorem dX2_leads_7 : decode cX2_leads 7 = .ok (.aload_n 0, 1) := dk_42 (dk_at dksX2_leads_0 7 rfl rfl)
theorem dX2_leads_8 : decode cX2_leads 8 = .ok (.getfield 9, 3) := dk_180 0 9 (dk_at dksX2_leads_0 8 rfl rfl)
theorem dX2_leads_11 : decode cX2_leads 11 = .ok (.if_icmp .ge 38, 3) := dk_162 0 38 (dk_at dksX2_leads_0 11 rfl rfl)
theorem dX2_leads_14 : decode cX2_leads 14 = .ok (.goto 13, 3) := dk_167 0 13 (dk_at dksX2_leads_0 14 rfl rfl)
theorem dX2_leads_17 : decode cX2_leads 17 = .ok (.iload_n 2, 1) := dk_28 (dk_at dksX2_leads_0 17 rfl rfl)
theorem dX2_leads_18 : decode cX2_leads 18 = .ok (.iconst 1, 1) := dk_4 (dk_at dksX2_leads_0 18 rfl rfl)
theorem dX2_leads_19 : decode cX2_leads 19 = .ok (.iadd, 1) := dk_96 (dk_at dksX2_leads_0 19 rfl rfl)
theorem dX2_leads_20 : decode cX2_leads 20 = .ok (.aload_n 0, 1) := dk_42 (dk_at dksX2_leads_0 20 rfl rfl)
theorem dX2_leads_21 : decode cX2_leads 21 = .ok (.getfield 15, 3) := dk_180 0 15 (dk_at dksX2_leads_0 21 rfl rfl)
theorem dX2_leads_24 : decode cX2_leads 24 = .ok (.if_icmp .ge 25, 3) := dk_162 0 25 (dk_at dksX2_leads_1 0 rfl rfl)
theorem dX2_leads_27 : decode cX2_leads 27 = .ok (.aload_n 0, 1) := dk_42 (dk_at dksX2_leads_1 3 rfl rfl)
theorem dX2_leads_28 : decode cX2_leads 28 = .ok (.getfield 39, 3) := dk_180 0 39 (dk_at dksX2_leads_1 4 rfl rfl)
theorem dX2_leads_31 : decode cX2_leads 31 = .ok (.iload_n 2, 1) := dk_28 (dk_at dksX2_leads_1 7 rfl rfl)
theorem dX2_leads_32 : decode cX2_leads 32 = .ok (.bipush 6, 2) := dk_16 6 (dk_at dksX2_leads_1 8 rfl rfl)
theorem dX2_leads_34 : decode cX2_leads 34 = .ok (.imul, 1) := dk_104 (dk_at dksX2_leads_1 10 rfl rfl)
theorem dX2_leads_35 : decode cX2_leads 35 = .ok (.iload_n 1, 1) := dk_27 (dk_at dksX2_leads_1 11 rfl rfl)
theorem dX2_leads_36 : decode cX2_leads 36 = .ok (.iadd, 1) := dk_96 (dk_at dksX2_leads_1 12 rfl rfl)
theorem dX2_leads_37 : decode cX2_leads 37 = .ok (.iaload, 1) := dk_46 (dk_at dksX2_leads_1 13 rfl rfl)
theorem dX2_leads_38 : decode cX2_leads 38 = .ok (.iload_n 3, 1) := dk_29 (dk_at dksX2_leads_1 14 rfl rfl)
theorem dX2_leads_39 : decode cX2_leads 39 = .ok (.ishr, 1) := dk_122 (dk_at dksX2_leads_1 15 rfl rfl)
theorem dX2_leads_40 : decode cX2_leads 40 = .ok (.iconst 1, 1) := dk_4 (dk_at dksX2_leads_1 16 rfl rfl)
theorem dX2_leads_41 : decode cX2_leads 41 = .ok (.iand, 1) := dk_126 (dk_at dksX2_leads_1 17 rfl rfl)
theorem dX2_leads_42 : decode cX2_leads 42 = .ok (.ifCond .ne 7, 3) := dk_154 0 7 (dk_at dksX2_leads_1 18 rfl rfl)
theorem dX2_leads_45 : decode cX2_leads 45 = .ok (.iconst 1, 1) := dk_4 (dk_at dksX2_leads_1 21 rfl rfl)
theorem dX2_leads_46 : decode cX2_leads 46 = .ok (.goto 4, 3) := dk_167 0 4 (dk_at dksX2_leads_2 0 rfl rfl)
theorem dX2_leads_49 : decode cX2_leads 49 = .ok (.iconst 0, 1) := dk_3 (dk_at dksX2_leads_2 3 rfl rfl)
theorem dX2_leads_50 : decode cX2_leads 50 = .ok (.ireturn, 1) := dk_172 (dk_at dksX2_leads_2 4 rfl rfl)
abbrev cX2_isCorner : ByteArray := prog_18_method_6_code
def yX2_isCorner : MethodName := ⟨RX2, "isCorner", "(II)Z"⟩
def dkwX2_isCorner_1 : List UInt8 := [184, 0, 75, 153, 0, 7, 4, 167, 0, 4, 3, 172]
abbrev dktX2_isCorner_1 : List UInt8 := dkwX2_isCorner_1 ++ []
def dkwX2_isCorner_0 : List UInt8 := [27, 3, 42, 180, 0, 9, 4, 100, 184, 0, 75, 153, 0, 21, 28, 3, 42, 180, 0, 15, 4, 100]
abbrev dktX2_isCorner_0 : List UInt8 := dkwX2_isCorner_0 ++ dktX2_isCorner_1
theorem dksX2_isCorner_0 : cX2_isCorner.data.toList.drop 0 = dktX2_isCorner_0 := by decide +kernel
theorem dksX2_isCorner_1 : cX2_isCorner.data.toList.drop 22 = dktX2_isCorner_1 := dk_seg dksX2_isCorner_0 22 rfl rfl
theorem dX2_isCorner_0 : decode cX2_isCorner 0 = .ok (.iload_n 1, 1) := dk_27 (dk_at dksX2_isCorner_0 0 rfl rfl)
theorem dX2_isCorner_1 : decode cX2_isCorner 1 = .ok (.iconst 0, 1) := dk_3 (dk_at dksX2_isCorner_0 1 rfl rfl)
theorem dX2_isCorner_2 : decode cX2_isCorner 2 = .ok (.aload_n 0, 1) := dk_42 (dk_at dksX2_isCorner_0 2 rfl rfl)
theorem dX2_isCorner_3 : decode cX2_isCorner 3 = .ok (.getfield 9, 3) := dk_180 0 9 (dk_at dksX2_isCorner_0 3 rfl rfl)
theorem dX2_isCorner_6 : decode cX2_isCorner 6 = .ok (.iconst 1, 1) := dk_4 (dk_at dksX2_isCorner_0 6 rfl rfl)
theorem dX2_isCorner_7 : decode cX2_isCorner 7 = .ok (.isub, 1) := dk_100 (dk_at dksX2_isCorner_0 7 rfl rfl)
theorem dX2_isCorner_8 : decode cX2_isCorner 8 = .ok (.invokestatic 75, 3) := dk_184 0 75 (dk_at dksX2_isCorner_0 8 rfl rfl)
theorem dX2_isCorner_11 : decode cX2_isCorner 11 = .ok (.ifCond .eq 21, 3) := dk_153 0 21 (dk_at dksX2_isCorner_0 11 rfl rfl)
theorem dX2_isCorner_14 : decode cX2_isCorner 14 = .ok (.iload_n 2, 1) := dk_28 (dk_at dksX2_isCorner_0 14 rfl rfl)
theorem dX2_isCorner_15 : decode cX2_isCorner 15 = .ok (.iconst 0, 1) := dk_3 (dk_at dksX2_isCorner_0 15 rfl rfl)
theorem dX2_isCorner_16 : decode cX2_isCorner 16 = .ok (.aload_n 0, 1) := dk_42 (dk_at dksX2_isCorner_0 16 rfl rfl)
theorem dX2_isCorner_17 : decode cX2_isCorner 17 = .ok (.getfield 15, 3) := dk_180 0 15 (dk_at dksX2_isCorner_0 17 rfl rfl)
theorem dX2_isCorner_20 : decode cX2_isCorner 20 = .ok (.iconst 1, 1) := dk_4 (dk_at dksX2_isCorner_0 20 rfl rfl)
theorem dX2_isCorner_21 : decode cX2_isCorner 21 = .ok (.isub, 1) := dk_100 (dk_at dksX2_isCorner_0 21 rfl rfl)
theorem dX2_isCorner_22 : decode cX2_isCorner 22 = .ok (.invokestatic 75, 3) := dk_184 0 75 (dk_at dksX2_isCorner_1 0 rfl rfl)
theorem dX2_isCorner_25 : decode cX2_isCorner 25 = .ok (.ifCond .eq 7, 3) := dk_153 0 7 (dk_at dksX2_isCorner_1 3 rfl rfl)
theorem dX2_isCorner_28 : decode cX2_isCorner 28 = .ok (.iconst 1, 1) := dk_4 (dk_at dksX2_isCorner_1 6 rfl rfl)
theorem dX2_isCorner_29 : decode cX2_isCorner 29 = .ok (.goto 4, 3) := dk_167 0 4 (dk_at dksX2_isCorner_1 7 rfl rfl)
theorem dX2_isCorner_32 : decode cX2_isCorner 32 = .ok (.iconst 0, 1) := dk_3 (dk_at dksX2_isCorner_1 10 rfl rfl)
theorem dX2_isCorner_33 : decode cX2_isCorner 33 = .ok (.ireturn, 1) := dk_172 (dk_at dksX2_isCorner_1 11 rfl rfl)
abbrev cX2_runs : ByteArray := prog_18_method_5_code
def yX2_runs : MethodName := ⟨RX2, "runs", "()I"⟩
def dkwX2_runs_0 : List UInt8 := [42, 180, 0, 71, 154, 0, 10, 42, 180, 0, 27, 156, 0, 7, 3, 167, 0, 7, 42, 180, 0, 27, 172]
abbrev dktX2_runs_0 : List UInt8 := dkwX2_runs_0 ++ []
theorem dksX2_runs_0 : cX2_runs.data.toList.drop 0 = dktX2_runs_0 := by decide +kernel
theorem dX2_runs_0 : decode cX2_runs 0 = .ok (.aload_n 0, 1) := dk_42 (dk_at dksX2_runs_0 0 rfl rfl)
theorem dX2_runs_1 : decode cX2_runs 1 = .ok (.getfield 71, 3) := dk_180 0 71 (dk_at dksX2_runs_0 1 rfl rfl)
theorem dX2_runs_4 : decode cX2_runs 4 = .ok (.ifCond .ne 10, 3) := dk_154 0 10 (dk_at dksX2_runs_0 4 rfl rfl)
theorem dX2_runs_7 : decode cX2_runs 7 = .ok (.aload_n 0, 1) := dk_42 (dk_at dksX2_runs_0 7 rfl rfl)
theorem dX2_runs_8 : decode cX2_runs 8 = .ok (.getfield 27, 3) := dk_180 0 27 (dk_at dksX2_runs_0 8 rfl rfl)
theorem dX2_runs_11 : decode cX2_runs 11 = .ok (.ifCond .ge 7, 3) := dk_156 0 7 (dk_at dksX2_runs_0 11 rfl rfl)
theorem dX2_runs_14 : decode cX2_runs 14 = .ok (.iconst 0, 1) := dk_3 (dk_at dksX2_runs_0 14 rfl rfl)
theorem dX2_runs_15 : decode cX2_runs 15 = .ok (.goto 7, 3) := dk_167 0 7 (dk_at dksX2_runs_0 15 rfl rfl)
theorem dX2_runs_18 : decode cX2_runs 18 = .ok (.aload_n 0, 1) := dk_42 (dk_at dksX2_runs_0 18 rfl rfl)
theorem dX2_runs_19 : decode cX2_runs 19 = .ok (.getfield 27, 3) := dk_180 0 27 (dk_at dksX2_runs_0 19 rfl rfl)
theorem dX2_runs_22 : decode cX2_runs 22 = .ok (.ireturn, 1) := dk_172 (dk_at dksX2_runs_0 22 rfl rfl)
abbrev cX2_run : ByteArray := prog_18_method_3_code
def yX2_run : MethodName := ⟨RX2, "run", "()I"⟩
def dkwX2_run_0 : List UInt8 := [42, 180, 0, 21, 156, 0, 10, 42, 182, 0, 68, 167, 0, 7, 42, 180, 0, 21, 172]
abbrev dktX2_run_0 : List UInt8 := dkwX2_run_0 ++ []
theorem dksX2_run_0 : cX2_run.data.toList.drop 0 = dktX2_run_0 := by decide +kernel
theorem dX2_run_0 : decode cX2_run 0 = .ok (.aload_n 0, 1) := dk_42 (dk_at dksX2_run_0 0 rfl rfl)
theorem dX2_run_1 : decode cX2_run 1 = .ok (.getfield 21, 3) := dk_180 0 21 (dk_at dksX2_run_0 1 rfl rfl)
theorem dX2_run_4 : decode cX2_run 4 = .ok (.ifCond .ge 10, 3) := dk_156 0 10 (dk_at dksX2_run_0 4 rfl rfl)
theorem dX2_run_7 : decode cX2_run 7 = .ok (.aload_n 0, 1) := dk_42 (dk_at dksX2_run_0 7 rfl rfl)
theorem dX2_run_8 : decode cX2_run 8 = .ok (.invokevirtual 68, 3) := dk_182 0 68 (dk_at dksX2_run_0 8 rfl rfl)
theorem dX2_run_11 : decode cX2_run 11 = .ok (.goto 7, 3) := dk_167 0 7 (dk_at dksX2_run_0 11 rfl rfl)
theorem dX2_run_14 : decode cX2_run 14 = .ok (.aload_n 0, 1) := dk_42 (dk_at dksX2_run_0 14 rfl rfl)
theorem dX2_run_15 : decode cX2_run 15 = .ok (.getfield 21, 3) := dk_180 0 21 (dk_at dksX2_run_0 15 rfl rfl)
theorem dX2_run_18 : decode cX2_run 18 = .ok (.ireturn, 1) := dk_172 (dk_at dksX2_run_0 18 rfl rfl)
abbrev cX2_walk : ByteArray := prog_18_method_2_code
def yX2_walk : MethodName := ⟨RX2, "walk", "()I"⟩
def dkwX2_walk_0 : List UInt8 := [42, 180, 0, 18, 156, 0, 8, 16, 10, 167, 0, 7, 42, 180, 0, 18, 172]
abbrev dktX2_walk_0 : List UInt8 := dkwX2_walk_0 ++ []
theorem dksX2_walk_0 : cX2_walk.data.toList.drop 0 = dktX2_walk_0 := by decide +kernel
theorem dX2_walk_0 : decode cX2_walk 0 = .ok (.aload_n 0, 1) := dk_42 (dk_at dksX2_walk_0 0 rfl rfl)
theorem dX2_walk_1 : decode cX2_walk 1 = .ok (.getfield 18, 3) := dk_180 0 18 (dk_at dksX2_walk_0 1 rfl rfl)
theorem dX2_walk_4 : decode cX2_walk 4 = .ok (.ifCond .ge 8, 3) := dk_156 0 8 (dk_at dksX2_walk_0 4 rfl rfl)
theorem dX2_walk_7 : decode cX2_walk 7 = .ok (.bipush 10, 2) := dk_16 10 (dk_at dksX2_walk_0 7 rfl rfl)
theorem dX2_walk_9 : decode cX2_walk 9 = .ok (.goto 7, 3) := dk_167 0 7 (dk_at dksX2_walk_0 9 rfl rfl)
theorem dX2_walk_12 : decode cX2_walk 12 = .ok (.aload_n 0, 1) := dk_42 (dk_at dksX2_walk_0 12 rfl rfl)
theorem dX2_walk_13 : decode cX2_walk 13 = .ok (.getfield 18, 3) := dk_180 0 18 (dk_at dksX2_walk_0 13 rfl rfl)
theorem dX2_walk_16 : decode cX2_walk 16 = .ok (.ireturn, 1) := dk_172 (dk_at dksX2_walk_0 16 rfl rfl)
abbrev cX2_slow : ByteArray := prog_18_method_4_code
def yX2_slow : MethodName := ⟨RX2, "slow", "()I"⟩
def dkwX2_slow_0 : List UInt8 := [42, 180, 0, 24, 156, 0, 10, 42, 182, 0, 68, 167, 0, 7, 42, 180, 0, 24, 172]
abbrev dktX2_slow_0 : List UInt8 := dkwX2_slow_0 ++ []
theorem dksX2_slow_0 : cX2_slow.data.toList.drop 0 = dktX2_slow_0 := by decide +kernel
theorem dX2_slow_0 : decode cX2_slow 0 = .ok (.aload_n 0, 1) := dk_42 (dk_at dksX2_slow_0 0 rfl rfl)
theorem dX2_slow_1 : decode cX2_slow 1 = .ok (.getfield 24, 3) := dk_180 0 24 (dk_at dksX2_slow_0 1 rfl rfl)
theorem dX2_slow_4 : decode cX2_slow 4 = .ok (.ifCond .ge 10, 3) := dk_156 0 10 (dk_at dksX2_slow_0 4 rfl rfl)
theorem dX2_slow_7 : decode cX2_slow 7 = .ok (.aload_n 0, 1) := dk_42 (dk_at dksX2_slow_0 7 rfl rfl)
theorem dX2_slow_8 : decode cX2_slow 8 = .ok (.invokevirtual 68, 3) := dk_182 0 68 (dk_at dksX2_slow_0 8 rfl rfl)
theorem dX2_slow_11 : decode cX2_slow 11 = .ok (.goto 7, 3) := dk_167 0 7 (dk_at dksX2_slow_0 11 rfl rfl)
theorem dX2_slow_14 : decode cX2_slow 14 = .ok (.aload_n 0, 1) := dk_42 (dk_at dksX2_slow_0 14 rfl rfl)
theorem dX2_slow_15 : decode cX2_slow 15 = .ok (.getfield 24, 3) := dk_180 0 24 (dk_at dksX2_slow_0 15 rfl rfl)
theorem dX2_slow_18 : decode cX2_slow 18 = .ok (.ireturn, 1) := dk_172 (dk_at dksX2_slow_0 18 rfl rfl)
theorem q138 : (Jvm.Cond.initialized "OverFirst$Town") ∈ lw_all := lw_g (lw_at lw_m1 3 rfl) rfl
theorem q218 : (Jvm.Cond.instantiable "OverFirst$Town" (13 : Nat)) ∈ lw_all := lw_g (lw_at lw_m1 83 rfl) rfl
theorem q220 : (Jvm.Cond.instanceMethod ({ cls := "OverFirst$Town", name := "<init>", desc := "()V" } : Jvm.MethodName)) ∈ lw_all := lw_g (lw_at lw_m1 85 rfl) rfl
theorem q221 : (Jvm.Cond.code ({ cls := "OverFirst$Town", name := "<init>", desc := "()V" } : Jvm.MethodName) prog_18_method_1_code (1 : Nat) (Option.none : Option Jvm.ClassFile.FieldType)) ∈ lw_all := lw_g (lw_at lw_m1 86 rfl) rfl
theorem q222 : (Jvm.Cond.methodLink "OverFirst$Town" (3 : Nat) ({ cls := "java/lang/Object", name := "<init>", desc := "()V" } : Jvm.MethodName)) ∈ lw_all := lw_g (lw_at lw_m1 87 rfl) rfl
theorem q223 : (Jvm.Cond.classLink "OverFirst$Town" (33 : Nat) "OverFirst$Light") ∈ lw_all := lw_g (lw_at lw_m1 88 rfl) rfl
theorem q225 : (Jvm.Cond.classLink "OverFirst$Town" (43 : Nat) "java/util/ArrayList") ∈ lw_all := lw_g (lw_at lw_m1 90 rfl) rfl
theorem q227 : (Jvm.Cond.methodLink "OverFirst$Town" (45 : Nat) ({ cls := "java/util/ArrayList", name := "<init>", desc := "(I)V" } : Jvm.MethodName)) ∈ lw_all := lw_g (lw_at lw_m1 92 rfl) rfl
theorem q254 : (Jvm.Cond.classLink "OverFirst$Town" (55 : Nat) "OverFirst$First") ∈ lw_all := lw_g (lw_at lw_m1 119 rfl) rfl
theorem q256 : (Jvm.Cond.methodLink "OverFirst$Town" (57 : Nat) ({ cls := "OverFirst$First", name := "<init>", desc := "(I)V" } : Jvm.MethodName)) ∈ lw_all := lw_g (lw_at lw_m1 121 rfl) rfl
theorem q267 : (Jvm.Cond.methodLink "OverFirst$Town" (58 : Nat) ({ cls := "java/util/ArrayList", name := "add", desc := "(Ljava/lang/Object;)Z" } : Jvm.MethodName)) ∈ lw_all := lw_g (lw_at lw_m1 132 rfl) rfl
theorem q315 : (Jvm.Cond.selects "OverFirst$Town" ({ cls := "java/lang/Object", name := "getClass", desc := "()Ljava/lang/Class;" } : Jvm.MethodName) ({ cls := "java/lang/Object", name := "getClass", desc := "()Ljava/lang/Class;" } : Jvm.MethodName)) ∈ lw_all := lw_g (lw_at lw_m1 180 rfl) rfl
theorem q336 : (Jvm.Cond.classLink "OverFirst$Town" (62 : Nat) "OverFirst$Green") ∈ lw_all := lw_g (lw_at lw_m1 201 rfl) rfl
theorem q338 : (Jvm.Cond.methodLinkNest "OverFirst$Town" (64 : Nat) ({ cls := "OverFirst$Green", name := "<init>", desc := "()V" } : Jvm.MethodName) "OverFirst") ∈ lw_tbl := lw_at lw_m1 203 rfl
theorem q343 : (Jvm.Cond.classLink "OverFirst$Town" (65 : Nat) "OverFirst$Best") ∈ lw_all := lw_g (lw_at lw_m1 208 rfl) rfl
theorem q345 : (Jvm.Cond.methodLinkNest "OverFirst$Town" (67 : Nat) ({ cls := "OverFirst$Best", name := "<init>", desc := "()V" } : Jvm.MethodName) "OverFirst") ∈ lw_tbl := lw_at lw_m1 210 rfl
theorem q350 : (Jvm.Cond.fieldLink "OverFirst$Town" (9 : Nat) "OverFirst$Town" "wide" "I") ∈ lw_all := lw_g (lw_at lw_m1 215 rfl) rfl
theorem q353 : (Jvm.Cond.fieldLink "OverFirst$Town" (15 : Nat) "OverFirst$Town" "deep" "I") ∈ lw_all := lw_g (lw_at lw_m1 218 rfl) rfl
theorem q356 : (Jvm.Cond.fieldLink "OverFirst$Town" (18 : Nat) "OverFirst$Town" "walk" "I") ∈ lw_all := lw_g (lw_at lw_m1 221 rfl) rfl
theorem q358 : (Jvm.Cond.fieldLink "OverFirst$Town" (21 : Nat) "OverFirst$Town" "run" "I") ∈ lw_all := lw_g (lw_at lw_m1 223 rfl) rfl
theorem q360 : (Jvm.Cond.fieldLink "OverFirst$Town" (24 : Nat) "OverFirst$Town" "slow" "I") ∈ lw_all := lw_g (lw_at lw_m1 225 rfl) rfl
theorem q362 : (Jvm.Cond.fieldLink "OverFirst$Town" (27 : Nat) "OverFirst$Town" "runs" "I") ∈ lw_all := lw_g (lw_at lw_m1 227 rfl) rfl
theorem q364 : (Jvm.Cond.fieldLink "OverFirst$Town" (30 : Nat) "OverFirst$Town" "common" "I") ∈ lw_all := lw_g (lw_at lw_m1 229 rfl) rfl
theorem q368 : (Jvm.Cond.fieldLink "OverFirst$Town" (71 : Nat) "OverFirst$Town" "isChild" "Z") ∈ lw_all := lw_g (lw_at lw_m1 233 rfl) rfl
theorem q370 : (Jvm.Cond.fieldLink "OverFirst$Town" (35 : Nat) "OverFirst$Town" "light" "[LOverFirst$Light;") ∈ lw_all := lw_g (lw_at lw_m1 235 rfl) rfl
theorem q373 : (Jvm.Cond.fieldLink "OverFirst$Town" (39 : Nat) "OverFirst$Town" "bar" "[I") ∈ lw_all := lw_g (lw_at lw_m1 238 rfl) rfl
theorem q376 : (Jvm.Cond.fieldLink "OverFirst$Town" (48 : Nat) "OverFirst$Town" "names" "Ljava/util/ArrayList;") ∈ lw_all := lw_g (lw_at lw_m2 1 rfl) rfl
theorem q379 : (Jvm.Cond.fieldLink "OverFirst$Town" (52 : Nat) "OverFirst$Town" "goers" "Ljava/util/ArrayList;") ∈ lw_all := lw_g (lw_at lw_m2 4 rfl) rfl
theorem q382 : (Jvm.Cond.lays "OverFirst$Town" "OverFirst$Town" "wide" "I") ∈ lw_all := lw_g (lw_at lw_m2 7 rfl) rfl
theorem q383 : (Jvm.Cond.soleField "OverFirst$Town" "wide") ∈ lw_all := lw_g (lw_at lw_m2 8 rfl) rfl
theorem q384 : (Jvm.Cond.lays "OverFirst$Town" "OverFirst$Town" "deep" "I") ∈ lw_all := lw_g (lw_at lw_m2 9 rfl) rfl
theorem q385 : (Jvm.Cond.soleField "OverFirst$Town" "deep") ∈ lw_all := lw_g (lw_at lw_m2 10 rfl) rfl
theorem q386 : (Jvm.Cond.lays "OverFirst$Town" "OverFirst$Town" "walk" "I") ∈ lw_all := lw_g (lw_at lw_m2 11 rfl) rfl
theorem q387 : (Jvm.Cond.soleField "OverFirst$Town" "walk") ∈ lw_all := lw_g (lw_at lw_m2 12 rfl) rfl
theorem q388 : (Jvm.Cond.lays "OverFirst$Town" "OverFirst$Town" "run" "I") ∈ lw_all := lw_g (lw_at lw_m2 13 rfl) rfl
theorem q389 : (Jvm.Cond.soleField "OverFirst$Town" "run") ∈ lw_all := lw_g (lw_at lw_m2 14 rfl) rfl
theorem q390 : (Jvm.Cond.lays "OverFirst$Town" "OverFirst$Town" "slow" "I") ∈ lw_all := lw_g (lw_at lw_m2 15 rfl) rfl
theorem q391 : (Jvm.Cond.soleField "OverFirst$Town" "slow") ∈ lw_all := lw_g (lw_at lw_m2 16 rfl) rfl
theorem q392 : (Jvm.Cond.lays "OverFirst$Town" "OverFirst$Town" "runs" "I") ∈ lw_all := lw_g (lw_at lw_m2 17 rfl) rfl
theorem q393 : (Jvm.Cond.soleField "OverFirst$Town" "runs") ∈ lw_all := lw_g (lw_at lw_m2 18 rfl) rfl
theorem q394 : (Jvm.Cond.lays "OverFirst$Town" "OverFirst$Town" "common" "I") ∈ lw_all := lw_g (lw_at lw_m2 19 rfl) rfl
theorem q395 : (Jvm.Cond.soleField "OverFirst$Town" "common") ∈ lw_all := lw_g (lw_at lw_m2 20 rfl) rfl
theorem q396 : (Jvm.Cond.lays "OverFirst$Town" "OverFirst$Town" "hidden" "I") ∈ lw_all := lw_g (lw_at lw_m2 21 rfl) rfl
theorem q397 : (Jvm.Cond.soleField "OverFirst$Town" "hidden") ∈ lw_all := lw_g (lw_at lw_m2 22 rfl) rfl
theorem q398 : (Jvm.Cond.lays "OverFirst$Town" "OverFirst$Town" "isChild" "Z") ∈ lw_all := lw_g (lw_at lw_m2 23 rfl) rfl
theorem q399 : (Jvm.Cond.soleField "OverFirst$Town" "isChild") ∈ lw_all := lw_g (lw_at lw_m2 24 rfl) rfl
theorem q400 : (Jvm.Cond.laysFinal "OverFirst$Town" "OverFirst$Town" "light" "[LOverFirst$Light;") ∈ lw_all := lw_g (lw_at lw_m2 25 rfl) rfl
theorem q401 : (Jvm.Cond.soleField "OverFirst$Town" "light") ∈ lw_all := lw_g (lw_at lw_m2 26 rfl) rfl
theorem q402 : (Jvm.Cond.laysFinal "OverFirst$Town" "OverFirst$Town" "bar" "[I") ∈ lw_all := lw_g (lw_at lw_m2 27 rfl) rfl
theorem q403 : (Jvm.Cond.soleField "OverFirst$Town" "bar") ∈ lw_all := lw_g (lw_at lw_m2 28 rfl) rfl
theorem q404 : (Jvm.Cond.laysFinal "OverFirst$Town" "OverFirst$Town" "names" "Ljava/util/ArrayList;") ∈ lw_all := lw_g (lw_at lw_m2 29 rfl) rfl
theorem q405 : (Jvm.Cond.soleField "OverFirst$Town" "names") ∈ lw_all := lw_g (lw_at lw_m2 30 rfl) rfl
theorem q406 : (Jvm.Cond.laysFinal "OverFirst$Town" "OverFirst$Town" "goers" "Ljava/util/ArrayList;") ∈ lw_all := lw_g (lw_at lw_m2 31 rfl) rfl
theorem q407 : (Jvm.Cond.soleField "OverFirst$Town" "goers") ∈ lw_all := lw_g (lw_at lw_m2 32 rfl) rfl
theorem q408 : (Jvm.Cond.superclass "OverFirst$Town" "java/lang/Object") ∈ lw_all := lw_g (lw_at lw_m2 33 rfl) rfl
theorem q1190 : (Jvm.Cond.instanceMethod ({ cls := "OverFirst$Town", name := "leads", desc := "(III)Z" } : Jvm.MethodName)) ∈ lw_all := lw_g (lw_at lw_m5 95 rfl) rfl
theorem q1191 : (Jvm.Cond.selects "OverFirst$Town" ({ cls := "OverFirst$Town", name := "leads", desc := "(III)Z" } : Jvm.MethodName) ({ cls := "OverFirst$Town", name := "leads", desc := "(III)Z" } : Jvm.MethodName)) ∈ lw_all := lw_g (lw_at lw_m5 96 rfl) rfl
theorem q1192 : (Jvm.Cond.code ({ cls := "OverFirst$Town", name := "leads", desc := "(III)Z" } : Jvm.MethodName) prog_18_method_7_code (4 : Nat) (Option.some Jvm.ClassFile.FieldType.boolean)) ∈ lw_all := lw_g (lw_at lw_m5 97 rfl) rfl
theorem q1198 : (Jvm.Cond.instanceMethod ({ cls := "OverFirst$Town", name := "isCorner", desc := "(II)Z" } : Jvm.MethodName)) ∈ lw_all := lw_g (lw_at lw_m5 103 rfl) rfl
theorem q1199 : (Jvm.Cond.selects "OverFirst$Town" ({ cls := "OverFirst$Town", name := "isCorner", desc := "(II)Z" } : Jvm.MethodName) ({ cls := "OverFirst$Town", name := "isCorner", desc := "(II)Z" } : Jvm.MethodName)) ∈ lw_all := lw_g (lw_at lw_m5 104 rfl) rfl
theorem q1200 : (Jvm.Cond.code ({ cls := "OverFirst$Town", name := "isCorner", desc := "(II)Z" } : Jvm.MethodName) prog_18_method_6_code (3 : Nat) (Option.some Jvm.ClassFile.FieldType.boolean)) ∈ lw_all := lw_g (lw_at lw_m5 105 rfl) rfl
theorem q1201 : (Jvm.Cond.methodLinkNest "OverFirst$Town" (75 : Nat) ({ cls := "OverFirst", name := "in", desc := "(III)Z" } : Jvm.MethodName) "OverFirst") ∈ lw_tbl := lw_at lw_m5 106 rfl
theorem q1275 : (Jvm.Cond.instanceMethod ({ cls := "OverFirst$Town", name := "runs", desc := "()I" } : Jvm.MethodName)) ∈ lw_all := lw_g (lw_at lw_m5 180 rfl) rfl
theorem q1276 : (Jvm.Cond.selects "OverFirst$Town" ({ cls := "OverFirst$Town", name := "runs", desc := "()I" } : Jvm.MethodName) ({ cls := "OverFirst$Town", name := "runs", desc := "()I" } : Jvm.MethodName)) ∈ lw_all := lw_g (lw_at lw_m5 181 rfl) rfl
theorem q1277 : (Jvm.Cond.code ({ cls := "OverFirst$Town", name := "runs", desc := "()I" } : Jvm.MethodName) prog_18_method_5_code (1 : Nat) (Option.some Jvm.ClassFile.FieldType.int)) ∈ lw_all := lw_g (lw_at lw_m5 182 rfl) rfl
theorem q1287 : (Jvm.Cond.instanceMethod ({ cls := "OverFirst$Town", name := "run", desc := "()I" } : Jvm.MethodName)) ∈ lw_all := lw_g (lw_at lw_m5 192 rfl) rfl
theorem q1288 : (Jvm.Cond.selects "OverFirst$Town" ({ cls := "OverFirst$Town", name := "run", desc := "()I" } : Jvm.MethodName) ({ cls := "OverFirst$Town", name := "run", desc := "()I" } : Jvm.MethodName)) ∈ lw_all := lw_g (lw_at lw_m5 193 rfl) rfl
theorem q1289 : (Jvm.Cond.code ({ cls := "OverFirst$Town", name := "run", desc := "()I" } : Jvm.MethodName) prog_18_method_3_code (1 : Nat) (Option.some Jvm.ClassFile.FieldType.int)) ∈ lw_all := lw_g (lw_at lw_m5 194 rfl) rfl
theorem q1290 : (Jvm.Cond.methodLink "OverFirst$Town" (68 : Nat) ({ cls := "OverFirst$Town", name := "walk", desc := "()I" } : Jvm.MethodName)) ∈ lw_all := lw_g (lw_at lw_m5 195 rfl) rfl
theorem q1291 : (Jvm.Cond.instanceMethod ({ cls := "OverFirst$Town", name := "walk", desc := "()I" } : Jvm.MethodName)) ∈ lw_all := lw_g (lw_at lw_m5 196 rfl) rfl
theorem q1292 : (Jvm.Cond.selects "OverFirst$Town" ({ cls := "OverFirst$Town", name := "walk", desc := "()I" } : Jvm.MethodName) ({ cls := "OverFirst$Town", name := "walk", desc := "()I" } : Jvm.MethodName)) ∈ lw_all := lw_g (lw_at lw_m5 197 rfl) rfl
theorem q1293 : (Jvm.Cond.code ({ cls := "OverFirst$Town", name := "walk", desc := "()I" } : Jvm.MethodName) prog_18_method_2_code (1 : Nat) (Option.some Jvm.ClassFile.FieldType.int)) ∈ lw_all := lw_g (lw_at lw_m5 198 rfl) rfl
theorem q1514 : (Jvm.Cond.instanceMethod ({ cls := "OverFirst$Town", name := "slow", desc := "()I" } : Jvm.MethodName)) ∈ lw_all := lw_g (lw_at lw_m6 179 rfl) rfl
theorem q1515 : (Jvm.Cond.selects "OverFirst$Town" ({ cls := "OverFirst$Town", name := "slow", desc := "()I" } : Jvm.MethodName) ({ cls := "OverFirst$Town", name := "slow", desc := "()I" } : Jvm.MethodName)) ∈ lw_all := lw_g (lw_at lw_m6 180 rfl) rfl
theorem q1516 : (Jvm.Cond.code ({ cls := "OverFirst$Town", name := "slow", desc := "()I" } : Jvm.MethodName) prog_18_method_4_code (1 : Nat) (Option.some Jvm.ClassFile.FieldType.int)) ∈ lw_all := lw_g (lw_at lw_m6 181 rfl) rfl
theorem q2263 : (Jvm.Cond.castable "OverFirst$Town" "java/lang/Object") ∈ lw_tbl := lw_at lw_m9 208 rfl
theorem in_X2 : ∀ w ∈ wsX20, w ∈ lw_all := lw_in wsX20 [382, 384, 386, 388, 390, 392, 394, 396, 398, 400, 402, 404, 406] (by decide +kernel) (by decide +kernel)
/-! OverFirst$Goer -/
set_option maxRecDepth 100000
def RX3 : String := "OverFirst$Goer"
abbrev cX3_init : ByteArray := prog_8_method_1_code
def yX3_init : MethodName := ⟨RX3, "<init>", "()V"⟩
theorem dX3_init_0 : decode cX3_init 0 = .ok (.aload_n 0, 1) := by decide +kernel
theorem dX3_init_1 : decode cX3_init 1 = .ok (.invokespecial 1, 3) := by decide +kernel
theorem dX3_init_4 : decode cX3_init 4 = .ok (.return_, 1) := by decide +kernel
abbrev cX3_isBest : ByteArray := prog_8_method_3_code
def yX3_isBest : MethodName := ⟨RX3, "isBest", "()Z"⟩
theorem dX3_isBest_0 : decode cX3_isBest 0 = .ok (.iconst 0, 1) := by decide +kernel
theorem dX3_isBest_1 : decode cX3_isBest 1 = .ok (.ireturn, 1) := by decide +kernel
theorem q142 : (Jvm.Cond.initialized "OverFirst$Goer") ∈ lw_all := lw_g (lw_at lw_m1 7 rfl) rfl
theorem q260 : (Jvm.Cond.instanceMethod ({ cls := "OverFirst$Goer", name := "<init>", desc := "()V" } : Jvm.MethodName)) ∈ lw_all := lw_g (lw_at lw_m1 125 rfl) rfl
theorem q261 : (Jvm.Cond.code ({ cls := "OverFirst$Goer", name := "<init>", desc := "()V" } : Jvm.MethodName) prog_8_method_1_code (1 : Nat) (Option.none : Option Jvm.ClassFile.FieldType)) ∈ lw_all := lw_g (lw_at lw_m1 126 rfl) rfl
theorem q262 : (Jvm.Cond.methodLink "OverFirst$Goer" (1 : Nat) ({ cls := "java/lang/Object", name := "<init>", desc := "()V" } : Jvm.MethodName)) ∈ lw_all := lw_g (lw_at lw_m1 127 rfl) rfl
theorem q1356 : (Jvm.Cond.instanceMethod ({ cls := "OverFirst$Goer", name := "isBest", desc := "()Z" } : Jvm.MethodName)) ∈ lw_all := lw_g (lw_at lw_m6 21 rfl) rfl
theorem q1357 : (Jvm.Cond.sameMethod "OverFirst$Goer" "OverFirst$Goer" "isBest" "()Z") ∈ lw_all := lw_g (lw_at lw_m6 22 rfl) rfl
theorem q1364 : (Jvm.Cond.code ({ cls := "OverFirst$Goer", name := "isBest", desc := "()Z" } : Jvm.MethodName) prog_8_method_3_code (1 : Nat) (Option.some Jvm.ClassFile.FieldType.boolean)) ∈ lw_all := lw_g (lw_at lw_m6 29 rfl) rfl
theorem q1382 : (Jvm.Cond.declares ({ cls := "OverFirst$Goer", name := "way", desc := "(IIII)I" } : Jvm.MethodName)) ∈ lw_tbl := lw_at lw_m6 47 rfl
theorem q1383 : (Jvm.Cond.sameMethod "OverFirst$Goer" "OverFirst$Goer" "way" "(IIII)I") ∈ lw_all := lw_g (lw_at lw_m6 48 rfl) rfl
/-! OverFirst$First -/
set_option maxRecDepth 100000
def RX4 : String := "OverFirst$First"
def TX4 : u_T := fun k => match k with
  | _ => ("OverFirst$First", "way", "I", true)
def tyX4 : Nat → FieldType := fun k => match k with
  | _ => .int
abbrev wsX40 : List Cond := u_ws RX4 TX4 1
theorem nmX4 : ∀ a, a < 1 → ∀ b, b < 1 → a ≠ b → (TX4 a).2.1 ≠ (TX4 b).2.1 := by decide +kernel
theorem tyX4_ok : ∀ k, k < 1 → parseFieldDescriptor (TX4 k).2.2.1 = some (tyX4 k) := by decide +kernel
abbrev cX4_init : ByteArray := prog_6_method_1_code
def yX4_init : MethodName := ⟨RX4, "<init>", "(I)V"⟩
def dkwX4_init_0 : List UInt8 := [42, 183, 0, 3, 42, 27, 181, 0, 9, 177]
abbrev dktX4_init_0 : List UInt8 := dkwX4_init_0 ++ []
theorem dksX4_init_0 : cX4_init.data.toList.drop 0 = dktX4_init_0 := by decide +kernel
theorem dX4_init_0 : decode cX4_init 0 = .ok (.aload_n 0, 1) := dk_42 (dk_at dksX4_init_0 0 rfl rfl)
theorem dX4_init_1 : decode cX4_init 1 = .ok (.invokespecial 3, 3) := dk_183 0 3 (dk_at dksX4_init_0 1 rfl rfl)
theorem dX4_init_4 : decode cX4_init 4 = .ok (.aload_n 0, 1) := dk_42 (dk_at dksX4_init_0 4 rfl rfl)
theorem dX4_init_5 : decode cX4_init 5 = .ok (.iload_n 1, 1) := dk_27 (dk_at dksX4_init_0 5 rfl rfl)
theorem dX4_init_6 : decode cX4_init 6 = .ok (.putfield 9, 3) := dk_181 0 9 (dk_at dksX4_init_0 6 rfl rfl)
theorem dX4_init_9 : decode cX4_init 9 = .ok (.return_, 1) := dk_177 (dk_at dksX4_init_0 9 rfl rfl)
abbrev cX4_way : ByteArray := prog_6_method_2_code
def yX4_way : MethodName := ⟨RX4, "way", "(IIII)I"⟩
def dkwX4_way_1 : List UInt8 := [180, 0, 9, 100, 172]
abbrev dktX4_way_1 : List UInt8 := dkwX4_way_1 ++ []
def dkwX4_way_0 : List UInt8 := [42, 180, 0, 9, 154, 0, 7, 27, 167, 0, 4, 28, 155, 0, 10, 42, 180, 0, 9, 167, 0, 9, 4, 42]
abbrev dktX4_way_0 : List UInt8 := dkwX4_way_0 ++ dktX4_way_1
theorem dksX4_way_0 : cX4_way.data.toList.drop 0 = dktX4_way_0 := by decide +kernel
theorem dksX4_way_1 : cX4_way.data.toList.drop 24 = dktX4_way_1 := dk_seg dksX4_way_0 24 rfl rfl
theorem dX4_way_0 : decode cX4_way 0 = .ok (.aload_n 0, 1) := dk_42 (dk_at dksX4_way_0 0 rfl rfl)
theorem dX4_way_1 : decode cX4_way 1 = .ok (.getfield 9, 3) := dk_180 0 9 (dk_at dksX4_way_0 1 rfl rfl)
theorem dX4_way_4 : decode cX4_way 4 = .ok (.ifCond .ne 7, 3) := dk_154 0 7 (dk_at dksX4_way_0 4 rfl rfl)
theorem dX4_way_7 : decode cX4_way 7 = .ok (.iload_n 1, 1) := dk_27 (dk_at dksX4_way_0 7 rfl rfl)
theorem dX4_way_8 : decode cX4_way 8 = .ok (.goto 4, 3) := dk_167 0 4 (dk_at dksX4_way_0 8 rfl rfl)
theorem dX4_way_11 : decode cX4_way 11 = .ok (.iload_n 2, 1) := dk_28 (dk_at dksX4_way_0 11 rfl rfl)
theorem dX4_way_12 : decode cX4_way 12 = .ok (.ifCond .lt 10, 3) := dk_155 0 10 (dk_at dksX4_way_0 12 rfl rfl)
theorem dX4_way_15 : decode cX4_way 15 = .ok (.aload_n 0, 1) := dk_42 (dk_at dksX4_way_0 15 rfl rfl)
theorem dX4_way_16 : decode cX4_way 16 = .ok (.getfield 9, 3) := dk_180 0 9 (dk_at dksX4_way_0 16 rfl rfl)
theorem dX4_way_19 : decode cX4_way 19 = .ok (.goto 9, 3) := dk_167 0 9 (dk_at dksX4_way_0 19 rfl rfl)
theorem dX4_way_22 : decode cX4_way 22 = .ok (.iconst 1, 1) := dk_4 (dk_at dksX4_way_0 22 rfl rfl)
theorem dX4_way_23 : decode cX4_way 23 = .ok (.aload_n 0, 1) := dk_42 (dk_at dksX4_way_0 23 rfl rfl)
theorem dX4_way_24 : decode cX4_way 24 = .ok (.getfield 9, 3) := dk_180 0 9 (dk_at dksX4_way_1 0 rfl rfl)
theorem dX4_way_27 : decode cX4_way 27 = .ok (.isub, 1) := dk_100 (dk_at dksX4_way_1 3 rfl rfl)
theorem dX4_way_28 : decode cX4_way 28 = .ok (.ireturn, 1) := dk_172 (dk_at dksX4_way_1 4 rfl rfl)
theorem q143 : (Jvm.Cond.initialized "OverFirst$First") ∈ lw_all := lw_g (lw_at lw_m1 8 rfl) rfl
theorem q255 : (Jvm.Cond.instantiable "OverFirst$First" (1 : Nat)) ∈ lw_all := lw_g (lw_at lw_m1 120 rfl) rfl
theorem q257 : (Jvm.Cond.instanceMethod ({ cls := "OverFirst$First", name := "<init>", desc := "(I)V" } : Jvm.MethodName)) ∈ lw_all := lw_g (lw_at lw_m1 122 rfl) rfl
theorem q258 : (Jvm.Cond.code ({ cls := "OverFirst$First", name := "<init>", desc := "(I)V" } : Jvm.MethodName) prog_6_method_1_code (2 : Nat) (Option.none : Option Jvm.ClassFile.FieldType)) ∈ lw_all := lw_g (lw_at lw_m1 123 rfl) rfl
theorem q259 : (Jvm.Cond.methodLinkNest "OverFirst$First" (3 : Nat) ({ cls := "OverFirst$Goer", name := "<init>", desc := "()V" } : Jvm.MethodName) "OverFirst") ∈ lw_tbl := lw_at lw_m1 124 rfl
theorem q263 : (Jvm.Cond.fieldLink "OverFirst$First" (9 : Nat) "OverFirst$First" "way" "I") ∈ lw_all := lw_g (lw_at lw_m1 128 rfl) rfl
theorem q264 : (Jvm.Cond.laysFinal "OverFirst$First" "OverFirst$First" "way" "I") ∈ lw_all := lw_g (lw_at lw_m1 129 rfl) rfl
theorem q265 : (Jvm.Cond.soleField "OverFirst$First" "way") ∈ lw_all := lw_g (lw_at lw_m1 130 rfl) rfl
theorem q266 : (Jvm.Cond.superclass "OverFirst$First" "OverFirst$Goer") ∈ lw_all := lw_g (lw_at lw_m1 131 rfl) rfl
theorem q305 : (Jvm.Cond.selects "OverFirst$First" ({ cls := "java/lang/Object", name := "getClass", desc := "()Ljava/lang/Class;" } : Jvm.MethodName) ({ cls := "java/lang/Object", name := "getClass", desc := "()Ljava/lang/Class;" } : Jvm.MethodName)) ∈ lw_all := lw_g (lw_at lw_m1 170 rfl) rfl
theorem q1361 : (Jvm.Cond.selects "OverFirst$First" ({ cls := "OverFirst$Goer", name := "isBest", desc := "()Z" } : Jvm.MethodName) ({ cls := "OverFirst$Goer", name := "isBest", desc := "()Z" } : Jvm.MethodName)) ∈ lw_all := lw_g (lw_at lw_m6 26 rfl) rfl
theorem q1387 : (Jvm.Cond.selects "OverFirst$First" ({ cls := "OverFirst$Goer", name := "way", desc := "(IIII)I" } : Jvm.MethodName) ({ cls := "OverFirst$First", name := "way", desc := "(IIII)I" } : Jvm.MethodName)) ∈ lw_all := lw_g (lw_at lw_m6 52 rfl) rfl
theorem q1388 : (Jvm.Cond.instanceMethod ({ cls := "OverFirst$First", name := "way", desc := "(IIII)I" } : Jvm.MethodName)) ∈ lw_all := lw_g (lw_at lw_m6 53 rfl) rfl
theorem q1389 : (Jvm.Cond.code ({ cls := "OverFirst$First", name := "way", desc := "(IIII)I" } : Jvm.MethodName) prog_6_method_2_code (5 : Nat) (Option.some Jvm.ClassFile.FieldType.int)) ∈ lw_all := lw_g (lw_at lw_m6 54 rfl) rfl
theorem q2256 : (Jvm.Cond.castable "OverFirst$First" "OverFirst$Goer") ∈ lw_tbl := lw_at lw_m9 201 rfl
theorem q2265 : (Jvm.Cond.castable "OverFirst$First" "java/lang/Object") ∈ lw_tbl := lw_at lw_m9 210 rfl
theorem in_X4 : ∀ w ∈ wsX40, w ∈ lw_all := lw_in wsX40 [264] (by decide +kernel) (by decide +kernel)
/-! OverFirst$Green -/
set_option maxRecDepth 100000
def RX5 : String := "OverFirst$Green"
abbrev cX5_init : ByteArray := prog_9_method_1_code
def yX5_init : MethodName := ⟨RX5, "<init>", "()V"⟩
theorem dX5_init_0 : decode cX5_init 0 = .ok (.aload_n 0, 1) := by decide +kernel
theorem dX5_init_1 : decode cX5_init 1 = .ok (.invokespecial 3, 3) := by decide +kernel
theorem dX5_init_4 : decode cX5_init 4 = .ok (.return_, 1) := by decide +kernel
abbrev cX5_way : ByteArray := prog_9_method_2_code
def yX5_way : MethodName := ⟨RX5, "way", "(IIII)I"⟩
def dkwX5_way_0 : List UInt8 := [27, 156, 0, 7, 4, 167, 0, 17, 28, 155, 0, 8, 27, 28, 163, 0, 7, 3, 167, 0, 4, 4, 172]
abbrev dktX5_way_0 : List UInt8 := dkwX5_way_0 ++ []
theorem dksX5_way_0 : cX5_way.data.toList.drop 0 = dktX5_way_0 := by decide +kernel
theorem dX5_way_0 : decode cX5_way 0 = .ok (.iload_n 1, 1) := dk_27 (dk_at dksX5_way_0 0 rfl rfl)
theorem dX5_way_1 : decode cX5_way 1 = .ok (.ifCond .ge 7, 3) := dk_156 0 7 (dk_at dksX5_way_0 1 rfl rfl)
theorem dX5_way_4 : decode cX5_way 4 = .ok (.iconst 1, 1) := dk_4 (dk_at dksX5_way_0 4 rfl rfl)
theorem dX5_way_5 : decode cX5_way 5 = .ok (.goto 17, 3) := dk_167 0 17 (dk_at dksX5_way_0 5 rfl rfl)
theorem dX5_way_8 : decode cX5_way 8 = .ok (.iload_n 2, 1) := dk_28 (dk_at dksX5_way_0 8 rfl rfl)
theorem dX5_way_9 : decode cX5_way 9 = .ok (.ifCond .lt 8, 3) := dk_155 0 8 (dk_at dksX5_way_0 9 rfl rfl)
theorem dX5_way_12 : decode cX5_way 12 = .ok (.iload_n 1, 1) := dk_27 (dk_at dksX5_way_0 12 rfl rfl)
theorem dX5_way_13 : decode cX5_way 13 = .ok (.iload_n 2, 1) := dk_28 (dk_at dksX5_way_0 13 rfl rfl)
theorem dX5_way_14 : decode cX5_way 14 = .ok (.if_icmp .gt 7, 3) := dk_163 0 7 (dk_at dksX5_way_0 14 rfl rfl)
theorem dX5_way_17 : decode cX5_way 17 = .ok (.iconst 0, 1) := dk_3 (dk_at dksX5_way_0 17 rfl rfl)
theorem dX5_way_18 : decode cX5_way 18 = .ok (.goto 4, 3) := dk_167 0 4 (dk_at dksX5_way_0 18 rfl rfl)
theorem dX5_way_21 : decode cX5_way 21 = .ok (.iconst 1, 1) := dk_4 (dk_at dksX5_way_0 21 rfl rfl)
theorem dX5_way_22 : decode cX5_way 22 = .ok (.ireturn, 1) := dk_172 (dk_at dksX5_way_0 22 rfl rfl)
theorem q148 : (Jvm.Cond.initialized "OverFirst$Green") ∈ lw_all := lw_g (lw_at lw_m1 13 rfl) rfl
theorem q307 : (Jvm.Cond.selects "OverFirst$Green" ({ cls := "java/lang/Object", name := "getClass", desc := "()Ljava/lang/Class;" } : Jvm.MethodName) ({ cls := "java/lang/Object", name := "getClass", desc := "()Ljava/lang/Class;" } : Jvm.MethodName)) ∈ lw_all := lw_g (lw_at lw_m1 172 rfl) rfl
theorem q337 : (Jvm.Cond.instantiable "OverFirst$Green" (0 : Nat)) ∈ lw_all := lw_g (lw_at lw_m1 202 rfl) rfl
theorem q339 : (Jvm.Cond.instanceMethod ({ cls := "OverFirst$Green", name := "<init>", desc := "()V" } : Jvm.MethodName)) ∈ lw_all := lw_g (lw_at lw_m1 204 rfl) rfl
theorem q340 : (Jvm.Cond.code ({ cls := "OverFirst$Green", name := "<init>", desc := "()V" } : Jvm.MethodName) prog_9_method_1_code (1 : Nat) (Option.none : Option Jvm.ClassFile.FieldType)) ∈ lw_all := lw_g (lw_at lw_m1 205 rfl) rfl
theorem q341 : (Jvm.Cond.methodLinkNest "OverFirst$Green" (3 : Nat) ({ cls := "OverFirst$Goer", name := "<init>", desc := "()V" } : Jvm.MethodName) "OverFirst") ∈ lw_tbl := lw_at lw_m1 206 rfl
theorem q342 : (Jvm.Cond.superclass "OverFirst$Green" "OverFirst$Goer") ∈ lw_all := lw_g (lw_at lw_m1 207 rfl) rfl
theorem q1362 : (Jvm.Cond.selects "OverFirst$Green" ({ cls := "OverFirst$Goer", name := "isBest", desc := "()Z" } : Jvm.MethodName) ({ cls := "OverFirst$Goer", name := "isBest", desc := "()Z" } : Jvm.MethodName)) ∈ lw_all := lw_g (lw_at lw_m6 27 rfl) rfl
theorem q1390 : (Jvm.Cond.selects "OverFirst$Green" ({ cls := "OverFirst$Goer", name := "way", desc := "(IIII)I" } : Jvm.MethodName) ({ cls := "OverFirst$Green", name := "way", desc := "(IIII)I" } : Jvm.MethodName)) ∈ lw_all := lw_g (lw_at lw_m6 55 rfl) rfl
theorem q1391 : (Jvm.Cond.instanceMethod ({ cls := "OverFirst$Green", name := "way", desc := "(IIII)I" } : Jvm.MethodName)) ∈ lw_all := lw_g (lw_at lw_m6 56 rfl) rfl
theorem q1392 : (Jvm.Cond.code ({ cls := "OverFirst$Green", name := "way", desc := "(IIII)I" } : Jvm.MethodName) prog_9_method_2_code (5 : Nat) (Option.some Jvm.ClassFile.FieldType.int)) ∈ lw_all := lw_g (lw_at lw_m6 57 rfl) rfl
theorem q2257 : (Jvm.Cond.castable "OverFirst$Green" "OverFirst$Goer") ∈ lw_tbl := lw_at lw_m9 202 rfl
theorem q2266 : (Jvm.Cond.castable "OverFirst$Green" "java/lang/Object") ∈ lw_tbl := lw_at lw_m9 211 rfl
/-! OverFirst$Best -/
set_option maxRecDepth 100000
def RX6 : String := "OverFirst$Best"
abbrev cX6_init : ByteArray := prog_2_method_1_code
def yX6_init : MethodName := ⟨RX6, "<init>", "()V"⟩
theorem dX6_init_0 : decode cX6_init 0 = .ok (.aload_n 0, 1) := by decide +kernel
theorem dX6_init_1 : decode cX6_init 1 = .ok (.invokespecial 3, 3) := by decide +kernel
theorem dX6_init_4 : decode cX6_init 4 = .ok (.return_, 1) := by decide +kernel
abbrev cX6_isBest : ByteArray := prog_2_method_3_code
def yX6_isBest : MethodName := ⟨RX6, "isBest", "()Z"⟩
theorem dX6_isBest_0 : decode cX6_isBest 0 = .ok (.iconst 1, 1) := by decide +kernel
theorem dX6_isBest_1 : decode cX6_isBest 1 = .ok (.ireturn, 1) := by decide +kernel
abbrev cX6_way : ByteArray := prog_2_method_2_code
def yX6_way : MethodName := ⟨RX6, "way", "(IIII)I"⟩
theorem dX6_way_0 : decode cX6_way 0 = .ok (.iconst 0, 1) := by decide +kernel
theorem dX6_way_1 : decode cX6_way 1 = .ok (.ireturn, 1) := by decide +kernel
theorem q149 : (Jvm.Cond.initialized "OverFirst$Best") ∈ lw_all := lw_g (lw_at lw_m1 14 rfl) rfl
theorem q302 : (Jvm.Cond.selects "OverFirst$Best" ({ cls := "java/lang/Object", name := "getClass", desc := "()Ljava/lang/Class;" } : Jvm.MethodName) ({ cls := "java/lang/Object", name := "getClass", desc := "()Ljava/lang/Class;" } : Jvm.MethodName)) ∈ lw_all := lw_g (lw_at lw_m1 167 rfl) rfl
theorem q344 : (Jvm.Cond.instantiable "OverFirst$Best" (0 : Nat)) ∈ lw_all := lw_g (lw_at lw_m1 209 rfl) rfl
theorem q346 : (Jvm.Cond.instanceMethod ({ cls := "OverFirst$Best", name := "<init>", desc := "()V" } : Jvm.MethodName)) ∈ lw_all := lw_g (lw_at lw_m1 211 rfl) rfl
theorem q347 : (Jvm.Cond.code ({ cls := "OverFirst$Best", name := "<init>", desc := "()V" } : Jvm.MethodName) prog_2_method_1_code (1 : Nat) (Option.none : Option Jvm.ClassFile.FieldType)) ∈ lw_all := lw_g (lw_at lw_m1 212 rfl) rfl
theorem q348 : (Jvm.Cond.methodLinkNest "OverFirst$Best" (3 : Nat) ({ cls := "OverFirst$Goer", name := "<init>", desc := "()V" } : Jvm.MethodName) "OverFirst") ∈ lw_tbl := lw_at lw_m1 213 rfl
theorem q349 : (Jvm.Cond.superclass "OverFirst$Best" "OverFirst$Goer") ∈ lw_all := lw_g (lw_at lw_m1 214 rfl) rfl
theorem q1358 : (Jvm.Cond.selects "OverFirst$Best" ({ cls := "OverFirst$Goer", name := "isBest", desc := "()Z" } : Jvm.MethodName) ({ cls := "OverFirst$Best", name := "isBest", desc := "()Z" } : Jvm.MethodName)) ∈ lw_all := lw_g (lw_at lw_m6 23 rfl) rfl
theorem q1359 : (Jvm.Cond.instanceMethod ({ cls := "OverFirst$Best", name := "isBest", desc := "()Z" } : Jvm.MethodName)) ∈ lw_all := lw_g (lw_at lw_m6 24 rfl) rfl
theorem q1360 : (Jvm.Cond.code ({ cls := "OverFirst$Best", name := "isBest", desc := "()Z" } : Jvm.MethodName) prog_2_method_3_code (1 : Nat) (Option.some Jvm.ClassFile.FieldType.boolean)) ∈ lw_all := lw_g (lw_at lw_m6 25 rfl) rfl
theorem q1384 : (Jvm.Cond.selects "OverFirst$Best" ({ cls := "OverFirst$Goer", name := "way", desc := "(IIII)I" } : Jvm.MethodName) ({ cls := "OverFirst$Best", name := "way", desc := "(IIII)I" } : Jvm.MethodName)) ∈ lw_all := lw_g (lw_at lw_m6 49 rfl) rfl
theorem q1385 : (Jvm.Cond.instanceMethod ({ cls := "OverFirst$Best", name := "way", desc := "(IIII)I" } : Jvm.MethodName)) ∈ lw_all := lw_g (lw_at lw_m6 50 rfl) rfl
theorem q1386 : (Jvm.Cond.code ({ cls := "OverFirst$Best", name := "way", desc := "(IIII)I" } : Jvm.MethodName) prog_2_method_2_code (5 : Nat) (Option.some Jvm.ClassFile.FieldType.int)) ∈ lw_all := lw_g (lw_at lw_m6 51 rfl) rfl
theorem q2255 : (Jvm.Cond.castable "OverFirst$Best" "OverFirst$Goer") ∈ lw_tbl := lw_at lw_m9 200 rfl
theorem q2267 : (Jvm.Cond.castable "OverFirst$Best" "java/lang/Object") ∈ lw_tbl := lw_at lw_m9 212 rfl
/-! OverFirst$Walk -/
set_option maxRecDepth 100000
def RX7 : String := "OverFirst$Walk"
def TX7 : u_T := fun k => match k with
  | 0 => ("OverFirst$Walk", "way", "[I", true)
  | 1 => ("OverFirst$Walk", "second", "[I", true)
  | _ => ("OverFirst$Walk", "many", "I", false)
def tyX7 : Nat → FieldType := fun k => match k with
  | 0 => .array .int
  | 1 => .array .int
  | _ => .int
abbrev wsX70 : List Cond := u_ws RX7 TX7 3
theorem nmX7 : ∀ a, a < 3 → ∀ b, b < 3 → a ≠ b → (TX7 a).2.1 ≠ (TX7 b).2.1 := by decide +kernel
theorem tyX7_ok : ∀ k, k < 3 → parseFieldDescriptor (TX7 k).2.2.1 = some (tyX7 k) := by decide +kernel
abbrev cX7_init : ByteArray := prog_20_method_1_code
def yX7_init : MethodName := ⟨RX7, "<init>", "()V"⟩
def dkwX7_init_0 : List UInt8 := [42, 183, 0, 3, 42, 16, 13, 188, 10, 181, 0, 9, 42, 16, 13, 188, 10, 181, 0, 15, 177]
abbrev dktX7_init_0 : List UInt8 := dkwX7_init_0 ++ []
theorem dksX7_init_0 : cX7_init.data.toList.drop 0 = dktX7_init_0 := by decide +kernel
theorem dX7_init_0 : decode cX7_init 0 = .ok (.aload_n 0, 1) := dk_42 (dk_at dksX7_init_0 0 rfl rfl)
theorem dX7_init_1 : decode cX7_init 1 = .ok (.invokespecial 3, 3) := dk_183 0 3 (dk_at dksX7_init_0 1 rfl rfl)
theorem dX7_init_4 : decode cX7_init 4 = .ok (.aload_n 0, 1) := dk_42 (dk_at dksX7_init_0 4 rfl rfl)
theorem dX7_init_5 : decode cX7_init 5 = .ok (.bipush 13, 2) := dk_16 13 (dk_at dksX7_init_0 5 rfl rfl)
theorem dX7_init_7 : decode cX7_init 7 = .ok (.newarray .int, 2) := dk_188_10 (dk_at dksX7_init_0 7 rfl rfl)
theorem dX7_init_9 : decode cX7_init 9 = .ok (.putfield 9, 3) := dk_181 0 9 (dk_at dksX7_init_0 9 rfl rfl)
theorem dX7_init_12 : decode cX7_init 12 = .ok (.aload_n 0, 1) := dk_42 (dk_at dksX7_init_0 12 rfl rfl)
theorem dX7_init_13 : decode cX7_init 13 = .ok (.bipush 13, 2) := dk_16 13 (dk_at dksX7_init_0 13 rfl rfl)
theorem dX7_init_15 : decode cX7_init 15 = .ok (.newarray .int, 2) := dk_188_10 (dk_at dksX7_init_0 15 rfl rfl)
theorem dX7_init_17 : decode cX7_init 17 = .ok (.putfield 15, 3) := dk_181 0 15 (dk_at dksX7_init_0 17 rfl rfl)
theorem dX7_init_20 : decode cX7_init 20 = .ok (.return_, 1) := dk_177 (dk_at dksX7_init_0 20 rfl rfl)
theorem q150 : (Jvm.Cond.initialized "OverFirst$Walk") ∈ lw_all := lw_g (lw_at lw_m1 15 rfl) rfl
theorem q317 : (Jvm.Cond.selects "OverFirst$Walk" ({ cls := "java/lang/Object", name := "getClass", desc := "()Ljava/lang/Class;" } : Jvm.MethodName) ({ cls := "java/lang/Object", name := "getClass", desc := "()Ljava/lang/Class;" } : Jvm.MethodName)) ∈ lw_all := lw_g (lw_at lw_m1 182 rfl) rfl
theorem q410 : (Jvm.Cond.instantiable "OverFirst$Walk" (3 : Nat)) ∈ lw_all := lw_g (lw_at lw_m2 35 rfl) rfl
theorem q412 : (Jvm.Cond.instanceMethod ({ cls := "OverFirst$Walk", name := "<init>", desc := "()V" } : Jvm.MethodName)) ∈ lw_all := lw_g (lw_at lw_m2 37 rfl) rfl
theorem q413 : (Jvm.Cond.code ({ cls := "OverFirst$Walk", name := "<init>", desc := "()V" } : Jvm.MethodName) prog_20_method_1_code (1 : Nat) (Option.none : Option Jvm.ClassFile.FieldType)) ∈ lw_all := lw_g (lw_at lw_m2 38 rfl) rfl
theorem q414 : (Jvm.Cond.methodLink "OverFirst$Walk" (3 : Nat) ({ cls := "java/lang/Object", name := "<init>", desc := "()V" } : Jvm.MethodName)) ∈ lw_all := lw_g (lw_at lw_m2 39 rfl) rfl
theorem q415 : (Jvm.Cond.fieldLink "OverFirst$Walk" (9 : Nat) "OverFirst$Walk" "way" "[I") ∈ lw_all := lw_g (lw_at lw_m2 40 rfl) rfl
theorem q418 : (Jvm.Cond.fieldLink "OverFirst$Walk" (15 : Nat) "OverFirst$Walk" "second" "[I") ∈ lw_all := lw_g (lw_at lw_m2 43 rfl) rfl
theorem q423 : (Jvm.Cond.laysFinal "OverFirst$Walk" "OverFirst$Walk" "way" "[I") ∈ lw_all := lw_g (lw_at lw_m2 48 rfl) rfl
theorem q424 : (Jvm.Cond.soleField "OverFirst$Walk" "way") ∈ lw_all := lw_g (lw_at lw_m2 49 rfl) rfl
theorem q425 : (Jvm.Cond.laysFinal "OverFirst$Walk" "OverFirst$Walk" "second" "[I") ∈ lw_all := lw_g (lw_at lw_m2 50 rfl) rfl
theorem q426 : (Jvm.Cond.soleField "OverFirst$Walk" "second") ∈ lw_all := lw_g (lw_at lw_m2 51 rfl) rfl
theorem q427 : (Jvm.Cond.lays "OverFirst$Walk" "OverFirst$Walk" "many" "I") ∈ lw_all := lw_g (lw_at lw_m2 52 rfl) rfl
theorem q428 : (Jvm.Cond.soleField "OverFirst$Walk" "many") ∈ lw_all := lw_g (lw_at lw_m2 53 rfl) rfl
theorem q429 : (Jvm.Cond.superclass "OverFirst$Walk" "java/lang/Object") ∈ lw_all := lw_g (lw_at lw_m2 54 rfl) rfl
theorem q2268 : (Jvm.Cond.castable "OverFirst$Walk" "java/lang/Object") ∈ lw_tbl := lw_at lw_m9 213 rfl
theorem in_X7 : ∀ w ∈ wsX70, w ∈ lw_all := lw_in wsX70 [423, 425, 427] (by decide +kernel) (by decide +kernel)
/-! OverFirst$State -/
set_option maxRecDepth 100000
def RX8 : String := "OverFirst$State"
def TX8 : u_T := fun k => match k with
  | 0 => ("OverFirst$State", "x", "I", false)
  | 1 => ("OverFirst$State", "y", "I", false)
  | 2 => ("OverFirst$State", "second", "I", false)
  | 3 => ("OverFirst$State", "runs", "I", false)
  | 4 => ("OverFirst$State", "tried", "I", false)
  | 5 => ("OverFirst$State", "was", "I", false)
  | 6 => ("OverFirst$State", "known", "[Z", true)
  | 7 => ("OverFirst$State", "pressed", "[Z", true)
  | 8 => ("OverFirst$State", "triedAt", "[I", true)
  | 9 => ("OverFirst$State", "waited", "[I", true)
  | 10 => ("OverFirst$State", "wasAt", "[I", true)
  | _ => ("OverFirst$State", "wasWhen", "[I", true)
def tyX8 : Nat → FieldType := fun k => match k with
  | 0 => .int
  | 1 => .int
  | 2 => .int
  | 3 => .int
  | 4 => .int
  | 5 => .int
  | 6 => .array .boolean
  | 7 => .array .boolean
  | 8 => .array .int
  | 9 => .array .int
  | 10 => .array .int
  | _ => .array .int
abbrev wsX80 : List Cond := u_ws RX8 TX8 12
theorem nmX8 : ∀ a, a < 12 → ∀ b, b < 12 → a ≠ b → (TX8 a).2.1 ≠ (TX8 b).2.1 := by decide +kernel
theorem tyX8_ok : ∀ k, k < 12 → parseFieldDescriptor (TX8 k).2.2.1 = some (tyX8 k) := by decide +kernel
abbrev cX8_init : ByteArray := prog_16_method_1_code
def yX8_init : MethodName := ⟨RX8, "<init>", "()V"⟩
def dkwX8_init_2 : List UInt8 := [188, 10, 181, 0, 28, 177]
abbrev dktX8_init_2 : List UInt8 := dkwX8_init_2 ++ []
def dkwX8_init_1 : List UInt8 := [188, 10, 181, 0, 18, 42, 16, 10, 188, 10, 181, 0, 22, 42, 16, 8, 188, 10, 181, 0, 25, 42, 16, 8]
abbrev dktX8_init_1 : List UInt8 := dkwX8_init_1 ++ dktX8_init_2
def dkwX8_init_0 : List UInt8 := [42, 183, 0, 3, 42, 16, 54, 188, 4, 181, 0, 9, 42, 16, 10, 188, 4, 181, 0, 15, 42, 16, 10]
abbrev dktX8_init_0 : List UInt8 := dkwX8_init_0 ++ dktX8_init_1
theorem dksX8_init_0 : cX8_init.data.toList.drop 0 = dktX8_init_0 := by decide +kernel
theorem dksX8_init_1 : cX8_init.data.toList.drop 23 = dktX8_init_1 := dk_seg dksX8_init_0 23 rfl rfl
theorem dksX8_init_2 : cX8_init.data.toList.drop 47 = dktX8_init_2 := dk_seg dksX8_init_1 24 rfl rfl
theorem dX8_init_0 : decode cX8_init 0 = .ok (.aload_n 0, 1) := dk_42 (dk_at dksX8_init_0 0 rfl rfl)
theorem dX8_init_1 : decode cX8_init 1 = .ok (.invokespecial 3, 3) := dk_183 0 3 (dk_at dksX8_init_0 1 rfl rfl)
theorem dX8_init_4 : decode cX8_init 4 = .ok (.aload_n 0, 1) := dk_42 (dk_at dksX8_init_0 4 rfl rfl)
theorem dX8_init_5 : decode cX8_init 5 = .ok (.bipush 54, 2) := dk_16 54 (dk_at dksX8_init_0 5 rfl rfl)
theorem dX8_init_7 : decode cX8_init 7 = .ok (.newarray .boolean, 2) := dk_188_4 (dk_at dksX8_init_0 7 rfl rfl)
theorem dX8_init_9 : decode cX8_init 9 = .ok (.putfield 9, 3) := dk_181 0 9 (dk_at dksX8_init_0 9 rfl rfl)
theorem dX8_init_12 : decode cX8_init 12 = .ok (.aload_n 0, 1) := dk_42 (dk_at dksX8_init_0 12 rfl rfl)
theorem dX8_init_13 : decode cX8_init 13 = .ok (.bipush 10, 2) := dk_16 10 (dk_at dksX8_init_0 13 rfl rfl)
theorem dX8_init_15 : decode cX8_init 15 = .ok (.newarray .boolean, 2) := dk_188_4 (dk_at dksX8_init_0 15 rfl rfl)
theorem dX8_init_17 : decode cX8_init 17 = .ok (.putfield 15, 3) := dk_181 0 15 (dk_at dksX8_init_0 17 rfl rfl)
theorem dX8_init_20 : decode cX8_init 20 = .ok (.aload_n 0, 1) := dk_42 (dk_at dksX8_init_0 20 rfl rfl)
theorem dX8_init_21 : decode cX8_init 21 = .ok (.bipush 10, 2) := dk_16 10 (dk_at dksX8_init_0 21 rfl rfl)
theorem dX8_init_23 : decode cX8_init 23 = .ok (.newarray .int, 2) := dk_188_10 (dk_at dksX8_init_1 0 rfl rfl)
theorem dX8_init_25 : decode cX8_init 25 = .ok (.putfield 18, 3) := dk_181 0 18 (dk_at dksX8_init_1 2 rfl rfl)
theorem dX8_init_28 : decode cX8_init 28 = .ok (.aload_n 0, 1) := dk_42 (dk_at dksX8_init_1 5 rfl rfl)
theorem dX8_init_29 : decode cX8_init 29 = .ok (.bipush 10, 2) := dk_16 10 (dk_at dksX8_init_1 6 rfl rfl)
theorem dX8_init_31 : decode cX8_init 31 = .ok (.newarray .int, 2) := dk_188_10 (dk_at dksX8_init_1 8 rfl rfl)
theorem dX8_init_33 : decode cX8_init 33 = .ok (.putfield 22, 3) := dk_181 0 22 (dk_at dksX8_init_1 10 rfl rfl)
theorem dX8_init_36 : decode cX8_init 36 = .ok (.aload_n 0, 1) := dk_42 (dk_at dksX8_init_1 13 rfl rfl)
theorem dX8_init_37 : decode cX8_init 37 = .ok (.bipush 8, 2) := dk_16 8 (dk_at dksX8_init_1 14 rfl rfl)
theorem dX8_init_39 : decode cX8_init 39 = .ok (.newarray .int, 2) := dk_188_10 (dk_at dksX8_init_1 16 rfl rfl)
theorem dX8_init_41 : decode cX8_init 41 = .ok (.putfield 25, 3) := dk_181 0 25 (dk_at dksX8_init_1 18 rfl rfl)
theorem dX8_init_44 : decode cX8_init 44 = .ok (.aload_n 0, 1) := dk_42 (dk_at dksX8_init_1 21 rfl rfl)
theorem dX8_init_45 : decode cX8_init 45 = .ok (.bipush 8, 2) := dk_16 8 (dk_at dksX8_init_1 22 rfl rfl)
theorem dX8_init_47 : decode cX8_init 47 = .ok (.newarray .int, 2) := dk_188_10 (dk_at dksX8_init_2 0 rfl rfl)
theorem dX8_init_49 : decode cX8_init 49 = .ok (.putfield 28, 3) := dk_181 0 28 (dk_at dksX8_init_2 2 rfl rfl)
theorem dX8_init_52 : decode cX8_init 52 = .ok (.return_, 1) := dk_177 (dk_at dksX8_init_2 5 rfl rfl)
abbrev cX8_begin : ByteArray := prog_16_method_4_code
def yX8_begin : MethodName := ⟨RX8, "begin", "()V"⟩
def dkwX8_begin_2 : List UInt8 := [132, 1, 1, 167, 255, 240, 177]
abbrev dktX8_begin_2 : List UInt8 := dkwX8_begin_2 ++ []
def dkwX8_begin_1 : List UInt8 := [181, 0, 48, 42, 3, 181, 0, 51, 3, 60, 27, 16, 54, 162, 0, 16, 42, 180, 0, 9, 27, 3, 84]
abbrev dktX8_begin_1 : List UInt8 := dkwX8_begin_1 ++ dktX8_begin_2
def dkwX8_begin_0 : List UInt8 := [42, 3, 181, 0, 31, 42, 3, 181, 0, 35, 42, 3, 181, 0, 38, 42, 3, 181, 0, 41, 42, 3]
abbrev dktX8_begin_0 : List UInt8 := dkwX8_begin_0 ++ dktX8_begin_1
theorem dksX8_begin_0 : cX8_begin.data.toList.drop 0 = dktX8_begin_0 := by decide +kernel
theorem dksX8_begin_1 : cX8_begin.data.toList.drop 22 = dktX8_begin_1 := dk_seg dksX8_begin_0 22 rfl rfl
theorem dksX8_begin_2 : cX8_begin.data.toList.drop 45 = dktX8_begin_2 := dk_seg dksX8_begin_1 23 rfl rfl
theorem dX8_begin_0 : decode cX8_begin 0 = .ok (.aload_n 0, 1) := dk_42 (dk_at dksX8_begin_0 0 rfl rfl)
theorem dX8_begin_1 : decode cX8_begin 1 = .ok (.iconst 0, 1) := dk_3 (dk_at dksX8_begin_0 1 rfl rfl)
theorem dX8_begin_2 : decode cX8_begin 2 = .ok (.putfield 31, 3) := dk_181 0 31 (dk_at dksX8_begin_0 2 rfl rfl)
theorem dX8_begin_5 : decode cX8_begin 5 = .ok (.aload_n 0, 1) := dk_42 (dk_at dksX8_begin_0 5 rfl rfl)
theorem dX8_begin_6 : decode cX8_begin 6 = .ok (.iconst 0, 1) := dk_3 (dk_at dksX8_begin_0 6 rfl rfl)
theorem dX8_begin_7 : decode cX8_begin 7 = .ok (.putfield 35, 3) := dk_181 0 35 (dk_at dksX8_begin_0 7 rfl rfl)
theorem dX8_begin_10 : decode cX8_begin 10 = .ok (.aload_n 0, 1) := dk_42 (dk_at dksX8_begin_0 10 rfl rfl)
theorem dX8_begin_11 : decode cX8_begin 11 = .ok (.iconst 0, 1) := dk_3 (dk_at dksX8_begin_0 11 rfl rfl)
theorem dX8_begin_12 : decode cX8_begin 12 = .ok (.putfield 38, 3) := dk_181 0 38 (dk_at dksX8_begin_0 12 rfl rfl)
theorem dX8_begin_15 : decode cX8_begin 15 = .ok (.aload_n 0, 1) := dk_42 (dk_at dksX8_begin_0 15 rfl rfl)
theorem dX8_begin_16 : decode cX8_begin 16 = .ok (.iconst 0, 1) := dk_3 (dk_at dksX8_begin_0 16 rfl rfl)
theorem dX8_begin_17 : decode cX8_begin 17 = .ok (.putfield 41, 3) := dk_181 0 41 (dk_at dksX8_begin_0 17 rfl rfl)
theorem dX8_begin_20 : decode cX8_begin 20 = .ok (.aload_n 0, 1) := dk_42 (dk_at dksX8_begin_0 20 rfl rfl)
theorem dX8_begin_21 : decode cX8_begin 21 = .ok (.iconst 0, 1) := dk_3 (dk_at dksX8_begin_0 21 rfl rfl)
theorem dX8_begin_22 : decode cX8_begin 22 = .ok (.putfield 48, 3) := dk_181 0 48 (dk_at dksX8_begin_1 0 rfl rfl)
theorem dX8_begin_25 : decode cX8_begin 25 = .ok (.aload_n 0, 1) := dk_42 (dk_at dksX8_begin_1 3 rfl rfl)
theorem dX8_begin_26 : decode cX8_begin 26 = .ok (.iconst 0, 1) := dk_3 (dk_at dksX8_begin_1 4 rfl rfl)
theorem dX8_begin_27 : decode cX8_begin 27 = .ok (.putfield 51, 3) := dk_181 0 51 (dk_at dksX8_begin_1 5 rfl rfl)
theorem dX8_begin_30 : decode cX8_begin 30 = .ok (.iconst 0, 1) := dk_3 (dk_at dksX8_begin_1 8 rfl rfl)
theorem dX8_begin_31 : decode cX8_begin 31 = .ok (.istore_n 1, 1) := dk_60 (dk_at dksX8_begin_1 9 rfl rfl)
theorem dX8_begin_32 : decode cX8_begin 32 = .ok (.iload_n 1, 1) := dk_27 (dk_at dksX8_begin_1 10 rfl rfl)
theorem dX8_begin_33 : decode cX8_begin 33 = .ok (.bipush 54, 2) := dk_16 54 (dk_at dksX8_begin_1 11 rfl rfl)
theorem dX8_begin_35 : decode cX8_begin 35 = .ok (.if_icmp .ge 16, 3) := dk_162 0 16 (dk_at dksX8_begin_1 13 rfl rfl)
theorem dX8_begin_38 : decode cX8_begin 38 = .ok (.aload_n 0, 1) := dk_42 (dk_at dksX8_begin_1 16 rfl rfl)
theorem dX8_begin_39 : decode cX8_begin 39 = .ok (.getfield 9, 3) := dk_180 0 9 (dk_at dksX8_begin_1 17 rfl rfl)
theorem dX8_begin_42 : decode cX8_begin 42 = .ok (.iload_n 1, 1) := dk_27 (dk_at dksX8_begin_1 20 rfl rfl)
theorem dX8_begin_43 : decode cX8_begin 43 = .ok (.iconst 0, 1) := dk_3 (dk_at dksX8_begin_1 21 rfl rfl)
theorem dX8_begin_44 : decode cX8_begin 44 = .ok (.bastore, 1) := dk_84 (dk_at dksX8_begin_1 22 rfl rfl)
theorem dX8_begin_45 : decode cX8_begin 45 = .ok (.iinc 1 1, 3) := dk_132 1 1 (dk_at dksX8_begin_2 0 rfl rfl)
theorem dX8_begin_48 : decode cX8_begin 48 = .ok (.goto (-16), 3) := dk_167 255 240 (dk_at dksX8_begin_2 3 rfl rfl)
theorem dX8_begin_51 : decode cX8_begin 51 = .ok (.return_, 1) := dk_177 (dk_at dksX8_begin_2 6 rfl rfl)
abbrev cX8_go : ByteArray := prog_16_method_2_code
def yX8_go : MethodName := ⟨RX8, "go", "(LOverFirst$State;)V"⟩
def dkwX8_go_2 : List UInt8 := [180, 0, 9, 28, 51, 84, 132, 2, 1, 167, 255, 235, 177]
abbrev dktX8_go_2 : List UInt8 := dkwX8_go_2 ++ []
def dkwX8_go_1 : List UInt8 := [42, 43, 180, 0, 41, 181, 0, 41, 3, 61, 28, 16, 54, 162, 0, 21, 42, 180, 0, 9, 28, 43]
abbrev dktX8_go_1 : List UInt8 := dkwX8_go_1 ++ dktX8_go_2
def dkwX8_go_0 : List UInt8 := [42, 43, 180, 0, 31, 181, 0, 31, 42, 43, 180, 0, 35, 181, 0, 35, 42, 43, 180, 0, 38, 181, 0, 38]
abbrev dktX8_go_0 : List UInt8 := dkwX8_go_0 ++ dktX8_go_1
theorem dksX8_go_0 : cX8_go.data.toList.drop 0 = dktX8_go_0 := by decide +kernel
theorem dksX8_go_1 : cX8_go.data.toList.drop 24 = dktX8_go_1 := dk_seg dksX8_go_0 24 rfl rfl
theorem dksX8_go_2 : cX8_go.data.toList.drop 46 = dktX8_go_2 := dk_seg dksX8_go_1 22 rfl rfl
theorem dX8_go_0 : decode cX8_go 0 = .ok (.aload_n 0, 1) := dk_42 (dk_at dksX8_go_0 0 rfl rfl)
theorem dX8_go_1 : decode cX8_go 1 = .ok (.aload_n 1, 1) := dk_43 (dk_at dksX8_go_0 1 rfl rfl)
theorem dX8_go_2 : decode cX8_go 2 = .ok (.getfield 31, 3) := dk_180 0 31 (dk_at dksX8_go_0 2 rfl rfl)
theorem dX8_go_5 : decode cX8_go 5 = .ok (.putfield 31, 3) := dk_181 0 31 (dk_at dksX8_go_0 5 rfl rfl)
theorem dX8_go_8 : decode cX8_go 8 = .ok (.aload_n 0, 1) := dk_42 (dk_at dksX8_go_0 8 rfl rfl)
theorem dX8_go_9 : decode cX8_go 9 = .ok (.aload_n 1, 1) := dk_43 (dk_at dksX8_go_0 9 rfl rfl)
theorem dX8_go_10 : decode cX8_go 10 = .ok (.getfield 35, 3) := dk_180 0 35 (dk_at dksX8_go_0 10 rfl rfl)
theorem dX8_go_13 : decode cX8_go 13 = .ok (.putfield 35, 3) := dk_181 0 35 (dk_at dksX8_go_0 13 rfl rfl)
theorem dX8_go_16 : decode cX8_go 16 = .ok (.aload_n 0, 1) := dk_42 (dk_at dksX8_go_0 16 rfl rfl)
theorem dX8_go_17 : decode cX8_go 17 = .ok (.aload_n 1, 1) := dk_43 (dk_at dksX8_go_0 17 rfl rfl)
theorem dX8_go_18 : decode cX8_go 18 = .ok (.getfield 38, 3) := dk_180 0 38 (dk_at dksX8_go_0 18 rfl rfl)
theorem dX8_go_21 : decode cX8_go 21 = .ok (.putfield 38, 3) := dk_181 0 38 (dk_at dksX8_go_0 21 rfl rfl)
theorem dX8_go_24 : decode cX8_go 24 = .ok (.aload_n 0, 1) := dk_42 (dk_at dksX8_go_1 0 rfl rfl)
theorem dX8_go_25 : decode cX8_go 25 = .ok (.aload_n 1, 1) := dk_43 (dk_at dksX8_go_1 1 rfl rfl)
theorem dX8_go_26 : decode cX8_go 26 = .ok (.getfield 41, 3) := dk_180 0 41 (dk_at dksX8_go_1 2 rfl rfl)
theorem dX8_go_29 : decode cX8_go 29 = .ok (.putfield 41, 3) := dk_181 0 41 (dk_at dksX8_go_1 5 rfl rfl)
theorem dX8_go_32 : decode cX8_go 32 = .ok (.iconst 0, 1) := dk_3 (dk_at dksX8_go_1 8 rfl rfl)
theorem dX8_go_33 : decode cX8_go 33 = .ok (.istore_n 2, 1) := dk_61 (dk_at dksX8_go_1 9 rfl rfl)
theorem dX8_go_34 : decode cX8_go 34 = .ok (.iload_n 2, 1) := dk_28 (dk_at dksX8_go_1 10 rfl rfl)
theorem dX8_go_35 : decode cX8_go 35 = .ok (.bipush 54, 2) := dk_16 54 (dk_at dksX8_go_1 11 rfl rfl)
theorem dX8_go_37 : decode cX8_go 37 = .ok (.if_icmp .ge 21, 3) := dk_162 0 21 (dk_at dksX8_go_1 13 rfl rfl)
theorem dX8_go_40 : decode cX8_go 40 = .ok (.aload_n 0, 1) := dk_42 (dk_at dksX8_go_1 16 rfl rfl)
theorem dX8_go_41 : decode cX8_go 41 = .ok (.getfield 9, 3) := dk_180 0 9 (dk_at dksX8_go_1 17 rfl rfl)
theorem dX8_go_44 : decode cX8_go 44 = .ok (.iload_n 2, 1) := dk_28 (dk_at dksX8_go_1 20 rfl rfl)
theorem dX8_go_45 : decode cX8_go 45 = .ok (.aload_n 1, 1) := dk_43 (dk_at dksX8_go_1 21 rfl rfl)
theorem dX8_go_46 : decode cX8_go 46 = .ok (.getfield 9, 3) := dk_180 0 9 (dk_at dksX8_go_2 0 rfl rfl)
theorem dX8_go_49 : decode cX8_go 49 = .ok (.iload_n 2, 1) := dk_28 (dk_at dksX8_go_2 3 rfl rfl)
theorem dX8_go_50 : decode cX8_go 50 = .ok (.baload, 1) := dk_51 (dk_at dksX8_go_2 4 rfl rfl)
theorem dX8_go_51 : decode cX8_go 51 = .ok (.bastore, 1) := dk_84 (dk_at dksX8_go_2 5 rfl rfl)
theorem dX8_go_52 : decode cX8_go 52 = .ok (.iinc 2 1, 3) := dk_132 2 1 (dk_at dksX8_go_2 6 rfl rfl)
theorem dX8_go_55 : decode cX8_go 55 = .ok (.goto (-21), 3) := dk_167 255 235 (dk_at dksX8_go_2 9 rfl rfl)
theorem dX8_go_58 : decode cX8_go 58 = .ok (.return_, 1) := dk_177 (dk_at dksX8_go_2 12 rfl rfl)
abbrev cX8_be : ByteArray := prog_16_method_3_code
def yX8_be : MethodName := ⟨RX8, "be", "(LOverFirst$State;)V"⟩
def dkwX8_be_4 : List UInt8 := [28, 43, 180, 0, 28, 28, 46, 79, 132, 2, 1, 167, 255, 223, 177]
abbrev dktX8_be_4 : List UInt8 := dkwX8_be_4 ++ []
def dkwX8_be_3 : List UInt8 := [3, 61, 28, 16, 8, 162, 0, 33, 42, 180, 0, 25, 28, 43, 180, 0, 25, 28, 46, 79, 42, 180, 0, 28]
abbrev dktX8_be_3 : List UInt8 := dkwX8_be_3 ++ dktX8_be_4
def dkwX8_be_2 : List UInt8 := [180, 0, 18, 28, 46, 79, 42, 180, 0, 22, 28, 43, 180, 0, 22, 28, 46, 79, 132, 2, 1, 167, 255, 211]
abbrev dktX8_be_2 : List UInt8 := dkwX8_be_2 ++ dktX8_be_3
def dkwX8_be_1 : List UInt8 := [16, 10, 162, 0, 45, 42, 180, 0, 15, 28, 43, 180, 0, 15, 28, 51, 84, 42, 180, 0, 18, 28, 43]
abbrev dktX8_be_1 : List UInt8 := dkwX8_be_1 ++ dktX8_be_2
def dkwX8_be_0 : List UInt8 := [42, 43, 182, 0, 44, 42, 43, 180, 0, 48, 181, 0, 48, 42, 43, 180, 0, 51, 181, 0, 51, 3, 61, 28]
abbrev dktX8_be_0 : List UInt8 := dkwX8_be_0 ++ dktX8_be_1
theorem dksX8_be_0 : cX8_be.data.toList.drop 0 = dktX8_be_0 := by decide +kernel
theorem dksX8_be_1 : cX8_be.data.toList.drop 24 = dktX8_be_1 := dk_seg dksX8_be_0 24 rfl rfl
theorem dksX8_be_2 : cX8_be.data.toList.drop 47 = dktX8_be_2 := dk_seg dksX8_be_1 23 rfl rfl
theorem dksX8_be_3 : cX8_be.data.toList.drop 71 = dktX8_be_3 := dk_seg dksX8_be_2 24 rfl rfl
theorem dksX8_be_4 : cX8_be.data.toList.drop 95 = dktX8_be_4 := dk_seg dksX8_be_3 24 rfl rfl
theorem dX8_be_0 : decode cX8_be 0 = .ok (.aload_n 0, 1) := dk_42 (dk_at dksX8_be_0 0 rfl rfl)
theorem dX8_be_1 : decode cX8_be 1 = .ok (.aload_n 1, 1) := dk_43 (dk_at dksX8_be_0 1 rfl rfl)
theorem dX8_be_2 : decode cX8_be 2 = .ok (.invokevirtual 44, 3) := dk_182 0 44 (dk_at dksX8_be_0 2 rfl rfl)
theorem dX8_be_5 : decode cX8_be 5 = .ok (.aload_n 0, 1) := dk_42 (dk_at dksX8_be_0 5 rfl rfl)
theorem dX8_be_6 : decode cX8_be 6 = .ok (.aload_n 1, 1) := dk_43 (dk_at dksX8_be_0 6 rfl rfl)
theorem dX8_be_7 : decode cX8_be 7 = .ok (.getfield 48, 3) := dk_180 0 48 (dk_at dksX8_be_0 7 rfl rfl)
theorem dX8_be_10 : decode cX8_be 10 = .ok (.putfield 48, 3) := dk_181 0 48 (dk_at dksX8_be_0 10 rfl rfl)
theorem dX8_be_13 : decode cX8_be 13 = .ok (.aload_n 0, 1) := dk_42 (dk_at dksX8_be_0 13 rfl rfl)
theorem dX8_be_14 : decode cX8_be 14 = .ok (.aload_n 1, 1) := dk_43 (dk_at dksX8_be_0 14 rfl rfl)
theorem dX8_be_15 : decode cX8_be 15 = .ok (.getfield 51, 3) := dk_180 0 51 (dk_at dksX8_be_0 15 rfl rfl)
theorem dX8_be_18 : decode cX8_be 18 = .ok (.putfield 51, 3) := dk_181 0 51 (dk_at dksX8_be_0 18 rfl rfl)
theorem dX8_be_21 : decode cX8_be 21 = .ok (.iconst 0, 1) := dk_3 (dk_at dksX8_be_0 21 rfl rfl)
theorem dX8_be_22 : decode cX8_be 22 = .ok (.istore_n 2, 1) := dk_61 (dk_at dksX8_be_0 22 rfl rfl)
theorem dX8_be_23 : decode cX8_be 23 = .ok (.iload_n 2, 1) := dk_28 (dk_at dksX8_be_0 23 rfl rfl)
theorem dX8_be_24 : decode cX8_be 24 = .ok (.bipush 10, 2) := dk_16 10 (dk_at dksX8_be_1 0 rfl rfl)
theorem dX8_be_26 : decode cX8_be 26 = .ok (.if_icmp .ge 45, 3) := dk_162 0 45 (dk_at dksX8_be_1 2 rfl rfl)
theorem dX8_be_29 : decode cX8_be 29 = .ok (.aload_n 0, 1) := dk_42 (dk_at dksX8_be_1 5 rfl rfl)
theorem dX8_be_30 : decode cX8_be 30 = .ok (.getfield 15, 3) := dk_180 0 15 (dk_at dksX8_be_1 6 rfl rfl)
theorem dX8_be_33 : decode cX8_be 33 = .ok (.iload_n 2, 1) := dk_28 (dk_at dksX8_be_1 9 rfl rfl)
theorem dX8_be_34 : decode cX8_be 34 = .ok (.aload_n 1, 1) := dk_43 (dk_at dksX8_be_1 10 rfl rfl)
theorem dX8_be_35 : decode cX8_be 35 = .ok (.getfield 15, 3) := dk_180 0 15 (dk_at dksX8_be_1 11 rfl rfl)
theorem dX8_be_38 : decode cX8_be 38 = .ok (.iload_n 2, 1) := dk_28 (dk_at dksX8_be_1 14 rfl rfl)
theorem dX8_be_39 : decode cX8_be 39 = .ok (.baload, 1) := dk_51 (dk_at dksX8_be_1 15 rfl rfl)
theorem dX8_be_40 : decode cX8_be 40 = .ok (.bastore, 1) := dk_84 (dk_at dksX8_be_1 16 rfl rfl)
theorem dX8_be_41 : decode cX8_be 41 = .ok (.aload_n 0, 1) := dk_42 (dk_at dksX8_be_1 17 rfl rfl)
theorem dX8_be_42 : decode cX8_be 42 = .ok (.getfield 18, 3) := dk_180 0 18 (dk_at dksX8_be_1 18 rfl rfl)
theorem dX8_be_45 : decode cX8_be 45 = .ok (.iload_n 2, 1) := dk_28 (dk_at dksX8_be_1 21 rfl rfl)
theorem dX8_be_46 : decode cX8_be 46 = .ok (.aload_n 1, 1) := dk_43 (dk_at dksX8_be_1 22 rfl rfl)
theorem dX8_be_47 : decode cX8_be 47 = .ok (.getfield 18, 3) := dk_180 0 18 (dk_at dksX8_be_2 0 rfl rfl)
theorem dX8_be_50 : decode cX8_be 50 = .ok (.iload_n 2, 1) := dk_28 (dk_at dksX8_be_2 3 rfl rfl)
theorem dX8_be_51 : decode cX8_be 51 = .ok (.iaload, 1) := dk_46 (dk_at dksX8_be_2 4 rfl rfl)
theorem dX8_be_52 : decode cX8_be 52 = .ok (.iastore, 1) := dk_79 (dk_at dksX8_be_2 5 rfl rfl)
theorem dX8_be_53 : decode cX8_be 53 = .ok (.aload_n 0, 1) := dk_42 (dk_at dksX8_be_2 6 rfl rfl)
theorem dX8_be_54 : decode cX8_be 54 = .ok (.getfield 22, 3) := dk_180 0 22 (dk_at dksX8_be_2 7 rfl rfl)
theorem dX8_be_57 : decode cX8_be 57 = .ok (.iload_n 2, 1) := dk_28 (dk_at dksX8_be_2 10 rfl rfl)
theorem dX8_be_58 : decode cX8_be 58 = .ok (.aload_n 1, 1) := dk_43 (dk_at dksX8_be_2 11 rfl rfl)
theorem dX8_be_59 : decode cX8_be 59 = .ok (.getfield 22, 3) := dk_180 0 22 (dk_at dksX8_be_2 12 rfl rfl)
theorem dX8_be_62 : decode cX8_be 62 = .ok (.iload_n 2, 1) := dk_28 (dk_at dksX8_be_2 15 rfl rfl)
theorem dX8_be_63 : decode cX8_be 63 = .ok (.iaload, 1) := dk_46 (dk_at dksX8_be_2 16 rfl rfl)
theorem dX8_be_64 : decode cX8_be 64 = .ok (.iastore, 1) := dk_79 (dk_at dksX8_be_2 17 rfl rfl)
theorem dX8_be_65 : decode cX8_be 65 = .ok (.iinc 2 1, 3) := dk_132 2 1 (dk_at dksX8_be_2 18 rfl rfl)
theorem dX8_be_68 : decode cX8_be 68 = .ok (.goto (-45), 3) := dk_167 255 211 (dk_at dksX8_be_2 21 rfl rfl)
theorem dX8_be_71 : decode cX8_be 71 = .ok (.iconst 0, 1) := dk_3 (dk_at dksX8_be_3 0 rfl rfl)
theorem dX8_be_72 : decode cX8_be 72 = .ok (.istore_n 2, 1) := dk_61 (dk_at dksX8_be_3 1 rfl rfl)
theorem dX8_be_73 : decode cX8_be 73 = .ok (.iload_n 2, 1) := dk_28 (dk_at dksX8_be_3 2 rfl rfl)
theorem dX8_be_74 : decode cX8_be 74 = .ok (.bipush 8, 2) := dk_16 8 (dk_at dksX8_be_3 3 rfl rfl)
theorem dX8_be_76 : decode cX8_be 76 = .ok (.if_icmp .ge 33, 3) := dk_162 0 33 (dk_at dksX8_be_3 5 rfl rfl)
theorem dX8_be_79 : decode cX8_be 79 = .ok (.aload_n 0, 1) := dk_42 (dk_at dksX8_be_3 8 rfl rfl)
theorem dX8_be_80 : decode cX8_be 80 = .ok (.getfield 25, 3) := dk_180 0 25 (dk_at dksX8_be_3 9 rfl rfl)
theorem dX8_be_83 : decode cX8_be 83 = .ok (.iload_n 2, 1) := dk_28 (dk_at dksX8_be_3 12 rfl rfl)
theorem dX8_be_84 : decode cX8_be 84 = .ok (.aload_n 1, 1) := dk_43 (dk_at dksX8_be_3 13 rfl rfl)
theorem dX8_be_85 : decode cX8_be 85 = .ok (.getfield 25, 3) := dk_180 0 25 (dk_at dksX8_be_3 14 rfl rfl)
theorem dX8_be_88 : decode cX8_be 88 = .ok (.iload_n 2, 1) := dk_28 (dk_at dksX8_be_3 17 rfl rfl)
theorem dX8_be_89 : decode cX8_be 89 = .ok (.iaload, 1) := dk_46 (dk_at dksX8_be_3 18 rfl rfl)
theorem dX8_be_90 : decode cX8_be 90 = .ok (.iastore, 1) := dk_79 (dk_at dksX8_be_3 19 rfl rfl)
theorem dX8_be_91 : decode cX8_be 91 = .ok (.aload_n 0, 1) := dk_42 (dk_at dksX8_be_3 20 rfl rfl)
theorem dX8_be_92 : decode cX8_be 92 = .ok (.getfield 28, 3) := dk_180 0 28 (dk_at dksX8_be_3 21 rfl rfl)
theorem dX8_be_95 : decode cX8_be 95 = .ok (.iload_n 2, 1) := dk_28 (dk_at dksX8_be_4 0 rfl rfl)
theorem dX8_be_96 : decode cX8_be 96 = .ok (.aload_n 1, 1) := dk_43 (dk_at dksX8_be_4 1 rfl rfl)
theorem dX8_be_97 : decode cX8_be 97 = .ok (.getfield 28, 3) := dk_180 0 28 (dk_at dksX8_be_4 2 rfl rfl)
theorem dX8_be_100 : decode cX8_be 100 = .ok (.iload_n 2, 1) := dk_28 (dk_at dksX8_be_4 5 rfl rfl)
theorem dX8_be_101 : decode cX8_be 101 = .ok (.iaload, 1) := dk_46 (dk_at dksX8_be_4 6 rfl rfl)
theorem dX8_be_102 : decode cX8_be 102 = .ok (.iastore, 1) := dk_79 (dk_at dksX8_be_4 7 rfl rfl)
theorem dX8_be_103 : decode cX8_be 103 = .ok (.iinc 2 1, 3) := dk_132 2 1 (dk_at dksX8_be_4 8 rfl rfl)
theorem dX8_be_106 : decode cX8_be 106 = .ok (.goto (-33), 3) := dk_167 255 223 (dk_at dksX8_be_4 11 rfl rfl)
theorem dX8_be_109 : decode cX8_be 109 = .ok (.return_, 1) := dk_177 (dk_at dksX8_be_4 14 rfl rfl)
theorem q151 : (Jvm.Cond.initialized "OverFirst$State") ∈ lw_all := lw_g (lw_at lw_m1 16 rfl) rfl
theorem q313 : (Jvm.Cond.selects "OverFirst$State" ({ cls := "java/lang/Object", name := "getClass", desc := "()Ljava/lang/Class;" } : Jvm.MethodName) ({ cls := "java/lang/Object", name := "getClass", desc := "()Ljava/lang/Class;" } : Jvm.MethodName)) ∈ lw_all := lw_g (lw_at lw_m1 178 rfl) rfl
theorem q431 : (Jvm.Cond.instantiable "OverFirst$State" (12 : Nat)) ∈ lw_all := lw_g (lw_at lw_m2 56 rfl) rfl
theorem q433 : (Jvm.Cond.instanceMethod ({ cls := "OverFirst$State", name := "<init>", desc := "()V" } : Jvm.MethodName)) ∈ lw_all := lw_g (lw_at lw_m2 58 rfl) rfl
theorem q434 : (Jvm.Cond.code ({ cls := "OverFirst$State", name := "<init>", desc := "()V" } : Jvm.MethodName) prog_16_method_1_code (1 : Nat) (Option.none : Option Jvm.ClassFile.FieldType)) ∈ lw_all := lw_g (lw_at lw_m2 59 rfl) rfl
theorem q435 : (Jvm.Cond.methodLink "OverFirst$State" (3 : Nat) ({ cls := "java/lang/Object", name := "<init>", desc := "()V" } : Jvm.MethodName)) ∈ lw_all := lw_g (lw_at lw_m2 60 rfl) rfl
theorem q436 : (Jvm.Cond.fieldLink "OverFirst$State" (31 : Nat) "OverFirst$State" "x" "I") ∈ lw_all := lw_g (lw_at lw_m2 61 rfl) rfl
theorem q438 : (Jvm.Cond.fieldLink "OverFirst$State" (35 : Nat) "OverFirst$State" "y" "I") ∈ lw_all := lw_g (lw_at lw_m2 63 rfl) rfl
theorem q440 : (Jvm.Cond.fieldLink "OverFirst$State" (38 : Nat) "OverFirst$State" "second" "I") ∈ lw_all := lw_g (lw_at lw_m2 65 rfl) rfl
theorem q442 : (Jvm.Cond.fieldLink "OverFirst$State" (41 : Nat) "OverFirst$State" "runs" "I") ∈ lw_all := lw_g (lw_at lw_m2 67 rfl) rfl
theorem q444 : (Jvm.Cond.fieldLink "OverFirst$State" (48 : Nat) "OverFirst$State" "tried" "I") ∈ lw_all := lw_g (lw_at lw_m2 69 rfl) rfl
theorem q446 : (Jvm.Cond.fieldLink "OverFirst$State" (51 : Nat) "OverFirst$State" "was" "I") ∈ lw_all := lw_g (lw_at lw_m2 71 rfl) rfl
theorem q448 : (Jvm.Cond.fieldLink "OverFirst$State" (9 : Nat) "OverFirst$State" "known" "[Z") ∈ lw_all := lw_g (lw_at lw_m2 73 rfl) rfl
theorem q450 : (Jvm.Cond.fieldLink "OverFirst$State" (15 : Nat) "OverFirst$State" "pressed" "[Z") ∈ lw_all := lw_g (lw_at lw_m2 75 rfl) rfl
theorem q452 : (Jvm.Cond.fieldLink "OverFirst$State" (18 : Nat) "OverFirst$State" "triedAt" "[I") ∈ lw_all := lw_g (lw_at lw_m2 77 rfl) rfl
theorem q454 : (Jvm.Cond.fieldLink "OverFirst$State" (22 : Nat) "OverFirst$State" "waited" "[I") ∈ lw_all := lw_g (lw_at lw_m2 79 rfl) rfl
theorem q456 : (Jvm.Cond.fieldLink "OverFirst$State" (25 : Nat) "OverFirst$State" "wasAt" "[I") ∈ lw_all := lw_g (lw_at lw_m2 81 rfl) rfl
theorem q458 : (Jvm.Cond.fieldLink "OverFirst$State" (28 : Nat) "OverFirst$State" "wasWhen" "[I") ∈ lw_all := lw_g (lw_at lw_m2 83 rfl) rfl
theorem q460 : (Jvm.Cond.lays "OverFirst$State" "OverFirst$State" "x" "I") ∈ lw_all := lw_g (lw_at lw_m2 85 rfl) rfl
theorem q461 : (Jvm.Cond.soleField "OverFirst$State" "x") ∈ lw_all := lw_g (lw_at lw_m2 86 rfl) rfl
theorem q462 : (Jvm.Cond.lays "OverFirst$State" "OverFirst$State" "y" "I") ∈ lw_all := lw_g (lw_at lw_m2 87 rfl) rfl
theorem q463 : (Jvm.Cond.soleField "OverFirst$State" "y") ∈ lw_all := lw_g (lw_at lw_m2 88 rfl) rfl
theorem q464 : (Jvm.Cond.lays "OverFirst$State" "OverFirst$State" "second" "I") ∈ lw_all := lw_g (lw_at lw_m2 89 rfl) rfl
theorem q465 : (Jvm.Cond.soleField "OverFirst$State" "second") ∈ lw_all := lw_g (lw_at lw_m2 90 rfl) rfl
theorem q466 : (Jvm.Cond.lays "OverFirst$State" "OverFirst$State" "runs" "I") ∈ lw_all := lw_g (lw_at lw_m2 91 rfl) rfl
theorem q467 : (Jvm.Cond.soleField "OverFirst$State" "runs") ∈ lw_all := lw_g (lw_at lw_m2 92 rfl) rfl
theorem q468 : (Jvm.Cond.lays "OverFirst$State" "OverFirst$State" "tried" "I") ∈ lw_all := lw_g (lw_at lw_m2 93 rfl) rfl
theorem q469 : (Jvm.Cond.soleField "OverFirst$State" "tried") ∈ lw_all := lw_g (lw_at lw_m2 94 rfl) rfl
theorem q470 : (Jvm.Cond.lays "OverFirst$State" "OverFirst$State" "was" "I") ∈ lw_all := lw_g (lw_at lw_m2 95 rfl) rfl
theorem q471 : (Jvm.Cond.soleField "OverFirst$State" "was") ∈ lw_all := lw_g (lw_at lw_m2 96 rfl) rfl
theorem q472 : (Jvm.Cond.laysFinal "OverFirst$State" "OverFirst$State" "known" "[Z") ∈ lw_all := lw_g (lw_at lw_m2 97 rfl) rfl
theorem q473 : (Jvm.Cond.soleField "OverFirst$State" "known") ∈ lw_all := lw_g (lw_at lw_m2 98 rfl) rfl
theorem q474 : (Jvm.Cond.laysFinal "OverFirst$State" "OverFirst$State" "pressed" "[Z") ∈ lw_all := lw_g (lw_at lw_m2 99 rfl) rfl
theorem q475 : (Jvm.Cond.soleField "OverFirst$State" "pressed") ∈ lw_all := lw_g (lw_at lw_m2 100 rfl) rfl
theorem q476 : (Jvm.Cond.laysFinal "OverFirst$State" "OverFirst$State" "triedAt" "[I") ∈ lw_all := lw_g (lw_at lw_m2 101 rfl) rfl
theorem q477 : (Jvm.Cond.soleField "OverFirst$State" "triedAt") ∈ lw_all := lw_g (lw_at lw_m2 102 rfl) rfl
theorem q478 : (Jvm.Cond.laysFinal "OverFirst$State" "OverFirst$State" "waited" "[I") ∈ lw_all := lw_g (lw_at lw_m2 103 rfl) rfl
theorem q479 : (Jvm.Cond.soleField "OverFirst$State" "waited") ∈ lw_all := lw_g (lw_at lw_m2 104 rfl) rfl
theorem q480 : (Jvm.Cond.laysFinal "OverFirst$State" "OverFirst$State" "wasAt" "[I") ∈ lw_all := lw_g (lw_at lw_m2 105 rfl) rfl
theorem q481 : (Jvm.Cond.soleField "OverFirst$State" "wasAt") ∈ lw_all := lw_g (lw_at lw_m2 106 rfl) rfl
theorem q482 : (Jvm.Cond.laysFinal "OverFirst$State" "OverFirst$State" "wasWhen" "[I") ∈ lw_all := lw_g (lw_at lw_m2 107 rfl) rfl
theorem q483 : (Jvm.Cond.soleField "OverFirst$State" "wasWhen") ∈ lw_all := lw_g (lw_at lw_m2 108 rfl) rfl
theorem q484 : (Jvm.Cond.superclass "OverFirst$State" "java/lang/Object") ∈ lw_all := lw_g (lw_at lw_m2 109 rfl) rfl
theorem q1176 : (Jvm.Cond.instanceMethod ({ cls := "OverFirst$State", name := "begin", desc := "()V" } : Jvm.MethodName)) ∈ lw_all := lw_g (lw_at lw_m5 81 rfl) rfl
theorem q1177 : (Jvm.Cond.selects "OverFirst$State" ({ cls := "OverFirst$State", name := "begin", desc := "()V" } : Jvm.MethodName) ({ cls := "OverFirst$State", name := "begin", desc := "()V" } : Jvm.MethodName)) ∈ lw_all := lw_g (lw_at lw_m5 82 rfl) rfl
theorem q1178 : (Jvm.Cond.code ({ cls := "OverFirst$State", name := "begin", desc := "()V" } : Jvm.MethodName) prog_16_method_4_code (2 : Nat) (Option.none : Option Jvm.ClassFile.FieldType)) ∈ lw_all := lw_g (lw_at lw_m5 83 rfl) rfl
theorem q1283 : (Jvm.Cond.instanceMethod ({ cls := "OverFirst$State", name := "go", desc := "(LOverFirst$State;)V" } : Jvm.MethodName)) ∈ lw_all := lw_g (lw_at lw_m5 188 rfl) rfl
theorem q1284 : (Jvm.Cond.selects "OverFirst$State" ({ cls := "OverFirst$State", name := "go", desc := "(LOverFirst$State;)V" } : Jvm.MethodName) ({ cls := "OverFirst$State", name := "go", desc := "(LOverFirst$State;)V" } : Jvm.MethodName)) ∈ lw_all := lw_g (lw_at lw_m5 189 rfl) rfl
theorem q1285 : (Jvm.Cond.code ({ cls := "OverFirst$State", name := "go", desc := "(LOverFirst$State;)V" } : Jvm.MethodName) prog_16_method_2_code (3 : Nat) (Option.none : Option Jvm.ClassFile.FieldType)) ∈ lw_all := lw_g (lw_at lw_m5 190 rfl) rfl
theorem q1606 : (Jvm.Cond.instanceMethod ({ cls := "OverFirst$State", name := "be", desc := "(LOverFirst$State;)V" } : Jvm.MethodName)) ∈ lw_all := lw_g (lw_at lw_m7 31 rfl) rfl
theorem q1607 : (Jvm.Cond.selects "OverFirst$State" ({ cls := "OverFirst$State", name := "be", desc := "(LOverFirst$State;)V" } : Jvm.MethodName) ({ cls := "OverFirst$State", name := "be", desc := "(LOverFirst$State;)V" } : Jvm.MethodName)) ∈ lw_all := lw_g (lw_at lw_m7 32 rfl) rfl
theorem q1608 : (Jvm.Cond.code ({ cls := "OverFirst$State", name := "be", desc := "(LOverFirst$State;)V" } : Jvm.MethodName) prog_16_method_3_code (3 : Nat) (Option.none : Option Jvm.ClassFile.FieldType)) ∈ lw_all := lw_g (lw_at lw_m7 33 rfl) rfl
theorem q1609 : (Jvm.Cond.methodLink "OverFirst$State" (44 : Nat) ({ cls := "OverFirst$State", name := "go", desc := "(LOverFirst$State;)V" } : Jvm.MethodName)) ∈ lw_all := lw_g (lw_at lw_m7 34 rfl) rfl
theorem q2260 : (Jvm.Cond.castable "OverFirst$State" "java/lang/Object") ∈ lw_tbl := lw_at lw_m9 205 rfl
theorem in_X8 : ∀ w ∈ wsX80, w ∈ lw_all := lw_in wsX80 [460, 462, 464, 466, 468, 470, 472, 474, 476, 478, 480, 482] (by decide +kernel) (by decide +kernel)
/-! OverFirst$Wrong -/
set_option maxRecDepth 100000
def RX10 : String := "OverFirst$Wrong"
def TX10 : u_T := fun k => match k with
  | 0 => ("java/lang/Throwable", "cause", "Ljava/lang/Throwable;", false)
  | 1 => ("java/lang/Throwable", "stackTrace", "[Ljava/lang/StackTraceElement;", false)
  | 2 => ("java/lang/Throwable", "suppressedExceptions", "Ljava/util/List;", false)
  | 3 => ("java/lang/Throwable", "detailMessage", "Ljava/lang/String;", false)
  | 4 => ("java/lang/Throwable", "backtrace", "Ljava/lang/Object;", false)
  | 5 => ("java/lang/Throwable", "depth", "I", false)
  | _ => ("OverFirst$Wrong", "fault", "I", true)
def tyX10 : Nat → FieldType := fun k => match k with
  | 0 => .object "java/lang/Throwable"
  | 1 => .array (.object "java/lang/StackTraceElement")
  | 2 => .object "java/util/List"
  | 3 => .object "java/lang/String"
  | 4 => .object "java/lang/Object"
  | 5 => .int
  | _ => .int
abbrev wsX100 : List Cond := u_ws RX10 TX10 7
theorem nmX10 : ∀ a, a < 7 → ∀ b, b < 7 → a ≠ b → (TX10 a).2.1 ≠ (TX10 b).2.1 := by decide +kernel
theorem tyX10_ok : ∀ k, k < 7 → parseFieldDescriptor (TX10 k).2.2.1 = some (tyX10 k) := by decide +kernel
abbrev cX10_init : ByteArray := prog_21_method_1_code
def yX10_init : MethodName := ⟨RX10, "<init>", "(II)V"⟩
def dkwX10_init_0 : List UInt8 := [42, 1, 1, 3, 3, 183, 0, 1, 42, 27, 16, 16, 28, 104, 96, 181, 0, 7, 177]
abbrev dktX10_init_0 : List UInt8 := dkwX10_init_0 ++ []
theorem dksX10_init_0 : cX10_init.data.toList.drop 0 = dktX10_init_0 := by decide +kernel
theorem dX10_init_0 : decode cX10_init 0 = .ok (.aload_n 0, 1) := dk_42 (dk_at dksX10_init_0 0 rfl rfl)
theorem dX10_init_1 : decode cX10_init 1 = .ok (.aconst_null, 1) := dk_1 (dk_at dksX10_init_0 1 rfl rfl)
theorem dX10_init_2 : decode cX10_init 2 = .ok (.aconst_null, 1) := dk_1 (dk_at dksX10_init_0 2 rfl rfl)
theorem dX10_init_3 : decode cX10_init 3 = .ok (.iconst 0, 1) := dk_3 (dk_at dksX10_init_0 3 rfl rfl)
theorem dX10_init_4 : decode cX10_init 4 = .ok (.iconst 0, 1) := dk_3 (dk_at dksX10_init_0 4 rfl rfl)
theorem dX10_init_5 : decode cX10_init 5 = .ok (.invokespecial 1, 3) := dk_183 0 1 (dk_at dksX10_init_0 5 rfl rfl)
theorem dX10_init_8 : decode cX10_init 8 = .ok (.aload_n 0, 1) := dk_42 (dk_at dksX10_init_0 8 rfl rfl)
theorem dX10_init_9 : decode cX10_init 9 = .ok (.iload_n 1, 1) := dk_27 (dk_at dksX10_init_0 9 rfl rfl)
theorem dX10_init_10 : decode cX10_init 10 = .ok (.bipush 16, 2) := dk_16 16 (dk_at dksX10_init_0 10 rfl rfl)
theorem dX10_init_12 : decode cX10_init 12 = .ok (.iload_n 2, 1) := dk_28 (dk_at dksX10_init_0 12 rfl rfl)
theorem dX10_init_13 : decode cX10_init 13 = .ok (.imul, 1) := dk_104 (dk_at dksX10_init_0 13 rfl rfl)
theorem dX10_init_14 : decode cX10_init 14 = .ok (.iadd, 1) := dk_96 (dk_at dksX10_init_0 14 rfl rfl)
theorem dX10_init_15 : decode cX10_init 15 = .ok (.putfield 7, 3) := dk_181 0 7 (dk_at dksX10_init_0 15 rfl rfl)
theorem dX10_init_18 : decode cX10_init 18 = .ok (.return_, 1) := dk_177 (dk_at dksX10_init_0 18 rfl rfl)
theorem q161 : (Jvm.Cond.initialized "OverFirst$Wrong") ∈ lw_all := lw_g (lw_at lw_m1 26 rfl) rfl
theorem q318 : (Jvm.Cond.selects "OverFirst$Wrong" ({ cls := "java/lang/Object", name := "getClass", desc := "()Ljava/lang/Class;" } : Jvm.MethodName) ({ cls := "java/lang/Object", name := "getClass", desc := "()Ljava/lang/Class;" } : Jvm.MethodName)) ∈ lw_all := lw_g (lw_at lw_m1 183 rfl) rfl
theorem q736 : (Jvm.Cond.instantiable "OverFirst$Wrong" (7 : Nat)) ∈ lw_all := lw_g (lw_at lw_m3 121 rfl) rfl
theorem q737 : (Jvm.Cond.castable "OverFirst$Wrong" "OverFirst$Wrong") ∈ lw_tbl := lw_at lw_m3 122 rfl
theorem q744 : (Jvm.Cond.selects "OverFirst$Wrong" ({ cls := "java/lang/Throwable", name := "fillInStackTrace", desc := "(I)Ljava/lang/Throwable;" } : Jvm.MethodName) ({ cls := "java/lang/Throwable", name := "fillInStackTrace", desc := "(I)Ljava/lang/Throwable;" } : Jvm.MethodName)) ∈ lw_all := lw_g (lw_at lw_m3 129 rfl) rfl
theorem q745 : (Jvm.Cond.selects "OverFirst$Wrong" ({ cls := "java/lang/Throwable", name := "fillInStackTrace", desc := "()Ljava/lang/Throwable;" } : Jvm.MethodName) ({ cls := "java/lang/Throwable", name := "fillInStackTrace", desc := "()Ljava/lang/Throwable;" } : Jvm.MethodName)) ∈ lw_all := lw_g (lw_at lw_m3 130 rfl) rfl
theorem q746 : (Jvm.Cond.lays "OverFirst$Wrong" "java/lang/Throwable" "cause" "Ljava/lang/Throwable;") ∈ lw_all := lw_g (lw_at lw_m3 131 rfl) rfl
theorem q748 : (Jvm.Cond.lays "OverFirst$Wrong" "java/lang/Throwable" "stackTrace" "[Ljava/lang/StackTraceElement;") ∈ lw_all := lw_g (lw_at lw_m3 133 rfl) rfl
theorem q750 : (Jvm.Cond.lays "OverFirst$Wrong" "java/lang/Throwable" "suppressedExceptions" "Ljava/util/List;") ∈ lw_all := lw_g (lw_at lw_m3 135 rfl) rfl
theorem q752 : (Jvm.Cond.lays "OverFirst$Wrong" "java/lang/Throwable" "detailMessage" "Ljava/lang/String;") ∈ lw_all := lw_g (lw_at lw_m3 137 rfl) rfl
theorem q754 : (Jvm.Cond.lays "OverFirst$Wrong" "java/lang/Throwable" "backtrace" "Ljava/lang/Object;") ∈ lw_all := lw_g (lw_at lw_m3 139 rfl) rfl
theorem q775 : (Jvm.Cond.instanceMethod ({ cls := "OverFirst$Wrong", name := "<init>", desc := "(II)V" } : Jvm.MethodName)) ∈ lw_all := lw_g (lw_at lw_m3 160 rfl) rfl
theorem q776 : (Jvm.Cond.code ({ cls := "OverFirst$Wrong", name := "<init>", desc := "(II)V" } : Jvm.MethodName) prog_21_method_1_code (3 : Nat) (Option.none : Option Jvm.ClassFile.FieldType)) ∈ lw_all := lw_g (lw_at lw_m3 161 rfl) rfl
theorem q777 : (Jvm.Cond.methodLink "OverFirst$Wrong" (1 : Nat) ({ cls := "java/lang/RuntimeException", name := "<init>", desc := "(Ljava/lang/String;Ljava/lang/Throwable;ZZ)V" } : Jvm.MethodName)) ∈ lw_all := lw_g (lw_at lw_m3 162 rfl) rfl
theorem q786 : (Jvm.Cond.fieldLink "OverFirst$Wrong" (7 : Nat) "OverFirst$Wrong" "fault" "I") ∈ lw_all := lw_g (lw_at lw_m3 171 rfl) rfl
theorem q793 : (Jvm.Cond.laysFinal "OverFirst$Wrong" "OverFirst$Wrong" "fault" "I") ∈ lw_all := lw_g (lw_at lw_m3 178 rfl) rfl
theorem q794 : (Jvm.Cond.soleField "OverFirst$Wrong" "fault") ∈ lw_all := lw_g (lw_at lw_m3 179 rfl) rfl
theorem q799 : (Jvm.Cond.lays "OverFirst$Wrong" "java/lang/Throwable" "depth" "I") ∈ lw_all := lw_g (lw_at lw_m3 184 rfl) rfl
theorem q802 : (Jvm.Cond.superclass "OverFirst$Wrong" "java/lang/RuntimeException") ∈ lw_all := lw_g (lw_at lw_m3 187 rfl) rfl
theorem q2270 : (Jvm.Cond.castable "OverFirst$Wrong" "java/lang/Object") ∈ lw_tbl := lw_at lw_m9 215 rfl
theorem in_X10 : ∀ w ∈ wsX100, w ∈ lw_all := lw_in wsX100 [746, 748, 750, 752, 754, 799, 793] (by decide +kernel) (by decide +kernel)
/-! OverFirst$Light -/
set_option maxRecDepth 100000
def RX11 : String := "OverFirst$Light"
abbrev cX11_init : ByteArray := prog_11_method_1_code
def yX11_init : MethodName := ⟨RX11, "<init>", "(III)V"⟩
def dkwX11_init_0 : List UInt8 := [42, 183, 0, 1, 42, 27, 181, 0, 7, 42, 28, 181, 0, 13, 42, 29, 181, 0, 16, 177]
abbrev dktX11_init_0 : List UInt8 := dkwX11_init_0 ++ []
theorem dksX11_init_0 : cX11_init.data.toList.drop 0 = dktX11_init_0 := by decide +kernel
theorem dX11_init_0 : decode cX11_init 0 = .ok (.aload_n 0, 1) := dk_42 (dk_at dksX11_init_0 0 rfl rfl)
theorem dX11_init_1 : decode cX11_init 1 = .ok (.invokespecial 1, 3) := dk_183 0 1 (dk_at dksX11_init_0 1 rfl rfl)
theorem dX11_init_4 : decode cX11_init 4 = .ok (.aload_n 0, 1) := dk_42 (dk_at dksX11_init_0 4 rfl rfl)
theorem dX11_init_5 : decode cX11_init 5 = .ok (.iload_n 1, 1) := dk_27 (dk_at dksX11_init_0 5 rfl rfl)
theorem dX11_init_6 : decode cX11_init 6 = .ok (.putfield 7, 3) := dk_181 0 7 (dk_at dksX11_init_0 6 rfl rfl)
theorem dX11_init_9 : decode cX11_init 9 = .ok (.aload_n 0, 1) := dk_42 (dk_at dksX11_init_0 9 rfl rfl)
theorem dX11_init_10 : decode cX11_init 10 = .ok (.iload_n 2, 1) := dk_28 (dk_at dksX11_init_0 10 rfl rfl)
theorem dX11_init_11 : decode cX11_init 11 = .ok (.putfield 13, 3) := dk_181 0 13 (dk_at dksX11_init_0 11 rfl rfl)
theorem dX11_init_14 : decode cX11_init 14 = .ok (.aload_n 0, 1) := dk_42 (dk_at dksX11_init_0 14 rfl rfl)
theorem dX11_init_15 : decode cX11_init 15 = .ok (.iload_n 3, 1) := dk_29 (dk_at dksX11_init_0 15 rfl rfl)
theorem dX11_init_16 : decode cX11_init 16 = .ok (.putfield 16, 3) := dk_181 0 16 (dk_at dksX11_init_0 16 rfl rfl)
theorem dX11_init_19 : decode cX11_init 19 = .ok (.return_, 1) := dk_177 (dk_at dksX11_init_0 19 rfl rfl)
abbrev cX11_isButton : ByteArray := prog_11_method_6_code
def yX11_isButton : MethodName := ⟨RX11, "isButton", "()Z"⟩
theorem dX11_isButton_0 : decode cX11_isButton 0 = .ok (.iconst 0, 1) := by decide +kernel
theorem dX11_isButton_1 : decode cX11_isButton 1 = .ok (.ireturn, 1) := by decide +kernel
abbrev cX11_isHidden : ByteArray := prog_11_method_4_code
def yX11_isHidden : MethodName := ⟨RX11, "isHidden", "()Z"⟩
theorem dX11_isHidden_0 : decode cX11_isHidden 0 = .ok (.iconst 0, 1) := by decide +kernel
theorem dX11_isHidden_1 : decode cX11_isHidden 1 = .ok (.ireturn, 1) := by decide +kernel
abbrev cX11_isClock : ByteArray := prog_11_method_5_code
def yX11_isClock : MethodName := ⟨RX11, "isClock", "()Z"⟩
theorem dX11_isClock_0 : decode cX11_isClock 0 = .ok (.iconst 0, 1) := by decide +kernel
theorem dX11_isClock_1 : decode cX11_isClock 1 = .ok (.ireturn, 1) := by decide +kernel
theorem q162 : (Jvm.Cond.initialized "OverFirst$Light") ∈ lw_all := lw_g (lw_at lw_m1 27 rfl) rfl
theorem q853 : (Jvm.Cond.instanceMethod ({ cls := "OverFirst$Light", name := "<init>", desc := "(III)V" } : Jvm.MethodName)) ∈ lw_all := lw_g (lw_at lw_m3 238 rfl) rfl
theorem q854 : (Jvm.Cond.code ({ cls := "OverFirst$Light", name := "<init>", desc := "(III)V" } : Jvm.MethodName) prog_11_method_1_code (4 : Nat) (Option.none : Option Jvm.ClassFile.FieldType)) ∈ lw_all := lw_g (lw_at lw_m3 239 rfl) rfl
theorem q855 : (Jvm.Cond.methodLink "OverFirst$Light" (1 : Nat) ({ cls := "java/lang/Object", name := "<init>", desc := "()V" } : Jvm.MethodName)) ∈ lw_all := lw_g (lw_at lw_m4 0 rfl) rfl
theorem q856 : (Jvm.Cond.fieldLink "OverFirst$Light" (7 : Nat) "OverFirst$Light" "round" "I") ∈ lw_all := lw_g (lw_at lw_m4 1 rfl) rfl
theorem q860 : (Jvm.Cond.fieldLink "OverFirst$Light" (13 : Nat) "OverFirst$Light" "over" "I") ∈ lw_all := lw_g (lw_at lw_m4 5 rfl) rfl
theorem q866 : (Jvm.Cond.fieldLink "OverFirst$Light" (16 : Nat) "OverFirst$Light" "length" "I") ∈ lw_all := lw_g (lw_at lw_m4 11 rfl) rfl
theorem q871 : (Jvm.Cond.soleField "OverFirst$Light" "round") ∈ lw_all := lw_g (lw_at lw_m4 16 rfl) rfl
theorem q873 : (Jvm.Cond.soleField "OverFirst$Light" "over") ∈ lw_all := lw_g (lw_at lw_m4 18 rfl) rfl
theorem q875 : (Jvm.Cond.soleField "OverFirst$Light" "length") ∈ lw_all := lw_g (lw_at lw_m4 20 rfl) rfl
theorem q1208 : (Jvm.Cond.declares ({ cls := "OverFirst$Light", name := "kind", desc := "()I" } : Jvm.MethodName)) ∈ lw_tbl := lw_at lw_m5 113 rfl
theorem q1209 : (Jvm.Cond.sameMethod "OverFirst$Light" "OverFirst$Light" "kind" "()I") ∈ lw_all := lw_g (lw_at lw_m5 114 rfl) rfl
theorem q1247 : (Jvm.Cond.declares ({ cls := "OverFirst$Light", name := "waits", desc := "(II)I" } : Jvm.MethodName)) ∈ lw_tbl := lw_at lw_m5 152 rfl
theorem q1248 : (Jvm.Cond.sameMethod "OverFirst$Light" "OverFirst$Light" "waits" "(II)I") ∈ lw_all := lw_g (lw_at lw_m5 153 rfl) rfl
theorem q1260 : (Jvm.Cond.instanceMethod ({ cls := "OverFirst$Light", name := "isButton", desc := "()Z" } : Jvm.MethodName)) ∈ lw_all := lw_g (lw_at lw_m5 165 rfl) rfl
theorem q1261 : (Jvm.Cond.sameMethod "OverFirst$Light" "OverFirst$Light" "isButton" "()Z") ∈ lw_all := lw_g (lw_at lw_m5 166 rfl) rfl
theorem q1268 : (Jvm.Cond.code ({ cls := "OverFirst$Light", name := "isButton", desc := "()Z" } : Jvm.MethodName) prog_11_method_6_code (1 : Nat) (Option.some Jvm.ClassFile.FieldType.boolean)) ∈ lw_all := lw_g (lw_at lw_m5 173 rfl) rfl
theorem q1308 : (Jvm.Cond.instanceMethod ({ cls := "OverFirst$Light", name := "isHidden", desc := "()Z" } : Jvm.MethodName)) ∈ lw_all := lw_g (lw_at lw_m5 213 rfl) rfl
theorem q1309 : (Jvm.Cond.sameMethod "OverFirst$Light" "OverFirst$Light" "isHidden" "()Z") ∈ lw_all := lw_g (lw_at lw_m5 214 rfl) rfl
theorem q1316 : (Jvm.Cond.code ({ cls := "OverFirst$Light", name := "isHidden", desc := "()Z" } : Jvm.MethodName) prog_11_method_4_code (1 : Nat) (Option.some Jvm.ClassFile.FieldType.boolean)) ∈ lw_all := lw_g (lw_at lw_m5 221 rfl) rfl
theorem q1547 : (Jvm.Cond.instanceMethod ({ cls := "OverFirst$Light", name := "isClock", desc := "()Z" } : Jvm.MethodName)) ∈ lw_all := lw_g (lw_at lw_m6 212 rfl) rfl
theorem q1548 : (Jvm.Cond.sameMethod "OverFirst$Light" "OverFirst$Light" "isClock" "()Z") ∈ lw_all := lw_g (lw_at lw_m6 213 rfl) rfl
theorem q1555 : (Jvm.Cond.code ({ cls := "OverFirst$Light", name := "isClock", desc := "()Z" } : Jvm.MethodName) prog_11_method_5_code (1 : Nat) (Option.some Jvm.ClassFile.FieldType.boolean)) ∈ lw_all := lw_g (lw_at lw_m6 220 rfl) rfl
theorem q2259 : (Jvm.Cond.castable "OverFirst$Light" "java/lang/Object") ∈ lw_tbl := lw_at lw_m9 204 rfl
/-! OverFirst$Timed -/
set_option maxRecDepth 100000
def RX12 : String := "OverFirst$Timed"
def TX12 : u_T := fun k => match k with
  | 0 => ("OverFirst$Light", "round", "I", true)
  | 1 => ("OverFirst$Light", "over", "I", true)
  | _ => ("OverFirst$Light", "length", "I", true)
def tyX12 : Nat → FieldType := fun k => match k with
  | 0 => .int
  | 1 => .int
  | _ => .int
abbrev wsX120 : List Cond := u_ws RX12 TX12 3
theorem nmX12 : ∀ a, a < 3 → ∀ b, b < 3 → a ≠ b → (TX12 a).2.1 ≠ (TX12 b).2.1 := by decide +kernel
theorem tyX12_ok : ∀ k, k < 3 → parseFieldDescriptor (TX12 k).2.2.1 = some (tyX12 k) := by decide +kernel
abbrev cX12_init : ByteArray := prog_17_method_1_code
def yX12_init : MethodName := ⟨RX12, "<init>", "(III)V"⟩
def dkwX12_init_0 : List UInt8 := [42, 27, 28, 29, 183, 0, 3, 177]
abbrev dktX12_init_0 : List UInt8 := dkwX12_init_0 ++ []
theorem dksX12_init_0 : cX12_init.data.toList.drop 0 = dktX12_init_0 := by decide +kernel
theorem dX12_init_0 : decode cX12_init 0 = .ok (.aload_n 0, 1) := dk_42 (dk_at dksX12_init_0 0 rfl rfl)
theorem dX12_init_1 : decode cX12_init 1 = .ok (.iload_n 1, 1) := dk_27 (dk_at dksX12_init_0 1 rfl rfl)
theorem dX12_init_2 : decode cX12_init 2 = .ok (.iload_n 2, 1) := dk_28 (dk_at dksX12_init_0 2 rfl rfl)
theorem dX12_init_3 : decode cX12_init 3 = .ok (.iload_n 3, 1) := dk_29 (dk_at dksX12_init_0 3 rfl rfl)
theorem dX12_init_4 : decode cX12_init 4 = .ok (.invokespecial 3, 3) := dk_183 0 3 (dk_at dksX12_init_0 4 rfl rfl)
theorem dX12_init_7 : decode cX12_init 7 = .ok (.return_, 1) := dk_177 (dk_at dksX12_init_0 7 rfl rfl)
abbrev cX12_kind : ByteArray := prog_17_method_2_code
def yX12_kind : MethodName := ⟨RX12, "kind", "()I"⟩
theorem dX12_kind_0 : decode cX12_kind 0 = .ok (.iconst 0, 1) := by decide +kernel
theorem dX12_kind_1 : decode cX12_kind 1 = .ok (.ireturn, 1) := by decide +kernel
abbrev cX12_waits : ByteArray := prog_17_method_4_code
def yX12_waits : MethodName := ⟨RX12, "waits", "(II)I"⟩
def dkwX12_waits_3 : List UInt8 := [167, 0, 22, 27, 154, 0, 12, 42, 180, 0, 15, 29, 100, 167, 0, 9, 42, 180, 0, 9, 29, 100, 172]
abbrev dktX12_waits_3 : List UInt8 := dkwX12_waits_3 ++ []
def dkwX12_waits_2 : List UInt8 := [180, 0, 9, 162, 0, 7, 4, 167, 0, 4, 3, 27, 154, 0, 7, 4, 167, 0, 4, 3, 160, 0, 7, 3]
abbrev dktX12_waits_2 : List UInt8 := dkwX12_waits_2 ++ dktX12_waits_3
def dkwX12_waits_1 : List UInt8 := [180, 0, 18, 100, 42, 180, 0, 15, 112, 62, 29, 156, 0, 10, 29, 42, 180, 0, 15, 96, 62, 29, 42]
abbrev dktX12_waits_1 : List UInt8 := dkwX12_waits_1 ++ dktX12_waits_2
def dkwX12_waits_0 : List UInt8 := [42, 180, 0, 9, 27, 154, 0, 7, 3, 167, 0, 7, 42, 180, 0, 15, 160, 0, 5, 2, 172, 28, 42]
abbrev dktX12_waits_0 : List UInt8 := dkwX12_waits_0 ++ dktX12_waits_1
theorem dksX12_waits_0 : cX12_waits.data.toList.drop 0 = dktX12_waits_0 := by decide +kernel
theorem dksX12_waits_1 : cX12_waits.data.toList.drop 23 = dktX12_waits_1 := dk_seg dksX12_waits_0 23 rfl rfl
theorem dksX12_waits_2 : cX12_waits.data.toList.drop 46 = dktX12_waits_2 := dk_seg dksX12_waits_1 23 rfl rfl
theorem dksX12_waits_3 : cX12_waits.data.toList.drop 70 = dktX12_waits_3 := dk_seg dksX12_waits_2 24 rfl rfl
theorem dX12_waits_0 : decode cX12_waits 0 = .ok (.aload_n 0, 1) := dk_42 (dk_at dksX12_waits_0 0 rfl rfl)
theorem dX12_waits_1 : decode cX12_waits 1 = .ok (.getfield 9, 3) := dk_180 0 9 (dk_at dksX12_waits_0 1 rfl rfl)
theorem dX12_waits_4 : decode cX12_waits 4 = .ok (.iload_n 1, 1) := dk_27 (dk_at dksX12_waits_0 4 rfl rfl)
theorem dX12_waits_5 : decode cX12_waits 5 = .ok (.ifCond .ne 7, 3) := dk_154 0 7 (dk_at dksX12_waits_0 5 rfl rfl)
theorem dX12_waits_8 : decode cX12_waits 8 = .ok (.iconst 0, 1) := dk_3 (dk_at dksX12_waits_0 8 rfl rfl)
theorem dX12_waits_9 : decode cX12_waits 9 = .ok (.goto 7, 3) := dk_167 0 7 (dk_at dksX12_waits_0 9 rfl rfl)
theorem dX12_waits_12 : decode cX12_waits 12 = .ok (.aload_n 0, 1) := dk_42 (dk_at dksX12_waits_0 12 rfl rfl)
theorem dX12_waits_13 : decode cX12_waits 13 = .ok (.getfield 15, 3) := dk_180 0 15 (dk_at dksX12_waits_0 13 rfl rfl)
theorem dX12_waits_16 : decode cX12_waits 16 = .ok (.if_icmp .ne 5, 3) := dk_160 0 5 (dk_at dksX12_waits_0 16 rfl rfl)
theorem dX12_waits_19 : decode cX12_waits 19 = .ok (.iconst (-1), 1) := dk_2 (dk_at dksX12_waits_0 19 rfl rfl)
theorem dX12_waits_20 : decode cX12_waits 20 = .ok (.ireturn, 1) := dk_172 (dk_at dksX12_waits_0 20 rfl rfl)
theorem dX12_waits_21 : decode cX12_waits 21 = .ok (.iload_n 2, 1) := dk_28 (dk_at dksX12_waits_0 21 rfl rfl)
theorem dX12_waits_22 : decode cX12_waits 22 = .ok (.aload_n 0, 1) := dk_42 (dk_at dksX12_waits_0 22 rfl rfl)
theorem dX12_waits_23 : decode cX12_waits 23 = .ok (.getfield 18, 3) := dk_180 0 18 (dk_at dksX12_waits_1 0 rfl rfl)
theorem dX12_waits_26 : decode cX12_waits 26 = .ok (.isub, 1) := dk_100 (dk_at dksX12_waits_1 3 rfl rfl)
theorem dX12_waits_27 : decode cX12_waits 27 = .ok (.aload_n 0, 1) := dk_42 (dk_at dksX12_waits_1 4 rfl rfl)
theorem dX12_waits_28 : decode cX12_waits 28 = .ok (.getfield 15, 3) := dk_180 0 15 (dk_at dksX12_waits_1 5 rfl rfl)
theorem dX12_waits_31 : decode cX12_waits 31 = .ok (.irem, 1) := dk_112 (dk_at dksX12_waits_1 8 rfl rfl)
theorem dX12_waits_32 : decode cX12_waits 32 = .ok (.istore_n 3, 1) := dk_62 (dk_at dksX12_waits_1 9 rfl rfl)
theorem dX12_waits_33 : decode cX12_waits 33 = .ok (.iload_n 3, 1) := dk_29 (dk_at dksX12_waits_1 10 rfl rfl)
theorem dX12_waits_34 : decode cX12_waits 34 = .ok (.ifCond .ge 10, 3) := dk_156 0 10 (dk_at dksX12_waits_1 11 rfl rfl)
theorem dX12_waits_37 : decode cX12_waits 37 = .ok (.iload_n 3, 1) := dk_29 (dk_at dksX12_waits_1 14 rfl rfl)
theorem dX12_waits_38 : decode cX12_waits 38 = .ok (.aload_n 0, 1) := dk_42 (dk_at dksX12_waits_1 15 rfl rfl)
theorem dX12_waits_39 : decode cX12_waits 39 = .ok (.getfield 15, 3) := dk_180 0 15 (dk_at dksX12_waits_1 16 rfl rfl)
theorem dX12_waits_42 : decode cX12_waits 42 = .ok (.iadd, 1) := dk_96 (dk_at dksX12_waits_1 19 rfl rfl)
theorem dX12_waits_43 : decode cX12_waits 43 = .ok (.istore_n 3, 1) := dk_62 (dk_at dksX12_waits_1 20 rfl rfl)
theorem dX12_waits_44 : decode cX12_waits 44 = .ok (.iload_n 3, 1) := dk_29 (dk_at dksX12_waits_1 21 rfl rfl)
theorem dX12_waits_45 : decode cX12_waits 45 = .ok (.aload_n 0, 1) := dk_42 (dk_at dksX12_waits_1 22 rfl rfl)
theorem dX12_waits_46 : decode cX12_waits 46 = .ok (.getfield 9, 3) := dk_180 0 9 (dk_at dksX12_waits_2 0 rfl rfl)
theorem dX12_waits_49 : decode cX12_waits 49 = .ok (.if_icmp .ge 7, 3) := dk_162 0 7 (dk_at dksX12_waits_2 3 rfl rfl)
theorem dX12_waits_52 : decode cX12_waits 52 = .ok (.iconst 1, 1) := dk_4 (dk_at dksX12_waits_2 6 rfl rfl)
theorem dX12_waits_53 : decode cX12_waits 53 = .ok (.goto 4, 3) := dk_167 0 4 (dk_at dksX12_waits_2 7 rfl rfl)
theorem dX12_waits_56 : decode cX12_waits 56 = .ok (.iconst 0, 1) := dk_3 (dk_at dksX12_waits_2 10 rfl rfl)
theorem dX12_waits_57 : decode cX12_waits 57 = .ok (.iload_n 1, 1) := dk_27 (dk_at dksX12_waits_2 11 rfl rfl)
theorem dX12_waits_58 : decode cX12_waits 58 = .ok (.ifCond .ne 7, 3) := dk_154 0 7 (dk_at dksX12_waits_2 12 rfl rfl)
theorem dX12_waits_61 : decode cX12_waits 61 = .ok (.iconst 1, 1) := dk_4 (dk_at dksX12_waits_2 15 rfl rfl)
theorem dX12_waits_62 : decode cX12_waits 62 = .ok (.goto 4, 3) := dk_167 0 4 (dk_at dksX12_waits_2 16 rfl rfl)
theorem dX12_waits_65 : decode cX12_waits 65 = .ok (.iconst 0, 1) := dk_3 (dk_at dksX12_waits_2 19 rfl rfl)
theorem dX12_waits_66 : decode cX12_waits 66 = .ok (.if_icmp .ne 7, 3) := dk_160 0 7 (dk_at dksX12_waits_2 20 rfl rfl)
theorem dX12_waits_69 : decode cX12_waits 69 = .ok (.iconst 0, 1) := dk_3 (dk_at dksX12_waits_2 23 rfl rfl)
theorem dX12_waits_70 : decode cX12_waits 70 = .ok (.goto 22, 3) := dk_167 0 22 (dk_at dksX12_waits_3 0 rfl rfl)
theorem dX12_waits_73 : decode cX12_waits 73 = .ok (.iload_n 1, 1) := dk_27 (dk_at dksX12_waits_3 3 rfl rfl)
theorem dX12_waits_74 : decode cX12_waits 74 = .ok (.ifCond .ne 12, 3) := dk_154 0 12 (dk_at dksX12_waits_3 4 rfl rfl)
theorem dX12_waits_77 : decode cX12_waits 77 = .ok (.aload_n 0, 1) := dk_42 (dk_at dksX12_waits_3 7 rfl rfl)
theorem dX12_waits_78 : decode cX12_waits 78 = .ok (.getfield 15, 3) := dk_180 0 15 (dk_at dksX12_waits_3 8 rfl rfl)
theorem dX12_waits_81 : decode cX12_waits 81 = .ok (.iload_n 3, 1) := dk_29 (dk_at dksX12_waits_3 11 rfl rfl)
theorem dX12_waits_82 : decode cX12_waits 82 = .ok (.isub, 1) := dk_100 (dk_at dksX12_waits_3 12 rfl rfl)
theorem dX12_waits_83 : decode cX12_waits 83 = .ok (.goto 9, 3) := dk_167 0 9 (dk_at dksX12_waits_3 13 rfl rfl)
theorem dX12_waits_86 : decode cX12_waits 86 = .ok (.aload_n 0, 1) := dk_42 (dk_at dksX12_waits_3 16 rfl rfl)
theorem dX12_waits_87 : decode cX12_waits 87 = .ok (.getfield 9, 3) := dk_180 0 9 (dk_at dksX12_waits_3 17 rfl rfl)
theorem dX12_waits_90 : decode cX12_waits 90 = .ok (.iload_n 3, 1) := dk_29 (dk_at dksX12_waits_3 20 rfl rfl)
theorem dX12_waits_91 : decode cX12_waits 91 = .ok (.isub, 1) := dk_100 (dk_at dksX12_waits_3 21 rfl rfl)
theorem dX12_waits_92 : decode cX12_waits 92 = .ok (.ireturn, 1) := dk_172 (dk_at dksX12_waits_3 22 rfl rfl)
abbrev cX12_isClock : ByteArray := prog_17_method_3_code
def yX12_isClock : MethodName := ⟨RX12, "isClock", "()Z"⟩
theorem dX12_isClock_0 : decode cX12_isClock 0 = .ok (.iconst 1, 1) := by decide +kernel
theorem dX12_isClock_1 : decode cX12_isClock 1 = .ok (.ireturn, 1) := by decide +kernel
theorem q163 : (Jvm.Cond.initialized "OverFirst$Timed") ∈ lw_all := lw_g (lw_at lw_m1 28 rfl) rfl
theorem q314 : (Jvm.Cond.selects "OverFirst$Timed" ({ cls := "java/lang/Object", name := "getClass", desc := "()Ljava/lang/Class;" } : Jvm.MethodName) ({ cls := "java/lang/Object", name := "getClass", desc := "()Ljava/lang/Class;" } : Jvm.MethodName)) ∈ lw_all := lw_g (lw_at lw_m1 179 rfl) rfl
theorem q848 : (Jvm.Cond.instantiable "OverFirst$Timed" (3 : Nat)) ∈ lw_all := lw_g (lw_at lw_m3 233 rfl) rfl
theorem q850 : (Jvm.Cond.instanceMethod ({ cls := "OverFirst$Timed", name := "<init>", desc := "(III)V" } : Jvm.MethodName)) ∈ lw_all := lw_g (lw_at lw_m3 235 rfl) rfl
theorem q851 : (Jvm.Cond.code ({ cls := "OverFirst$Timed", name := "<init>", desc := "(III)V" } : Jvm.MethodName) prog_17_method_1_code (4 : Nat) (Option.none : Option Jvm.ClassFile.FieldType)) ∈ lw_all := lw_g (lw_at lw_m3 236 rfl) rfl
theorem q852 : (Jvm.Cond.methodLink "OverFirst$Timed" (3 : Nat) ({ cls := "OverFirst$Light", name := "<init>", desc := "(III)V" } : Jvm.MethodName)) ∈ lw_all := lw_g (lw_at lw_m3 237 rfl) rfl
theorem q857 : (Jvm.Cond.fieldLink "OverFirst$Timed" (15 : Nat) "OverFirst$Timed" "round" "I") ∈ lw_all := lw_g (lw_at lw_m4 2 rfl) rfl
theorem q858 : (Jvm.Cond.sameField "OverFirst$Timed" "OverFirst$Light" "round" "I") ∈ lw_all := lw_g (lw_at lw_m4 3 rfl) rfl
theorem q863 : (Jvm.Cond.fieldLink "OverFirst$Timed" (18 : Nat) "OverFirst$Timed" "over" "I") ∈ lw_all := lw_g (lw_at lw_m4 8 rfl) rfl
theorem q864 : (Jvm.Cond.sameField "OverFirst$Timed" "OverFirst$Light" "over" "I") ∈ lw_all := lw_g (lw_at lw_m4 9 rfl) rfl
theorem q867 : (Jvm.Cond.fieldLink "OverFirst$Timed" (9 : Nat) "OverFirst$Timed" "length" "I") ∈ lw_all := lw_g (lw_at lw_m4 12 rfl) rfl
theorem q868 : (Jvm.Cond.sameField "OverFirst$Timed" "OverFirst$Light" "length" "I") ∈ lw_all := lw_g (lw_at lw_m4 13 rfl) rfl
theorem q870 : (Jvm.Cond.laysFinal "OverFirst$Timed" "OverFirst$Light" "round" "I") ∈ lw_all := lw_g (lw_at lw_m4 15 rfl) rfl
theorem q872 : (Jvm.Cond.laysFinal "OverFirst$Timed" "OverFirst$Light" "over" "I") ∈ lw_all := lw_g (lw_at lw_m4 17 rfl) rfl
theorem q874 : (Jvm.Cond.laysFinal "OverFirst$Timed" "OverFirst$Light" "length" "I") ∈ lw_all := lw_g (lw_at lw_m4 19 rfl) rfl
theorem q876 : (Jvm.Cond.superclass "OverFirst$Timed" "OverFirst$Light") ∈ lw_all := lw_g (lw_at lw_m4 21 rfl) rfl
theorem q1219 : (Jvm.Cond.selects "OverFirst$Timed" ({ cls := "OverFirst$Light", name := "kind", desc := "()I" } : Jvm.MethodName) ({ cls := "OverFirst$Timed", name := "kind", desc := "()I" } : Jvm.MethodName)) ∈ lw_all := lw_g (lw_at lw_m5 124 rfl) rfl
theorem q1220 : (Jvm.Cond.instanceMethod ({ cls := "OverFirst$Timed", name := "kind", desc := "()I" } : Jvm.MethodName)) ∈ lw_all := lw_g (lw_at lw_m5 125 rfl) rfl
theorem q1221 : (Jvm.Cond.code ({ cls := "OverFirst$Timed", name := "kind", desc := "()I" } : Jvm.MethodName) prog_17_method_2_code (1 : Nat) (Option.some Jvm.ClassFile.FieldType.int)) ∈ lw_all := lw_g (lw_at lw_m5 126 rfl) rfl
theorem q1253 : (Jvm.Cond.instanceMethod ({ cls := "OverFirst$Timed", name := "waits", desc := "(II)I" } : Jvm.MethodName)) ∈ lw_all := lw_g (lw_at lw_m5 158 rfl) rfl
theorem q1254 : (Jvm.Cond.code ({ cls := "OverFirst$Timed", name := "waits", desc := "(II)I" } : Jvm.MethodName) prog_17_method_4_code (4 : Nat) (Option.some Jvm.ClassFile.FieldType.int)) ∈ lw_all := lw_g (lw_at lw_m5 159 rfl) rfl
theorem q1258 : (Jvm.Cond.selects "OverFirst$Timed" ({ cls := "OverFirst$Light", name := "waits", desc := "(II)I" } : Jvm.MethodName) ({ cls := "OverFirst$Timed", name := "waits", desc := "(II)I" } : Jvm.MethodName)) ∈ lw_all := lw_g (lw_at lw_m5 163 rfl) rfl
theorem q1267 : (Jvm.Cond.selects "OverFirst$Timed" ({ cls := "OverFirst$Light", name := "isButton", desc := "()Z" } : Jvm.MethodName) ({ cls := "OverFirst$Light", name := "isButton", desc := "()Z" } : Jvm.MethodName)) ∈ lw_all := lw_g (lw_at lw_m5 172 rfl) rfl
theorem q1315 : (Jvm.Cond.selects "OverFirst$Timed" ({ cls := "OverFirst$Light", name := "isHidden", desc := "()Z" } : Jvm.MethodName) ({ cls := "OverFirst$Light", name := "isHidden", desc := "()Z" } : Jvm.MethodName)) ∈ lw_all := lw_g (lw_at lw_m5 220 rfl) rfl
theorem q1551 : (Jvm.Cond.instanceMethod ({ cls := "OverFirst$Timed", name := "isClock", desc := "()Z" } : Jvm.MethodName)) ∈ lw_all := lw_g (lw_at lw_m6 216 rfl) rfl
theorem q1552 : (Jvm.Cond.code ({ cls := "OverFirst$Timed", name := "isClock", desc := "()Z" } : Jvm.MethodName) prog_17_method_3_code (1 : Nat) (Option.some Jvm.ClassFile.FieldType.boolean)) ∈ lw_all := lw_g (lw_at lw_m6 217 rfl) rfl
theorem q1554 : (Jvm.Cond.selects "OverFirst$Timed" ({ cls := "OverFirst$Light", name := "isClock", desc := "()Z" } : Jvm.MethodName) ({ cls := "OverFirst$Timed", name := "isClock", desc := "()Z" } : Jvm.MethodName)) ∈ lw_all := lw_g (lw_at lw_m6 219 rfl) rfl
theorem q2271 : (Jvm.Cond.castable "OverFirst$Timed" "java/lang/Object") ∈ lw_tbl := lw_at lw_m9 216 rfl
theorem q2283 : (Jvm.Cond.castable "OverFirst$Timed" "OverFirst$Light") ∈ lw_tbl := lw_at lw_m9 228 rfl
theorem in_X12 : ∀ w ∈ wsX120, w ∈ lw_all := lw_in wsX120 [870, 872, 874] (by decide +kernel) (by decide +kernel)
/-! OverFirst$Hidden -/
set_option maxRecDepth 100000
def RX13 : String := "OverFirst$Hidden"
def TX13 : u_T := fun k => match k with
  | 0 => ("OverFirst$Light", "round", "I", true)
  | 1 => ("OverFirst$Light", "over", "I", true)
  | _ => ("OverFirst$Light", "length", "I", true)
def tyX13 : Nat → FieldType := fun k => match k with
  | 0 => .int
  | 1 => .int
  | _ => .int
abbrev wsX130 : List Cond := u_ws RX13 TX13 3
theorem nmX13 : ∀ a, a < 3 → ∀ b, b < 3 → a ≠ b → (TX13 a).2.1 ≠ (TX13 b).2.1 := by decide +kernel
theorem tyX13_ok : ∀ k, k < 3 → parseFieldDescriptor (TX13 k).2.2.1 = some (tyX13 k) := by decide +kernel
abbrev cX13_init : ByteArray := prog_10_method_1_code
def yX13_init : MethodName := ⟨RX13, "<init>", "(III)V"⟩
def dkwX13_init_0 : List UInt8 := [42, 27, 28, 29, 183, 0, 1, 177]
abbrev dktX13_init_0 : List UInt8 := dkwX13_init_0 ++ []
theorem dksX13_init_0 : cX13_init.data.toList.drop 0 = dktX13_init_0 := by decide +kernel
theorem dX13_init_0 : decode cX13_init 0 = .ok (.aload_n 0, 1) := dk_42 (dk_at dksX13_init_0 0 rfl rfl)
theorem dX13_init_1 : decode cX13_init 1 = .ok (.iload_n 1, 1) := dk_27 (dk_at dksX13_init_0 1 rfl rfl)
theorem dX13_init_2 : decode cX13_init 2 = .ok (.iload_n 2, 1) := dk_28 (dk_at dksX13_init_0 2 rfl rfl)
theorem dX13_init_3 : decode cX13_init 3 = .ok (.iload_n 3, 1) := dk_29 (dk_at dksX13_init_0 3 rfl rfl)
theorem dX13_init_4 : decode cX13_init 4 = .ok (.invokespecial 1, 3) := dk_183 0 1 (dk_at dksX13_init_0 4 rfl rfl)
theorem dX13_init_7 : decode cX13_init 7 = .ok (.return_, 1) := dk_177 (dk_at dksX13_init_0 7 rfl rfl)
abbrev cX13_kind : ByteArray := prog_10_method_2_code
def yX13_kind : MethodName := ⟨RX13, "kind", "()I"⟩
theorem dX13_kind_0 : decode cX13_kind 0 = .ok (.iconst 1, 1) := by decide +kernel
theorem dX13_kind_1 : decode cX13_kind 1 = .ok (.ireturn, 1) := by decide +kernel
abbrev cX13_isHidden : ByteArray := prog_10_method_3_code
def yX13_isHidden : MethodName := ⟨RX13, "isHidden", "()Z"⟩
theorem dX13_isHidden_0 : decode cX13_isHidden 0 = .ok (.iconst 1, 1) := by decide +kernel
theorem dX13_isHidden_1 : decode cX13_isHidden 1 = .ok (.ireturn, 1) := by decide +kernel
theorem q164 : (Jvm.Cond.initialized "OverFirst$Hidden") ∈ lw_all := lw_g (lw_at lw_m1 29 rfl) rfl
theorem q308 : (Jvm.Cond.selects "OverFirst$Hidden" ({ cls := "java/lang/Object", name := "getClass", desc := "()Ljava/lang/Class;" } : Jvm.MethodName) ({ cls := "java/lang/Object", name := "getClass", desc := "()Ljava/lang/Class;" } : Jvm.MethodName)) ∈ lw_all := lw_g (lw_at lw_m1 173 rfl) rfl
theorem q878 : (Jvm.Cond.instantiable "OverFirst$Hidden" (3 : Nat)) ∈ lw_all := lw_g (lw_at lw_m4 23 rfl) rfl
theorem q880 : (Jvm.Cond.instanceMethod ({ cls := "OverFirst$Hidden", name := "<init>", desc := "(III)V" } : Jvm.MethodName)) ∈ lw_all := lw_g (lw_at lw_m4 25 rfl) rfl
theorem q881 : (Jvm.Cond.code ({ cls := "OverFirst$Hidden", name := "<init>", desc := "(III)V" } : Jvm.MethodName) prog_10_method_1_code (4 : Nat) (Option.none : Option Jvm.ClassFile.FieldType)) ∈ lw_all := lw_g (lw_at lw_m4 26 rfl) rfl
theorem q882 : (Jvm.Cond.methodLink "OverFirst$Hidden" (1 : Nat) ({ cls := "OverFirst$Timed", name := "<init>", desc := "(III)V" } : Jvm.MethodName)) ∈ lw_all := lw_g (lw_at lw_m4 27 rfl) rfl
theorem q883 : (Jvm.Cond.laysFinal "OverFirst$Hidden" "OverFirst$Light" "round" "I") ∈ lw_all := lw_g (lw_at lw_m4 28 rfl) rfl
theorem q884 : (Jvm.Cond.laysFinal "OverFirst$Hidden" "OverFirst$Light" "over" "I") ∈ lw_all := lw_g (lw_at lw_m4 29 rfl) rfl
theorem q885 : (Jvm.Cond.laysFinal "OverFirst$Hidden" "OverFirst$Light" "length" "I") ∈ lw_all := lw_g (lw_at lw_m4 30 rfl) rfl
theorem q886 : (Jvm.Cond.superclass "OverFirst$Hidden" "OverFirst$Timed") ∈ lw_all := lw_g (lw_at lw_m4 31 rfl) rfl
theorem q1213 : (Jvm.Cond.selects "OverFirst$Hidden" ({ cls := "OverFirst$Light", name := "kind", desc := "()I" } : Jvm.MethodName) ({ cls := "OverFirst$Hidden", name := "kind", desc := "()I" } : Jvm.MethodName)) ∈ lw_all := lw_g (lw_at lw_m5 118 rfl) rfl
theorem q1214 : (Jvm.Cond.instanceMethod ({ cls := "OverFirst$Hidden", name := "kind", desc := "()I" } : Jvm.MethodName)) ∈ lw_all := lw_g (lw_at lw_m5 119 rfl) rfl
theorem q1215 : (Jvm.Cond.code ({ cls := "OverFirst$Hidden", name := "kind", desc := "()I" } : Jvm.MethodName) prog_10_method_2_code (1 : Nat) (Option.some Jvm.ClassFile.FieldType.int)) ∈ lw_all := lw_g (lw_at lw_m5 120 rfl) rfl
theorem q1252 : (Jvm.Cond.selects "OverFirst$Hidden" ({ cls := "OverFirst$Light", name := "waits", desc := "(II)I" } : Jvm.MethodName) ({ cls := "OverFirst$Timed", name := "waits", desc := "(II)I" } : Jvm.MethodName)) ∈ lw_all := lw_g (lw_at lw_m5 157 rfl) rfl
theorem q1265 : (Jvm.Cond.selects "OverFirst$Hidden" ({ cls := "OverFirst$Light", name := "isButton", desc := "()Z" } : Jvm.MethodName) ({ cls := "OverFirst$Light", name := "isButton", desc := "()Z" } : Jvm.MethodName)) ∈ lw_all := lw_g (lw_at lw_m5 170 rfl) rfl
theorem q1311 : (Jvm.Cond.selects "OverFirst$Hidden" ({ cls := "OverFirst$Light", name := "isHidden", desc := "()Z" } : Jvm.MethodName) ({ cls := "OverFirst$Hidden", name := "isHidden", desc := "()Z" } : Jvm.MethodName)) ∈ lw_all := lw_g (lw_at lw_m5 216 rfl) rfl
theorem q1312 : (Jvm.Cond.instanceMethod ({ cls := "OverFirst$Hidden", name := "isHidden", desc := "()Z" } : Jvm.MethodName)) ∈ lw_all := lw_g (lw_at lw_m5 217 rfl) rfl
theorem q1313 : (Jvm.Cond.code ({ cls := "OverFirst$Hidden", name := "isHidden", desc := "()Z" } : Jvm.MethodName) prog_10_method_3_code (1 : Nat) (Option.some Jvm.ClassFile.FieldType.boolean)) ∈ lw_all := lw_g (lw_at lw_m5 218 rfl) rfl
theorem q1550 : (Jvm.Cond.selects "OverFirst$Hidden" ({ cls := "OverFirst$Light", name := "isClock", desc := "()Z" } : Jvm.MethodName) ({ cls := "OverFirst$Timed", name := "isClock", desc := "()Z" } : Jvm.MethodName)) ∈ lw_all := lw_g (lw_at lw_m6 215 rfl) rfl
theorem q2272 : (Jvm.Cond.castable "OverFirst$Hidden" "java/lang/Object") ∈ lw_tbl := lw_at lw_m9 217 rfl
theorem q2284 : (Jvm.Cond.castable "OverFirst$Hidden" "OverFirst$Light") ∈ lw_tbl := lw_at lw_m9 229 rfl
theorem in_X13 : ∀ w ∈ wsX130, w ∈ lw_all := lw_in wsX130 [883, 884, 885] (by decide +kernel) (by decide +kernel)
/-! OverFirst$Button -/
set_option maxRecDepth 100000
def RX14 : String := "OverFirst$Button"
def TX14 : u_T := fun k => match k with
  | 0 => ("OverFirst$Light", "round", "I", true)
  | 1 => ("OverFirst$Light", "over", "I", true)
  | _ => ("OverFirst$Light", "length", "I", true)
def tyX14 : Nat → FieldType := fun k => match k with
  | 0 => .int
  | 1 => .int
  | _ => .int
abbrev wsX140 : List Cond := u_ws RX14 TX14 3
theorem nmX14 : ∀ a, a < 3 → ∀ b, b < 3 → a ≠ b → (TX14 a).2.1 ≠ (TX14 b).2.1 := by decide +kernel
theorem tyX14_ok : ∀ k, k < 3 → parseFieldDescriptor (TX14 k).2.2.1 = some (tyX14 k) := by decide +kernel
abbrev cX14_init : ByteArray := prog_3_method_1_code
def yX14_init : MethodName := ⟨RX14, "<init>", "(III)V"⟩
def dkwX14_init_0 : List UInt8 := [42, 27, 28, 29, 183, 0, 3, 177]
abbrev dktX14_init_0 : List UInt8 := dkwX14_init_0 ++ []
theorem dksX14_init_0 : cX14_init.data.toList.drop 0 = dktX14_init_0 := by decide +kernel
theorem dX14_init_0 : decode cX14_init 0 = .ok (.aload_n 0, 1) := dk_42 (dk_at dksX14_init_0 0 rfl rfl)
theorem dX14_init_1 : decode cX14_init 1 = .ok (.iload_n 1, 1) := dk_27 (dk_at dksX14_init_0 1 rfl rfl)
theorem dX14_init_2 : decode cX14_init 2 = .ok (.iload_n 2, 1) := dk_28 (dk_at dksX14_init_0 2 rfl rfl)
theorem dX14_init_3 : decode cX14_init 3 = .ok (.iload_n 3, 1) := dk_29 (dk_at dksX14_init_0 3 rfl rfl)
theorem dX14_init_4 : decode cX14_init 4 = .ok (.invokespecial 3, 3) := dk_183 0 3 (dk_at dksX14_init_0 4 rfl rfl)
theorem dX14_init_7 : decode cX14_init 7 = .ok (.return_, 1) := dk_177 (dk_at dksX14_init_0 7 rfl rfl)
abbrev cX14_kind : ByteArray := prog_3_method_2_code
def yX14_kind : MethodName := ⟨RX14, "kind", "()I"⟩
theorem dX14_kind_0 : decode cX14_kind 0 = .ok (.iconst 2, 1) := by decide +kernel
theorem dX14_kind_1 : decode cX14_kind 1 = .ok (.ireturn, 1) := by decide +kernel
abbrev cX14_waits : ByteArray := prog_3_method_3_code
def yX14_waits : MethodName := ⟨RX14, "waits", "(II)I"⟩
def dkwX14_waits_0 : List UInt8 := [27, 154, 0, 10, 42, 180, 0, 9, 167, 0, 4, 3, 172]
abbrev dktX14_waits_0 : List UInt8 := dkwX14_waits_0 ++ []
theorem dksX14_waits_0 : cX14_waits.data.toList.drop 0 = dktX14_waits_0 := by decide +kernel
theorem dX14_waits_0 : decode cX14_waits 0 = .ok (.iload_n 1, 1) := dk_27 (dk_at dksX14_waits_0 0 rfl rfl)
theorem dX14_waits_1 : decode cX14_waits 1 = .ok (.ifCond .ne 10, 3) := dk_154 0 10 (dk_at dksX14_waits_0 1 rfl rfl)
theorem dX14_waits_4 : decode cX14_waits 4 = .ok (.aload_n 0, 1) := dk_42 (dk_at dksX14_waits_0 4 rfl rfl)
theorem dX14_waits_5 : decode cX14_waits 5 = .ok (.getfield 9, 3) := dk_180 0 9 (dk_at dksX14_waits_0 5 rfl rfl)
theorem dX14_waits_8 : decode cX14_waits 8 = .ok (.goto 4, 3) := dk_167 0 4 (dk_at dksX14_waits_0 8 rfl rfl)
theorem dX14_waits_11 : decode cX14_waits 11 = .ok (.iconst 0, 1) := dk_3 (dk_at dksX14_waits_0 11 rfl rfl)
theorem dX14_waits_12 : decode cX14_waits 12 = .ok (.ireturn, 1) := dk_172 (dk_at dksX14_waits_0 12 rfl rfl)
abbrev cX14_isButton : ByteArray := prog_3_method_4_code
def yX14_isButton : MethodName := ⟨RX14, "isButton", "()Z"⟩
theorem dX14_isButton_0 : decode cX14_isButton 0 = .ok (.iconst 1, 1) := by decide +kernel
theorem dX14_isButton_1 : decode cX14_isButton 1 = .ok (.ireturn, 1) := by decide +kernel
theorem q165 : (Jvm.Cond.initialized "OverFirst$Button") ∈ lw_all := lw_g (lw_at lw_m1 30 rfl) rfl
theorem q303 : (Jvm.Cond.selects "OverFirst$Button" ({ cls := "java/lang/Object", name := "getClass", desc := "()Ljava/lang/Class;" } : Jvm.MethodName) ({ cls := "java/lang/Object", name := "getClass", desc := "()Ljava/lang/Class;" } : Jvm.MethodName)) ∈ lw_all := lw_g (lw_at lw_m1 168 rfl) rfl
theorem q861 : (Jvm.Cond.fieldLink "OverFirst$Button" (9 : Nat) "OverFirst$Button" "over" "I") ∈ lw_all := lw_g (lw_at lw_m4 6 rfl) rfl
theorem q862 : (Jvm.Cond.sameField "OverFirst$Button" "OverFirst$Light" "over" "I") ∈ lw_all := lw_g (lw_at lw_m4 7 rfl) rfl
theorem q888 : (Jvm.Cond.instantiable "OverFirst$Button" (3 : Nat)) ∈ lw_all := lw_g (lw_at lw_m4 33 rfl) rfl
theorem q890 : (Jvm.Cond.instanceMethod ({ cls := "OverFirst$Button", name := "<init>", desc := "(III)V" } : Jvm.MethodName)) ∈ lw_all := lw_g (lw_at lw_m4 35 rfl) rfl
theorem q891 : (Jvm.Cond.code ({ cls := "OverFirst$Button", name := "<init>", desc := "(III)V" } : Jvm.MethodName) prog_3_method_1_code (4 : Nat) (Option.none : Option Jvm.ClassFile.FieldType)) ∈ lw_all := lw_g (lw_at lw_m4 36 rfl) rfl
theorem q892 : (Jvm.Cond.methodLink "OverFirst$Button" (3 : Nat) ({ cls := "OverFirst$Light", name := "<init>", desc := "(III)V" } : Jvm.MethodName)) ∈ lw_all := lw_g (lw_at lw_m4 37 rfl) rfl
theorem q893 : (Jvm.Cond.laysFinal "OverFirst$Button" "OverFirst$Light" "round" "I") ∈ lw_all := lw_g (lw_at lw_m4 38 rfl) rfl
theorem q894 : (Jvm.Cond.laysFinal "OverFirst$Button" "OverFirst$Light" "over" "I") ∈ lw_all := lw_g (lw_at lw_m4 39 rfl) rfl
theorem q895 : (Jvm.Cond.laysFinal "OverFirst$Button" "OverFirst$Light" "length" "I") ∈ lw_all := lw_g (lw_at lw_m4 40 rfl) rfl
theorem q896 : (Jvm.Cond.superclass "OverFirst$Button" "OverFirst$Light") ∈ lw_all := lw_g (lw_at lw_m4 41 rfl) rfl
theorem q1210 : (Jvm.Cond.selects "OverFirst$Button" ({ cls := "OverFirst$Light", name := "kind", desc := "()I" } : Jvm.MethodName) ({ cls := "OverFirst$Button", name := "kind", desc := "()I" } : Jvm.MethodName)) ∈ lw_all := lw_g (lw_at lw_m5 115 rfl) rfl
theorem q1211 : (Jvm.Cond.instanceMethod ({ cls := "OverFirst$Button", name := "kind", desc := "()I" } : Jvm.MethodName)) ∈ lw_all := lw_g (lw_at lw_m5 116 rfl) rfl
theorem q1212 : (Jvm.Cond.code ({ cls := "OverFirst$Button", name := "kind", desc := "()I" } : Jvm.MethodName) prog_3_method_2_code (1 : Nat) (Option.some Jvm.ClassFile.FieldType.int)) ∈ lw_all := lw_g (lw_at lw_m5 117 rfl) rfl
theorem q1249 : (Jvm.Cond.selects "OverFirst$Button" ({ cls := "OverFirst$Light", name := "waits", desc := "(II)I" } : Jvm.MethodName) ({ cls := "OverFirst$Button", name := "waits", desc := "(II)I" } : Jvm.MethodName)) ∈ lw_all := lw_g (lw_at lw_m5 154 rfl) rfl
theorem q1250 : (Jvm.Cond.instanceMethod ({ cls := "OverFirst$Button", name := "waits", desc := "(II)I" } : Jvm.MethodName)) ∈ lw_all := lw_g (lw_at lw_m5 155 rfl) rfl
theorem q1251 : (Jvm.Cond.code ({ cls := "OverFirst$Button", name := "waits", desc := "(II)I" } : Jvm.MethodName) prog_3_method_3_code (3 : Nat) (Option.some Jvm.ClassFile.FieldType.int)) ∈ lw_all := lw_g (lw_at lw_m5 156 rfl) rfl
theorem q1262 : (Jvm.Cond.selects "OverFirst$Button" ({ cls := "OverFirst$Light", name := "isButton", desc := "()Z" } : Jvm.MethodName) ({ cls := "OverFirst$Button", name := "isButton", desc := "()Z" } : Jvm.MethodName)) ∈ lw_all := lw_g (lw_at lw_m5 167 rfl) rfl
theorem q1263 : (Jvm.Cond.instanceMethod ({ cls := "OverFirst$Button", name := "isButton", desc := "()Z" } : Jvm.MethodName)) ∈ lw_all := lw_g (lw_at lw_m5 168 rfl) rfl
theorem q1264 : (Jvm.Cond.code ({ cls := "OverFirst$Button", name := "isButton", desc := "()Z" } : Jvm.MethodName) prog_3_method_4_code (1 : Nat) (Option.some Jvm.ClassFile.FieldType.boolean)) ∈ lw_all := lw_g (lw_at lw_m5 169 rfl) rfl
theorem q1310 : (Jvm.Cond.selects "OverFirst$Button" ({ cls := "OverFirst$Light", name := "isHidden", desc := "()Z" } : Jvm.MethodName) ({ cls := "OverFirst$Light", name := "isHidden", desc := "()Z" } : Jvm.MethodName)) ∈ lw_all := lw_g (lw_at lw_m5 215 rfl) rfl
theorem q1549 : (Jvm.Cond.selects "OverFirst$Button" ({ cls := "OverFirst$Light", name := "isClock", desc := "()Z" } : Jvm.MethodName) ({ cls := "OverFirst$Light", name := "isClock", desc := "()Z" } : Jvm.MethodName)) ∈ lw_all := lw_g (lw_at lw_m6 214 rfl) rfl
theorem q2273 : (Jvm.Cond.castable "OverFirst$Button" "java/lang/Object") ∈ lw_tbl := lw_at lw_m9 218 rfl
theorem q2285 : (Jvm.Cond.castable "OverFirst$Button" "OverFirst$Light") ∈ lw_tbl := lw_at lw_m9 230 rfl
theorem in_X14 : ∀ w ∈ wsX140, w ∈ lw_all := lw_in wsX140 [893, 894, 895] (by decide +kernel) (by decide +kernel)
/-! OverFirst$Police -/
set_option maxRecDepth 100000
def RX15 : String := "OverFirst$Police"
def TX15 : u_T := fun k => match k with
  | 0 => ("OverFirst$Light", "round", "I", true)
  | 1 => ("OverFirst$Light", "over", "I", true)
  | _ => ("OverFirst$Light", "length", "I", true)
def tyX15 : Nat → FieldType := fun k => match k with
  | 0 => .int
  | 1 => .int
  | _ => .int
abbrev wsX150 : List Cond := u_ws RX15 TX15 3
theorem nmX15 : ∀ a, a < 3 → ∀ b, b < 3 → a ≠ b → (TX15 a).2.1 ≠ (TX15 b).2.1 := by decide +kernel
theorem tyX15_ok : ∀ k, k < 3 → parseFieldDescriptor (TX15 k).2.2.1 = some (tyX15 k) := by decide +kernel
abbrev cX15_init : ByteArray := prog_13_method_1_code
def yX15_init : MethodName := ⟨RX15, "<init>", "(III)V"⟩
def dkwX15_init_0 : List UInt8 := [42, 27, 28, 29, 183, 0, 1, 177]
abbrev dktX15_init_0 : List UInt8 := dkwX15_init_0 ++ []
theorem dksX15_init_0 : cX15_init.data.toList.drop 0 = dktX15_init_0 := by decide +kernel
theorem dX15_init_0 : decode cX15_init 0 = .ok (.aload_n 0, 1) := dk_42 (dk_at dksX15_init_0 0 rfl rfl)
theorem dX15_init_1 : decode cX15_init 1 = .ok (.iload_n 1, 1) := dk_27 (dk_at dksX15_init_0 1 rfl rfl)
theorem dX15_init_2 : decode cX15_init 2 = .ok (.iload_n 2, 1) := dk_28 (dk_at dksX15_init_0 2 rfl rfl)
theorem dX15_init_3 : decode cX15_init 3 = .ok (.iload_n 3, 1) := dk_29 (dk_at dksX15_init_0 3 rfl rfl)
theorem dX15_init_4 : decode cX15_init 4 = .ok (.invokespecial 1, 3) := dk_183 0 1 (dk_at dksX15_init_0 4 rfl rfl)
theorem dX15_init_7 : decode cX15_init 7 = .ok (.return_, 1) := dk_177 (dk_at dksX15_init_0 7 rfl rfl)
abbrev cX15_kind : ByteArray := prog_13_method_2_code
def yX15_kind : MethodName := ⟨RX15, "kind", "()I"⟩
theorem dX15_kind_0 : decode cX15_kind 0 = .ok (.iconst 3, 1) := by decide +kernel
theorem dX15_kind_1 : decode cX15_kind 1 = .ok (.ireturn, 1) := by decide +kernel
abbrev cX15_waits : ByteArray := prog_13_method_3_code
def yX15_waits : MethodName := ⟨RX15, "waits", "(II)I"⟩
theorem dX15_waits_0 : decode cX15_waits 0 = .ok (.iconst 0, 1) := by decide +kernel
theorem dX15_waits_1 : decode cX15_waits 1 = .ok (.ireturn, 1) := by decide +kernel
theorem q166 : (Jvm.Cond.initialized "OverFirst$Police") ∈ lw_all := lw_g (lw_at lw_m1 31 rfl) rfl
theorem q310 : (Jvm.Cond.selects "OverFirst$Police" ({ cls := "java/lang/Object", name := "getClass", desc := "()Ljava/lang/Class;" } : Jvm.MethodName) ({ cls := "java/lang/Object", name := "getClass", desc := "()Ljava/lang/Class;" } : Jvm.MethodName)) ∈ lw_all := lw_g (lw_at lw_m1 175 rfl) rfl
theorem q898 : (Jvm.Cond.instantiable "OverFirst$Police" (3 : Nat)) ∈ lw_all := lw_g (lw_at lw_m4 43 rfl) rfl
theorem q900 : (Jvm.Cond.instanceMethod ({ cls := "OverFirst$Police", name := "<init>", desc := "(III)V" } : Jvm.MethodName)) ∈ lw_all := lw_g (lw_at lw_m4 45 rfl) rfl
theorem q901 : (Jvm.Cond.code ({ cls := "OverFirst$Police", name := "<init>", desc := "(III)V" } : Jvm.MethodName) prog_13_method_1_code (4 : Nat) (Option.none : Option Jvm.ClassFile.FieldType)) ∈ lw_all := lw_g (lw_at lw_m4 46 rfl) rfl
theorem q902 : (Jvm.Cond.methodLink "OverFirst$Police" (1 : Nat) ({ cls := "OverFirst$Light", name := "<init>", desc := "(III)V" } : Jvm.MethodName)) ∈ lw_all := lw_g (lw_at lw_m4 47 rfl) rfl
theorem q903 : (Jvm.Cond.laysFinal "OverFirst$Police" "OverFirst$Light" "round" "I") ∈ lw_all := lw_g (lw_at lw_m4 48 rfl) rfl
theorem q904 : (Jvm.Cond.laysFinal "OverFirst$Police" "OverFirst$Light" "over" "I") ∈ lw_all := lw_g (lw_at lw_m4 49 rfl) rfl
theorem q905 : (Jvm.Cond.laysFinal "OverFirst$Police" "OverFirst$Light" "length" "I") ∈ lw_all := lw_g (lw_at lw_m4 50 rfl) rfl
theorem q906 : (Jvm.Cond.superclass "OverFirst$Police" "OverFirst$Light") ∈ lw_all := lw_g (lw_at lw_m4 51 rfl) rfl
theorem q1216 : (Jvm.Cond.selects "OverFirst$Police" ({ cls := "OverFirst$Light", name := "kind", desc := "()I" } : Jvm.MethodName) ({ cls := "OverFirst$Police", name := "kind", desc := "()I" } : Jvm.MethodName)) ∈ lw_all := lw_g (lw_at lw_m5 121 rfl) rfl
theorem q1217 : (Jvm.Cond.instanceMethod ({ cls := "OverFirst$Police", name := "kind", desc := "()I" } : Jvm.MethodName)) ∈ lw_all := lw_g (lw_at lw_m5 122 rfl) rfl
theorem q1218 : (Jvm.Cond.code ({ cls := "OverFirst$Police", name := "kind", desc := "()I" } : Jvm.MethodName) prog_13_method_2_code (1 : Nat) (Option.some Jvm.ClassFile.FieldType.int)) ∈ lw_all := lw_g (lw_at lw_m5 123 rfl) rfl
theorem q1255 : (Jvm.Cond.selects "OverFirst$Police" ({ cls := "OverFirst$Light", name := "waits", desc := "(II)I" } : Jvm.MethodName) ({ cls := "OverFirst$Police", name := "waits", desc := "(II)I" } : Jvm.MethodName)) ∈ lw_all := lw_g (lw_at lw_m5 160 rfl) rfl
theorem q1256 : (Jvm.Cond.instanceMethod ({ cls := "OverFirst$Police", name := "waits", desc := "(II)I" } : Jvm.MethodName)) ∈ lw_all := lw_g (lw_at lw_m5 161 rfl) rfl
theorem q1257 : (Jvm.Cond.code ({ cls := "OverFirst$Police", name := "waits", desc := "(II)I" } : Jvm.MethodName) prog_13_method_3_code (3 : Nat) (Option.some Jvm.ClassFile.FieldType.int)) ∈ lw_all := lw_g (lw_at lw_m5 162 rfl) rfl
theorem q1266 : (Jvm.Cond.selects "OverFirst$Police" ({ cls := "OverFirst$Light", name := "isButton", desc := "()Z" } : Jvm.MethodName) ({ cls := "OverFirst$Light", name := "isButton", desc := "()Z" } : Jvm.MethodName)) ∈ lw_all := lw_g (lw_at lw_m5 171 rfl) rfl
theorem q1314 : (Jvm.Cond.selects "OverFirst$Police" ({ cls := "OverFirst$Light", name := "isHidden", desc := "()Z" } : Jvm.MethodName) ({ cls := "OverFirst$Light", name := "isHidden", desc := "()Z" } : Jvm.MethodName)) ∈ lw_all := lw_g (lw_at lw_m5 219 rfl) rfl
theorem q1553 : (Jvm.Cond.selects "OverFirst$Police" ({ cls := "OverFirst$Light", name := "isClock", desc := "()Z" } : Jvm.MethodName) ({ cls := "OverFirst$Light", name := "isClock", desc := "()Z" } : Jvm.MethodName)) ∈ lw_all := lw_g (lw_at lw_m6 218 rfl) rfl
theorem q2274 : (Jvm.Cond.castable "OverFirst$Police" "java/lang/Object") ∈ lw_tbl := lw_at lw_m9 219 rfl
theorem q2286 : (Jvm.Cond.castable "OverFirst$Police" "OverFirst$Light") ∈ lw_tbl := lw_at lw_m9 231 rfl
theorem in_X15 : ∀ w ∈ wsX150, w ∈ lw_all := lw_in wsX150 [903, 904, 905] (by decide +kernel) (by decide +kernel)
/-! OverFirst$Ruled -/
set_option maxRecDepth 100000
def RX16 : String := "OverFirst$Ruled"
def TX16 : u_T := fun k => match k with
  | 0 => ("OverFirst$Ruled", "rule", "LOverFirst$Expression;", true)
  | _ => ("OverFirst$Ruled", "facts", "[I", true)
def tyX16 : Nat → FieldType := fun k => match k with
  | 0 => .object "OverFirst$Expression"
  | _ => .array .int
abbrev wsX160 : List Cond := u_ws RX16 TX16 2
theorem nmX16 : ∀ a, a < 2 → ∀ b, b < 2 → a ≠ b → (TX16 a).2.1 ≠ (TX16 b).2.1 := by decide +kernel
theorem tyX16_ok : ∀ k, k < 2 → parseFieldDescriptor (TX16 k).2.2.1 = some (tyX16 k) := by decide +kernel
abbrev cX16_init : ByteArray := prog_15_method_1_code
def yX16_init : MethodName := ⟨RX16, "<init>", "(LOverFirst$Expression;)V"⟩
def dkwX16_init_0 : List UInt8 := [42, 183, 0, 3, 42, 7, 188, 10, 181, 0, 9, 42, 43, 181, 0, 15, 177]
abbrev dktX16_init_0 : List UInt8 := dkwX16_init_0 ++ []
theorem dksX16_init_0 : cX16_init.data.toList.drop 0 = dktX16_init_0 := by decide +kernel
theorem dX16_init_0 : decode cX16_init 0 = .ok (.aload_n 0, 1) := dk_42 (dk_at dksX16_init_0 0 rfl rfl)
theorem dX16_init_1 : decode cX16_init 1 = .ok (.invokespecial 3, 3) := dk_183 0 3 (dk_at dksX16_init_0 1 rfl rfl)
theorem dX16_init_4 : decode cX16_init 4 = .ok (.aload_n 0, 1) := dk_42 (dk_at dksX16_init_0 4 rfl rfl)
theorem dX16_init_5 : decode cX16_init 5 = .ok (.iconst 4, 1) := dk_7 (dk_at dksX16_init_0 5 rfl rfl)
theorem dX16_init_6 : decode cX16_init 6 = .ok (.newarray .int, 2) := dk_188_10 (dk_at dksX16_init_0 6 rfl rfl)
theorem dX16_init_8 : decode cX16_init 8 = .ok (.putfield 9, 3) := dk_181 0 9 (dk_at dksX16_init_0 8 rfl rfl)
theorem dX16_init_11 : decode cX16_init 11 = .ok (.aload_n 0, 1) := dk_42 (dk_at dksX16_init_0 11 rfl rfl)
theorem dX16_init_12 : decode cX16_init 12 = .ok (.aload_n 1, 1) := dk_43 (dk_at dksX16_init_0 12 rfl rfl)
theorem dX16_init_13 : decode cX16_init 13 = .ok (.putfield 15, 3) := dk_181 0 15 (dk_at dksX16_init_0 13 rfl rfl)
theorem dX16_init_16 : decode cX16_init 16 = .ok (.return_, 1) := dk_177 (dk_at dksX16_init_0 16 rfl rfl)
abbrev cX16_way : ByteArray := prog_15_method_2_code
def yX16_way : MethodName := ⟨RX16, "way", "(IIII)I"⟩
def dkwX16_way_3 : List UInt8 := [21, 5, 154, 0, 7, 27, 167, 0, 4, 28, 155, 0, 8, 21, 5, 167, 0, 7, 4, 21, 5, 100, 172]
abbrev dktX16_way_3 : List UInt8 := dkwX16_way_3 ++ []
def dkwX16_way_2 : List UInt8 := [21, 4, 79, 42, 180, 0, 15, 42, 180, 0, 9, 182, 0, 19, 153, 0, 7, 3, 167, 0, 4, 4, 54, 5]
abbrev dktX16_way_2 : List UInt8 := dkwX16_way_2 ++ dktX16_way_3
def dkwX16_way_1 : List UInt8 := [156, 0, 9, 17, 3, 231, 167, 0, 4, 28, 79, 42, 180, 0, 9, 5, 29, 79, 42, 180, 0, 9, 6]
abbrev dktX16_way_1 : List UInt8 := dkwX16_way_1 ++ dktX16_way_2
def dkwX16_way_0 : List UInt8 := [42, 180, 0, 9, 3, 27, 156, 0, 9, 17, 3, 231, 167, 0, 4, 27, 79, 42, 180, 0, 9, 4, 28]
abbrev dktX16_way_0 : List UInt8 := dkwX16_way_0 ++ dktX16_way_1
theorem dksX16_way_0 : cX16_way.data.toList.drop 0 = dktX16_way_0 := by decide +kernel
theorem dksX16_way_1 : cX16_way.data.toList.drop 23 = dktX16_way_1 := dk_seg dksX16_way_0 23 rfl rfl
theorem dksX16_way_2 : cX16_way.data.toList.drop 46 = dktX16_way_2 := dk_seg dksX16_way_1 23 rfl rfl
theorem dksX16_way_3 : cX16_way.data.toList.drop 70 = dktX16_way_3 := dk_seg dksX16_way_2 24 rfl rfl
theorem dX16_way_0 : decode cX16_way 0 = .ok (.aload_n 0, 1) := dk_42 (dk_at dksX16_way_0 0 rfl rfl)
theorem dX16_way_1 : decode cX16_way 1 = .ok (.getfield 9, 3) := dk_180 0 9 (dk_at dksX16_way_0 1 rfl rfl)
theorem dX16_way_4 : decode cX16_way 4 = .ok (.iconst 0, 1) := dk_3 (dk_at dksX16_way_0 4 rfl rfl)
theorem dX16_way_5 : decode cX16_way 5 = .ok (.iload_n 1, 1) := dk_27 (dk_at dksX16_way_0 5 rfl rfl)
theorem dX16_way_6 : decode cX16_way 6 = .ok (.ifCond .ge 9, 3) := dk_156 0 9 (dk_at dksX16_way_0 6 rfl rfl)
theorem dX16_way_9 : decode cX16_way 9 = .ok (.sipush 999, 3) := dk_17 3 231 (dk_at dksX16_way_0 9 rfl rfl)
theorem dX16_way_12 : decode cX16_way 12 = .ok (.goto 4, 3) := dk_167 0 4 (dk_at dksX16_way_0 12 rfl rfl)
theorem dX16_way_15 : decode cX16_way 15 = .ok (.iload_n 1, 1) := dk_27 (dk_at dksX16_way_0 15 rfl rfl)
theorem dX16_way_16 : decode cX16_way 16 = .ok (.iastore, 1) := dk_79 (dk_at dksX16_way_0 16 rfl rfl)
theorem dX16_way_17 : decode cX16_way 17 = .ok (.aload_n 0, 1) := dk_42 (dk_at dksX16_way_0 17 rfl rfl)
theorem dX16_way_18 : decode cX16_way 18 = .ok (.getfield 9, 3) := dk_180 0 9 (dk_at dksX16_way_0 18 rfl rfl)
theorem dX16_way_21 : decode cX16_way 21 = .ok (.iconst 1, 1) := dk_4 (dk_at dksX16_way_0 21 rfl rfl)
theorem dX16_way_22 : decode cX16_way 22 = .ok (.iload_n 2, 1) := dk_28 (dk_at dksX16_way_0 22 rfl rfl)
theorem dX16_way_23 : decode cX16_way 23 = .ok (.ifCond .ge 9, 3) := dk_156 0 9 (dk_at dksX16_way_1 0 rfl rfl)
theorem dX16_way_26 : decode cX16_way 26 = .ok (.sipush 999, 3) := dk_17 3 231 (dk_at dksX16_way_1 3 rfl rfl)
theorem dX16_way_29 : decode cX16_way 29 = .ok (.goto 4, 3) := dk_167 0 4 (dk_at dksX16_way_1 6 rfl rfl)
theorem dX16_way_32 : decode cX16_way 32 = .ok (.iload_n 2, 1) := dk_28 (dk_at dksX16_way_1 9 rfl rfl)
theorem dX16_way_33 : decode cX16_way 33 = .ok (.iastore, 1) := dk_79 (dk_at dksX16_way_1 10 rfl rfl)
theorem dX16_way_34 : decode cX16_way 34 = .ok (.aload_n 0, 1) := dk_42 (dk_at dksX16_way_1 11 rfl rfl)
theorem dX16_way_35 : decode cX16_way 35 = .ok (.getfield 9, 3) := dk_180 0 9 (dk_at dksX16_way_1 12 rfl rfl)
theorem dX16_way_38 : decode cX16_way 38 = .ok (.iconst 2, 1) := dk_5 (dk_at dksX16_way_1 15 rfl rfl)
theorem dX16_way_39 : decode cX16_way 39 = .ok (.iload_n 3, 1) := dk_29 (dk_at dksX16_way_1 16 rfl rfl)
theorem dX16_way_40 : decode cX16_way 40 = .ok (.iastore, 1) := dk_79 (dk_at dksX16_way_1 17 rfl rfl)
theorem dX16_way_41 : decode cX16_way 41 = .ok (.aload_n 0, 1) := dk_42 (dk_at dksX16_way_1 18 rfl rfl)
theorem dX16_way_42 : decode cX16_way 42 = .ok (.getfield 9, 3) := dk_180 0 9 (dk_at dksX16_way_1 19 rfl rfl)
theorem dX16_way_45 : decode cX16_way 45 = .ok (.iconst 3, 1) := dk_6 (dk_at dksX16_way_1 22 rfl rfl)
theorem dX16_way_46 : decode cX16_way 46 = .ok (.iload 4, 2) := dk_21 4 (dk_at dksX16_way_2 0 rfl rfl)
theorem dX16_way_48 : decode cX16_way 48 = .ok (.iastore, 1) := dk_79 (dk_at dksX16_way_2 2 rfl rfl)
theorem dX16_way_49 : decode cX16_way 49 = .ok (.aload_n 0, 1) := dk_42 (dk_at dksX16_way_2 3 rfl rfl)
theorem dX16_way_50 : decode cX16_way 50 = .ok (.getfield 15, 3) := dk_180 0 15 (dk_at dksX16_way_2 4 rfl rfl)
theorem dX16_way_53 : decode cX16_way 53 = .ok (.aload_n 0, 1) := dk_42 (dk_at dksX16_way_2 7 rfl rfl)
theorem dX16_way_54 : decode cX16_way 54 = .ok (.getfield 9, 3) := dk_180 0 9 (dk_at dksX16_way_2 8 rfl rfl)
theorem dX16_way_57 : decode cX16_way 57 = .ok (.invokevirtual 19, 3) := dk_182 0 19 (dk_at dksX16_way_2 11 rfl rfl)
theorem dX16_way_60 : decode cX16_way 60 = .ok (.ifCond .eq 7, 3) := dk_153 0 7 (dk_at dksX16_way_2 14 rfl rfl)
theorem dX16_way_63 : decode cX16_way 63 = .ok (.iconst 0, 1) := dk_3 (dk_at dksX16_way_2 17 rfl rfl)
theorem dX16_way_64 : decode cX16_way 64 = .ok (.goto 4, 3) := dk_167 0 4 (dk_at dksX16_way_2 18 rfl rfl)
theorem dX16_way_67 : decode cX16_way 67 = .ok (.iconst 1, 1) := dk_4 (dk_at dksX16_way_2 21 rfl rfl)
theorem dX16_way_68 : decode cX16_way 68 = .ok (.istore 5, 2) := dk_54 5 (dk_at dksX16_way_2 22 rfl rfl)
theorem dX16_way_70 : decode cX16_way 70 = .ok (.iload 5, 2) := dk_21 5 (dk_at dksX16_way_3 0 rfl rfl)
theorem dX16_way_72 : decode cX16_way 72 = .ok (.ifCond .ne 7, 3) := dk_154 0 7 (dk_at dksX16_way_3 2 rfl rfl)
theorem dX16_way_75 : decode cX16_way 75 = .ok (.iload_n 1, 1) := dk_27 (dk_at dksX16_way_3 5 rfl rfl)
theorem dX16_way_76 : decode cX16_way 76 = .ok (.goto 4, 3) := dk_167 0 4 (dk_at dksX16_way_3 6 rfl rfl)
theorem dX16_way_79 : decode cX16_way 79 = .ok (.iload_n 2, 1) := dk_28 (dk_at dksX16_way_3 9 rfl rfl)
theorem dX16_way_80 : decode cX16_way 80 = .ok (.ifCond .lt 8, 3) := dk_155 0 8 (dk_at dksX16_way_3 10 rfl rfl)
theorem dX16_way_83 : decode cX16_way 83 = .ok (.iload 5, 2) := dk_21 5 (dk_at dksX16_way_3 13 rfl rfl)
theorem dX16_way_85 : decode cX16_way 85 = .ok (.goto 7, 3) := dk_167 0 7 (dk_at dksX16_way_3 15 rfl rfl)
theorem dX16_way_88 : decode cX16_way 88 = .ok (.iconst 1, 1) := dk_4 (dk_at dksX16_way_3 18 rfl rfl)
theorem dX16_way_89 : decode cX16_way 89 = .ok (.iload 5, 2) := dk_21 5 (dk_at dksX16_way_3 19 rfl rfl)
theorem dX16_way_91 : decode cX16_way 91 = .ok (.isub, 1) := dk_100 (dk_at dksX16_way_3 21 rfl rfl)
theorem dX16_way_92 : decode cX16_way 92 = .ok (.ireturn, 1) := dk_172 (dk_at dksX16_way_3 22 rfl rfl)
theorem q170 : (Jvm.Cond.initialized "OverFirst$Ruled") ∈ lw_all := lw_g (lw_at lw_m1 35 rfl) rfl
theorem q312 : (Jvm.Cond.selects "OverFirst$Ruled" ({ cls := "java/lang/Object", name := "getClass", desc := "()Ljava/lang/Class;" } : Jvm.MethodName) ({ cls := "java/lang/Object", name := "getClass", desc := "()Ljava/lang/Class;" } : Jvm.MethodName)) ∈ lw_all := lw_g (lw_at lw_m1 177 rfl) rfl
theorem q1090 : (Jvm.Cond.instantiable "OverFirst$Ruled" (2 : Nat)) ∈ lw_all := lw_g (lw_at lw_m4 235 rfl) rfl
theorem q1164 : (Jvm.Cond.instanceMethod ({ cls := "OverFirst$Ruled", name := "<init>", desc := "(LOverFirst$Expression;)V" } : Jvm.MethodName)) ∈ lw_all := lw_g (lw_at lw_m5 69 rfl) rfl
theorem q1165 : (Jvm.Cond.code ({ cls := "OverFirst$Ruled", name := "<init>", desc := "(LOverFirst$Expression;)V" } : Jvm.MethodName) prog_15_method_1_code (2 : Nat) (Option.none : Option Jvm.ClassFile.FieldType)) ∈ lw_all := lw_g (lw_at lw_m5 70 rfl) rfl
theorem q1166 : (Jvm.Cond.methodLinkNest "OverFirst$Ruled" (3 : Nat) ({ cls := "OverFirst$Goer", name := "<init>", desc := "()V" } : Jvm.MethodName) "OverFirst") ∈ lw_tbl := lw_at lw_m5 71 rfl
theorem q1167 : (Jvm.Cond.fieldLink "OverFirst$Ruled" (15 : Nat) "OverFirst$Ruled" "rule" "LOverFirst$Expression;") ∈ lw_all := lw_g (lw_at lw_m5 72 rfl) rfl
theorem q1168 : (Jvm.Cond.fieldLink "OverFirst$Ruled" (9 : Nat) "OverFirst$Ruled" "facts" "[I") ∈ lw_all := lw_g (lw_at lw_m5 73 rfl) rfl
theorem q1169 : (Jvm.Cond.laysFinal "OverFirst$Ruled" "OverFirst$Ruled" "rule" "LOverFirst$Expression;") ∈ lw_all := lw_g (lw_at lw_m5 74 rfl) rfl
theorem q1170 : (Jvm.Cond.soleField "OverFirst$Ruled" "rule") ∈ lw_all := lw_g (lw_at lw_m5 75 rfl) rfl
theorem q1171 : (Jvm.Cond.laysFinal "OverFirst$Ruled" "OverFirst$Ruled" "facts" "[I") ∈ lw_all := lw_g (lw_at lw_m5 76 rfl) rfl
theorem q1172 : (Jvm.Cond.soleField "OverFirst$Ruled" "facts") ∈ lw_all := lw_g (lw_at lw_m5 77 rfl) rfl
theorem q1173 : (Jvm.Cond.superclass "OverFirst$Ruled" "OverFirst$Goer") ∈ lw_all := lw_g (lw_at lw_m5 78 rfl) rfl
theorem q1363 : (Jvm.Cond.selects "OverFirst$Ruled" ({ cls := "OverFirst$Goer", name := "isBest", desc := "()Z" } : Jvm.MethodName) ({ cls := "OverFirst$Goer", name := "isBest", desc := "()Z" } : Jvm.MethodName)) ∈ lw_all := lw_g (lw_at lw_m6 28 rfl) rfl
theorem q1393 : (Jvm.Cond.selects "OverFirst$Ruled" ({ cls := "OverFirst$Goer", name := "way", desc := "(IIII)I" } : Jvm.MethodName) ({ cls := "OverFirst$Ruled", name := "way", desc := "(IIII)I" } : Jvm.MethodName)) ∈ lw_all := lw_g (lw_at lw_m6 58 rfl) rfl
theorem q1394 : (Jvm.Cond.instanceMethod ({ cls := "OverFirst$Ruled", name := "way", desc := "(IIII)I" } : Jvm.MethodName)) ∈ lw_all := lw_g (lw_at lw_m6 59 rfl) rfl
theorem q1395 : (Jvm.Cond.code ({ cls := "OverFirst$Ruled", name := "way", desc := "(IIII)I" } : Jvm.MethodName) prog_15_method_2_code (6 : Nat) (Option.some Jvm.ClassFile.FieldType.int)) ∈ lw_all := lw_g (lw_at lw_m6 60 rfl) rfl
theorem q1396 : (Jvm.Cond.methodLink "OverFirst$Ruled" (19 : Nat) ({ cls := "OverFirst$Expression", name := "worked", desc := "([I)I" } : Jvm.MethodName)) ∈ lw_all := lw_g (lw_at lw_m6 61 rfl) rfl
theorem q2258 : (Jvm.Cond.castable "OverFirst$Ruled" "OverFirst$Goer") ∈ lw_tbl := lw_at lw_m9 203 rfl
theorem q2277 : (Jvm.Cond.castable "OverFirst$Ruled" "java/lang/Object") ∈ lw_tbl := lw_at lw_m9 222 rfl
theorem in_X16 : ∀ w ∈ wsX160, w ∈ lw_all := lw_in wsX160 [1169, 1171] (by decide +kernel) (by decide +kernel)
/-! OverFirst$Expression -/
set_option maxRecDepth 100000
def RX17 : String := "OverFirst$Expression"
abbrev cX17_init : ByteArray := prog_4_method_1_code
def yX17_init : MethodName := ⟨RX17, "<init>", "()V"⟩
theorem dX17_init_0 : decode cX17_init 0 = .ok (.aload_n 0, 1) := by decide +kernel
theorem dX17_init_1 : decode cX17_init 1 = .ok (.invokespecial 1, 3) := by decide +kernel
theorem dX17_init_4 : decode cX17_init 4 = .ok (.return_, 1) := by decide +kernel
theorem q171 : (Jvm.Cond.initialized "OverFirst$Expression") ∈ lw_all := lw_g (lw_at lw_m1 36 rfl) rfl
theorem q1119 : (Jvm.Cond.instanceMethod ({ cls := "OverFirst$Expression", name := "<init>", desc := "()V" } : Jvm.MethodName)) ∈ lw_all := lw_g (lw_at lw_m5 24 rfl) rfl
theorem q1120 : (Jvm.Cond.code ({ cls := "OverFirst$Expression", name := "<init>", desc := "()V" } : Jvm.MethodName) prog_4_method_1_code (1 : Nat) (Option.none : Option Jvm.ClassFile.FieldType)) ∈ lw_all := lw_g (lw_at lw_m5 25 rfl) rfl
theorem q1121 : (Jvm.Cond.methodLink "OverFirst$Expression" (1 : Nat) ({ cls := "java/lang/Object", name := "<init>", desc := "()V" } : Jvm.MethodName)) ∈ lw_all := lw_g (lw_at lw_m5 26 rfl) rfl
theorem q1397 : (Jvm.Cond.declares ({ cls := "OverFirst$Expression", name := "worked", desc := "([I)I" } : Jvm.MethodName)) ∈ lw_tbl := lw_at lw_m6 62 rfl
theorem q1398 : (Jvm.Cond.sameMethod "OverFirst$Expression" "OverFirst$Expression" "worked" "([I)I") ∈ lw_all := lw_g (lw_at lw_m6 63 rfl) rfl
/-! OverFirst$Given -/
set_option maxRecDepth 100000
def RX18 : String := "OverFirst$Given"
def TX18 : u_T := fun k => match k with
  | _ => ("OverFirst$Given", "n", "I", true)
def tyX18 : Nat → FieldType := fun k => match k with
  | _ => .int
abbrev wsX180 : List Cond := u_ws RX18 TX18 1
theorem nmX18 : ∀ a, a < 1 → ∀ b, b < 1 → a ≠ b → (TX18 a).2.1 ≠ (TX18 b).2.1 := by decide +kernel
theorem tyX18_ok : ∀ k, k < 1 → parseFieldDescriptor (TX18 k).2.2.1 = some (tyX18 k) := by decide +kernel
abbrev cX18_init : ByteArray := prog_7_method_1_code
def yX18_init : MethodName := ⟨RX18, "<init>", "(I)V"⟩
def dkwX18_init_0 : List UInt8 := [42, 183, 0, 1, 42, 27, 181, 0, 7, 177]
abbrev dktX18_init_0 : List UInt8 := dkwX18_init_0 ++ []
theorem dksX18_init_0 : cX18_init.data.toList.drop 0 = dktX18_init_0 := by decide +kernel
theorem dX18_init_0 : decode cX18_init 0 = .ok (.aload_n 0, 1) := dk_42 (dk_at dksX18_init_0 0 rfl rfl)
theorem dX18_init_1 : decode cX18_init 1 = .ok (.invokespecial 1, 3) := dk_183 0 1 (dk_at dksX18_init_0 1 rfl rfl)
theorem dX18_init_4 : decode cX18_init 4 = .ok (.aload_n 0, 1) := dk_42 (dk_at dksX18_init_0 4 rfl rfl)
theorem dX18_init_5 : decode cX18_init 5 = .ok (.iload_n 1, 1) := dk_27 (dk_at dksX18_init_0 5 rfl rfl)
theorem dX18_init_6 : decode cX18_init 6 = .ok (.putfield 7, 3) := dk_181 0 7 (dk_at dksX18_init_0 6 rfl rfl)
theorem dX18_init_9 : decode cX18_init 9 = .ok (.return_, 1) := dk_177 (dk_at dksX18_init_0 9 rfl rfl)
abbrev cX18_worked : ByteArray := prog_7_method_2_code
def yX18_worked : MethodName := ⟨RX18, "worked", "([I)I"⟩
theorem dX18_worked_0 : decode cX18_worked 0 = .ok (.aload_n 0, 1) := by decide +kernel
theorem dX18_worked_1 : decode cX18_worked 1 = .ok (.getfield 7, 3) := by decide +kernel
theorem dX18_worked_4 : decode cX18_worked 4 = .ok (.ireturn, 1) := by decide +kernel
theorem q172 : (Jvm.Cond.initialized "OverFirst$Given") ∈ lw_all := lw_g (lw_at lw_m1 37 rfl) rfl
theorem q306 : (Jvm.Cond.selects "OverFirst$Given" ({ cls := "java/lang/Object", name := "getClass", desc := "()Ljava/lang/Class;" } : Jvm.MethodName) ({ cls := "java/lang/Object", name := "getClass", desc := "()Ljava/lang/Class;" } : Jvm.MethodName)) ∈ lw_all := lw_g (lw_at lw_m1 171 rfl) rfl
theorem q1114 : (Jvm.Cond.instantiable "OverFirst$Given" (1 : Nat)) ∈ lw_all := lw_g (lw_at lw_m5 19 rfl) rfl
theorem q1116 : (Jvm.Cond.instanceMethod ({ cls := "OverFirst$Given", name := "<init>", desc := "(I)V" } : Jvm.MethodName)) ∈ lw_all := lw_g (lw_at lw_m5 21 rfl) rfl
theorem q1117 : (Jvm.Cond.code ({ cls := "OverFirst$Given", name := "<init>", desc := "(I)V" } : Jvm.MethodName) prog_7_method_1_code (2 : Nat) (Option.none : Option Jvm.ClassFile.FieldType)) ∈ lw_all := lw_g (lw_at lw_m5 22 rfl) rfl
theorem q1118 : (Jvm.Cond.methodLinkNest "OverFirst$Given" (1 : Nat) ({ cls := "OverFirst$Expression", name := "<init>", desc := "()V" } : Jvm.MethodName) "OverFirst") ∈ lw_tbl := lw_at lw_m5 23 rfl
theorem q1122 : (Jvm.Cond.fieldLink "OverFirst$Given" (7 : Nat) "OverFirst$Given" "n" "I") ∈ lw_all := lw_g (lw_at lw_m5 27 rfl) rfl
theorem q1123 : (Jvm.Cond.laysFinal "OverFirst$Given" "OverFirst$Given" "n" "I") ∈ lw_all := lw_g (lw_at lw_m5 28 rfl) rfl
theorem q1124 : (Jvm.Cond.soleField "OverFirst$Given" "n") ∈ lw_all := lw_g (lw_at lw_m5 29 rfl) rfl
theorem q1125 : (Jvm.Cond.superclass "OverFirst$Given" "OverFirst$Expression") ∈ lw_all := lw_g (lw_at lw_m5 30 rfl) rfl
theorem q1402 : (Jvm.Cond.selects "OverFirst$Given" ({ cls := "OverFirst$Expression", name := "worked", desc := "([I)I" } : Jvm.MethodName) ({ cls := "OverFirst$Given", name := "worked", desc := "([I)I" } : Jvm.MethodName)) ∈ lw_all := lw_g (lw_at lw_m6 67 rfl) rfl
theorem q1403 : (Jvm.Cond.instanceMethod ({ cls := "OverFirst$Given", name := "worked", desc := "([I)I" } : Jvm.MethodName)) ∈ lw_all := lw_g (lw_at lw_m6 68 rfl) rfl
theorem q1404 : (Jvm.Cond.code ({ cls := "OverFirst$Given", name := "worked", desc := "([I)I" } : Jvm.MethodName) prog_7_method_2_code (2 : Nat) (Option.some Jvm.ClassFile.FieldType.int)) ∈ lw_all := lw_g (lw_at lw_m6 69 rfl) rfl
theorem q2278 : (Jvm.Cond.castable "OverFirst$Given" "java/lang/Object") ∈ lw_tbl := lw_at lw_m9 223 rfl
theorem in_X18 : ∀ w ∈ wsX180, w ∈ lw_all := lw_in wsX180 [1123] (by decide +kernel) (by decide +kernel)
/-! OverFirst$Fact -/
set_option maxRecDepth 100000
def RX19 : String := "OverFirst$Fact"
def TX19 : u_T := fun k => match k with
  | _ => ("OverFirst$Fact", "which", "I", true)
def tyX19 : Nat → FieldType := fun k => match k with
  | _ => .int
abbrev wsX190 : List Cond := u_ws RX19 TX19 1
theorem nmX19 : ∀ a, a < 1 → ∀ b, b < 1 → a ≠ b → (TX19 a).2.1 ≠ (TX19 b).2.1 := by decide +kernel
theorem tyX19_ok : ∀ k, k < 1 → parseFieldDescriptor (TX19 k).2.2.1 = some (tyX19 k) := by decide +kernel
abbrev cX19_init : ByteArray := prog_5_method_1_code
def yX19_init : MethodName := ⟨RX19, "<init>", "(I)V"⟩
def dkwX19_init_0 : List UInt8 := [42, 183, 0, 1, 42, 27, 181, 0, 7, 177]
abbrev dktX19_init_0 : List UInt8 := dkwX19_init_0 ++ []
theorem dksX19_init_0 : cX19_init.data.toList.drop 0 = dktX19_init_0 := by decide +kernel
theorem dX19_init_0 : decode cX19_init 0 = .ok (.aload_n 0, 1) := dk_42 (dk_at dksX19_init_0 0 rfl rfl)
theorem dX19_init_1 : decode cX19_init 1 = .ok (.invokespecial 1, 3) := dk_183 0 1 (dk_at dksX19_init_0 1 rfl rfl)
theorem dX19_init_4 : decode cX19_init 4 = .ok (.aload_n 0, 1) := dk_42 (dk_at dksX19_init_0 4 rfl rfl)
theorem dX19_init_5 : decode cX19_init 5 = .ok (.iload_n 1, 1) := dk_27 (dk_at dksX19_init_0 5 rfl rfl)
theorem dX19_init_6 : decode cX19_init 6 = .ok (.putfield 7, 3) := dk_181 0 7 (dk_at dksX19_init_0 6 rfl rfl)
theorem dX19_init_9 : decode cX19_init 9 = .ok (.return_, 1) := dk_177 (dk_at dksX19_init_0 9 rfl rfl)
abbrev cX19_worked : ByteArray := prog_5_method_2_code
def yX19_worked : MethodName := ⟨RX19, "worked", "([I)I"⟩
def dkwX19_worked_0 : List UInt8 := [43, 42, 180, 0, 7, 46, 172]
abbrev dktX19_worked_0 : List UInt8 := dkwX19_worked_0 ++ []
theorem dksX19_worked_0 : cX19_worked.data.toList.drop 0 = dktX19_worked_0 := by decide +kernel
theorem dX19_worked_0 : decode cX19_worked 0 = .ok (.aload_n 1, 1) := dk_43 (dk_at dksX19_worked_0 0 rfl rfl)
theorem dX19_worked_1 : decode cX19_worked 1 = .ok (.aload_n 0, 1) := dk_42 (dk_at dksX19_worked_0 1 rfl rfl)
theorem dX19_worked_2 : decode cX19_worked 2 = .ok (.getfield 7, 3) := dk_180 0 7 (dk_at dksX19_worked_0 2 rfl rfl)
theorem dX19_worked_5 : decode cX19_worked 5 = .ok (.iaload, 1) := dk_46 (dk_at dksX19_worked_0 5 rfl rfl)
theorem dX19_worked_6 : decode cX19_worked 6 = .ok (.ireturn, 1) := dk_172 (dk_at dksX19_worked_0 6 rfl rfl)
theorem q173 : (Jvm.Cond.initialized "OverFirst$Fact") ∈ lw_all := lw_g (lw_at lw_m1 38 rfl) rfl
theorem q304 : (Jvm.Cond.selects "OverFirst$Fact" ({ cls := "java/lang/Object", name := "getClass", desc := "()Ljava/lang/Class;" } : Jvm.MethodName) ({ cls := "java/lang/Object", name := "getClass", desc := "()Ljava/lang/Class;" } : Jvm.MethodName)) ∈ lw_all := lw_g (lw_at lw_m1 169 rfl) rfl
theorem q1127 : (Jvm.Cond.instantiable "OverFirst$Fact" (1 : Nat)) ∈ lw_all := lw_g (lw_at lw_m5 32 rfl) rfl
theorem q1129 : (Jvm.Cond.instanceMethod ({ cls := "OverFirst$Fact", name := "<init>", desc := "(I)V" } : Jvm.MethodName)) ∈ lw_all := lw_g (lw_at lw_m5 34 rfl) rfl
theorem q1130 : (Jvm.Cond.code ({ cls := "OverFirst$Fact", name := "<init>", desc := "(I)V" } : Jvm.MethodName) prog_5_method_1_code (2 : Nat) (Option.none : Option Jvm.ClassFile.FieldType)) ∈ lw_all := lw_g (lw_at lw_m5 35 rfl) rfl
theorem q1131 : (Jvm.Cond.methodLinkNest "OverFirst$Fact" (1 : Nat) ({ cls := "OverFirst$Expression", name := "<init>", desc := "()V" } : Jvm.MethodName) "OverFirst") ∈ lw_tbl := lw_at lw_m5 36 rfl
theorem q1132 : (Jvm.Cond.fieldLink "OverFirst$Fact" (7 : Nat) "OverFirst$Fact" "which" "I") ∈ lw_all := lw_g (lw_at lw_m5 37 rfl) rfl
theorem q1133 : (Jvm.Cond.laysFinal "OverFirst$Fact" "OverFirst$Fact" "which" "I") ∈ lw_all := lw_g (lw_at lw_m5 38 rfl) rfl
theorem q1134 : (Jvm.Cond.soleField "OverFirst$Fact" "which") ∈ lw_all := lw_g (lw_at lw_m5 39 rfl) rfl
theorem q1135 : (Jvm.Cond.superclass "OverFirst$Fact" "OverFirst$Expression") ∈ lw_all := lw_g (lw_at lw_m5 40 rfl) rfl
theorem q1399 : (Jvm.Cond.selects "OverFirst$Fact" ({ cls := "OverFirst$Expression", name := "worked", desc := "([I)I" } : Jvm.MethodName) ({ cls := "OverFirst$Fact", name := "worked", desc := "([I)I" } : Jvm.MethodName)) ∈ lw_all := lw_g (lw_at lw_m6 64 rfl) rfl
theorem q1400 : (Jvm.Cond.instanceMethod ({ cls := "OverFirst$Fact", name := "worked", desc := "([I)I" } : Jvm.MethodName)) ∈ lw_all := lw_g (lw_at lw_m6 65 rfl) rfl
theorem q1401 : (Jvm.Cond.code ({ cls := "OverFirst$Fact", name := "worked", desc := "([I)I" } : Jvm.MethodName) prog_5_method_2_code (2 : Nat) (Option.some Jvm.ClassFile.FieldType.int)) ∈ lw_all := lw_g (lw_at lw_m6 66 rfl) rfl
theorem q2279 : (Jvm.Cond.castable "OverFirst$Fact" "java/lang/Object") ∈ lw_tbl := lw_at lw_m9 224 rfl
theorem in_X19 : ∀ w ∈ wsX190, w ∈ lw_all := lw_in wsX190 [1133] (by decide +kernel) (by decide +kernel)
/-! OverFirst$Not -/
set_option maxRecDepth 100000
def RX20 : String := "OverFirst$Not"
def TX20 : u_T := fun k => match k with
  | _ => ("OverFirst$Not", "part", "LOverFirst$Expression;", true)
def tyX20 : Nat → FieldType := fun k => match k with
  | _ => .object "OverFirst$Expression"
abbrev wsX200 : List Cond := u_ws RX20 TX20 1
theorem nmX20 : ∀ a, a < 1 → ∀ b, b < 1 → a ≠ b → (TX20 a).2.1 ≠ (TX20 b).2.1 := by decide +kernel
theorem tyX20_ok : ∀ k, k < 1 → parseFieldDescriptor (TX20 k).2.2.1 = some (tyX20 k) := by decide +kernel
abbrev cX20_init : ByteArray := prog_12_method_1_code
def yX20_init : MethodName := ⟨RX20, "<init>", "(LOverFirst$Expression;)V"⟩
def dkwX20_init_0 : List UInt8 := [42, 183, 0, 1, 42, 43, 181, 0, 7, 177]
abbrev dktX20_init_0 : List UInt8 := dkwX20_init_0 ++ []
theorem dksX20_init_0 : cX20_init.data.toList.drop 0 = dktX20_init_0 := by decide +kernel
theorem dX20_init_0 : decode cX20_init 0 = .ok (.aload_n 0, 1) := dk_42 (dk_at dksX20_init_0 0 rfl rfl)
theorem dX20_init_1 : decode cX20_init 1 = .ok (.invokespecial 1, 3) := dk_183 0 1 (dk_at dksX20_init_0 1 rfl rfl)
theorem dX20_init_4 : decode cX20_init 4 = .ok (.aload_n 0, 1) := dk_42 (dk_at dksX20_init_0 4 rfl rfl)
theorem dX20_init_5 : decode cX20_init 5 = .ok (.aload_n 1, 1) := dk_43 (dk_at dksX20_init_0 5 rfl rfl)
theorem dX20_init_6 : decode cX20_init 6 = .ok (.putfield 7, 3) := dk_181 0 7 (dk_at dksX20_init_0 6 rfl rfl)
theorem dX20_init_9 : decode cX20_init 9 = .ok (.return_, 1) := dk_177 (dk_at dksX20_init_0 9 rfl rfl)
abbrev cX20_worked : ByteArray := prog_12_method_2_code
def yX20_worked : MethodName := ⟨RX20, "worked", "([I)I"⟩
def dkwX20_worked_0 : List UInt8 := [42, 180, 0, 7, 43, 182, 0, 13, 154, 0, 7, 4, 167, 0, 4, 3, 172]
abbrev dktX20_worked_0 : List UInt8 := dkwX20_worked_0 ++ []
theorem dksX20_worked_0 : cX20_worked.data.toList.drop 0 = dktX20_worked_0 := by decide +kernel
theorem dX20_worked_0 : decode cX20_worked 0 = .ok (.aload_n 0, 1) := dk_42 (dk_at dksX20_worked_0 0 rfl rfl)
theorem dX20_worked_1 : decode cX20_worked 1 = .ok (.getfield 7, 3) := dk_180 0 7 (dk_at dksX20_worked_0 1 rfl rfl)
theorem dX20_worked_4 : decode cX20_worked 4 = .ok (.aload_n 1, 1) := dk_43 (dk_at dksX20_worked_0 4 rfl rfl)
theorem dX20_worked_5 : decode cX20_worked 5 = .ok (.invokevirtual 13, 3) := dk_182 0 13 (dk_at dksX20_worked_0 5 rfl rfl)
theorem dX20_worked_8 : decode cX20_worked 8 = .ok (.ifCond .ne 7, 3) := dk_154 0 7 (dk_at dksX20_worked_0 8 rfl rfl)
theorem dX20_worked_11 : decode cX20_worked 11 = .ok (.iconst 1, 1) := dk_4 (dk_at dksX20_worked_0 11 rfl rfl)
theorem dX20_worked_12 : decode cX20_worked 12 = .ok (.goto 4, 3) := dk_167 0 4 (dk_at dksX20_worked_0 12 rfl rfl)
theorem dX20_worked_15 : decode cX20_worked 15 = .ok (.iconst 0, 1) := dk_3 (dk_at dksX20_worked_0 15 rfl rfl)
theorem dX20_worked_16 : decode cX20_worked 16 = .ok (.ireturn, 1) := dk_172 (dk_at dksX20_worked_0 16 rfl rfl)
theorem q174 : (Jvm.Cond.initialized "OverFirst$Not") ∈ lw_all := lw_g (lw_at lw_m1 39 rfl) rfl
theorem q309 : (Jvm.Cond.selects "OverFirst$Not" ({ cls := "java/lang/Object", name := "getClass", desc := "()Ljava/lang/Class;" } : Jvm.MethodName) ({ cls := "java/lang/Object", name := "getClass", desc := "()Ljava/lang/Class;" } : Jvm.MethodName)) ∈ lw_all := lw_g (lw_at lw_m1 174 rfl) rfl
theorem q1137 : (Jvm.Cond.instantiable "OverFirst$Not" (1 : Nat)) ∈ lw_all := lw_g (lw_at lw_m5 42 rfl) rfl
theorem q1139 : (Jvm.Cond.instanceMethod ({ cls := "OverFirst$Not", name := "<init>", desc := "(LOverFirst$Expression;)V" } : Jvm.MethodName)) ∈ lw_all := lw_g (lw_at lw_m5 44 rfl) rfl
theorem q1140 : (Jvm.Cond.code ({ cls := "OverFirst$Not", name := "<init>", desc := "(LOverFirst$Expression;)V" } : Jvm.MethodName) prog_12_method_1_code (2 : Nat) (Option.none : Option Jvm.ClassFile.FieldType)) ∈ lw_all := lw_g (lw_at lw_m5 45 rfl) rfl
theorem q1141 : (Jvm.Cond.methodLinkNest "OverFirst$Not" (1 : Nat) ({ cls := "OverFirst$Expression", name := "<init>", desc := "()V" } : Jvm.MethodName) "OverFirst") ∈ lw_tbl := lw_at lw_m5 46 rfl
theorem q1142 : (Jvm.Cond.fieldLink "OverFirst$Not" (7 : Nat) "OverFirst$Not" "part" "LOverFirst$Expression;") ∈ lw_all := lw_g (lw_at lw_m5 47 rfl) rfl
theorem q1143 : (Jvm.Cond.laysFinal "OverFirst$Not" "OverFirst$Not" "part" "LOverFirst$Expression;") ∈ lw_all := lw_g (lw_at lw_m5 48 rfl) rfl
theorem q1144 : (Jvm.Cond.soleField "OverFirst$Not" "part") ∈ lw_all := lw_g (lw_at lw_m5 49 rfl) rfl
theorem q1145 : (Jvm.Cond.superclass "OverFirst$Not" "OverFirst$Expression") ∈ lw_all := lw_g (lw_at lw_m5 50 rfl) rfl
theorem q1405 : (Jvm.Cond.selects "OverFirst$Not" ({ cls := "OverFirst$Expression", name := "worked", desc := "([I)I" } : Jvm.MethodName) ({ cls := "OverFirst$Not", name := "worked", desc := "([I)I" } : Jvm.MethodName)) ∈ lw_all := lw_g (lw_at lw_m6 70 rfl) rfl
theorem q1406 : (Jvm.Cond.instanceMethod ({ cls := "OverFirst$Not", name := "worked", desc := "([I)I" } : Jvm.MethodName)) ∈ lw_all := lw_g (lw_at lw_m6 71 rfl) rfl
theorem q1407 : (Jvm.Cond.code ({ cls := "OverFirst$Not", name := "worked", desc := "([I)I" } : Jvm.MethodName) prog_12_method_2_code (2 : Nat) (Option.some Jvm.ClassFile.FieldType.int)) ∈ lw_all := lw_g (lw_at lw_m6 72 rfl) rfl
theorem q1408 : (Jvm.Cond.methodLink "OverFirst$Not" (13 : Nat) ({ cls := "OverFirst$Expression", name := "worked", desc := "([I)I" } : Jvm.MethodName)) ∈ lw_all := lw_g (lw_at lw_m6 73 rfl) rfl
theorem q2280 : (Jvm.Cond.castable "OverFirst$Not" "java/lang/Object") ∈ lw_tbl := lw_at lw_m9 225 rfl
theorem in_X20 : ∀ w ∈ wsX200, w ∈ lw_all := lw_in wsX200 [1143] (by decide +kernel) (by decide +kernel)
/-! OverFirst$Two -/
set_option maxRecDepth 100000
def RX21 : String := "OverFirst$Two"
def TX21 : u_T := fun k => match k with
  | 0 => ("OverFirst$Two", "way", "C", true)
  | 1 => ("OverFirst$Two", "a", "LOverFirst$Expression;", true)
  | _ => ("OverFirst$Two", "b", "LOverFirst$Expression;", true)
def tyX21 : Nat → FieldType := fun k => match k with
  | 0 => .char
  | 1 => .object "OverFirst$Expression"
  | _ => .object "OverFirst$Expression"
abbrev wsX210 : List Cond := u_ws RX21 TX21 3
theorem nmX21 : ∀ a, a < 3 → ∀ b, b < 3 → a ≠ b → (TX21 a).2.1 ≠ (TX21 b).2.1 := by decide +kernel
theorem tyX21_ok : ∀ k, k < 3 → parseFieldDescriptor (TX21 k).2.2.1 = some (tyX21 k) := by decide +kernel
abbrev cX21_init : ByteArray := prog_19_method_1_code
def yX21_init : MethodName := ⟨RX21, "<init>", "(CLOverFirst$Expression;LOverFirst$Expression;)V"⟩
def dkwX21_init_0 : List UInt8 := [42, 183, 0, 1, 42, 27, 181, 0, 7, 42, 44, 181, 0, 13, 42, 45, 181, 0, 17, 177]
abbrev dktX21_init_0 : List UInt8 := dkwX21_init_0 ++ []
theorem dksX21_init_0 : cX21_init.data.toList.drop 0 = dktX21_init_0 := by decide +kernel
theorem dX21_init_0 : decode cX21_init 0 = .ok (.aload_n 0, 1) := dk_42 (dk_at dksX21_init_0 0 rfl rfl)
theorem dX21_init_1 : decode cX21_init 1 = .ok (.invokespecial 1, 3) := dk_183 0 1 (dk_at dksX21_init_0 1 rfl rfl)
theorem dX21_init_4 : decode cX21_init 4 = .ok (.aload_n 0, 1) := dk_42 (dk_at dksX21_init_0 4 rfl rfl)
theorem dX21_init_5 : decode cX21_init 5 = .ok (.iload_n 1, 1) := dk_27 (dk_at dksX21_init_0 5 rfl rfl)
theorem dX21_init_6 : decode cX21_init 6 = .ok (.putfield 7, 3) := dk_181 0 7 (dk_at dksX21_init_0 6 rfl rfl)
theorem dX21_init_9 : decode cX21_init 9 = .ok (.aload_n 0, 1) := dk_42 (dk_at dksX21_init_0 9 rfl rfl)
theorem dX21_init_10 : decode cX21_init 10 = .ok (.aload_n 2, 1) := dk_44 (dk_at dksX21_init_0 10 rfl rfl)
theorem dX21_init_11 : decode cX21_init 11 = .ok (.putfield 13, 3) := dk_181 0 13 (dk_at dksX21_init_0 11 rfl rfl)
theorem dX21_init_14 : decode cX21_init 14 = .ok (.aload_n 0, 1) := dk_42 (dk_at dksX21_init_0 14 rfl rfl)
theorem dX21_init_15 : decode cX21_init 15 = .ok (.aload_n 3, 1) := dk_45 (dk_at dksX21_init_0 15 rfl rfl)
theorem dX21_init_16 : decode cX21_init 16 = .ok (.putfield 17, 3) := dk_181 0 17 (dk_at dksX21_init_0 16 rfl rfl)
theorem dX21_init_19 : decode cX21_init 19 = .ok (.return_, 1) := dk_177 (dk_at dksX21_init_0 19 rfl rfl)
abbrev cX21_worked : ByteArray := prog_19_method_2_code
def yX21_worked : MethodName := ⟨RX21, "worked", "([I)I"⟩
def dkwX21_worked_4 : List UInt8 := [28, 154, 0, 7, 29, 153, 0, 7, 4, 167, 0, 4, 3, 172]
abbrev dktX21_worked_4 : List UInt8 := dkwX21_worked_4 ++ []
def dkwX21_worked_3 : List UInt8 := [29, 160, 0, 7, 4, 167, 0, 4, 3, 172, 28, 153, 0, 11, 29, 153, 0, 7, 4, 167, 0, 4, 3, 172]
abbrev dktX21_worked_3 : List UInt8 := dkwX21_worked_3 ++ dktX21_worked_4
def dkwX21_worked_2 : List UInt8 := [28, 29, 96, 172, 28, 29, 100, 172, 28, 29, 104, 172, 28, 29, 162, 0, 7, 4, 167, 0, 4, 3, 172, 28]
abbrev dktX21_worked_2 : List UInt8 := dkwX21_worked_2 ++ dktX21_worked_3
def dkwX21_worked_1 : List UInt8 := [171, 0, 0, 0, 0, 106, 0, 0, 0, 6, 0, 0, 0, 38, 0, 0, 0, 92, 0, 0, 0, 42, 0, 0, 0, 66, 0, 0, 0, 43, 0, 0, 0, 58, 0, 0, 0, 45, 0, 0, 0, 62, 0, 0, 0, 60, 0, 0, 0, 70, 0, 0, 0, 61, 0, 0, 0, 81]
abbrev dktX21_worked_1 : List UInt8 := dkwX21_worked_1 ++ dktX21_worked_2
def dkwX21_worked_0 : List UInt8 := [42, 180, 0, 13, 43, 182, 0, 20, 61, 42, 180, 0, 17, 43, 182, 0, 20, 62, 42, 180, 0, 7]
abbrev dktX21_worked_0 : List UInt8 := dkwX21_worked_0 ++ dktX21_worked_1
theorem dksX21_worked_0 : cX21_worked.data.toList.drop 0 = dktX21_worked_0 := by decide +kernel
theorem dksX21_worked_1 : cX21_worked.data.toList.drop 22 = dktX21_worked_1 := dk_seg dksX21_worked_0 22 rfl rfl
theorem dksX21_worked_2 : cX21_worked.data.toList.drop 80 = dktX21_worked_2 := dk_seg dksX21_worked_1 58 rfl rfl
theorem dksX21_worked_3 : cX21_worked.data.toList.drop 104 = dktX21_worked_3 := dk_seg dksX21_worked_2 24 rfl rfl
theorem dksX21_worked_4 : cX21_worked.data.toList.drop 128 = dktX21_worked_4 := dk_seg dksX21_worked_3 24 rfl rfl
theorem dX21_worked_0 : decode cX21_worked 0 = .ok (.aload_n 0, 1) := dk_42 (dk_at dksX21_worked_0 0 rfl rfl)
theorem dX21_worked_1 : decode cX21_worked 1 = .ok (.getfield 13, 3) := dk_180 0 13 (dk_at dksX21_worked_0 1 rfl rfl)
theorem dX21_worked_4 : decode cX21_worked 4 = .ok (.aload_n 1, 1) := dk_43 (dk_at dksX21_worked_0 4 rfl rfl)
theorem dX21_worked_5 : decode cX21_worked 5 = .ok (.invokevirtual 20, 3) := dk_182 0 20 (dk_at dksX21_worked_0 5 rfl rfl)
theorem dX21_worked_8 : decode cX21_worked 8 = .ok (.istore_n 2, 1) := dk_61 (dk_at dksX21_worked_0 8 rfl rfl)
theorem dX21_worked_9 : decode cX21_worked 9 = .ok (.aload_n 0, 1) := dk_42 (dk_at dksX21_worked_0 9 rfl rfl)
theorem dX21_worked_10 : decode cX21_worked 10 = .ok (.getfield 17, 3) := dk_180 0 17 (dk_at dksX21_worked_0 10 rfl rfl)
theorem dX21_worked_13 : decode cX21_worked 13 = .ok (.aload_n 1, 1) := dk_43 (dk_at dksX21_worked_0 13 rfl rfl)
theorem dX21_worked_14 : decode cX21_worked 14 = .ok (.invokevirtual 20, 3) := dk_182 0 20 (dk_at dksX21_worked_0 14 rfl rfl)
theorem dX21_worked_17 : decode cX21_worked 17 = .ok (.istore_n 3, 1) := dk_62 (dk_at dksX21_worked_0 17 rfl rfl)
theorem dX21_worked_18 : decode cX21_worked 18 = .ok (.aload_n 0, 1) := dk_42 (dk_at dksX21_worked_0 18 rfl rfl)
theorem dX21_worked_19 : decode cX21_worked 19 = .ok (.getfield 7, 3) := dk_180 0 7 (dk_at dksX21_worked_0 19 rfl rfl)
theorem dX21_worked_22 : decode cX21_worked 22 = .ok (.lookupswitch 106 #[(38, 92), (42, 66), (43, 58), (45, 62), (60, 70), (61, 81)], 58) := by decide +kernel
theorem dX21_worked_80 : decode cX21_worked 80 = .ok (.iload_n 2, 1) := dk_28 (dk_at dksX21_worked_2 0 rfl rfl)
theorem dX21_worked_81 : decode cX21_worked 81 = .ok (.iload_n 3, 1) := dk_29 (dk_at dksX21_worked_2 1 rfl rfl)
theorem dX21_worked_82 : decode cX21_worked 82 = .ok (.iadd, 1) := dk_96 (dk_at dksX21_worked_2 2 rfl rfl)
theorem dX21_worked_83 : decode cX21_worked 83 = .ok (.ireturn, 1) := dk_172 (dk_at dksX21_worked_2 3 rfl rfl)
theorem dX21_worked_84 : decode cX21_worked 84 = .ok (.iload_n 2, 1) := dk_28 (dk_at dksX21_worked_2 4 rfl rfl)
theorem dX21_worked_85 : decode cX21_worked 85 = .ok (.iload_n 3, 1) := dk_29 (dk_at dksX21_worked_2 5 rfl rfl)
theorem dX21_worked_86 : decode cX21_worked 86 = .ok (.isub, 1) := dk_100 (dk_at dksX21_worked_2 6 rfl rfl)
theorem dX21_worked_87 : decode cX21_worked 87 = .ok (.ireturn, 1) := dk_172 (dk_at dksX21_worked_2 7 rfl rfl)
theorem dX21_worked_88 : decode cX21_worked 88 = .ok (.iload_n 2, 1) := dk_28 (dk_at dksX21_worked_2 8 rfl rfl)
theorem dX21_worked_89 : decode cX21_worked 89 = .ok (.iload_n 3, 1) := dk_29 (dk_at dksX21_worked_2 9 rfl rfl)
theorem dX21_worked_90 : decode cX21_worked 90 = .ok (.imul, 1) := dk_104 (dk_at dksX21_worked_2 10 rfl rfl)
theorem dX21_worked_91 : decode cX21_worked 91 = .ok (.ireturn, 1) := dk_172 (dk_at dksX21_worked_2 11 rfl rfl)
theorem dX21_worked_92 : decode cX21_worked 92 = .ok (.iload_n 2, 1) := dk_28 (dk_at dksX21_worked_2 12 rfl rfl)
theorem dX21_worked_93 : decode cX21_worked 93 = .ok (.iload_n 3, 1) := dk_29 (dk_at dksX21_worked_2 13 rfl rfl)
theorem dX21_worked_94 : decode cX21_worked 94 = .ok (.if_icmp .ge 7, 3) := dk_162 0 7 (dk_at dksX21_worked_2 14 rfl rfl)
theorem dX21_worked_97 : decode cX21_worked 97 = .ok (.iconst 1, 1) := dk_4 (dk_at dksX21_worked_2 17 rfl rfl)
theorem dX21_worked_98 : decode cX21_worked 98 = .ok (.goto 4, 3) := dk_167 0 4 (dk_at dksX21_worked_2 18 rfl rfl)
theorem dX21_worked_101 : decode cX21_worked 101 = .ok (.iconst 0, 1) := dk_3 (dk_at dksX21_worked_2 21 rfl rfl)
theorem dX21_worked_102 : decode cX21_worked 102 = .ok (.ireturn, 1) := dk_172 (dk_at dksX21_worked_2 22 rfl rfl)
theorem dX21_worked_103 : decode cX21_worked 103 = .ok (.iload_n 2, 1) := dk_28 (dk_at dksX21_worked_2 23 rfl rfl)
theorem dX21_worked_104 : decode cX21_worked 104 = .ok (.iload_n 3, 1) := dk_29 (dk_at dksX21_worked_3 0 rfl rfl)
theorem dX21_worked_105 : decode cX21_worked 105 = .ok (.if_icmp .ne 7, 3) := dk_160 0 7 (dk_at dksX21_worked_3 1 rfl rfl)
theorem dX21_worked_108 : decode cX21_worked 108 = .ok (.iconst 1, 1) := dk_4 (dk_at dksX21_worked_3 4 rfl rfl)
theorem dX21_worked_109 : decode cX21_worked 109 = .ok (.goto 4, 3) := dk_167 0 4 (dk_at dksX21_worked_3 5 rfl rfl)
theorem dX21_worked_112 : decode cX21_worked 112 = .ok (.iconst 0, 1) := dk_3 (dk_at dksX21_worked_3 8 rfl rfl)
theorem dX21_worked_113 : decode cX21_worked 113 = .ok (.ireturn, 1) := dk_172 (dk_at dksX21_worked_3 9 rfl rfl)
theorem dX21_worked_114 : decode cX21_worked 114 = .ok (.iload_n 2, 1) := dk_28 (dk_at dksX21_worked_3 10 rfl rfl)
theorem dX21_worked_115 : decode cX21_worked 115 = .ok (.ifCond .eq 11, 3) := dk_153 0 11 (dk_at dksX21_worked_3 11 rfl rfl)
theorem dX21_worked_118 : decode cX21_worked 118 = .ok (.iload_n 3, 1) := dk_29 (dk_at dksX21_worked_3 14 rfl rfl)
theorem dX21_worked_119 : decode cX21_worked 119 = .ok (.ifCond .eq 7, 3) := dk_153 0 7 (dk_at dksX21_worked_3 15 rfl rfl)
theorem dX21_worked_122 : decode cX21_worked 122 = .ok (.iconst 1, 1) := dk_4 (dk_at dksX21_worked_3 18 rfl rfl)
theorem dX21_worked_123 : decode cX21_worked 123 = .ok (.goto 4, 3) := dk_167 0 4 (dk_at dksX21_worked_3 19 rfl rfl)
theorem dX21_worked_126 : decode cX21_worked 126 = .ok (.iconst 0, 1) := dk_3 (dk_at dksX21_worked_3 22 rfl rfl)
theorem dX21_worked_127 : decode cX21_worked 127 = .ok (.ireturn, 1) := dk_172 (dk_at dksX21_worked_3 23 rfl rfl)
theorem dX21_worked_128 : decode cX21_worked 128 = .ok (.iload_n 2, 1) := dk_28 (dk_at dksX21_worked_4 0 rfl rfl)
theorem dX21_worked_129 : decode cX21_worked 129 = .ok (.ifCond .ne 7, 3) := dk_154 0 7 (dk_at dksX21_worked_4 1 rfl rfl)
theorem dX21_worked_132 : decode cX21_worked 132 = .ok (.iload_n 3, 1) := dk_29 (dk_at dksX21_worked_4 4 rfl rfl)
theorem dX21_worked_133 : decode cX21_worked 133 = .ok (.ifCond .eq 7, 3) := dk_153 0 7 (dk_at dksX21_worked_4 5 rfl rfl)
theorem dX21_worked_136 : decode cX21_worked 136 = .ok (.iconst 1, 1) := dk_4 (dk_at dksX21_worked_4 8 rfl rfl)
theorem dX21_worked_137 : decode cX21_worked 137 = .ok (.goto 4, 3) := dk_167 0 4 (dk_at dksX21_worked_4 9 rfl rfl)
theorem dX21_worked_140 : decode cX21_worked 140 = .ok (.iconst 0, 1) := dk_3 (dk_at dksX21_worked_4 12 rfl rfl)
theorem dX21_worked_141 : decode cX21_worked 141 = .ok (.ireturn, 1) := dk_172 (dk_at dksX21_worked_4 13 rfl rfl)
theorem q175 : (Jvm.Cond.initialized "OverFirst$Two") ∈ lw_all := lw_g (lw_at lw_m1 40 rfl) rfl
theorem q316 : (Jvm.Cond.selects "OverFirst$Two" ({ cls := "java/lang/Object", name := "getClass", desc := "()Ljava/lang/Class;" } : Jvm.MethodName) ({ cls := "java/lang/Object", name := "getClass", desc := "()Ljava/lang/Class;" } : Jvm.MethodName)) ∈ lw_all := lw_g (lw_at lw_m1 181 rfl) rfl
theorem q1147 : (Jvm.Cond.instantiable "OverFirst$Two" (3 : Nat)) ∈ lw_all := lw_g (lw_at lw_m5 52 rfl) rfl
theorem q1149 : (Jvm.Cond.instanceMethod ({ cls := "OverFirst$Two", name := "<init>", desc := "(CLOverFirst$Expression;LOverFirst$Expression;)V" } : Jvm.MethodName)) ∈ lw_all := lw_g (lw_at lw_m5 54 rfl) rfl
theorem q1150 : (Jvm.Cond.code ({ cls := "OverFirst$Two", name := "<init>", desc := "(CLOverFirst$Expression;LOverFirst$Expression;)V" } : Jvm.MethodName) prog_19_method_1_code (4 : Nat) (Option.none : Option Jvm.ClassFile.FieldType)) ∈ lw_all := lw_g (lw_at lw_m5 55 rfl) rfl
theorem q1151 : (Jvm.Cond.methodLinkNest "OverFirst$Two" (1 : Nat) ({ cls := "OverFirst$Expression", name := "<init>", desc := "()V" } : Jvm.MethodName) "OverFirst") ∈ lw_tbl := lw_at lw_m5 56 rfl
theorem q1152 : (Jvm.Cond.fieldLink "OverFirst$Two" (7 : Nat) "OverFirst$Two" "way" "C") ∈ lw_all := lw_g (lw_at lw_m5 57 rfl) rfl
theorem q1153 : (Jvm.Cond.fieldLink "OverFirst$Two" (13 : Nat) "OverFirst$Two" "a" "LOverFirst$Expression;") ∈ lw_all := lw_g (lw_at lw_m5 58 rfl) rfl
theorem q1154 : (Jvm.Cond.fieldLink "OverFirst$Two" (17 : Nat) "OverFirst$Two" "b" "LOverFirst$Expression;") ∈ lw_all := lw_g (lw_at lw_m5 59 rfl) rfl
theorem q1155 : (Jvm.Cond.laysFinal "OverFirst$Two" "OverFirst$Two" "way" "C") ∈ lw_all := lw_g (lw_at lw_m5 60 rfl) rfl
theorem q1156 : (Jvm.Cond.soleField "OverFirst$Two" "way") ∈ lw_all := lw_g (lw_at lw_m5 61 rfl) rfl
theorem q1157 : (Jvm.Cond.laysFinal "OverFirst$Two" "OverFirst$Two" "a" "LOverFirst$Expression;") ∈ lw_all := lw_g (lw_at lw_m5 62 rfl) rfl
theorem q1158 : (Jvm.Cond.soleField "OverFirst$Two" "a") ∈ lw_all := lw_g (lw_at lw_m5 63 rfl) rfl
theorem q1159 : (Jvm.Cond.laysFinal "OverFirst$Two" "OverFirst$Two" "b" "LOverFirst$Expression;") ∈ lw_all := lw_g (lw_at lw_m5 64 rfl) rfl
theorem q1160 : (Jvm.Cond.soleField "OverFirst$Two" "b") ∈ lw_all := lw_g (lw_at lw_m5 65 rfl) rfl
theorem q1161 : (Jvm.Cond.superclass "OverFirst$Two" "OverFirst$Expression") ∈ lw_all := lw_g (lw_at lw_m5 66 rfl) rfl
theorem q1409 : (Jvm.Cond.instanceMethod ({ cls := "OverFirst$Two", name := "worked", desc := "([I)I" } : Jvm.MethodName)) ∈ lw_all := lw_g (lw_at lw_m6 74 rfl) rfl
theorem q1410 : (Jvm.Cond.code ({ cls := "OverFirst$Two", name := "worked", desc := "([I)I" } : Jvm.MethodName) prog_19_method_2_code (4 : Nat) (Option.some Jvm.ClassFile.FieldType.int)) ∈ lw_all := lw_g (lw_at lw_m6 75 rfl) rfl
theorem q1411 : (Jvm.Cond.methodLink "OverFirst$Two" (20 : Nat) ({ cls := "OverFirst$Expression", name := "worked", desc := "([I)I" } : Jvm.MethodName)) ∈ lw_all := lw_g (lw_at lw_m6 76 rfl) rfl
theorem q1412 : (Jvm.Cond.selects "OverFirst$Two" ({ cls := "OverFirst$Expression", name := "worked", desc := "([I)I" } : Jvm.MethodName) ({ cls := "OverFirst$Two", name := "worked", desc := "([I)I" } : Jvm.MethodName)) ∈ lw_all := lw_g (lw_at lw_m6 77 rfl) rfl
theorem q2281 : (Jvm.Cond.castable "OverFirst$Two" "java/lang/Object") ∈ lw_tbl := lw_at lw_m9 226 rfl
theorem in_X21 : ∀ w ∈ wsX210, w ∈ lw_all := lw_in wsX210 [1155, 1157, 1159] (by decide +kernel) (by decide +kernel)
