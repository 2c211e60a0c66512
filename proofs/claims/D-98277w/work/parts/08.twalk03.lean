/-! THE TWIN's walks and contracts (printed by gen/gen_t.py) -/
set_option maxRecDepth 100000
theorem T_goesOn_b88_ok {X : KC TS} {E : TE} {z : TS} (T : tOK X E cX9_goesOn 14 none) {Fr Lr : Nat} (hR : tRoom X (Fr + 3) (Lr + 74)) (e : tE_v X E z) {nf : Nat} {rc : Int32 → Int32 → Int32 → Int32 → Int64 → Int32 → TS → Option TS} (hrc : ∀ (a0 : Int32) (a1 : Int32) (a2 : Int32) (a3 : Int32) (a4 : Int64) (a5 : Int32) (τ : TS) (v : TS), rc a0 a1 a2 a3 a4 a5 τ = some v → tMet_v X.1.2.1 E yX9_goesOn (ws_ yX9_goesOn cX9_goesOn 14 none) Fr Lr [.ref (E.2.2.2.2.1 0), .int a0, .int a1, .int a2, .int a3, .long a4, .int a5] τ v) {k24 : Int32 → Int32 → Int32 → Int32 → Int32 → Int32 → Int64 → Int32 → TS → Option TS} (hk24 : ∀ (x1 : Int32) (x2 : Int32) (x3 : Int32) (x4 : Int32) (x7 : Int32) (x8 : Int32) (x9 : Int64) (x11 : Int32) (τ : TS), k24 x1 x2 x3 x4 x7 x8 x9 x11 τ = some z → kW X τ 24 [(0, .ref (E.2.2.2.2.1 0)), (1, .int x1), (2, .int x2), (3, .int x3), (4, .int x4), (7, .int x7), (8, .int x8), (9, .long x9), (11, .int x11)] []) {x1 : Int32} {x2 : Int32} {x3 : Int32} {x4 : Int32} {x7 : Int32} {x8 : Int32} {x9 : Int64} {x11 : Int32} {s0 : Int32} {τ : TS} (h : T_goesOn_b88 nf rc k24 x1 x2 x3 x4 x7 x8 x9 x11 s0 τ = some z) : kW X τ 88 [(0, .ref (E.2.2.2.2.1 0)), (1, .int x1), (2, .int x2), (3, .int x3), (4, .int x4), (7, .int x7), (8, .int x8), (9, .long x9), (11, .int x11)] [.int s0] := by
  unfold T_goesOn_b88 at h
  have hX := T.1
  refine k_istore [(12, .int s0), (0, .ref (E.2.2.2.2.1 0)), (1, .int x1), (2, .int x2), (3, .int x3), (4, .int x4), (7, .int x7), (8, .int x8), (9, .long x9), (11, .int x11)] hX dX9_goesOn_88 rfl rfl ?_
  refine k_iload hX dX9_goesOn_90 5 rfl ?_
  refine k_aload_n hX dX9_goesOn_92 rfl 1 rfl ?_
  refine k_iload_n hX dX9_goesOn_93 rfl 2 rfl ?_
  refine k_iload_n hX dX9_goesOn_94 rfl 3 rfl ?_
  refine k_iload_n hX dX9_goesOn_95 rfl 4 rfl ?_
  refine k_iload hX dX9_goesOn_96 0 rfl ?_
  refine cX_wasBetween T (met_wasBetween T.2.1) (room_lo hR (by omega) (by omega)) h rfl dX9_goesOn_98 (fun v1 h => ?_)
  refine k_ior hX dX9_goesOn_101 ?_
  refine k_nm h (fun v2 h => ?_)
  refine k_istore [(13, .int v2), (12, .int s0), (0, .ref (E.2.2.2.2.1 0)), (1, .int x1), (2, .int x2), (3, .int x3), (4, .int x4), (7, .int x7), (8, .int x8), (9, .long x9), (11, .int x11)] hX dX9_goesOn_102 rfl rfl ?_
  refine k_iload hX dX9_goesOn_104 8 rfl ?_
  refine k_if_eq (tgt := 122) hX h dX9_goesOn_106 (by decide) (fun h => ?_) (fun h => ?_)
  · refine k_aload_n hX dX9_goesOn_122 rfl 2 rfl ?_
    refine k_iload_n hX dX9_goesOn_123 rfl 3 rfl ?_
    refine k_iconst (v := 1) hX dX9_goesOn_124 (by decide) ?_
    refine k_iadd hX dX9_goesOn_125 ?_
    refine k_iload hX dX9_goesOn_126 10 rfl ?_
    refine k_isub hX dX9_goesOn_128 ?_
    refine k_iload_n hX dX9_goesOn_129 rfl 4 rfl ?_
    refine k_iload hX dX9_goesOn_130 10 rfl ?_
    refine k_iadd hX dX9_goesOn_132 ?_
    refine k_iload hX dX9_goesOn_133 1 rfl ?_
    refine k_aload_n hX dX9_goesOn_135 rfl 2 rfl ?_
    refine tg10 T dX9_goesOn_136 ?_
    refine k_iconst (v := 2) hX dX9_goesOn_139 (by decide) ?_
    refine ta10 T h dX9_goesOn_140 (fun v3 h => ?_)
    refine k_iadd hX dX9_goesOn_141 ?_
    refine k_iload hX dX9_goesOn_142 0 rfl ?_
    refine k_lload hX dX9_goesOn_144 9 rfl ?_
    refine k_iload hX dX9_goesOn_146 7 rfl ?_
    refine k_iload hX dX9_goesOn_148 10 rfl ?_
    refine k_iload_n hX dX9_goesOn_150 rfl 3 rfl ?_
    refine k_iload_n hX dX9_goesOn_151 rfl 4 rfl ?_
    refine k_iadd hX dX9_goesOn_152 ?_
    refine k_ishl hX dX9_goesOn_153 ?_
    refine k_ior hX dX9_goesOn_154 ?_
    refine cX_goesOn T (hrc) (room_lo hR (by omega) (by omega)) h rfl dX9_goesOn_155 (fun τ4 h => ?_)
    refine k_iinc (j := 10) [(11, .int (x11 + 1)), (13, .int v2), (12, .int s0), (0, .ref (E.2.2.2.2.1 0)), (1, .int x1), (2, .int x2), (3, .int x3), (4, .int x4), (7, .int x7), (8, .int x8), (9, .long x9)] hX dX9_goesOn_158 rfl rfl rfl rfl ?_
    refine k_goto (tgt := 24) hX dX9_goesOn_161 (by decide) ?_
    refine k_lv [3, 4, 5, 6, 7, 8, 9, 10, 0] rfl ?_
    exact hk24 _ _ _ _ _ _ _ _ _ h
  · refine k_aload_n hX dX9_goesOn_109 rfl 2 rfl ?_
    refine k_iload hX dX9_goesOn_110 0 rfl ?_
    refine k_lload hX dX9_goesOn_112 9 rfl ?_
    refine k_iload hX dX9_goesOn_114 7 rfl ?_
    refine cX_fits0 T (met_fits0 T.2.1) (room_lo hR (by omega) (by omega)) h rfl dX9_goesOn_116 (fun τ5 h => ?_)
    refine k_goto (tgt := 158) hX dX9_goesOn_119 (by decide) ?_
    refine k_iinc (j := 10) [(11, .int (x11 + 1)), (13, .int v2), (12, .int s0), (0, .ref (E.2.2.2.2.1 0)), (1, .int x1), (2, .int x2), (3, .int x3), (4, .int x4), (7, .int x7), (8, .int x8), (9, .long x9)] hX dX9_goesOn_158 rfl rfl rfl rfl ?_
    refine k_goto (tgt := 24) hX dX9_goesOn_161 (by decide) ?_
    refine k_lv [3, 4, 5, 6, 7, 8, 9, 10, 0] rfl ?_
    exact hk24 _ _ _ _ _ _ _ _ _ h
theorem T_goesOn_b66_ok {X : KC TS} {E : TE} {z : TS} (T : tOK X E cX9_goesOn 14 none) {Fr Lr : Nat} (hR : tRoom X (Fr + 3) (Lr + 74)) (e : tE_v X E z) {nf : Nat} {rc : Int32 → Int32 → Int32 → Int32 → Int64 → Int32 → TS → Option TS} (hrc : ∀ (a0 : Int32) (a1 : Int32) (a2 : Int32) (a3 : Int32) (a4 : Int64) (a5 : Int32) (τ : TS) (v : TS), rc a0 a1 a2 a3 a4 a5 τ = some v → tMet_v X.1.2.1 E yX9_goesOn (ws_ yX9_goesOn cX9_goesOn 14 none) Fr Lr [.ref (E.2.2.2.2.1 0), .int a0, .int a1, .int a2, .int a3, .long a4, .int a5] τ v) {k24 : Int32 → Int32 → Int32 → Int32 → Int32 → Int32 → Int64 → Int32 → TS → Option TS} (hk24 : ∀ (x1 : Int32) (x2 : Int32) (x3 : Int32) (x4 : Int32) (x7 : Int32) (x8 : Int32) (x9 : Int64) (x11 : Int32) (τ : TS), k24 x1 x2 x3 x4 x7 x8 x9 x11 τ = some z → kW X τ 24 [(0, .ref (E.2.2.2.2.1 0)), (1, .int x1), (2, .int x2), (3, .int x3), (4, .int x4), (7, .int x7), (8, .int x8), (9, .long x9), (11, .int x11)] []) {x1 : Int32} {x2 : Int32} {x3 : Int32} {x4 : Int32} {x7 : Int32} {x8 : Int32} {x9 : Int64} {x11 : Int32} {τ : TS} (h : T_goesOn_b66 nf rc k24 x1 x2 x3 x4 x7 x8 x9 x11 τ = some z) : kW X τ 66 [(0, .ref (E.2.2.2.2.1 0)), (1, .int x1), (2, .int x2), (3, .int x3), (4, .int x4), (7, .int x7), (8, .int x8), (9, .long x9), (11, .int x11)] [] := by
  unfold T_goesOn_b66 at h
  have hX := T.1
  refine k_iload hX dX9_goesOn_66 6 rfl ?_
  refine k_if_eq (tgt := 77) hX h dX9_goesOn_68 (by decide) (fun h => ?_) (fun h => ?_)
  · refine k_iload_n hX dX9_goesOn_77 rfl 3 rfl ?_
    refine k_aload_n hX dX9_goesOn_78 rfl 0 rfl ?_
    refine k_iload_n hX dX9_goesOn_79 rfl 1 rfl ?_
    refine k_iload_n hX dX9_goesOn_80 rfl 2 rfl ?_
    refine k_iload hX dX9_goesOn_81 8 rfl ?_
    refine k_iload_n hX dX9_goesOn_83 rfl 3 rfl ?_
    refine cX_waitFor T (met_waitFor T.2.1) (room_lo hR (by omega) (by omega)) h rfl dX9_goesOn_84 (fun v1 h => ?_)
    refine k_iadd hX dX9_goesOn_87 ?_
    refine k_lv [0, 1, 2, 3, 4, 5, 6, 7, 8] rfl ?_
    exact T_goesOn_b88_ok T hR e hrc hk24 h
  · refine k_ldcw (v := 2000000000) hX q2047 dX9_goesOn_71 ?_
    refine k_goto (tgt := 88) hX dX9_goesOn_74 (by decide) ?_
    refine k_lv [0, 1, 2, 3, 4, 5, 6, 7, 8] rfl ?_
    exact T_goesOn_b88_ok T hR e hrc hk24 h
theorem T_goesOn_b41_ok {X : KC TS} {E : TE} {z : TS} (T : tOK X E cX9_goesOn 14 none) {Fr Lr : Nat} (hR : tRoom X (Fr + 3) (Lr + 74)) (e : tE_v X E z) {nf : Nat} {rc : Int32 → Int32 → Int32 → Int32 → Int64 → Int32 → TS → Option TS} (hrc : ∀ (a0 : Int32) (a1 : Int32) (a2 : Int32) (a3 : Int32) (a4 : Int64) (a5 : Int32) (τ : TS) (v : TS), rc a0 a1 a2 a3 a4 a5 τ = some v → tMet_v X.1.2.1 E yX9_goesOn (ws_ yX9_goesOn cX9_goesOn 14 none) Fr Lr [.ref (E.2.2.2.2.1 0), .int a0, .int a1, .int a2, .int a3, .long a4, .int a5] τ v) {k24 : Int32 → Int32 → Int32 → Int32 → Int32 → Int32 → Int64 → Int32 → TS → Option TS} (hk24 : ∀ (x1 : Int32) (x2 : Int32) (x3 : Int32) (x4 : Int32) (x7 : Int32) (x8 : Int32) (x9 : Int64) (x11 : Int32) (τ : TS), k24 x1 x2 x3 x4 x7 x8 x9 x11 τ = some z → kW X τ 24 [(0, .ref (E.2.2.2.2.1 0)), (1, .int x1), (2, .int x2), (3, .int x3), (4, .int x4), (7, .int x7), (8, .int x8), (9, .long x9), (11, .int x11)] []) {x1 : Int32} {x2 : Int32} {x3 : Int32} {x4 : Int32} {x7 : Int32} {x8 : Int32} {x9 : Int64} {x11 : Int32} {τ : TS} (h : T_goesOn_b41 nf rc k24 x1 x2 x3 x4 x7 x8 x9 x11 τ = some z) : kW X τ 41 [(0, .ref (E.2.2.2.2.1 0)), (1, .int x1), (2, .int x2), (3, .int x3), (4, .int x4), (7, .int x7), (8, .int x8), (9, .long x9), (11, .int x11)] [] := by
  unfold T_goesOn_b41 at h
  have hX := T.1
  refine k_iload hX dX9_goesOn_41 6 rfl ?_
  refine k_if_eq (tgt := 55) hX h dX9_goesOn_43 (by decide) (fun h => ?_) (fun h => ?_)
  · refine k_aload_n hX dX9_goesOn_55 rfl 0 rfl ?_
    refine k_iload_n hX dX9_goesOn_56 rfl 1 rfl ?_
    refine k_iload_n hX dX9_goesOn_57 rfl 2 rfl ?_
    refine k_iload hX dX9_goesOn_58 8 rfl ?_
    refine cX_canGo T (met_canGo T.2.1) (room_lo hR (by omega) (by omega)) h rfl dX9_goesOn_60 (fun v1 h => ?_)
    refine k_if_eq (tgt := 158) hX h dX9_goesOn_63 (by decide) (fun h => ?_) (fun h => ?_)
    · refine k_iinc (j := 8) [(11, .int (x11 + 1)), (0, .ref (E.2.2.2.2.1 0)), (1, .int x1), (2, .int x2), (3, .int x3), (4, .int x4), (7, .int x7), (8, .int x8), (9, .long x9)] hX dX9_goesOn_158 rfl rfl rfl rfl ?_
      refine k_goto (tgt := 24) hX dX9_goesOn_161 (by decide) ?_
      refine k_lv [1, 2, 3, 4, 5, 6, 7, 8, 0] rfl ?_
      exact hk24 _ _ _ _ _ _ _ _ _ h
    · refine k_lv [0, 1, 2, 3, 4, 5, 6, 7, 8] rfl ?_
      exact T_goesOn_b66_ok T hR e hrc hk24 h
  · refine k_iload hX dX9_goesOn_46 8 rfl ?_
    refine k_iconst (v := 2) hX dX9_goesOn_48 (by decide) ?_
    refine k_icmp_ne (tgt := 158) hX h dX9_goesOn_49 (by decide) (fun h => ?_) (fun h => ?_)
    · refine k_iinc (j := 8) [(11, .int (x11 + 1)), (0, .ref (E.2.2.2.2.1 0)), (1, .int x1), (2, .int x2), (3, .int x3), (4, .int x4), (7, .int x7), (8, .int x8), (9, .long x9)] hX dX9_goesOn_158 rfl rfl rfl rfl ?_
      refine k_goto (tgt := 24) hX dX9_goesOn_161 (by decide) ?_
      refine k_lv [1, 2, 3, 4, 5, 6, 7, 8, 0] rfl ?_
      exact hk24 _ _ _ _ _ _ _ _ _ h
    · refine k_goto (tgt := 66) hX dX9_goesOn_52 (by decide) ?_
      refine k_lv [0, 1, 2, 3, 4, 5, 6, 7, 8] rfl ?_
      exact T_goesOn_b66_ok T hR e hrc hk24 h
theorem T_goesOn_b24_s_ok {X : KC TS} {E : TE} {z : TS} (T : tOK X E cX9_goesOn 14 none) {Fr Lr : Nat} (hR : tRoom X (Fr + 3) (Lr + 74)) (e : tE_v X E z) {nf : Nat} {rc : Int32 → Int32 → Int32 → Int32 → Int64 → Int32 → TS → Option TS} (hrc : ∀ (a0 : Int32) (a1 : Int32) (a2 : Int32) (a3 : Int32) (a4 : Int64) (a5 : Int32) (τ : TS) (v : TS), rc a0 a1 a2 a3 a4 a5 τ = some v → tMet_v X.1.2.1 E yX9_goesOn (ws_ yX9_goesOn cX9_goesOn 14 none) Fr Lr [.ref (E.2.2.2.2.1 0), .int a0, .int a1, .int a2, .int a3, .long a4, .int a5] τ v) {k24 : Int32 → Int32 → Int32 → Int32 → Int32 → Int32 → Int64 → Int32 → TS → Option TS} (hk24 : ∀ (x1 : Int32) (x2 : Int32) (x3 : Int32) (x4 : Int32) (x7 : Int32) (x8 : Int32) (x9 : Int64) (x11 : Int32) (τ : TS), k24 x1 x2 x3 x4 x7 x8 x9 x11 τ = some z → kW X τ 24 [(0, .ref (E.2.2.2.2.1 0)), (1, .int x1), (2, .int x2), (3, .int x3), (4, .int x4), (7, .int x7), (8, .int x8), (9, .long x9), (11, .int x11)] []) {x1 : Int32} {x2 : Int32} {x3 : Int32} {x4 : Int32} {x7 : Int32} {x8 : Int32} {x9 : Int64} {x11 : Int32} {τ : TS} (h : T_goesOn_b24_s nf rc k24 x1 x2 x3 x4 x7 x8 x9 x11 τ = some z) : kW X τ 24 [(0, .ref (E.2.2.2.2.1 0)), (1, .int x1), (2, .int x2), (3, .int x3), (4, .int x4), (7, .int x7), (8, .int x8), (9, .long x9), (11, .int x11)] [] := by
  unfold T_goesOn_b24_s at h
  have hX := T.1
  refine k_iload hX dX9_goesOn_24 8 rfl ?_
  refine k_iconst (v := 2) hX dX9_goesOn_26 (by decide) ?_
  refine k_icmp_lt (tgt := 41) hX h dX9_goesOn_27 (by decide) (fun h => ?_) (fun h => ?_)
  · refine k_lv [0, 1, 2, 3, 4, 5, 6, 7, 8] rfl ?_
    exact T_goesOn_b41_ok T hR e hrc hk24 h
  · refine k_iload hX dX9_goesOn_30 6 rfl ?_
    refine k_if_eq (tgt := 164) hX h dX9_goesOn_32 (by decide) (fun h => ?_) (fun h => ?_)
    · exact t_ret_v T e h dX9_goesOn_164
    · refine k_iload hX dX9_goesOn_35 8 rfl ?_
      refine k_iconst (v := 3) hX dX9_goesOn_37 (by decide) ?_
      refine k_icmp_ge (tgt := 164) hX h dX9_goesOn_38 (by decide) (fun h => ?_) (fun h => ?_)
      · exact t_ret_v T e h dX9_goesOn_164
      · refine k_lv [0, 1, 2, 3, 4, 5, 6, 7, 8] rfl ?_
        exact T_goesOn_b41_ok T hR e hrc hk24 h
theorem T_goesOn_b24_ok {X : KC TS} {E : TE} {z : TS} (T : tOK X E cX9_goesOn 14 none) {Fr Lr : Nat} (hR : tRoom X (Fr + 3) (Lr + 74)) (e : tE_v X E z) {nf : Nat} {rc : Int32 → Int32 → Int32 → Int32 → Int64 → Int32 → TS → Option TS} (hrc : ∀ (a0 : Int32) (a1 : Int32) (a2 : Int32) (a3 : Int32) (a4 : Int64) (a5 : Int32) (τ : TS) (v : TS), rc a0 a1 a2 a3 a4 a5 τ = some v → tMet_v X.1.2.1 E yX9_goesOn (ws_ yX9_goesOn cX9_goesOn 14 none) Fr Lr [.ref (E.2.2.2.2.1 0), .int a0, .int a1, .int a2, .int a3, .long a4, .int a5] τ v) : ∀ (n : Nat) (x1 : Int32) (x2 : Int32) (x3 : Int32) (x4 : Int32) (x7 : Int32) (x8 : Int32) (x9 : Int64) (x11 : Int32) (τ : TS), T_goesOn_b24 nf rc n x1 x2 x3 x4 x7 x8 x9 x11 τ = some z → kW X τ 24 [(0, .ref (E.2.2.2.2.1 0)), (1, .int x1), (2, .int x2), (3, .int x3), (4, .int x4), (7, .int x7), (8, .int x8), (9, .long x9), (11, .int x11)] [] := by
  intro n
  induction n with
  | zero => intro x1 x2 x3 x4 x7 x8 x9 x11 τ h; exact (nomatch (show (none : Option TS) = some z from h))
  | succ n ih =>
    intro x1 x2 x3 x4 x7 x8 x9 x11 τ h
    have h : T_goesOn_b24_s nf rc (T_goesOn_b24 nf rc n) x1 x2 x3 x4 x7 x8 x9 x11 τ = some z := h
    exact T_goesOn_b24_s_ok T hR e hrc ih h
theorem met_goesOn_s {l : Launch} {E : TE} (hE : tEnv E) {nf : Nat} {rc : Int32 → Int32 → Int32 → Int32 → Int64 → Int32 → TS → Option TS} {Fr Lr : Nat} (hrc : ∀ (a0 : Int32) (a1 : Int32) (a2 : Int32) (a3 : Int32) (a4 : Int64) (a5 : Int32) (τ : TS) (v : TS), rc a0 a1 a2 a3 a4 a5 τ = some v → tMet_v l E yX9_goesOn (ws_ yX9_goesOn cX9_goesOn 14 none) Fr Lr [.ref (E.2.2.2.2.1 0), .int a0, .int a1, .int a2, .int a3, .long a4, .int a5] τ v) : ∀ (x1 : Int32) (x2 : Int32) (x3 : Int32) (x4 : Int32) (x5 : Int64) (x7 : Int32) (τ : TS) (z : TS), T_goesOn_s nf rc x1 x2 x3 x4 x5 x7 τ = some z → tMet_v l E yX9_goesOn (ws_ yX9_goesOn cX9_goesOn 14 none) (Fr + 3) (Lr + 74) [.ref (E.2.2.2.2.1 0), .int x1, .int x2, .int x3, .int x4, .long x5, .int x7] τ z := by
  intro x1 x2 x3 x4 x5 x7 τ z h
  refine t_met_v hE (by decide +kernel) rfl rfl (fun X hl T hR e => ?_)
  unfold T_goesOn_s at h
  have hX := T.1
  show kW X τ 0 [(0, .ref (E.2.2.2.2.1 0)), (1, .int x1), (2, .int x2), (3, .int x3), (4, .int x4), (5, .long x5), (7, .int x7)] []
  subst hl
  refine k_aload_n hX dX9_goesOn_0 rfl 0 rfl ?_
  refine k_iload_n hX dX9_goesOn_1 rfl 1 rfl ?_
  refine k_iload_n hX dX9_goesOn_2 rfl 2 rfl ?_
  refine cX_isHome T (met_isHome T.2.1) (room_lo hR (by omega) (by omega)) h rfl dX9_goesOn_3 (fun v1 h => ?_)
  refine k_istore [(8, .int v1), (0, .ref (E.2.2.2.2.1 0)), (1, .int x1), (2, .int x2), (3, .int x3), (4, .int x4), (5, .long x5), (7, .int x7)] hX dX9_goesOn_6 rfl rfl ?_
  refine k_lload hX dX9_goesOn_8 6 rfl ?_
  refine k_lconst (v := 1) hX dX9_goesOn_10 (by decide) ?_
  refine k_bipush (v := 6) hX dX9_goesOn_11 (by decide) ?_
  refine k_iload_n hX dX9_goesOn_13 rfl 3 rfl ?_
  refine k_imul hX dX9_goesOn_14 ?_
  refine k_iload_n hX dX9_goesOn_15 rfl 2 rfl ?_
  refine k_iadd hX dX9_goesOn_16 ?_
  refine k_lshl hX dX9_goesOn_17 ?_
  refine k_lor hX dX9_goesOn_18 ?_
  refine k_nml h (fun v2 h => ?_)
  refine k_lstore [(9, .long v2), (8, .int v1), (0, .ref (E.2.2.2.2.1 0)), (1, .int x1), (2, .int x2), (3, .int x3), (4, .int x4), (5, .long x5), (7, .int x7)] hX dX9_goesOn_19 rfl rfl ?_
  refine k_iconst (v := 0) hX dX9_goesOn_21 (by decide) ?_
  refine k_istore [(11, .int 0), (9, .long v2), (8, .int v1), (0, .ref (E.2.2.2.2.1 0)), (1, .int x1), (2, .int x2), (3, .int x3), (4, .int x4), (5, .long x5), (7, .int x7)] hX dX9_goesOn_22 rfl rfl ?_
  refine k_lv [3, 4, 5, 6, 7, 9, 2, 1, 0] rfl ?_
  exact T_goesOn_b24_ok T hR e hrc _ _ _ _ _ _ _ _ _ _ h
theorem met_goesOn {l : Launch} {E : TE} (hE : tEnv E) {nf : Nat} : ∀ (dp : Nat) (x1 : Int32) (x2 : Int32) (x3 : Int32) (x4 : Int32) (x5 : Int64) (x7 : Int32) (τ : TS) (z : TS), T_goesOn nf dp x1 x2 x3 x4 x5 x7 τ = some z → tMet_v l E yX9_goesOn (ws_ yX9_goesOn cX9_goesOn 14 none) (3 * dp) (74 * dp) [.ref (E.2.2.2.2.1 0), .int x1, .int x2, .int x3, .int x4, .long x5, .int x7] τ z := by
  intro dp
  induction dp with
  | zero => intro x1 x2 x3 x4 x5 x7 τ z h; exact (nomatch (show (none : Option TS) = some z from h))
  | succ dp ih =>
    intro x1 x2 x3 x4 x5 x7 τ z h
    have h : T_goesOn_s nf (T_goesOn nf dp) x1 x2 x3 x4 x5 x7 τ = some z := h
    exact met_goesOn_s hE ih _ _ _ _ _ _ _ _ h
theorem T_fits_b157_ok {X : KC TS} {E : TE} {z : (Int64 × TS)} (T : tOK X E cX9_fits 6 (some .long)) (hR : tRoom X 61 1513) (e : tE_l X E z.1 z.2) {nf : Nat} {k77 : Int32 → Int64 → Int32 → TS → Option (Int64 × TS)} (hk77 : ∀ (x1 : Int32) (x2 : Int64) (x4 : Int32) (τ : TS), k77 x1 x2 x4 τ = some z → kW X τ 77 [(0, .ref (E.2.2.2.2.1 0)), (1, .int x1), (2, .long x2), (4, .int x4)] []) {x1 : Int32} {x4 : Int32} {s0 : Int32} {s1 : Int64} {s2 : Int64} {τ : TS} (h : T_fits_b157 nf k77 x1 x4 s0 s1 s2 τ = some z) : kW X τ 157 [(0, .ref (E.2.2.2.2.1 0)), (1, .int x1), (4, .int x4)] [.int s0, .long s1, .long s2] := by
  unfold T_fits_b157 at h
  have hX := T.1
  refine k_iload hX dX9_fits_157 2 rfl ?_
  refine k_bipush (v := 6) hX dX9_fits_159 (by decide) ?_
  refine k_iremc hX (by decide) dX9_fits_161 ?_
  refine k_iadd hX dX9_fits_162 ?_
  refine k_lshl hX dX9_fits_163 ?_
  refine k_goto (tgt := 168) hX dX9_fits_164 (by decide) ?_
  refine k_lor hX dX9_fits_168 ?_
  refine k_nml h (fun v1 h => ?_)
  refine k_lstore_n [(2, .long v1), (0, .ref (E.2.2.2.2.1 0)), (1, .int x1), (4, .int x4)] hX dX9_fits_169 rfl rfl rfl ?_
  refine k_iinc (j := 3) [(4, .int (x4 + 1)), (2, .long v1), (0, .ref (E.2.2.2.2.1 0)), (1, .int x1)] hX dX9_fits_170 rfl rfl rfl rfl ?_
  refine k_goto (tgt := 77) hX dX9_fits_173 (by decide) ?_
  refine k_lv [2, 3, 1, 0] rfl ?_
  exact hk77 _ _ _ _ h
theorem T_fits_b131_ok {X : KC TS} {E : TE} {z : (Int64 × TS)} (T : tOK X E cX9_fits 6 (some .long)) (hR : tRoom X 61 1513) (e : tE_l X E z.1 z.2) {nf : Nat} {k77 : Int32 → Int64 → Int32 → TS → Option (Int64 × TS)} (hk77 : ∀ (x1 : Int32) (x2 : Int64) (x4 : Int32) (τ : TS), k77 x1 x2 x4 τ = some z → kW X τ 77 [(0, .ref (E.2.2.2.2.1 0)), (1, .int x1), (2, .long x2), (4, .int x4)] []) {x1 : Int32} {x2 : Int64} {x4 : Int32} {s0 : Int32} {τ : TS} (h : T_fits_b131 nf k77 x1 x2 x4 s0 τ = some z) : kW X τ 131 [(0, .ref (E.2.2.2.2.1 0)), (1, .int x1), (2, .long x2), (4, .int x4)] [.int s0] := by
  unfold T_fits_b131 at h
  have hX := T.1
  refine k_istore [(5, .int s0), (0, .ref (E.2.2.2.2.1 0)), (1, .int x1), (2, .long x2), (4, .int x4)] hX dX9_fits_131 rfl rfl ?_
  refine k_lload_n hX dX9_fits_133 rfl 3 rfl ?_
  refine k_iload hX dX9_fits_134 0 rfl ?_
  refine k_if_eq (tgt := 167) hX h dX9_fits_136 (by decide) (fun h => ?_) (fun h => ?_)
  · refine k_lconst (v := 0) hX dX9_fits_167 (by decide) ?_
    refine k_lor hX dX9_fits_168 ?_
    refine k_nml h (fun v1 h => ?_)
    refine k_lstore_n [(2, .long v1), (5, .int s0), (0, .ref (E.2.2.2.2.1 0)), (1, .int x1), (4, .int x4)] hX dX9_fits_169 rfl rfl rfl ?_
    refine k_iinc (j := 4) [(4, .int (x4 + 1)), (2, .long v1), (5, .int s0), (0, .ref (E.2.2.2.2.1 0)), (1, .int x1)] hX dX9_fits_170 rfl rfl rfl rfl ?_
    refine k_goto (tgt := 77) hX dX9_fits_173 (by decide) ?_
    refine k_lv [3, 4, 1, 0] rfl ?_
    exact hk77 _ _ _ _ h
  · refine k_lconst (v := 1) hX dX9_fits_139 (by decide) ?_
    refine k_iload_n hX dX9_fits_140 rfl 2 rfl ?_
    refine k_iconst (v := 2) hX dX9_fits_141 (by decide) ?_
    refine k_icmp_ne (tgt := 156) hX h dX9_fits_142 (by decide) (fun h => ?_) (fun h => ?_)
    · refine k_iconst (v := 0) hX dX9_fits_156 (by decide) ?_
      refine k_lv [1, 2, 4] rfl ?_
      exact T_fits_b157_ok T hR e hk77 h
    · refine k_bipush (v := 8) hX dX9_fits_145 (by decide) ?_
      refine k_iload hX dX9_fits_147 4 rfl ?_
      refine k_bipush (v := 6) hX dX9_fits_149 (by decide) ?_
      refine k_idivc hX (by decide) dX9_fits_151 ?_
      refine k_imul hX dX9_fits_152 ?_
      refine k_goto (tgt := 157) hX dX9_fits_153 (by decide) ?_
      refine k_lv [1, 2, 4] rfl ?_
      exact T_fits_b157_ok T hR e hk77 h
theorem T_fits_b113_ok {X : KC TS} {E : TE} {z : (Int64 × TS)} (T : tOK X E cX9_fits 6 (some .long)) (hR : tRoom X 61 1513) (e : tE_l X E z.1 z.2) {nf : Nat} {k77 : Int32 → Int64 → Int32 → TS → Option (Int64 × TS)} (hk77 : ∀ (x1 : Int32) (x2 : Int64) (x4 : Int32) (τ : TS), k77 x1 x2 x4 τ = some z → kW X τ 77 [(0, .ref (E.2.2.2.2.1 0)), (1, .int x1), (2, .long x2), (4, .int x4)] []) {x1 : Int32} {x2 : Int64} {x4 : Int32} {s0 : Int32} {τ : TS} (h : T_fits_b113 nf k77 x1 x2 x4 s0 τ = some z) : kW X τ 113 [(0, .ref (E.2.2.2.2.1 0)), (1, .int x1), (2, .long x2), (4, .int x4)] [.int s0] := by
  unfold T_fits_b113 at h
  have hX := T.1
  refine k_iload_n hX dX9_fits_113 rfl 1 rfl ?_
  refine k_iconst (v := 2) hX dX9_fits_114 (by decide) ?_
  refine k_icmp_ne (tgt := 122) hX h dX9_fits_115 (by decide) (fun h => ?_) (fun h => ?_)
  · refine k_iconst (v := 0) hX dX9_fits_122 (by decide) ?_
    refine k_icmp_ne (tgt := 130) hX h dX9_fits_123 (by decide) (fun h => ?_) (fun h => ?_)
    · refine k_iconst (v := 0) hX dX9_fits_130 (by decide) ?_
      refine k_lv [0, 1, 2, 3] rfl ?_
      exact T_fits_b131_ok T hR e hk77 h
    · refine k_iconst (v := 1) hX dX9_fits_126 (by decide) ?_
      refine k_goto (tgt := 131) hX dX9_fits_127 (by decide) ?_
      refine k_lv [0, 1, 2, 3] rfl ?_
      exact T_fits_b131_ok T hR e hk77 h
  · refine k_iconst (v := 1) hX dX9_fits_118 (by decide) ?_
    refine k_goto (tgt := 123) hX dX9_fits_119 (by decide) ?_
    refine k_icmp_ne (tgt := 130) hX h dX9_fits_123 (by decide) (fun h => ?_) (fun h => ?_)
    · refine k_iconst (v := 0) hX dX9_fits_130 (by decide) ?_
      refine k_lv [0, 1, 2, 3] rfl ?_
      exact T_fits_b131_ok T hR e hk77 h
    · refine k_iconst (v := 1) hX dX9_fits_126 (by decide) ?_
      refine k_goto (tgt := 131) hX dX9_fits_127 (by decide) ?_
      refine k_lv [0, 1, 2, 3] rfl ?_
      exact T_fits_b131_ok T hR e hk77 h
theorem T_fits_b77_s_ok {X : KC TS} {E : TE} {z : (Int64 × TS)} (T : tOK X E cX9_fits 6 (some .long)) (hR : tRoom X 61 1513) (e : tE_l X E z.1 z.2) {nf : Nat} {k77 : Int32 → Int64 → Int32 → TS → Option (Int64 × TS)} (hk77 : ∀ (x1 : Int32) (x2 : Int64) (x4 : Int32) (τ : TS), k77 x1 x2 x4 τ = some z → kW X τ 77 [(0, .ref (E.2.2.2.2.1 0)), (1, .int x1), (2, .long x2), (4, .int x4)] []) {x1 : Int32} {x2 : Int64} {x4 : Int32} {τ : TS} (h : T_fits_b77_s nf k77 x1 x2 x4 τ = some z) : kW X τ 77 [(0, .ref (E.2.2.2.2.1 0)), (1, .int x1), (2, .long x2), (4, .int x4)] [] := by
  unfold T_fits_b77_s at h
  have hX := T.1
  refine k_iload hX dX9_fits_77 3 rfl ?_
  refine k_bipush (v := 54) hX dX9_fits_79 (by decide) ?_
  refine k_icmp_ge (tgt := 176) hX h dX9_fits_81 (by decide) (fun h => ?_) (fun h => ?_)
  · refine k_lload_n hX dX9_fits_176 rfl 2 rfl ?_
    exact t_ret_l T e h dX9_fits_177
  · refine k_aload_n hX dX9_fits_84 rfl 0 rfl ?_
    refine tg45 T dX9_fits_85 ?_
    refine k_iload hX dX9_fits_88 3 rfl ?_
    refine k_lshr hX dX9_fits_90 ?_
    refine k_lconst (v := 1) hX dX9_fits_91 (by decide) ?_
    refine k_land hX dX9_fits_92 ?_
    refine k_lconst (v := 1) hX dX9_fits_93 (by decide) ?_
    refine k_lcmp_ne (tgt := 130) hX h dX9_fits_94 dX9_fits_95 (by decide) (fun h => ?_) (fun h => ?_)
    · refine k_iconst (v := 0) hX dX9_fits_130 (by decide) ?_
      refine k_lv [0, 1, 2, 3] rfl ?_
      exact T_fits_b131_ok T hR e hk77 h
    · refine k_iload hX dX9_fits_98 3 rfl ?_
      refine k_bipush (v := 6) hX dX9_fits_100 (by decide) ?_
      refine k_idivc hX (by decide) dX9_fits_102 ?_
      refine k_bipush (v := 8) hX dX9_fits_103 (by decide) ?_
      refine k_icmp_ge (tgt := 112) hX h dX9_fits_105 (by decide) (fun h => ?_) (fun h => ?_)
      · refine k_iconst (v := 0) hX dX9_fits_112 (by decide) ?_
        refine k_lv [0, 1, 2, 3] rfl ?_
        exact T_fits_b113_ok T hR e hk77 h
      · refine k_iconst (v := 1) hX dX9_fits_108 (by decide) ?_
        refine k_goto (tgt := 113) hX dX9_fits_109 (by decide) ?_
        refine k_lv [0, 1, 2, 3] rfl ?_
        exact T_fits_b113_ok T hR e hk77 h
theorem T_fits_b77_ok {X : KC TS} {E : TE} {z : (Int64 × TS)} (T : tOK X E cX9_fits 6 (some .long)) (hR : tRoom X 61 1513) (e : tE_l X E z.1 z.2) {nf : Nat} : ∀ (n : Nat) (x1 : Int32) (x2 : Int64) (x4 : Int32) (τ : TS), T_fits_b77 nf n x1 x2 x4 τ = some z → kW X τ 77 [(0, .ref (E.2.2.2.2.1 0)), (1, .int x1), (2, .long x2), (4, .int x4)] [] := by
  intro n
  induction n with
  | zero => intro x1 x2 x4 τ h; exact (nomatch (show (none : Option (Int64 × TS)) = some z from h))
  | succ n ih =>
    intro x1 x2 x4 τ h
    have h : T_fits_b77_s nf (T_fits_b77 nf n) x1 x2 x4 τ = some z := h
    exact T_fits_b77_s_ok T hR e ih h
theorem T_fits_b46_ok {X : KC TS} {E : TE} {z : (Int64 × TS)} (T : tOK X E cX9_fits 6 (some .long)) (hR : tRoom X 61 1513) (e : tE_l X E z.1 z.2) {nf : Nat} {x1 : Int32} {τ : TS} (h : T_fits_b46 nf x1 τ = some z) : kW X τ 46 [(0, .ref (E.2.2.2.2.1 0)), (1, .int x1)] [] := by
  unfold T_fits_b46 at h
  have hX := T.1
  refine k_iload_n hX dX9_fits_46 rfl 1 rfl ?_
  refine k_if_ne (tgt := 57) hX h dX9_fits_47 (by decide) (fun h => ?_) (fun h => ?_)
  · refine k_ldc2 (v := (-1)) hX q2181 dX9_fits_57 ?_
    exact t_ret_l T e h dX9_fits_60
  · refine k_aload_n hX dX9_fits_50 rfl 0 rfl ?_
    refine tg43 T dX9_fits_51 ?_
    refine k_goto (tgt := 60) hX dX9_fits_54 (by decide) ?_
    exact t_ret_l T e h dX9_fits_60
theorem met_fits {l : Launch} {E : TE} (hE : tEnv E) {nf : Nat} : ∀ (x1 : Int32) (τ : TS) (z : (Int64 × TS)), T_fits nf x1 τ = some z → tMet_l l E yX9_fits (ws_ yX9_fits cX9_fits 6 (some .long)) 61 1513 [.ref (E.2.2.2.2.1 0), .int x1] τ z.1 z.2 := by
  intro x1 τ z h
  refine t_met_l hE (by decide +kernel) rfl rfl (fun X hl T hR e => ?_)
  unfold T_fits at h
  have hX := T.1
  show kW X τ 0 [(0, .ref (E.2.2.2.2.1 0)), (1, .int x1)] []
  refine k_aload_n hX dX9_fits_0 rfl 0 rfl ?_
  refine k_iconst (v := 0) hX dX9_fits_1 (by decide) ?_
  refine tp0 T h dX9_fits_2 (fun τ1 h => ?_)
  refine k_iload_n hX dX9_fits_5 rfl 1 rfl ?_
  refine k_iconst (v := 0) hX dX9_fits_6 (by decide) ?_
  refine k_iconst (v := 3) hX dX9_fits_7 (by decide) ?_
  refine cX_within T (met_within T.2.1) (room_le hR rfl rfl) h rfl dX9_fits_8 (fun v2 h => ?_)
  refine k_if_ne (tgt := 18) hX h dX9_fits_11 (by decide) (fun h => ?_) (fun h => ?_)
  · refine k_aload_n hX dX9_fits_18 rfl 0 rfl ?_
    refine k_lconst (v := 0) hX dX9_fits_19 (by decide) ?_
    refine tp43 T h dX9_fits_20 (fun τ3 h => ?_)
    refine k_aload_n hX dX9_fits_23 rfl 0 rfl ?_
    refine k_iconst (v := 0) hX dX9_fits_24 (by decide) ?_
    refine k_iconst (v := 0) hX dX9_fits_25 (by decide) ?_
    refine k_iconst (v := 0) hX dX9_fits_26 (by decide) ?_
    refine k_iconst (v := 0) hX dX9_fits_27 (by decide) ?_
    refine k_lconst (v := 0) hX dX9_fits_28 (by decide) ?_
    refine k_iconst (v := 0) hX dX9_fits_29 (by decide) ?_
    refine cX_goesOn T (met_goesOn T.2.1 20) (room_le hR rfl rfl) h rfl dX9_fits_30 (fun τ4 h => ?_)
    refine k_iload_n hX dX9_fits_33 rfl 1 rfl ?_
    refine k_if_eq (tgt := 46) hX h dX9_fits_34 (by decide) (fun h => ?_) (fun h => ?_)
    · refine k_lv [0, 1] rfl ?_
      exact T_fits_b46_ok T hR e h
    · refine k_aload_n hX dX9_fits_37 rfl 0 rfl ?_
      refine tg43 T dX9_fits_38 ?_
      refine k_lconst (v := 0) hX dX9_fits_41 (by decide) ?_
      refine k_lcmp_ne (tgt := 61) hX h dX9_fits_42 dX9_fits_43 (by decide) (fun h => ?_) (fun h => ?_)
      · refine k_iload_n hX dX9_fits_61 rfl 1 rfl ?_
        refine k_iconst (v := 1) hX dX9_fits_62 (by decide) ?_
        refine k_icmp_ne (tgt := 72) hX h dX9_fits_63 (by decide) (fun h => ?_) (fun h => ?_)
        · refine k_lconst (v := 0) hX dX9_fits_72 (by decide) ?_
          refine k_lstore_n [(2, .long 0), (0, .ref (E.2.2.2.2.1 0)), (1, .int x1)] hX dX9_fits_73 rfl rfl rfl ?_
          refine k_iconst (v := 0) hX dX9_fits_74 (by decide) ?_
          refine k_istore [(4, .int 0), (2, .long 0), (0, .ref (E.2.2.2.2.1 0)), (1, .int x1)] hX dX9_fits_75 rfl rfl ?_
          refine k_lv [2, 3, 1, 0] rfl ?_
          exact T_fits_b77_ok T hR e _ _ _ _ _ h
        · refine k_aload_n hX dX9_fits_66 rfl 0 rfl ?_
          refine tg44 T dX9_fits_67 ?_
          refine k_i2l hX dX9_fits_70 ?_
          exact t_ret_l T e h dX9_fits_71
      · refine k_lv [0, 1] rfl ?_
        exact T_fits_b46_ok T hR e h
  · refine k_ldc2 (v := (-1)) hX q2181 dX9_fits_14 ?_
    exact t_ret_l T e h dX9_fits_17
theorem met_draw {l : Launch} {E : TE} (hE : tEnv E) : ∀ (x1 : Int32) (τ : TS) (z : (Int32 × TS)), T_draw x1 τ = some z → tMet_i l E yX9_draw (ws_ yX9_draw cX9_draw 2 (some .int)) 0 0 [.ref (E.2.2.2.2.1 0), .int x1] τ z.1 z.2 := by
  intro x1 τ z h
  refine t_met_i hE (by decide +kernel) rfl rfl (fun X hl T hR e => ?_)
  unfold T_draw at h
  have hX := T.1
  show kW X τ 0 [(0, .ref (E.2.2.2.2.1 0)), (1, .int x1)] []
  refine k_aload_n hX dX9_draw_0 rfl 0 rfl ?_
  refine k_aload_n hX dX9_draw_1 rfl 0 rfl ?_
  refine tg46 T dX9_draw_2 ?_
  refine k_ldc2 (v := 1103515245) hX q2232 dX9_draw_5 ?_
  refine k_lmul hX dX9_draw_8 ?_
  refine k_ldc2 (v := 12345) hX q2233 dX9_draw_9 ?_
  refine k_ladd hX dX9_draw_12 ?_
  refine k_ldc2 (v := 2147483648) hX q2234 dX9_draw_13 ?_
  refine k_lremc hX (by decide) dX9_draw_16 ?_
  refine tp46 T h dX9_draw_17 (fun τ1 h => ?_)
  refine k_aload_n hX dX9_draw_20 rfl 0 rfl ?_
  refine tg46 T dX9_draw_21 ?_
  refine k_ldc2 (v := 65536) hX q2235 dX9_draw_24 ?_
  refine k_ldivc hX (by decide) dX9_draw_27 ?_
  refine k_iload_n hX dX9_draw_28 rfl 1 rfl ?_
  refine k_i2l hX dX9_draw_29 ?_
  refine k_lrem hX h dX9_draw_30 (fun h => ?_)
  refine k_l2i hX dX9_draw_31 ?_
  exact t_ret_i T e h dX9_draw_32
theorem T_draws_b44_ok {X : KC TS} {E : TE} {z : TS} (T : tOK X E cX9_draws 3 none) (hR : tRoom X 2 44) (e : tE_v X E z) {nf : Nat} {k2 : Int32 → TS → Option TS} (hk2 : ∀ (x1 : Int32) (τ : TS), k2 x1 τ = some z → kW X τ 2 [(0, .ref (E.2.2.2.2.1 0)), (1, .int x1)] []) {x1 : Int32} {s0 : Int32} {τ : TS} (h : T_draws_b44 nf k2 x1 s0 τ = some z) : kW X τ 44 [(0, .ref (E.2.2.2.2.1 0)), (1, .int x1)] [.int s0] := by
  unfold T_draws_b44 at h
  have hX := T.1
  refine k_istore_n [(2, .int s0), (0, .ref (E.2.2.2.2.1 0)), (1, .int x1)] hX dX9_draws_44 rfl rfl rfl ?_
  refine k_aload_n hX dX9_draws_45 rfl 1 rfl ?_
  refine tg47 T dX9_draws_46 ?_
  refine k_iload_n hX dX9_draws_49 rfl 2 rfl ?_
  refine k_iload_n hX dX9_draws_50 rfl 0 rfl ?_
  refine k_if_eq (tgt := 74) hX h dX9_draws_51 (by decide) (fun h => ?_) (fun h => ?_)
  · refine k_iconst (v := 0) hX dX9_draws_74 (by decide) ?_
    refine ts47 T h dX9_draws_75 (fun τ1 h => ?_)
    refine k_iinc (j := 2) [(1, .int (x1 + 1)), (2, .int s0), (0, .ref (E.2.2.2.2.1 0))] hX dX9_draws_76 rfl rfl rfl rfl ?_
    refine k_goto (tgt := 2) hX dX9_draws_79 (by decide) ?_
    refine k_lv [2, 0] rfl ?_
    exact hk2 _ _ h
  · refine k_aload_n hX dX9_draws_54 rfl 1 rfl ?_
    refine k_aload_n hX dX9_draws_55 rfl 1 rfl ?_
    refine k_iload_n hX dX9_draws_56 rfl 2 rfl ?_
    refine k_bipush (v := 6) hX dX9_draws_57 (by decide) ?_
    refine k_iremc hX (by decide) dX9_draws_59 ?_
    refine k_iload_n hX dX9_draws_60 rfl 2 rfl ?_
    refine k_bipush (v := 6) hX dX9_draws_61 (by decide) ?_
    refine k_idivc hX (by decide) dX9_draws_63 ?_
    refine k_iconst (v := 1) hX dX9_draws_64 (by decide) ?_
    refine cX_lightAt T (met_lightAt T.2.1) (room_le hR rfl rfl) h rfl dX9_draws_65 (fun v2 h => ?_)
    refine cX_draw T (met_draw T.2.1) (room_le hR rfl rfl) h rfl dX9_draws_68 (fun v4 τ3 h => ?_)
    refine k_goto (tgt := 75) hX dX9_draws_71 (by decide) ?_
    refine ts47 T h dX9_draws_75 (fun τ5 h => ?_)
    refine k_iinc (j := 2) [(1, .int (x1 + 1)), (2, .int s0), (0, .ref (E.2.2.2.2.1 0))] hX dX9_draws_76 rfl rfl rfl rfl ?_
    refine k_goto (tgt := 2) hX dX9_draws_79 (by decide) ?_
    refine k_lv [2, 0] rfl ?_
    exact hk2 _ _ h
theorem T_draws_b2_s_ok {X : KC TS} {E : TE} {z : TS} (T : tOK X E cX9_draws 3 none) (hR : tRoom X 2 44) (e : tE_v X E z) {nf : Nat} {k2 : Int32 → TS → Option TS} (hk2 : ∀ (x1 : Int32) (τ : TS), k2 x1 τ = some z → kW X τ 2 [(0, .ref (E.2.2.2.2.1 0)), (1, .int x1)] []) {x1 : Int32} {τ : TS} (h : T_draws_b2_s nf k2 x1 τ = some z) : kW X τ 2 [(0, .ref (E.2.2.2.2.1 0)), (1, .int x1)] [] := by
  unfold T_draws_b2_s at h
  have hX := T.1
  refine k_iload_n hX dX9_draws_2 rfl 1 rfl ?_
  refine k_bipush (v := 54) hX dX9_draws_3 (by decide) ?_
  refine k_icmp_ge (tgt := 82) hX h dX9_draws_5 (by decide) (fun h => ?_) (fun h => ?_)
  · exact t_ret_v T e h dX9_draws_82
  · refine k_aload_n hX dX9_draws_8 rfl 0 rfl ?_
    refine k_iload_n hX dX9_draws_9 rfl 1 rfl ?_
    refine k_bipush (v := 6) hX dX9_draws_10 (by decide) ?_
    refine k_iremc hX (by decide) dX9_draws_12 ?_
    refine k_iload_n hX dX9_draws_13 rfl 1 rfl ?_
    refine k_bipush (v := 6) hX dX9_draws_14 (by decide) ?_
    refine k_idivc hX (by decide) dX9_draws_16 ?_
    refine cX_kindAt T (met_kindAt T.2.1) (room_le hR rfl rfl) h rfl dX9_draws_17 (fun v1 h => ?_)
    refine k_iconst (v := 1) hX dX9_draws_20 (by decide) ?_
    refine k_icmp_ne (tgt := 43) hX h dX9_draws_21 (by decide) (fun h => ?_) (fun h => ?_)
    · refine k_iconst (v := 0) hX dX9_draws_43 (by decide) ?_
      refine k_lv [0, 1] rfl ?_
      exact T_draws_b44_ok T hR e hk2 h
    · refine k_aload_n hX dX9_draws_24 rfl 0 rfl ?_
      refine k_iload_n hX dX9_draws_25 rfl 1 rfl ?_
      refine k_bipush (v := 6) hX dX9_draws_26 (by decide) ?_
      refine k_iremc hX (by decide) dX9_draws_28 ?_
      refine k_iload_n hX dX9_draws_29 rfl 1 rfl ?_
      refine k_bipush (v := 6) hX dX9_draws_30 (by decide) ?_
      refine k_idivc hX (by decide) dX9_draws_32 ?_
      refine cX_isKnown T (met_isKnown T.2.1) (room_le hR rfl rfl) h rfl dX9_draws_33 (fun v2 h => ?_)
      refine k_if_ne (tgt := 43) hX h dX9_draws_36 (by decide) (fun h => ?_) (fun h => ?_)
      · refine k_iconst (v := 0) hX dX9_draws_43 (by decide) ?_
        refine k_lv [0, 1] rfl ?_
        exact T_draws_b44_ok T hR e hk2 h
      · refine k_iconst (v := 1) hX dX9_draws_39 (by decide) ?_
        refine k_goto (tgt := 44) hX dX9_draws_40 (by decide) ?_
        refine k_lv [0, 1] rfl ?_
        exact T_draws_b44_ok T hR e hk2 h
theorem T_draws_b2_ok {X : KC TS} {E : TE} {z : TS} (T : tOK X E cX9_draws 3 none) (hR : tRoom X 2 44) (e : tE_v X E z) {nf : Nat} : ∀ (n : Nat) (x1 : Int32) (τ : TS), T_draws_b2 nf n x1 τ = some z → kW X τ 2 [(0, .ref (E.2.2.2.2.1 0)), (1, .int x1)] [] := by
  intro n
  induction n with
  | zero => intro x1 τ h; exact (nomatch (show (none : Option TS) = some z from h))
  | succ n ih =>
    intro x1 τ h
    have h : T_draws_b2_s nf (T_draws_b2 nf n) x1 τ = some z := h
    exact T_draws_b2_s_ok T hR e ih h
theorem met_draws {l : Launch} {E : TE} (hE : tEnv E) {nf : Nat} : ∀ (τ : TS) (z : TS), T_draws nf τ = some z → tMet_v l E yX9_draws (ws_ yX9_draws cX9_draws 3 none) 2 44 [.ref (E.2.2.2.2.1 0)] τ z := by
  intro τ z h
  refine t_met_v hE (by decide +kernel) rfl rfl (fun X hl T hR e => ?_)
  unfold T_draws at h
  have hX := T.1
  show kW X τ 0 [(0, .ref (E.2.2.2.2.1 0))] []
  refine k_iconst (v := 0) hX dX9_draws_0 (by decide) ?_
  refine k_istore_n [(1, .int 0), (0, .ref (E.2.2.2.2.1 0))] hX dX9_draws_1 rfl rfl rfl ?_
  refine k_lv [1, 0] rfl ?_
  exact T_draws_b2_ok T hR e _ _ _ h
theorem T_night_b6_s_ok {X : KC TS} {E : TE} {z : (Int32 × TS)} (T : tOK X E cX9_night 6 (some .int)) (hR : tRoom X 145 3789) (e : tE_i X E z.1 z.2) {nf : Nat} {k6 : Int32 → Int32 → Int32 → TS → Option (Int32 × TS)} (hk6 : ∀ (x1 : Int32) (x2 : Int32) (x3 : Int32) (τ : TS), k6 x1 x2 x3 τ = some z → kW X τ 6 [(0, .ref (E.2.2.2.2.1 0)), (1, .int x1), (2, .int x2), (3, .int x3)] []) {x1 : Int32} {x2 : Int32} {x3 : Int32} {τ : TS} (h : T_night_b6_s nf k6 x1 x2 x3 τ = some z) : kW X τ 6 [(0, .ref (E.2.2.2.2.1 0)), (1, .int x1), (2, .int x2), (3, .int x3)] [] := by
  unfold T_night_b6_s at h
  have hX := T.1
  refine k_aload_n hX dX9_night_6 rfl 0 rfl ?_
  refine k_iload_n hX dX9_night_7 rfl 1 rfl ?_
  refine k_iload_n hX dX9_night_8 rfl 2 rfl ?_
  refine cX_isHome T (met_isHome T.2.1) (room_le hR rfl rfl) h rfl dX9_night_9 (fun v1 h => ?_)
  refine k_if_ne (tgt := 84) hX h dX9_night_12 (by decide) (fun h => ?_) (fun h => ?_)
  · refine k_iload_n hX dX9_night_84 rfl 3 rfl ?_
    exact t_ret_i T e h dX9_night_85
  · refine k_iload_n hX dX9_night_15 rfl 3 rfl ?_
    refine k_aload_n hX dX9_night_16 rfl 0 rfl ?_
    refine tg47 T dX9_night_17 ?_
    refine k_bipush (v := 6) hX dX9_night_20 (by decide) ?_
    refine k_iload_n hX dX9_night_22 rfl 2 rfl ?_
    refine k_imul hX dX9_night_23 ?_
    refine k_iload_n hX dX9_night_24 rfl 1 rfl ?_
    refine k_iadd hX dX9_night_25 ?_
    refine ta47 T h dX9_night_26 (fun v2 h => ?_)
    refine k_iadd hX dX9_night_27 ?_
    refine k_nm h (fun v3 h => ?_)
    refine k_istore [(4, .int v3), (0, .ref (E.2.2.2.2.1 0)), (1, .int x1), (2, .int x2), (3, .int x3)] hX dX9_night_28 rfl rfl ?_
    refine k_aload_n hX dX9_night_30 rfl 1 rfl ?_
    refine k_iload_n hX dX9_night_31 rfl 2 rfl ?_
    refine k_iload_n hX dX9_night_32 rfl 3 rfl ?_
    refine k_iload_n hX dX9_night_33 rfl 4 rfl ?_
    refine k_aload_n hX dX9_night_34 rfl 1 rfl ?_
    refine tg10 T dX9_night_35 ?_
    refine k_bipush (v := 9) hX dX9_night_38 (by decide) ?_
    refine ta10 T h dX9_night_40 (fun v4 h => ?_)
    refine k_irem hX h dX9_night_41 (fun h => ?_)
    refine k_iload hX dX9_night_42 0 rfl ?_
    refine cX_wayOf T (met_wayOf T.2.1 (met_worthFrom T.2.1 20)) (room_le hR rfl rfl) h rfl dX9_night_44 (fun v6 τ5 h => ?_)
    refine k_istore [(5, .int v6), (4, .int v3), (0, .ref (E.2.2.2.2.1 0)), (1, .int x1), (2, .int x2), (3, .int x3)] hX dX9_night_47 rfl rfl ?_
    refine k_iload_n hX dX9_night_49 rfl 5 rfl ?_
    refine k_aload_n hX dX9_night_50 rfl 2 rfl ?_
    refine k_iload_n hX dX9_night_51 rfl 3 rfl ?_
    refine k_iload_n hX dX9_night_52 rfl 4 rfl ?_
    refine k_iload hX dX9_night_53 0 rfl ?_
    refine k_iload hX dX9_night_55 1 rfl ?_
    refine cX_waitFor T (met_waitFor T.2.1) (room_le hR rfl rfl) h rfl dX9_night_57 (fun v7 h => ?_)
    refine k_aload_n hX dX9_night_60 rfl 2 rfl ?_
    refine tg10 T dX9_night_61 ?_
    refine k_iconst (v := 2) hX dX9_night_64 (by decide) ?_
    refine ta10 T h dX9_night_65 (fun v8 h => ?_)
    refine k_iadd hX dX9_night_66 ?_
    refine k_iadd hX dX9_night_67 ?_
    refine k_nm h (fun v9 h => ?_)
    refine k_istore_n [(3, .int v9), (5, .int v6), (4, .int v3), (0, .ref (E.2.2.2.2.1 0)), (1, .int x1), (2, .int x2)] hX dX9_night_68 rfl rfl rfl ?_
    refine k_iload_n hX dX9_night_69 rfl 4 rfl ?_
    refine k_iconst (v := 1) hX dX9_night_70 (by decide) ?_
    refine k_iload hX dX9_night_71 1 rfl ?_
    refine k_isub hX dX9_night_73 ?_
    refine k_iadd hX dX9_night_74 ?_
    refine k_nm h (fun v10 h => ?_)
    refine k_istore_n [(1, .int v10), (3, .int v9), (5, .int v6), (4, .int v3), (0, .ref (E.2.2.2.2.1 0)), (2, .int x2)] hX dX9_night_75 rfl rfl rfl ?_
    refine k_iload_n hX dX9_night_76 rfl 5 rfl ?_
    refine k_iload hX dX9_night_77 2 rfl ?_
    refine k_iadd hX dX9_night_79 ?_
    refine k_nm h (fun v11 h => ?_)
    refine k_istore_n [(2, .int v11), (1, .int v10), (3, .int v9), (5, .int v6), (4, .int v3), (0, .ref (E.2.2.2.2.1 0))] hX dX9_night_80 rfl rfl rfl ?_
    refine k_goto (tgt := 6) hX dX9_night_81 (by decide) ?_
    refine k_lv [5, 1, 0, 2] rfl ?_
    exact hk6 _ _ _ _ h
theorem T_night_b6_ok {X : KC TS} {E : TE} {z : (Int32 × TS)} (T : tOK X E cX9_night 6 (some .int)) (hR : tRoom X 145 3789) (e : tE_i X E z.1 z.2) {nf : Nat} : ∀ (n : Nat) (x1 : Int32) (x2 : Int32) (x3 : Int32) (τ : TS), T_night_b6 nf n x1 x2 x3 τ = some z → kW X τ 6 [(0, .ref (E.2.2.2.2.1 0)), (1, .int x1), (2, .int x2), (3, .int x3)] [] := by
  intro n
  induction n with
  | zero => intro x1 x2 x3 τ h; exact (nomatch (show (none : Option (Int32 × TS)) = some z from h))
  | succ n ih =>
    intro x1 x2 x3 τ h
    have h : T_night_b6_s nf (T_night_b6 nf n) x1 x2 x3 τ = some z := h
    exact T_night_b6_s_ok T hR e ih h
theorem met_night {l : Launch} {E : TE} (hE : tEnv E) {nf : Nat} : ∀ (τ : TS) (z : (Int32 × TS)), T_night nf τ = some z → tMet_i l E yX9_night (ws_ yX9_night cX9_night 6 (some .int)) 145 3789 [.ref (E.2.2.2.2.1 0)] τ z.1 z.2 := by
  intro τ z h
  refine t_met_i hE (by decide +kernel) rfl rfl (fun X hl T hR e => ?_)
  unfold T_night at h
  have hX := T.1
  show kW X τ 0 [(0, .ref (E.2.2.2.2.1 0))] []
  refine k_iconst (v := 0) hX dX9_night_0 (by decide) ?_
  refine k_istore_n [(1, .int 0), (0, .ref (E.2.2.2.2.1 0))] hX dX9_night_1 rfl rfl rfl ?_
  refine k_iconst (v := 0) hX dX9_night_2 (by decide) ?_
  refine k_istore_n [(2, .int 0), (1, .int 0), (0, .ref (E.2.2.2.2.1 0))] hX dX9_night_3 rfl rfl rfl ?_
  refine k_iconst (v := 0) hX dX9_night_4 (by decide) ?_
  refine k_istore_n [(3, .int 0), (2, .int 0), (1, .int 0), (0, .ref (E.2.2.2.2.1 0))] hX dX9_night_5 rfl rfl rfl ?_
  refine k_lv [3, 2, 1, 0] rfl ?_
  exact T_night_b6_ok T hR e _ _ _ _ _ h
theorem T_nights_b81_s_ok {X : KC TS} {E : TE} {z : (Int32 × TS)} (T : tOK X E cX9_nights 9 (some .int)) (hR : tRoom X 146 3814) (e : tE_i X E z.1 z.2) {nf : Nat} {k81 : Int32 → Int32 → Int32 → Int32 → Int32 → TS → Option (Int32 × TS)} (hk81 : ∀ (x2 : Int32) (x4 : Int32) (x5 : Int32) (x6 : Int32) (x7 : Int32) (τ : TS), k81 x2 x4 x5 x6 x7 τ = some z → kW X τ 81 [(0, .ref (E.2.2.2.2.1 0)), (2, .int x2), (4, .int x4), (5, .int x5), (6, .int x6), (7, .int x7)] []) {x2 : Int32} {x4 : Int32} {x5 : Int32} {x6 : Int32} {x7 : Int32} {τ : TS} (h : T_nights_b81_s nf k81 x2 x4 x5 x6 x7 τ = some z) : kW X τ 81 [(0, .ref (E.2.2.2.2.1 0)), (2, .int x2), (4, .int x4), (5, .int x5), (6, .int x6), (7, .int x7)] [] := by
  unfold T_nights_b81_s at h
  have hX := T.1
  refine k_iload hX dX9_nights_81 5 rfl ?_
  refine k_iload_n hX dX9_nights_83 rfl 1 rfl ?_
  refine k_icmp_ge (tgt := 126) hX h dX9_nights_84 (by decide) (fun h => ?_) (fun h => ?_)
  · refine k_iload hX dX9_nights_126 2 rfl ?_
    refine k_if_ne (tgt := 136) hX h dX9_nights_128 (by decide) (fun h => ?_) (fun h => ?_)
    · refine k_iload hX dX9_nights_136 4 rfl ?_
      exact t_ret_i T e h dX9_nights_138
    · refine k_iload hX dX9_nights_131 3 rfl ?_
      refine k_goto (tgt := 138) hX dX9_nights_133 (by decide) ?_
      exact t_ret_i T e h dX9_nights_138
  · refine k_aload_n hX dX9_nights_87 rfl 0 rfl ?_
    refine cX_draws T (met_draws T.2.1) (room_le hR rfl rfl) h rfl dX9_nights_88 (fun τ1 h => ?_)
    refine k_aload_n hX dX9_nights_91 rfl 0 rfl ?_
    refine cX_night T (met_night T.2.1) (room_le hR rfl rfl) h rfl dX9_nights_92 (fun v3 τ2 h => ?_)
    refine k_istore [(8, .int v3), (0, .ref (E.2.2.2.2.1 0)), (2, .int x2), (4, .int x4), (5, .int x5), (6, .int x6), (7, .int x7)] hX dX9_nights_95 rfl rfl ?_
    refine k_iload hX dX9_nights_97 4 rfl ?_
    refine k_iload hX dX9_nights_99 0 rfl ?_
    refine k_iadd hX dX9_nights_101 ?_
    refine k_nm h (fun v4 h => ?_)
    refine k_istore [(5, .int v4), (8, .int v3), (0, .ref (E.2.2.2.2.1 0)), (2, .int x2), (4, .int x4), (6, .int x6), (7, .int x7)] hX dX9_nights_102 rfl rfl ?_
    refine k_iload hX dX9_nights_104 1 rfl ?_
    refine k_iload hX dX9_nights_106 5 rfl ?_
    refine k_icmp_le (tgt := 116) hX h dX9_nights_108 (by decide) (fun h => ?_) (fun h => ?_)
    · refine k_iload hX dX9_nights_116 5 rfl ?_
      refine k_istore [(6, .int x6), (5, .int v4), (8, .int v3), (0, .ref (E.2.2.2.2.1 0)), (2, .int x2), (4, .int x4), (7, .int x7)] hX dX9_nights_118 rfl rfl ?_
      refine k_iinc (j := 6) [(7, .int (x7 + 1)), (6, .int x6), (5, .int v4), (8, .int v3), (0, .ref (E.2.2.2.2.1 0)), (2, .int x2), (4, .int x4)] hX dX9_nights_120 rfl rfl rfl rfl ?_
      refine k_goto (tgt := 81) hX dX9_nights_123 (by decide) ?_
      refine k_lv [4, 5, 6, 2, 1, 0] rfl ?_
      exact hk81 _ _ _ _ _ _ h
    · refine k_iload hX dX9_nights_111 1 rfl ?_
      refine k_goto (tgt := 118) hX dX9_nights_113 (by decide) ?_
      refine k_istore [(6, .int v3), (5, .int v4), (8, .int v3), (0, .ref (E.2.2.2.2.1 0)), (2, .int x2), (4, .int x4), (7, .int x7)] hX dX9_nights_118 rfl rfl ?_
      refine k_iinc (j := 6) [(7, .int (x7 + 1)), (6, .int v3), (5, .int v4), (8, .int v3), (0, .ref (E.2.2.2.2.1 0)), (2, .int x2), (4, .int x4)] hX dX9_nights_120 rfl rfl rfl rfl ?_
      refine k_goto (tgt := 81) hX dX9_nights_123 (by decide) ?_
      refine k_lv [4, 5, 6, 2, 1, 0] rfl ?_
      exact hk81 _ _ _ _ _ _ h
theorem T_nights_b81_ok {X : KC TS} {E : TE} {z : (Int32 × TS)} (T : tOK X E cX9_nights 9 (some .int)) (hR : tRoom X 146 3814) (e : tE_i X E z.1 z.2) {nf : Nat} : ∀ (n : Nat) (x2 : Int32) (x4 : Int32) (x5 : Int32) (x6 : Int32) (x7 : Int32) (τ : TS), T_nights_b81 nf n x2 x4 x5 x6 x7 τ = some z → kW X τ 81 [(0, .ref (E.2.2.2.2.1 0)), (2, .int x2), (4, .int x4), (5, .int x5), (6, .int x6), (7, .int x7)] [] := by
  intro n
  induction n with
  | zero => intro x2 x4 x5 x6 x7 τ h; exact (nomatch (show (none : Option (Int32 × TS)) = some z from h))
  | succ n ih =>
    intro x2 x4 x5 x6 x7 τ h
    have h : T_nights_b81_s nf (T_nights_b81 nf n) x2 x4 x5 x6 x7 τ = some z := h
    exact T_nights_b81_s_ok T hR e ih h
theorem met_nights {l : Launch} {E : TE} (hE : tEnv E) {nf : Nat} : ∀ (x1 : Int32) (x2 : Int32) (x3 : Int32) (x4 : Int32) (τ : TS) (z : (Int32 × TS)), T_nights nf x1 x2 x3 x4 τ = some z → tMet_i l E yX9_nights (ws_ yX9_nights cX9_nights 9 (some .int)) 146 3814 [.ref (E.2.2.2.2.1 0), .int x1, .int x2, .int x3, .int x4] τ z.1 z.2 := by
  intro x1 x2 x3 x4 τ z h
  refine t_met_i hE (by decide +kernel) rfl rfl (fun X hl T hR e => ?_)
  unfold T_nights at h
  have hX := T.1
  show kW X τ 0 [(0, .ref (E.2.2.2.2.1 0)), (1, .int x1), (2, .int x2), (3, .int x3), (4, .int x4)] []
  refine k_aload_n hX dX9_nights_0 rfl 0 rfl ?_
  refine k_iconst (v := 0) hX dX9_nights_1 (by decide) ?_
  refine tp0 T h dX9_nights_2 (fun τ1 h => ?_)
  refine k_iload_n hX dX9_nights_5 rfl 1 rfl ?_
  refine k_iconst (v := 0) hX dX9_nights_6 (by decide) ?_
  refine k_sipush (v := 9999) hX dX9_nights_7 (by decide) ?_
  refine cX_within T (met_within T.2.1) (room_le hR rfl rfl) h rfl dX9_nights_10 (fun v2 h => ?_)
  refine k_if_eq (tgt := 44) hX h dX9_nights_13 (by decide) (fun h => ?_) (fun h => ?_)
  · refine k_iconst (v := (-1)) hX dX9_nights_44 (by decide) ?_
    exact t_ret_i T e h dX9_nights_45
  · refine k_iload_n hX dX9_nights_16 rfl 2 rfl ?_
    refine k_iconst (v := 1) hX dX9_nights_17 (by decide) ?_
    refine k_bipush (v := 30) hX dX9_nights_18 (by decide) ?_
    refine cX_within T (met_within T.2.1) (room_le hR rfl rfl) h rfl dX9_nights_20 (fun v3 h => ?_)
    refine k_if_eq (tgt := 44) hX h dX9_nights_23 (by decide) (fun h => ?_) (fun h => ?_)
    · refine k_iconst (v := (-1)) hX dX9_nights_44 (by decide) ?_
      exact t_ret_i T e h dX9_nights_45
    · refine k_aload_n hX dX9_nights_26 rfl 0 rfl ?_
      refine k_iload_n hX dX9_nights_27 rfl 3 rfl ?_
      refine cX_isGoer T (met_isGoer T.2.1) (room_le hR rfl rfl) h rfl dX9_nights_28 (fun v4 h => ?_)
      refine k_if_eq (tgt := 44) hX h dX9_nights_31 (by decide) (fun h => ?_) (fun h => ?_)
      · refine k_iconst (v := (-1)) hX dX9_nights_44 (by decide) ?_
        exact t_ret_i T e h dX9_nights_45
      · refine k_iload hX dX9_nights_34 4 rfl ?_
        refine k_iconst (v := 0) hX dX9_nights_36 (by decide) ?_
        refine k_iconst (v := 1) hX dX9_nights_37 (by decide) ?_
        refine cX_within T (met_within T.2.1) (room_le hR rfl rfl) h rfl dX9_nights_38 (fun v5 h => ?_)
        refine k_if_ne (tgt := 46) hX h dX9_nights_41 (by decide) (fun h => ?_) (fun h => ?_)
        · refine k_aload_n hX dX9_nights_46 rfl 0 rfl ?_
          refine k_iload_n hX dX9_nights_47 rfl 3 rfl ?_
          refine k_iconst (v := 0) hX dX9_nights_48 (by decide) ?_
          refine k_iconst (v := (-1)) hX dX9_nights_49 (by decide) ?_
          refine k_iconst (v := 0) hX dX9_nights_50 (by decide) ?_
          refine cX_asks T (met_asks T.2.1) (room_le hR rfl rfl) h rfl dX9_nights_51 (fun τ6 h => ?_)
          refine k_aload_n hX dX9_nights_54 rfl 0 rfl ?_
          refine k_iconst (v := 0) hX dX9_nights_55 (by decide) ?_
          refine k_iconst (v := 0) hX dX9_nights_56 (by decide) ?_
          refine k_iconst (v := 0) hX dX9_nights_57 (by decide) ?_
          refine cX_worthFrom T (met_worthFrom T.2.1 20) (room_le hR rfl rfl) h rfl dX9_nights_58 (fun v8 τ7 h => ?_)
          refine k_if_ge (tgt := 66) hX h dX9_nights_61 (by decide) (fun h => ?_) (fun h => ?_)
          · refine k_aload_n hX dX9_nights_66 rfl 0 rfl ?_
            refine k_iload_n hX dX9_nights_67 rfl 1 rfl ?_
            refine k_i2l hX dX9_nights_68 ?_
            refine tp46 T h dX9_nights_69 (fun τ9 h => ?_)
            refine k_iconst (v := 0) hX dX9_nights_72 (by decide) ?_
            refine k_istore [(5, .int 0), (0, .ref (E.2.2.2.2.1 0)), (1, .int x1), (2, .int x2), (3, .int x3), (4, .int x4)] hX dX9_nights_73 rfl rfl ?_
            refine k_iconst (v := 0) hX dX9_nights_75 (by decide) ?_
            refine k_istore [(6, .int 0), (5, .int 0), (0, .ref (E.2.2.2.2.1 0)), (1, .int x1), (2, .int x2), (3, .int x3), (4, .int x4)] hX dX9_nights_76 rfl rfl ?_
            refine k_iconst (v := 0) hX dX9_nights_78 (by decide) ?_
            refine k_istore [(7, .int 0), (6, .int 0), (5, .int 0), (0, .ref (E.2.2.2.2.1 0)), (1, .int x1), (2, .int x2), (3, .int x3), (4, .int x4)] hX dX9_nights_79 rfl rfl ?_
            refine k_lv [3, 5, 7, 2, 1, 0] rfl ?_
            exact T_nights_b81_ok T hR e _ _ _ _ _ _ _ h
          · refine k_iconst (v := (-1)) hX dX9_nights_64 (by decide) ?_
            exact t_ret_i T e h dX9_nights_65
        · refine k_iconst (v := (-1)) hX dX9_nights_44 (by decide) ?_
          exact t_ret_i T e h dX9_nights_45
theorem T_mark_b77_ok {X : KC TS} {E : TE} {z : (Int32 × TS)} (T : tOK X E cX9_mark 3 (some .boolean)) (hR : tRoom X 1 24) (e : tE_i X E z.1 z.2) {nf : Nat} {s0 : Int32} {τ : TS} (h : T_mark_b77 nf s0 τ = some z) : kW X τ 77 [(0, .ref (E.2.2.2.2.1 0))] [.int s0, .ref (E.2.2.2.2.1 0)] := by
  unfold T_mark_b77 at h
  have hX := T.1
  refine tp20 T h dX9_mark_77 (fun τ1 h => ?_)
  refine k_aload_n hX dX9_mark_80 rfl 0 rfl ?_
  refine k_dup hX dX9_mark_81 rfl ?_
  refine tg22 T dX9_mark_82 ?_
  refine k_iconst (v := 1) hX dX9_mark_85 (by decide) ?_
  refine k_iadd hX dX9_mark_86 ?_
  refine tp22 T h dX9_mark_87 (fun τ2 h => ?_)
  refine k_iconst (v := 1) hX dX9_mark_90 (by decide) ?_
  exact t_ret_zc T e rfl h dX9_mark_91
theorem T_mark_b59_ok {X : KC TS} {E : TE} {z : (Int32 × TS)} (T : tOK X E cX9_mark 3 (some .boolean)) (hR : tRoom X 1 24) (e : tE_i X E z.1 z.2) {nf : Nat} {x2 : Int32} {s0 : Int32} {s1 : Int32} {τ : TS} (h : T_mark_b59 nf x2 s0 s1 τ = some z) : kW X τ 59 [(0, .ref (E.2.2.2.2.1 0)), (2, .int x2)] [.int s0, .int s1, .ref (E.2.2.2.2.1 0)] := by
  unfold T_mark_b59 at h
  have hX := T.1
  refine k_bipush (v := 120) hX dX9_mark_59 (by decide) ?_
  refine cX_copies T (met_copies T.2.1) (room_le hR rfl rfl) h rfl dX9_mark_61 (fun τ1 h => ?_)
  refine k_aload_n hX dX9_mark_64 rfl 0 rfl ?_
  refine k_iload_n hX dX9_mark_65 rfl 1 rfl ?_
  refine k_if_eq (tgt := 73) hX h dX9_mark_66 (by decide) (fun h => ?_) (fun h => ?_)
  · refine k_aload_n hX dX9_mark_73 rfl 0 rfl ?_
    refine tg20 T dX9_mark_74 ?_
    refine k_lv [0] rfl ?_
    exact T_mark_b77_ok T hR e h
  · refine k_iconst (v := 0) hX dX9_mark_69 (by decide) ?_
    refine k_goto (tgt := 77) hX dX9_mark_70 (by decide) ?_
    refine k_lv [0] rfl ?_
    exact T_mark_b77_ok T hR e h
theorem T_mark_b48_ok {X : KC TS} {E : TE} {z : (Int32 × TS)} (T : tOK X E cX9_mark 3 (some .boolean)) (hR : tRoom X 1 24) (e : tE_i X E z.1 z.2) {nf : Nat} {x1 : Int32} {x2 : Int32} {s0 : Int32} {τ : TS} (h : T_mark_b48 nf x1 x2 s0 τ = some z) : kW X τ 48 [(0, .ref (E.2.2.2.2.1 0)), (1, .int x1), (2, .int x2)] [.int s0, .ref (E.2.2.2.2.1 0)] := by
  unfold T_mark_b48 at h
  have hX := T.1
  refine k_iload_n hX dX9_mark_48 rfl 2 rfl ?_
  refine k_if_eq (tgt := 56) hX h dX9_mark_49 (by decide) (fun h => ?_) (fun h => ?_)
  · refine k_iconst (v := 1) hX dX9_mark_56 (by decide) ?_
    refine k_iload_n hX dX9_mark_57 rfl 1 rfl ?_
    refine k_iadd hX dX9_mark_58 ?_
    refine k_lv [0, 2] rfl ?_
    exact T_mark_b59_ok T hR e h
  · refine k_iconst (v := 0) hX dX9_mark_52 (by decide) ?_
    refine k_goto (tgt := 59) hX dX9_mark_53 (by decide) ?_
    refine k_lv [0, 2] rfl ?_
    exact T_mark_b59_ok T hR e h
theorem T_mark_b29_ok {X : KC TS} {E : TE} {z : (Int32 × TS)} (T : tOK X E cX9_mark 3 (some .boolean)) (hR : tRoom X 1 24) (e : tE_i X E z.1 z.2) {nf : Nat} {x1 : Int32} {x2 : Int32} {τ : TS} (h : T_mark_b29 nf x1 x2 τ = some z) : kW X τ 29 [(0, .ref (E.2.2.2.2.1 0)), (1, .int x1), (2, .int x2)] [] := by
  unfold T_mark_b29 at h
  have hX := T.1
  refine k_aload_n hX dX9_mark_29 rfl 0 rfl ?_
  refine tg21 T dX9_mark_30 ?_
  refine k_iload_n hX dX9_mark_33 rfl 1 rfl ?_
  refine k_iconst (v := 1) hX dX9_mark_34 (by decide) ?_
  refine ts21 T h dX9_mark_35 (fun τ1 h => ?_)
  refine k_aload_n hX dX9_mark_36 rfl 0 rfl ?_
  refine k_iload_n hX dX9_mark_37 rfl 2 rfl ?_
  refine k_if_eq (tgt := 47) hX h dX9_mark_38 (by decide) (fun h => ?_) (fun h => ?_)
  · refine k_iconst (v := 0) hX dX9_mark_47 (by decide) ?_
    refine k_lv [0, 1, 2] rfl ?_
    exact T_mark_b48_ok T hR e h
  · refine k_iconst (v := 1) hX dX9_mark_41 (by decide) ?_
    refine k_iload_n hX dX9_mark_42 rfl 1 rfl ?_
    refine k_iadd hX dX9_mark_43 ?_
    refine k_goto (tgt := 48) hX dX9_mark_44 (by decide) ?_
    refine k_lv [0, 1, 2] rfl ?_
    exact T_mark_b48_ok T hR e h
theorem met_mark {l : Launch} {E : TE} (hE : tEnv E) {nf : Nat} : ∀ (x1 : Int32) (x2 : Int32) (τ : TS) (z : (Int32 × TS)), T_mark nf x1 x2 τ = some z → tMet_i l E yX9_mark (ws_ yX9_mark cX9_mark 3 (some .boolean)) 1 24 [.ref (E.2.2.2.2.1 0), .int x1, .int x2] τ z.1 z.2 := by
  intro x1 x2 τ z h
  refine t_met_i hE (by decide +kernel) rfl rfl (fun X hl T hR e => ?_)
  unfold T_mark at h
  have hX := T.1
  show kW X τ 0 [(0, .ref (E.2.2.2.2.1 0)), (1, .int x1), (2, .int x2)] []
  refine k_aload_n hX dX9_mark_0 rfl 0 rfl ?_
  refine k_iconst (v := 0) hX dX9_mark_1 (by decide) ?_
  refine tp0 T h dX9_mark_2 (fun τ1 h => ?_)
  refine k_iload_n hX dX9_mark_5 rfl 1 rfl ?_
  refine k_iconst (v := 0) hX dX9_mark_6 (by decide) ?_
  refine k_iconst (v := 3) hX dX9_mark_7 (by decide) ?_
  refine cX_within T (met_within T.2.1) (room_le hR rfl rfl) h rfl dX9_mark_8 (fun v2 h => ?_)
  refine k_if_eq (tgt := 27) hX h dX9_mark_11 (by decide) (fun h => ?_) (fun h => ?_)
  · refine k_iconst (v := 0) hX dX9_mark_27 (by decide) ?_
    exact t_ret_zc T e rfl h dX9_mark_28
  · refine k_iload_n hX dX9_mark_14 rfl 2 rfl ?_
    refine k_if_eq (tgt := 29) hX h dX9_mark_15 (by decide) (fun h => ?_) (fun h => ?_)
    · refine k_lv [0, 1, 2] rfl ?_
      exact T_mark_b29_ok T hR e h
    · refine k_aload_n hX dX9_mark_18 rfl 0 rfl ?_
      refine tg21 T dX9_mark_19 ?_
      refine k_iload_n hX dX9_mark_22 rfl 1 rfl ?_
      refine ta21 T h dX9_mark_23 (fun v3 h => ?_)
      refine k_if_ne (tgt := 29) hX h dX9_mark_24 (by decide) (fun h => ?_) (fun h => ?_)
      · refine k_lv [0, 1, 2] rfl ?_
        exact T_mark_b29_ok T hR e h
      · refine k_iconst (v := 0) hX dX9_mark_27 (by decide) ?_
        exact t_ret_zc T e rfl h dX9_mark_28
theorem T_count_b9_s_ok {X : KC TS} {E : TE} {z : (Int32 × TS)} (T : tOK X E cX9_count 4 (some .int)) (hR : tRoom X 2 44) (e : tE_i X E z.1 z.2) {nf : Nat} {k9 : Int32 → Int32 → Int32 → TS → Option (Int32 × TS)} (hk9 : ∀ (x1 : Int32) (x2 : Int32) (x3 : Int32) (τ : TS), k9 x1 x2 x3 τ = some z → kW X τ 9 [(0, .ref (E.2.2.2.2.1 0)), (1, .int x1), (2, .int x2), (3, .int x3)] []) {x1 : Int32} {x2 : Int32} {x3 : Int32} {τ : TS} (h : T_count_b9_s nf k9 x1 x2 x3 τ = some z) : kW X τ 9 [(0, .ref (E.2.2.2.2.1 0)), (1, .int x1), (2, .int x2), (3, .int x3)] [] := by
  unfold T_count_b9_s at h
  have hX := T.1
  refine k_iload_n hX dX9_count_9 rfl 3 rfl ?_
  refine k_bipush (v := 54) hX dX9_count_10 (by decide) ?_
  refine k_icmp_ge (tgt := 60) hX h dX9_count_12 (by decide) (fun h => ?_) (fun h => ?_)
  · refine k_iload_n hX dX9_count_60 rfl 1 rfl ?_
    refine k_sw (c := 0) h (fun c_0 h => ?_) (fun c_0 h => ?_)
    · refine k_tabEq (tgt := 136) c_0 hX dX9_count_61 (by decide) (by decide) rfl (by decide) ?_
      refine k_aload_n hX dX9_count_136 rfl 0 rfl ?_
      refine cX_wide T (met_wide T.2.1) (room_le hR rfl rfl) h rfl dX9_count_137 (fun v1 h => ?_)
      exact t_ret_i T e h dX9_count_140
    refine k_sw (c := 1) h (fun c_1 h => ?_) (fun c_1 h => ?_)
    · refine k_tabEq (tgt := 141) c_1 hX dX9_count_61 (by decide) (by decide) rfl (by decide) ?_
      refine k_aload_n hX dX9_count_141 rfl 0 rfl ?_
      refine cX_deep T (met_deep T.2.1) (room_le hR rfl rfl) h rfl dX9_count_142 (fun v2 h => ?_)
      exact t_ret_i T e h dX9_count_145
    refine k_sw (c := 2) h (fun c_2 h => ?_) (fun c_2 h => ?_)
    · refine k_tabEq (tgt := 146) c_2 hX dX9_count_61 (by decide) (by decide) rfl (by decide) ?_
      refine k_aload_n hX dX9_count_146 rfl 0 rfl ?_
      refine tg10 T dX9_count_147 ?_
      refine k_bipush (v := 7) hX dX9_count_150 (by decide) ?_
      refine ta10 T h dX9_count_152 (fun v3 h => ?_)
      exact t_ret_i T e h dX9_count_153
    refine k_sw (c := 3) h (fun c_3 h => ?_) (fun c_3 h => ?_)
    · refine k_tabEq (tgt := 154) c_3 hX dX9_count_61 (by decide) (by decide) rfl (by decide) ?_
      refine k_aload_n hX dX9_count_154 rfl 0 rfl ?_
      refine tg10 T dX9_count_155 ?_
      refine k_bipush (v := 8) hX dX9_count_158 (by decide) ?_
      refine ta10 T h dX9_count_160 (fun v4 h => ?_)
      exact t_ret_i T e h dX9_count_161
    refine k_sw (c := 4) h (fun c_4 h => ?_) (fun c_4 h => ?_)
    · refine k_tabEq (tgt := 162) c_4 hX dX9_count_61 (by decide) (by decide) rfl (by decide) ?_
      refine k_aload_n hX dX9_count_162 rfl 0 rfl ?_
      refine tg16 T dX9_count_163 ?_
      refine k_iconst (v := 0) hX dX9_count_166 (by decide) ?_
      refine ta16 T h dX9_count_167 (fun v5 h => ?_)
      exact t_ret_i T e h dX9_count_168
    refine k_sw (c := 5) h (fun c_5 h => ?_) (fun c_5 h => ?_)
    · refine k_tabEq (tgt := 169) c_5 hX dX9_count_61 (by decide) (by decide) rfl (by decide) ?_
      refine k_aload_n hX dX9_count_169 rfl 0 rfl ?_
      refine tg19 T dX9_count_170 ?_
      refine k_iconst (v := 0) hX dX9_count_173 (by decide) ?_
      refine ta19 T h dX9_count_174 (fun v6 h => ?_)
      exact t_ret_i T e h dX9_count_175
    refine k_sw (c := 6) h (fun c_6 h => ?_) (fun c_6 h => ?_)
    · refine k_tabEq (tgt := 176) c_6 hX dX9_count_61 (by decide) (by decide) rfl (by decide) ?_
      refine k_aload_n hX dX9_count_176 rfl 0 rfl ?_
      refine tg19 T dX9_count_177 ?_
      refine k_iconst (v := 1) hX dX9_count_180 (by decide) ?_
      refine ta19 T h dX9_count_181 (fun v7 h => ?_)
      exact t_ret_i T e h dX9_count_182
    refine k_sw (c := 7) h (fun c_7 h => ?_) (fun c_7 h => ?_)
    · refine k_tabEq (tgt := 183) c_7 hX dX9_count_61 (by decide) (by decide) rfl (by decide) ?_
      refine k_aload_n hX dX9_count_183 rfl 0 rfl ?_
      refine tg19 T dX9_count_184 ?_
      refine k_iconst (v := 2) hX dX9_count_187 (by decide) ?_
      refine ta19 T h dX9_count_188 (fun v8 h => ?_)
      exact t_ret_i T e h dX9_count_189
    refine k_sw (c := 8) h (fun c_8 h => ?_) (fun c_8 h => ?_)
    · refine k_tabEq (tgt := 190) c_8 hX dX9_count_61 (by decide) (by decide) rfl (by decide) ?_
      refine k_aload_n hX dX9_count_190 rfl 0 rfl ?_
      refine tg10 T dX9_count_191 ?_
      refine k_bipush (v := 6) hX dX9_count_194 (by decide) ?_
      refine ta10 T h dX9_count_196 (fun v9 h => ?_)
      refine k_iconst (v := 1) hX dX9_count_197 (by decide) ?_
      refine k_icmp_ne (tgt := 205) hX h dX9_count_198 (by decide) (fun h => ?_) (fun h => ?_)
      · refine k_aload_n hX dX9_count_205 rfl 0 rfl ?_
        refine tg10 T dX9_count_206 ?_
        refine k_iconst (v := 5) hX dX9_count_209 (by decide) ?_
        refine ta10 T h dX9_count_210 (fun v10 h => ?_)
        refine k_aload_n hX dX9_count_211 rfl 0 rfl ?_
        refine tg19 T dX9_count_212 ?_
        refine k_iconst (v := 3) hX dX9_count_215 (by decide) ?_
        refine ta19 T h dX9_count_216 (fun v11 h => ?_)
        refine k_isub hX dX9_count_217 ?_
        exact t_ret_i T e h dX9_count_218
      · refine k_iconst (v := 0) hX dX9_count_201 (by decide) ?_
        refine k_goto (tgt := 218) hX dX9_count_202 (by decide) ?_
        exact t_ret_i T e h dX9_count_218
    refine k_sw (c := 9) h (fun c_9 h => ?_) (fun c_9 h => ?_)
    · refine k_tabEq (tgt := 219) c_9 hX dX9_count_61 (by decide) (by decide) rfl (by decide) ?_
      refine k_iload_n hX dX9_count_219 rfl 2 rfl ?_
      exact t_ret_i T e h dX9_count_220
    refine k_sw (c := 10) h (fun c_10 h => ?_) (fun c_10 h => ?_)
    · refine k_tabEq (tgt := 221) c_10 hX dX9_count_61 (by decide) (by decide) rfl (by decide) ?_
      refine k_aload_n hX dX9_count_221 rfl 0 rfl ?_
      refine tg19 T dX9_count_222 ?_
      refine k_bipush (v := 58) hX dX9_count_225 (by decide) ?_
      refine ta19 T h dX9_count_227 (fun v12 h => ?_)
      exact t_ret_i T e h dX9_count_228
    refine k_sw (c := 11) h (fun c_11 h => ?_) (fun c_11 h => ?_)
    · refine k_tabEq (tgt := 229) c_11 hX dX9_count_61 (by decide) (by decide) rfl (by decide) ?_
      refine k_aload_n hX dX9_count_229 rfl 0 rfl ?_
      refine tg19 T dX9_count_230 ?_
      refine k_bipush (v := 59) hX dX9_count_233 (by decide) ?_
      refine ta19 T h dX9_count_235 (fun v13 h => ?_)
      exact t_ret_i T e h dX9_count_236
    refine k_sw (c := 12) h (fun c_12 h => ?_) (fun c_12 h => ?_)
    · refine k_tabEq (tgt := 237) c_12 hX dX9_count_61 (by decide) (by decide) rfl (by decide) ?_
      refine k_aload_n hX dX9_count_237 rfl 0 rfl ?_
      refine tg10 T dX9_count_238 ?_
      refine k_bipush (v := 9) hX dX9_count_241 (by decide) ?_
      refine ta10 T h dX9_count_243 (fun v14 h => ?_)
      exact t_ret_i T e h dX9_count_244
    refine k_sw (c := 13) h (fun c_13 h => ?_) (fun c_13 h => ?_)
    · refine k_tabEq (tgt := 245) c_13 hX dX9_count_61 (by decide) (by decide) rfl (by decide) ?_
      refine k_aload_n hX dX9_count_245 rfl 0 rfl ?_
      refine tg20 T dX9_count_246 ?_
      exact t_ret_i T e h dX9_count_249
    refine k_sw (c := 14) h (fun c_14 h => ?_) (fun c_14 h => ?_)
    · refine k_tabEq (tgt := 250) c_14 hX dX9_count_61 (by decide) (by decide) rfl (by decide) ?_
      refine k_aload_n hX dX9_count_250 rfl 0 rfl ?_
      refine tg2 T dX9_count_251 ?_
      exact t_ret_i T e h dX9_count_254
    refine k_tabOut (tgt := 255) hX dX9_count_61 (tab_out (lo := 0) (hi := 14) [0, 1, 2, 3, 4, 5, 6, 7, 8, 9, 10, 11, 12, 13, 14] (by simp only [List.forall_mem_cons]; exact ⟨c_0, c_1, c_2, c_3, c_4, c_5, c_6, c_7, c_8, c_9, c_10, c_11, c_12, c_13, c_14, fun _ h => absurd h List.not_mem_nil⟩) (by decide)) (by decide) ?_
    refine k_iconst (v := (-1)) hX dX9_count_255 (by decide) ?_
    exact t_ret_i T e h dX9_count_256
  · refine k_iload_n hX dX9_count_15 rfl 2 rfl ?_
    refine k_aload_n hX dX9_count_16 rfl 0 rfl ?_
    refine k_iload_n hX dX9_count_17 rfl 3 rfl ?_
    refine k_bipush (v := 6) hX dX9_count_18 (by decide) ?_
    refine k_iremc hX (by decide) dX9_count_20 ?_
    refine k_iload_n hX dX9_count_21 rfl 3 rfl ?_
    refine k_bipush (v := 6) hX dX9_count_22 (by decide) ?_
    refine k_idivc hX (by decide) dX9_count_24 ?_
    refine cX_kindAt T (met_kindAt T.2.1) (room_le hR rfl rfl) h rfl dX9_count_25 (fun v15 h => ?_)
    refine k_iconst (v := 1) hX dX9_count_28 (by decide) ?_
    refine k_icmp_ne (tgt := 51) hX h dX9_count_29 (by decide) (fun h => ?_) (fun h => ?_)
    · refine k_iconst (v := 0) hX dX9_count_51 (by decide) ?_
      refine k_iadd hX dX9_count_52 ?_
      refine k_nm h (fun v16 h => ?_)
      refine k_istore_n [(2, .int v16), (0, .ref (E.2.2.2.2.1 0)), (1, .int x1), (3, .int x3)] hX dX9_count_53 rfl rfl rfl ?_
      refine k_iinc (j := 3) [(3, .int (x3 + 1)), (2, .int v16), (0, .ref (E.2.2.2.2.1 0)), (1, .int x1)] hX dX9_count_54 rfl rfl rfl rfl ?_
      refine k_goto (tgt := 9) hX dX9_count_57 (by decide) ?_
      refine k_lv [2, 3, 1, 0] rfl ?_
      exact hk9 _ _ _ _ h
    · refine k_aload_n hX dX9_count_32 rfl 0 rfl ?_
      refine k_iload_n hX dX9_count_33 rfl 3 rfl ?_
      refine k_bipush (v := 6) hX dX9_count_34 (by decide) ?_
      refine k_iremc hX (by decide) dX9_count_36 ?_
      refine k_iload_n hX dX9_count_37 rfl 3 rfl ?_
      refine k_bipush (v := 6) hX dX9_count_38 (by decide) ?_
      refine k_idivc hX (by decide) dX9_count_40 ?_
      refine cX_isKnown T (met_isKnown T.2.1) (room_le hR rfl rfl) h rfl dX9_count_41 (fun v17 h => ?_)
      refine k_if_ne (tgt := 51) hX h dX9_count_44 (by decide) (fun h => ?_) (fun h => ?_)
      · refine k_iconst (v := 0) hX dX9_count_51 (by decide) ?_
        refine k_iadd hX dX9_count_52 ?_
        refine k_nm h (fun v18 h => ?_)
        refine k_istore_n [(2, .int v18), (0, .ref (E.2.2.2.2.1 0)), (1, .int x1), (3, .int x3)] hX dX9_count_53 rfl rfl rfl ?_
        refine k_iinc (j := 3) [(3, .int (x3 + 1)), (2, .int v18), (0, .ref (E.2.2.2.2.1 0)), (1, .int x1)] hX dX9_count_54 rfl rfl rfl rfl ?_
        refine k_goto (tgt := 9) hX dX9_count_57 (by decide) ?_
        refine k_lv [2, 3, 1, 0] rfl ?_
        exact hk9 _ _ _ _ h
      · refine k_iconst (v := 1) hX dX9_count_47 (by decide) ?_
        refine k_goto (tgt := 52) hX dX9_count_48 (by decide) ?_
        refine k_iadd hX dX9_count_52 ?_
        refine k_nm h (fun v19 h => ?_)
        refine k_istore_n [(2, .int v19), (0, .ref (E.2.2.2.2.1 0)), (1, .int x1), (3, .int x3)] hX dX9_count_53 rfl rfl rfl ?_
        refine k_iinc (j := 3) [(3, .int (x3 + 1)), (2, .int v19), (0, .ref (E.2.2.2.2.1 0)), (1, .int x1)] hX dX9_count_54 rfl rfl rfl rfl ?_
        refine k_goto (tgt := 9) hX dX9_count_57 (by decide) ?_
        refine k_lv [2, 3, 1, 0] rfl ?_
        exact hk9 _ _ _ _ h
theorem T_count_b9_ok {X : KC TS} {E : TE} {z : (Int32 × TS)} (T : tOK X E cX9_count 4 (some .int)) (hR : tRoom X 2 44) (e : tE_i X E z.1 z.2) {nf : Nat} : ∀ (n : Nat) (x1 : Int32) (x2 : Int32) (x3 : Int32) (τ : TS), T_count_b9 nf n x1 x2 x3 τ = some z → kW X τ 9 [(0, .ref (E.2.2.2.2.1 0)), (1, .int x1), (2, .int x2), (3, .int x3)] [] := by
  intro n
  induction n with
  | zero => intro x1 x2 x3 τ h; exact (nomatch (show (none : Option (Int32 × TS)) = some z from h))
  | succ n ih =>
    intro x1 x2 x3 τ h
    have h : T_count_b9_s nf (T_count_b9 nf n) x1 x2 x3 τ = some z := h
    exact T_count_b9_s_ok T hR e ih h
theorem met_count {l : Launch} {E : TE} (hE : tEnv E) {nf : Nat} : ∀ (x1 : Int32) (τ : TS) (z : (Int32 × TS)), T_count nf x1 τ = some z → tMet_i l E yX9_count (ws_ yX9_count cX9_count 4 (some .int)) 2 44 [.ref (E.2.2.2.2.1 0), .int x1] τ z.1 z.2 := by
  intro x1 τ z h
  refine t_met_i hE (by decide +kernel) rfl rfl (fun X hl T hR e => ?_)
  unfold T_count at h
  have hX := T.1
  show kW X τ 0 [(0, .ref (E.2.2.2.2.1 0)), (1, .int x1)] []
  refine k_aload_n hX dX9_count_0 rfl 0 rfl ?_
  refine k_iconst (v := 0) hX dX9_count_1 (by decide) ?_
  refine tp0 T h dX9_count_2 (fun τ1 h => ?_)
  refine k_iconst (v := 0) hX dX9_count_5 (by decide) ?_
  refine k_istore_n [(2, .int 0), (0, .ref (E.2.2.2.2.1 0)), (1, .int x1)] hX dX9_count_6 rfl rfl rfl ?_
  refine k_iconst (v := 0) hX dX9_count_7 (by decide) ?_
  refine k_istore_n [(3, .int 0), (2, .int 0), (0, .ref (E.2.2.2.2.1 0)), (1, .int x1)] hX dX9_count_8 rfl rfl rfl ?_
  refine k_lv [2, 3, 1, 0] rfl ?_
  exact T_count_b9_ok T hR e _ _ _ _ _ h
