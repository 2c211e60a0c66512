/-! THE TWIN's walks and contracts (printed by gen/gen_t.py) -/
set_option maxRecDepth 100000
theorem T_worthFrom_b104_ok {X : KC TS} {E : TE} {z : (Int32 × TS)} (T : tOK X E cX9_worthFrom 7 (some .int)) {Fr Lr : Nat} (hR : tRoom X (Fr + 7) (Lr + 183)) (e : tE_i X E z.1 z.2) {nf : Nat} {rc : Int32 → Int32 → Int32 → TS → Option (Int32 × TS)} (hrc : ∀ (a0 : Int32) (a1 : Int32) (a2 : Int32) (τ : TS) (v : (Int32 × TS)), rc a0 a1 a2 τ = some v → tMet_i X.1.2.1 E yX9_worthFrom (ws_ yX9_worthFrom cX9_worthFrom 7 (some .int)) Fr Lr [.ref (E.2.2.2.2.1 0), .int a0, .int a1, .int a2] τ v.1 v.2) {x5 : Int32} {s0 : Int32} {τ : TS} (h : T_worthFrom_b104 nf rc x5 s0 τ = some z) : kW X τ 104 [(0, .ref (E.2.2.2.2.1 0)), (5, .int x5)] [.int s0] := by
  unfold T_worthFrom_b104 at h
  have hX := T.1
  refine k_istore [(6, .int s0), (0, .ref (E.2.2.2.2.1 0)), (5, .int x5)] hX dX9_worthFrom_104 rfl rfl ?_
  refine k_aload_n hX dX9_worthFrom_106 rfl 1 rfl ?_
  refine tg23 T dX9_worthFrom_107 ?_
  refine k_iload hX dX9_worthFrom_110 2 rfl ?_
  refine k_iload hX dX9_worthFrom_112 0 rfl ?_
  refine ts23 T h dX9_worthFrom_114 (fun τ1 h => ?_)
  refine k_aload_n hX dX9_worthFrom_115 rfl 1 rfl ?_
  refine tg24 T dX9_worthFrom_116 ?_
  refine k_iload hX dX9_worthFrom_119 2 rfl ?_
  refine k_aload_n hX dX9_worthFrom_121 rfl 1 rfl ?_
  refine tg25 T dX9_worthFrom_122 ?_
  refine ts24 T h dX9_worthFrom_125 (fun τ2 h => ?_)
  refine k_aload_n hX dX9_worthFrom_126 rfl 1 rfl ?_
  refine tg23 T dX9_worthFrom_127 ?_
  refine k_iload hX dX9_worthFrom_130 2 rfl ?_
  refine ta23 T h dX9_worthFrom_132 (fun v3 h => ?_)
  exact t_ret_i T e h dX9_worthFrom_133
theorem met_worthFrom_s {l : Launch} {E : TE} (hE : tEnv E) {nf : Nat} {rc : Int32 → Int32 → Int32 → TS → Option (Int32 × TS)} {Fr Lr : Nat} (hrc : ∀ (a0 : Int32) (a1 : Int32) (a2 : Int32) (τ : TS) (v : (Int32 × TS)), rc a0 a1 a2 τ = some v → tMet_i l E yX9_worthFrom (ws_ yX9_worthFrom cX9_worthFrom 7 (some .int)) Fr Lr [.ref (E.2.2.2.2.1 0), .int a0, .int a1, .int a2] τ v.1 v.2) : ∀ (x1 : Int32) (x2 : Int32) (x3 : Int32) (τ : TS) (z : (Int32 × TS)), T_worthFrom_s nf rc x1 x2 x3 τ = some z → tMet_i l E yX9_worthFrom (ws_ yX9_worthFrom cX9_worthFrom 7 (some .int)) (Fr + 7) (Lr + 183) [.ref (E.2.2.2.2.1 0), .int x1, .int x2, .int x3] τ z.1 z.2 := by
  intro x1 x2 x3 τ z h
  refine t_met_i hE (by decide +kernel) rfl rfl (fun X hl T hR e => ?_)
  unfold T_worthFrom_s at h
  have hX := T.1
  show kW X τ 0 [(0, .ref (E.2.2.2.2.1 0)), (1, .int x1), (2, .int x2), (3, .int x3)] []
  subst hl
  refine k_aload_n hX dX9_worthFrom_0 rfl 0 rfl ?_
  refine k_iload_n hX dX9_worthFrom_1 rfl 1 rfl ?_
  refine k_iload_n hX dX9_worthFrom_2 rfl 2 rfl ?_
  refine cX_isHome T (met_isHome T.2.1) (room_lo hR (by omega) (by omega)) h rfl dX9_worthFrom_3 (fun v1 h => ?_)
  refine k_if_eq (tgt := 11) hX h dX9_worthFrom_6 (by decide) (fun h => ?_) (fun h => ?_)
  · refine k_iload_n hX dX9_worthFrom_11 rfl 3 rfl ?_
    refine k_aload_n hX dX9_worthFrom_12 rfl 0 rfl ?_
    refine tg10 T dX9_worthFrom_13 ?_
    refine k_bipush (v := 9) hX dX9_worthFrom_16 (by decide) ?_
    refine ta10 T h dX9_worthFrom_18 (fun v2 h => ?_)
    refine k_irem hX h dX9_worthFrom_19 (fun h => ?_)
    refine k_nm h (fun v3 h => ?_)
    refine k_istore [(4, .int v3), (0, .ref (E.2.2.2.2.1 0)), (1, .int x1), (2, .int x2), (3, .int x3)] hX dX9_worthFrom_20 rfl rfl ?_
    refine k_sipush (v := 1200) hX dX9_worthFrom_22 (by decide) ?_
    refine k_bipush (v := 6) hX dX9_worthFrom_25 (by decide) ?_
    refine k_iload_n hX dX9_worthFrom_27 rfl 3 rfl ?_
    refine k_imul hX dX9_worthFrom_28 ?_
    refine k_iload_n hX dX9_worthFrom_29 rfl 2 rfl ?_
    refine k_iadd hX dX9_worthFrom_30 ?_
    refine k_imul hX dX9_worthFrom_31 ?_
    refine k_iload hX dX9_worthFrom_32 0 rfl ?_
    refine k_iadd hX dX9_worthFrom_34 ?_
    refine k_nm h (fun v4 h => ?_)
    refine k_istore [(5, .int v4), (4, .int v3), (0, .ref (E.2.2.2.2.1 0)), (1, .int x1), (2, .int x2), (3, .int x3)] hX dX9_worthFrom_35 rfl rfl ?_
    refine k_aload_n hX dX9_worthFrom_37 rfl 2 rfl ?_
    refine tg24 T dX9_worthFrom_38 ?_
    refine k_iload hX dX9_worthFrom_41 0 rfl ?_
    refine ta24 T h dX9_worthFrom_43 (fun v5 h => ?_)
    refine k_aload_n hX dX9_worthFrom_44 rfl 2 rfl ?_
    refine tg25 T dX9_worthFrom_45 ?_
    refine k_icmp_eq (tgt := 126) hX h dX9_worthFrom_48 (by decide) (fun h => ?_) (fun h => ?_)
    · refine k_aload_n hX dX9_worthFrom_126 rfl 2 rfl ?_
      refine tg23 T dX9_worthFrom_127 ?_
      refine k_iload hX dX9_worthFrom_130 0 rfl ?_
      refine ta23 T h dX9_worthFrom_132 (fun v6 h => ?_)
      exact t_ret_i T e h dX9_worthFrom_133
    · refine k_aload_n hX dX9_worthFrom_51 rfl 2 rfl ?_
      refine k_iload_n hX dX9_worthFrom_52 rfl 3 rfl ?_
      refine k_iload_n hX dX9_worthFrom_53 rfl 4 rfl ?_
      refine cX_isUnknown T (met_isUnknown T.2.1) (room_lo hR (by omega) (by omega)) h rfl dX9_worthFrom_54 (fun v7 h => ?_)
      refine k_if_eq (tgt := 71) hX h dX9_worthFrom_57 (by decide) (fun h => ?_) (fun h => ?_)
      · refine k_aload_n hX dX9_worthFrom_71 rfl 2 rfl ?_
        refine k_iload_n hX dX9_worthFrom_72 rfl 3 rfl ?_
        refine k_iload_n hX dX9_worthFrom_73 rfl 4 rfl ?_
        refine k_iload hX dX9_worthFrom_74 1 rfl ?_
        refine k_bipush (v := 6) hX dX9_worthFrom_76 (by decide) ?_
        refine k_iload_n hX dX9_worthFrom_78 rfl 4 rfl ?_
        refine k_imul hX dX9_worthFrom_79 ?_
        refine k_iload_n hX dX9_worthFrom_80 rfl 3 rfl ?_
        refine k_iadd hX dX9_worthFrom_81 ?_
        refine k_aload_n hX dX9_worthFrom_82 rfl 2 rfl ?_
        refine tg29 T dX9_worthFrom_83 ?_
        refine k_icmp_ne (tgt := 99) hX h dX9_worthFrom_86 (by decide) (fun h => ?_) (fun h => ?_)
        · refine k_iload hX dX9_worthFrom_99 1 rfl ?_
          refine cX_worthSeen T (met_worthSeen T.2.1 hrc) (room_lo hR (by omega) (by omega)) h rfl dX9_worthFrom_101 (fun v9 τ8 h => ?_)
          refine k_lv [2, 0] rfl ?_
          exact T_worthFrom_b104_ok T hR e hrc h
        · refine k_iload hX dX9_worthFrom_89 1 rfl ?_
          refine k_aload_n hX dX9_worthFrom_91 rfl 2 rfl ?_
          refine tg30 T dX9_worthFrom_92 ?_
          refine k_iadd hX dX9_worthFrom_95 ?_
          refine k_goto (tgt := 101) hX dX9_worthFrom_96 (by decide) ?_
          refine cX_worthSeen T (met_worthSeen T.2.1 hrc) (room_lo hR (by omega) (by omega)) h rfl dX9_worthFrom_101 (fun v11 τ10 h => ?_)
          refine k_lv [2, 0] rfl ?_
          exact T_worthFrom_b104_ok T hR e hrc h
      · refine k_aload_n hX dX9_worthFrom_60 rfl 2 rfl ?_
        refine k_iload_n hX dX9_worthFrom_61 rfl 3 rfl ?_
        refine k_iload_n hX dX9_worthFrom_62 rfl 4 rfl ?_
        refine k_iload hX dX9_worthFrom_63 1 rfl ?_
        refine cX_worthHidden T (met_worthHidden T.2.1 hrc) (room_lo hR (by omega) (by omega)) h rfl dX9_worthFrom_65 (fun v13 τ12 h => ?_)
        refine k_goto (tgt := 104) hX dX9_worthFrom_68 (by decide) ?_
        refine k_lv [2, 0] rfl ?_
        exact T_worthFrom_b104_ok T hR e hrc h
  · refine k_iconst (v := 0) hX dX9_worthFrom_9 (by decide) ?_
    exact t_ret_i T e h dX9_worthFrom_10
theorem met_worthFrom {l : Launch} {E : TE} (hE : tEnv E) {nf : Nat} : ∀ (dp : Nat) (x1 : Int32) (x2 : Int32) (x3 : Int32) (τ : TS) (z : (Int32 × TS)), T_worthFrom nf dp x1 x2 x3 τ = some z → tMet_i l E yX9_worthFrom (ws_ yX9_worthFrom cX9_worthFrom 7 (some .int)) (7 * dp) (183 * dp) [.ref (E.2.2.2.2.1 0), .int x1, .int x2, .int x3] τ z.1 z.2 := by
  intro dp
  induction dp with
  | zero => intro x1 x2 x3 τ z h; exact (nomatch (show (none : Option (Int32 × TS)) = some z from h))
  | succ dp ih =>
    intro x1 x2 x3 τ z h
    have h : T_worthFrom_s nf (T_worthFrom nf dp) x1 x2 x3 τ = some z := h
    exact met_worthFrom_s hE ih _ _ _ _ _ h
theorem met_mean {l : Launch} {E : TE} (hE : tEnv E) {nf : Nat} : ∀ (x1 : Int32) (x2 : Int32) (x3 : Int32) (x4 : Int32) (τ : TS) (z : (Int32 × TS)), T_mean nf x1 x2 x3 x4 τ = some z → tMet_i l E yX9_mean (ws_ yX9_mean cX9_mean 5 (some .int)) 141 3686 [.ref (E.2.2.2.2.1 0), .int x1, .int x2, .int x3, .int x4] τ z.1 z.2 := by
  intro x1 x2 x3 x4 τ z h
  refine t_met_i hE (by decide +kernel) rfl rfl (fun X hl T hR e => ?_)
  unfold T_mean at h
  have hX := T.1
  show kW X τ 0 [(0, .ref (E.2.2.2.2.1 0)), (1, .int x1), (2, .int x2), (3, .int x3), (4, .int x4)] []
  refine k_aload_n hX dX9_mean_0 rfl 0 rfl ?_
  refine k_iconst (v := 0) hX dX9_mean_1 (by decide) ?_
  refine tp0 T h dX9_mean_2 (fun τ1 h => ?_)
  refine k_aload_n hX dX9_mean_5 rfl 0 rfl ?_
  refine k_iload_n hX dX9_mean_6 rfl 1 rfl ?_
  refine cX_isGoer T (met_isGoer T.2.1) (room_le hR rfl rfl) h rfl dX9_mean_7 (fun v2 h => ?_)
  refine k_if_eq (tgt := 24) hX h dX9_mean_10 (by decide) (fun h => ?_) (fun h => ?_)
  · refine k_iconst (v := (-1)) hX dX9_mean_24 (by decide) ?_
    exact t_ret_i T e h dX9_mean_25
  · refine k_aload_n hX dX9_mean_13 rfl 0 rfl ?_
    refine k_iload_n hX dX9_mean_14 rfl 2 rfl ?_
    refine k_iload_n hX dX9_mean_15 rfl 3 rfl ?_
    refine k_iload hX dX9_mean_16 4 rfl ?_
    refine cX_isPlace T (met_isPlace T.2.1) (room_le hR rfl rfl) h rfl dX9_mean_18 (fun v3 h => ?_)
    refine k_if_ne (tgt := 26) hX h dX9_mean_21 (by decide) (fun h => ?_) (fun h => ?_)
    · refine k_aload_n hX dX9_mean_26 rfl 0 rfl ?_
      refine k_iload_n hX dX9_mean_27 rfl 1 rfl ?_
      refine k_iconst (v := 0) hX dX9_mean_28 (by decide) ?_
      refine k_iconst (v := (-1)) hX dX9_mean_29 (by decide) ?_
      refine k_iconst (v := 0) hX dX9_mean_30 (by decide) ?_
      refine cX_asks T (met_asks T.2.1) (room_le hR rfl rfl) h rfl dX9_mean_31 (fun τ4 h => ?_)
      refine k_aload_n hX dX9_mean_34 rfl 0 rfl ?_
      refine k_iload_n hX dX9_mean_35 rfl 2 rfl ?_
      refine k_iload_n hX dX9_mean_36 rfl 3 rfl ?_
      refine k_iload hX dX9_mean_37 4 rfl ?_
      refine cX_worthFrom T (met_worthFrom T.2.1 20) (room_le hR rfl rfl) h rfl dX9_mean_39 (fun v6 τ5 h => ?_)
      exact t_ret_i T e h dX9_mean_42
    · refine k_iconst (v := (-1)) hX dX9_mean_24 (by decide) ?_
      exact t_ret_i T e h dX9_mean_25
theorem met_worst {l : Launch} {E : TE} (hE : tEnv E) {nf : Nat} : ∀ (x1 : Int32) (x2 : Int32) (x3 : Int32) (x4 : Int32) (τ : TS) (z : (Int32 × TS)), T_worst nf x1 x2 x3 x4 τ = some z → tMet_i l E yX9_worst (ws_ yX9_worst cX9_worst 5 (some .int)) 141 3686 [.ref (E.2.2.2.2.1 0), .int x1, .int x2, .int x3, .int x4] τ z.1 z.2 := by
  intro x1 x2 x3 x4 τ z h
  refine t_met_i hE (by decide +kernel) rfl rfl (fun X hl T hR e => ?_)
  unfold T_worst at h
  have hX := T.1
  show kW X τ 0 [(0, .ref (E.2.2.2.2.1 0)), (1, .int x1), (2, .int x2), (3, .int x3), (4, .int x4)] []
  refine k_aload_n hX dX9_worst_0 rfl 0 rfl ?_
  refine k_iconst (v := 0) hX dX9_worst_1 (by decide) ?_
  refine tp0 T h dX9_worst_2 (fun τ1 h => ?_)
  refine k_aload_n hX dX9_worst_5 rfl 0 rfl ?_
  refine k_iload_n hX dX9_worst_6 rfl 1 rfl ?_
  refine cX_isGoer T (met_isGoer T.2.1) (room_le hR rfl rfl) h rfl dX9_worst_7 (fun v2 h => ?_)
  refine k_if_eq (tgt := 24) hX h dX9_worst_10 (by decide) (fun h => ?_) (fun h => ?_)
  · refine k_iconst (v := (-1)) hX dX9_worst_24 (by decide) ?_
    exact t_ret_i T e h dX9_worst_25
  · refine k_aload_n hX dX9_worst_13 rfl 0 rfl ?_
    refine k_iload_n hX dX9_worst_14 rfl 2 rfl ?_
    refine k_iload_n hX dX9_worst_15 rfl 3 rfl ?_
    refine k_iload hX dX9_worst_16 4 rfl ?_
    refine cX_isPlace T (met_isPlace T.2.1) (room_le hR rfl rfl) h rfl dX9_worst_18 (fun v3 h => ?_)
    refine k_if_ne (tgt := 26) hX h dX9_worst_21 (by decide) (fun h => ?_) (fun h => ?_)
    · refine k_aload_n hX dX9_worst_26 rfl 0 rfl ?_
      refine k_iload_n hX dX9_worst_27 rfl 1 rfl ?_
      refine k_iconst (v := 1) hX dX9_worst_28 (by decide) ?_
      refine k_iconst (v := (-1)) hX dX9_worst_29 (by decide) ?_
      refine k_iconst (v := 0) hX dX9_worst_30 (by decide) ?_
      refine cX_asks T (met_asks T.2.1) (room_le hR rfl rfl) h rfl dX9_worst_31 (fun τ4 h => ?_)
      refine k_aload_n hX dX9_worst_34 rfl 0 rfl ?_
      refine k_iload_n hX dX9_worst_35 rfl 2 rfl ?_
      refine k_iload_n hX dX9_worst_36 rfl 3 rfl ?_
      refine k_iload hX dX9_worst_37 4 rfl ?_
      refine cX_worthFrom T (met_worthFrom T.2.1 20) (room_le hR rfl rfl) h rfl dX9_worst_39 (fun v6 τ5 h => ?_)
      exact t_ret_i T e h dX9_worst_42
    · refine k_iconst (v := (-1)) hX dX9_worst_24 (by decide) ?_
      exact t_ret_i T e h dX9_worst_25
theorem T_choice_b61_ok {X : KC TS} {E : TE} {z : (Int32 × TS)} (T : tOK X E cX9_choice 6 (some .int)) (hR : tRoom X 145 3789) (e : tE_i X E z.1 z.2) {nf : Nat} {x1 : Int32} {x2 : Int32} {x3 : Int32} {x4 : Int32} {τ : TS} (h : T_choice_b61 nf x1 x2 x3 x4 τ = some z) : kW X τ 61 [(0, .ref (E.2.2.2.2.1 0)), (1, .int x1), (2, .int x2), (3, .int x3), (4, .int x4)] [] := by
  unfold T_choice_b61 at h
  have hX := T.1
  refine k_iload_n hX dX9_choice_61 rfl 3 rfl ?_
  refine k_aload_n hX dX9_choice_62 rfl 0 rfl ?_
  refine tg10 T dX9_choice_63 ?_
  refine k_bipush (v := 9) hX dX9_choice_66 (by decide) ?_
  refine ta10 T h dX9_choice_68 (fun v1 h => ?_)
  refine k_irem hX h dX9_choice_69 (fun h => ?_)
  refine k_nm h (fun v2 h => ?_)
  refine k_istore [(5, .int v2), (0, .ref (E.2.2.2.2.1 0)), (1, .int x1), (2, .int x2), (3, .int x3), (4, .int x4)] hX dX9_choice_70 rfl rfl ?_
  refine k_aload_n hX dX9_choice_72 rfl 1 rfl ?_
  refine k_iload_n hX dX9_choice_73 rfl 2 rfl ?_
  refine k_iload_n hX dX9_choice_74 rfl 3 rfl ?_
  refine k_iload_n hX dX9_choice_75 rfl 4 rfl ?_
  refine cX_worthFrom T (met_worthFrom T.2.1 20) (room_le hR rfl rfl) h rfl dX9_choice_76 (fun v4 τ3 h => ?_)
  refine k_if_ge (tgt := 86) hX h dX9_choice_79 (by decide) (fun h => ?_) (fun h => ?_)
  · refine k_aload_n hX dX9_choice_86 rfl 1 rfl ?_
    refine k_iload_n hX dX9_choice_87 rfl 2 rfl ?_
    refine k_iload_n hX dX9_choice_88 rfl 3 rfl ?_
    refine k_iload hX dX9_choice_89 0 rfl ?_
    refine k_aload_n hX dX9_choice_91 rfl 1 rfl ?_
    refine k_iload_n hX dX9_choice_92 rfl 2 rfl ?_
    refine k_iload_n hX dX9_choice_93 rfl 3 rfl ?_
    refine cX_isUnknown T (met_isUnknown T.2.1) (room_le hR rfl rfl) h rfl dX9_choice_94 (fun v5 h => ?_)
    refine k_if_eq (tgt := 105) hX h dX9_choice_97 (by decide) (fun h => ?_) (fun h => ?_)
    · refine k_iload hX dX9_choice_105 0 rfl ?_
      refine cX_wayOf T (met_wayOf T.2.1 (met_worthFrom T.2.1 20)) (room_le hR rfl rfl) h rfl dX9_choice_107 (fun v7 τ6 h => ?_)
      exact t_ret_i T e h dX9_choice_110
    · refine k_iload hX dX9_choice_100 5 rfl ?_
      refine k_goto (tgt := 107) hX dX9_choice_102 (by decide) ?_
      refine cX_wayOf T (met_wayOf T.2.1 (met_worthFrom T.2.1 20)) (room_le hR rfl rfl) h rfl dX9_choice_107 (fun v9 τ8 h => ?_)
      exact t_ret_i T e h dX9_choice_110
  · refine k_iconst (v := (-1)) hX dX9_choice_82 (by decide) ?_
    refine k_goto (tgt := 110) hX dX9_choice_83 (by decide) ?_
    exact t_ret_i T e h dX9_choice_110
theorem met_choice {l : Launch} {E : TE} (hE : tEnv E) {nf : Nat} : ∀ (x1 : Int32) (x2 : Int32) (x3 : Int32) (x4 : Int32) (τ : TS) (z : (Int32 × TS)), T_choice nf x1 x2 x3 x4 τ = some z → tMet_i l E yX9_choice (ws_ yX9_choice cX9_choice 6 (some .int)) 145 3789 [.ref (E.2.2.2.2.1 0), .int x1, .int x2, .int x3, .int x4] τ z.1 z.2 := by
  intro x1 x2 x3 x4 τ z h
  refine t_met_i hE (by decide +kernel) rfl rfl (fun X hl T hR e => ?_)
  unfold T_choice at h
  have hX := T.1
  show kW X τ 0 [(0, .ref (E.2.2.2.2.1 0)), (1, .int x1), (2, .int x2), (3, .int x3), (4, .int x4)] []
  refine k_aload_n hX dX9_choice_0 rfl 0 rfl ?_
  refine k_iconst (v := 0) hX dX9_choice_1 (by decide) ?_
  refine tp0 T h dX9_choice_2 (fun τ1 h => ?_)
  refine k_aload_n hX dX9_choice_5 rfl 0 rfl ?_
  refine k_iconst (v := 3) hX dX9_choice_6 (by decide) ?_
  refine k_iconst (v := 0) hX dX9_choice_7 (by decide) ?_
  refine k_iconst (v := (-1)) hX dX9_choice_8 (by decide) ?_
  refine k_iconst (v := 0) hX dX9_choice_9 (by decide) ?_
  refine cX_asks T (met_asks T.2.1) (room_le hR rfl rfl) h rfl dX9_choice_10 (fun τ2 h => ?_)
  refine k_aload_n hX dX9_choice_13 rfl 0 rfl ?_
  refine k_iload_n hX dX9_choice_14 rfl 1 rfl ?_
  refine k_iload_n hX dX9_choice_15 rfl 2 rfl ?_
  refine k_iload_n hX dX9_choice_16 rfl 3 rfl ?_
  refine cX_isPlace T (met_isPlace T.2.1) (room_le hR rfl rfl) h rfl dX9_choice_17 (fun v3 h => ?_)
  refine k_if_eq (tgt := 59) hX h dX9_choice_20 (by decide) (fun h => ?_) (fun h => ?_)
  · refine k_iconst (v := (-1)) hX dX9_choice_59 (by decide) ?_
    exact t_ret_i T e h dX9_choice_60
  · refine k_aload_n hX dX9_choice_23 rfl 0 rfl ?_
    refine k_iload_n hX dX9_choice_24 rfl 1 rfl ?_
    refine k_iload_n hX dX9_choice_25 rfl 2 rfl ?_
    refine cX_isHome T (met_isHome T.2.1) (room_le hR rfl rfl) h rfl dX9_choice_26 (fun v4 h => ?_)
    refine k_if_ne (tgt := 59) hX h dX9_choice_29 (by decide) (fun h => ?_) (fun h => ?_)
    · refine k_iconst (v := (-1)) hX dX9_choice_59 (by decide) ?_
      exact t_ret_i T e h dX9_choice_60
    · refine k_aload_n hX dX9_choice_32 rfl 0 rfl ?_
      refine k_iload_n hX dX9_choice_33 rfl 1 rfl ?_
      refine k_iload_n hX dX9_choice_34 rfl 2 rfl ?_
      refine cX_isUnknown T (met_isUnknown T.2.1) (room_le hR rfl rfl) h rfl dX9_choice_35 (fun v5 h => ?_)
      refine k_if_eq (tgt := 61) hX h dX9_choice_38 (by decide) (fun h => ?_) (fun h => ?_)
      · refine k_lv [0, 1, 2, 3, 4] rfl ?_
        exact T_choice_b61_ok T hR e h
      · refine k_iload hX dX9_choice_41 4 rfl ?_
        refine k_iconst (v := 0) hX dX9_choice_43 (by decide) ?_
        refine k_aload_n hX dX9_choice_44 rfl 0 rfl ?_
        refine k_iload_n hX dX9_choice_45 rfl 1 rfl ?_
        refine k_iload_n hX dX9_choice_46 rfl 2 rfl ?_
        refine k_iconst (v := 1) hX dX9_choice_47 (by decide) ?_
        refine cX_lightAt T (met_lightAt T.2.1) (room_le hR rfl rfl) h rfl dX9_choice_48 (fun v6 h => ?_)
        refine k_iconst (v := 1) hX dX9_choice_51 (by decide) ?_
        refine k_isub hX dX9_choice_52 ?_
        refine cX_within T (met_within T.2.1) (room_le hR rfl rfl) h rfl dX9_choice_53 (fun v7 h => ?_)
        refine k_if_ne (tgt := 61) hX h dX9_choice_56 (by decide) (fun h => ?_) (fun h => ?_)
        · refine k_lv [0, 1, 2, 3, 4] rfl ?_
          exact T_choice_b61_ok T hR e h
        · refine k_iconst (v := (-1)) hX dX9_choice_59 (by decide) ?_
          exact t_ret_i T e h dX9_choice_60
theorem met_gap {l : Launch} {E : TE} (hE : tEnv E) {nf : Nat} : ∀ (x1 : Int32) (x2 : Int32) (x3 : Int32) (τ : TS) (z : (Int32 × TS)), T_gap nf x1 x2 x3 τ = some z → tMet_i l E yX9_gap (ws_ yX9_gap cX9_gap 6 (some .int)) 141 3686 [.ref (E.2.2.2.2.1 0), .int x1, .int x2, .int x3] τ z.1 z.2 := by
  intro x1 x2 x3 τ z h
  refine t_met_i hE (by decide +kernel) rfl rfl (fun X hl T hR e => ?_)
  unfold T_gap at h
  have hX := T.1
  show kW X τ 0 [(0, .ref (E.2.2.2.2.1 0)), (1, .int x1), (2, .int x2), (3, .int x3)] []
  refine k_aload_n hX dX9_gap_0 rfl 0 rfl ?_
  refine k_iconst (v := 0) hX dX9_gap_1 (by decide) ?_
  refine tp0 T h dX9_gap_2 (fun τ1 h => ?_)
  refine k_aload_n hX dX9_gap_5 rfl 0 rfl ?_
  refine k_iload_n hX dX9_gap_6 rfl 1 rfl ?_
  refine k_iload_n hX dX9_gap_7 rfl 2 rfl ?_
  refine k_iload_n hX dX9_gap_8 rfl 3 rfl ?_
  refine cX_isPlace T (met_isPlace T.2.1) (room_le hR rfl rfl) h rfl dX9_gap_9 (fun v2 h => ?_)
  refine k_if_ne (tgt := 17) hX h dX9_gap_12 (by decide) (fun h => ?_) (fun h => ?_)
  · refine k_aload_n hX dX9_gap_17 rfl 0 rfl ?_
    refine k_iconst (v := 2) hX dX9_gap_18 (by decide) ?_
    refine k_iconst (v := 0) hX dX9_gap_19 (by decide) ?_
    refine k_iconst (v := (-1)) hX dX9_gap_20 (by decide) ?_
    refine k_iconst (v := 0) hX dX9_gap_21 (by decide) ?_
    refine cX_asks T (met_asks T.2.1) (room_le hR rfl rfl) h rfl dX9_gap_22 (fun τ3 h => ?_)
    refine k_aload_n hX dX9_gap_25 rfl 0 rfl ?_
    refine k_iload_n hX dX9_gap_26 rfl 1 rfl ?_
    refine k_iload_n hX dX9_gap_27 rfl 2 rfl ?_
    refine k_iload_n hX dX9_gap_28 rfl 3 rfl ?_
    refine cX_worthFrom T (met_worthFrom T.2.1 20) (room_le hR rfl rfl) h rfl dX9_gap_29 (fun v5 τ4 h => ?_)
    refine k_istore [(4, .int v5), (0, .ref (E.2.2.2.2.1 0)), (1, .int x1), (2, .int x2), (3, .int x3)] hX dX9_gap_32 rfl rfl ?_
    refine k_aload_n hX dX9_gap_34 rfl 1 rfl ?_
    refine k_iconst (v := 3) hX dX9_gap_35 (by decide) ?_
    refine k_iconst (v := 0) hX dX9_gap_36 (by decide) ?_
    refine k_iconst (v := (-1)) hX dX9_gap_37 (by decide) ?_
    refine k_iconst (v := 0) hX dX9_gap_38 (by decide) ?_
    refine cX_asks T (met_asks T.2.1) (room_le hR rfl rfl) h rfl dX9_gap_39 (fun τ6 h => ?_)
    refine k_aload_n hX dX9_gap_42 rfl 1 rfl ?_
    refine k_iload_n hX dX9_gap_43 rfl 2 rfl ?_
    refine k_iload_n hX dX9_gap_44 rfl 3 rfl ?_
    refine k_iload_n hX dX9_gap_45 rfl 4 rfl ?_
    refine cX_worthFrom T (met_worthFrom T.2.1 20) (room_le hR rfl rfl) h rfl dX9_gap_46 (fun v8 τ7 h => ?_)
    refine k_istore [(5, .int v8), (4, .int v5), (0, .ref (E.2.2.2.2.1 0)), (1, .int x1), (2, .int x2), (3, .int x3)] hX dX9_gap_49 rfl rfl ?_
    refine k_iload hX dX9_gap_51 1 rfl ?_
    refine k_if_lt (tgt := 61) hX h dX9_gap_53 (by decide) (fun h => ?_) (fun h => ?_)
    · refine k_iconst (v := (-1)) hX dX9_gap_61 (by decide) ?_
      refine k_goto (tgt := 70) hX dX9_gap_62 (by decide) ?_
      exact t_ret_i T e h dX9_gap_70
    · refine k_iload hX dX9_gap_56 0 rfl ?_
      refine k_if_ge (tgt := 65) hX h dX9_gap_58 (by decide) (fun h => ?_) (fun h => ?_)
      · refine k_iload hX dX9_gap_65 1 rfl ?_
        refine k_iload hX dX9_gap_67 0 rfl ?_
        refine k_isub hX dX9_gap_69 ?_
        exact t_ret_i T e h dX9_gap_70
      · refine k_iconst (v := (-1)) hX dX9_gap_61 (by decide) ?_
        refine k_goto (tgt := 70) hX dX9_gap_62 (by decide) ?_
        exact t_ret_i T e h dX9_gap_70
  · refine k_iconst (v := (-1)) hX dX9_gap_15 (by decide) ?_
    exact t_ret_i T e h dX9_gap_16
theorem T_watch_b109_ok {X : KC TS} {E : TE} {z : (Int32 × TS)} (T : tOK X E cX9_watch 8 (some .int)) (hR : tRoom X 141 3686) (e : tE_i X E z.1 z.2) {nf : Nat} {x1 : Int32} {x2 : Int32} {x4 : Int32} {x5 : Int64} {τ : TS} (h : T_watch_b109 nf x1 x2 x4 x5 τ = some z) : kW X τ 109 [(0, .ref (E.2.2.2.2.1 0)), (1, .int x1), (2, .int x2), (4, .int x4), (5, .long x5)] [] := by
  unfold T_watch_b109 at h
  have hX := T.1
  refine k_iload hX dX9_watch_109 3 rfl ?_
  refine k_if_ge (tgt := 118) hX h dX9_watch_111 (by decide) (fun h => ?_) (fun h => ?_)
  · refine k_iload hX dX9_watch_118 3 rfl ?_
    refine k_lload hX dX9_watch_120 4 rfl ?_
    refine k_aload_n hX dX9_watch_122 rfl 0 rfl ?_
    refine k_iload_n hX dX9_watch_123 rfl 1 rfl ?_
    refine k_iload_n hX dX9_watch_124 rfl 2 rfl ?_
    refine k_iconst (v := 1) hX dX9_watch_125 (by decide) ?_
    refine cX_lightAt T (met_lightAt T.2.1) (room_le hR rfl rfl) h rfl dX9_watch_126 (fun v1 h => ?_)
    refine k_i2l hX dX9_watch_129 ?_
    refine k_ldiv hX h dX9_watch_130 (fun h => ?_)
    refine k_l2i hX dX9_watch_131 ?_
    refine k_isub hX dX9_watch_132 ?_
    exact t_ret_i T e h dX9_watch_133
  · refine k_iconst (v := (-1)) hX dX9_watch_114 (by decide) ?_
    refine k_goto (tgt := 133) hX dX9_watch_115 (by decide) ?_
    exact t_ret_i T e h dX9_watch_133
theorem T_watch_b59_s_ok {X : KC TS} {E : TE} {z : (Int32 × TS)} (T : tOK X E cX9_watch 8 (some .int)) (hR : tRoom X 141 3686) (e : tE_i X E z.1 z.2) {nf : Nat} {k59 : Int32 → Int32 → Int32 → Int32 → Int64 → Int32 → TS → Option (Int32 × TS)} (hk59 : ∀ (x1 : Int32) (x2 : Int32) (x3 : Int32) (x4 : Int32) (x5 : Int64) (x7 : Int32) (τ : TS), k59 x1 x2 x3 x4 x5 x7 τ = some z → kW X τ 59 [(0, .ref (E.2.2.2.2.1 0)), (1, .int x1), (2, .int x2), (3, .int x3), (4, .int x4), (5, .long x5), (7, .int x7)] []) {x1 : Int32} {x2 : Int32} {x3 : Int32} {x4 : Int32} {x5 : Int64} {x7 : Int32} {τ : TS} (h : T_watch_b59_s nf k59 x1 x2 x3 x4 x5 x7 τ = some z) : kW X τ 59 [(0, .ref (E.2.2.2.2.1 0)), (1, .int x1), (2, .int x2), (3, .int x3), (4, .int x4), (5, .long x5), (7, .int x7)] [] := by
  unfold T_watch_b59_s at h
  have hX := T.1
  refine k_iload hX dX9_watch_59 6 rfl ?_
  refine k_aload_n hX dX9_watch_61 rfl 0 rfl ?_
  refine k_iload_n hX dX9_watch_62 rfl 1 rfl ?_
  refine k_iload_n hX dX9_watch_63 rfl 2 rfl ?_
  refine k_iconst (v := 1) hX dX9_watch_64 (by decide) ?_
  refine cX_lightAt T (met_lightAt T.2.1) (room_le hR rfl rfl) h rfl dX9_watch_65 (fun v1 h => ?_)
  refine k_icmp_ge (tgt := 109) hX h dX9_watch_68 (by decide) (fun h => ?_) (fun h => ?_)
  · refine k_lv [0, 1, 2, 4, 5] rfl ?_
    exact T_watch_b109_ok T hR e h
  · refine k_iload hX dX9_watch_71 4 rfl ?_
    refine k_if_lt (tgt := 109) hX h dX9_watch_73 (by decide) (fun h => ?_) (fun h => ?_)
    · refine k_lv [0, 1, 2, 4, 5] rfl ?_
      exact T_watch_b109_ok T hR e h
    · refine k_aload_n hX dX9_watch_76 rfl 0 rfl ?_
      refine k_iconst (v := 3) hX dX9_watch_77 (by decide) ?_
      refine k_iconst (v := 0) hX dX9_watch_78 (by decide) ?_
      refine k_bipush (v := 6) hX dX9_watch_79 (by decide) ?_
      refine k_iload_n hX dX9_watch_81 rfl 2 rfl ?_
      refine k_imul hX dX9_watch_82 ?_
      refine k_iload_n hX dX9_watch_83 rfl 1 rfl ?_
      refine k_iadd hX dX9_watch_84 ?_
      refine k_iload hX dX9_watch_85 6 rfl ?_
      refine cX_asks T (met_asks T.2.1) (room_le hR rfl rfl) h rfl dX9_watch_87 (fun τ2 h => ?_)
      refine k_lload hX dX9_watch_90 5 rfl ?_
      refine k_aload_n hX dX9_watch_92 rfl 0 rfl ?_
      refine k_iconst (v := 0) hX dX9_watch_93 (by decide) ?_
      refine k_iconst (v := 0) hX dX9_watch_94 (by decide) ?_
      refine k_iload_n hX dX9_watch_95 rfl 3 rfl ?_
      refine cX_worthFrom T (met_worthFrom T.2.1 20) (room_le hR rfl rfl) h rfl dX9_watch_96 (fun v4 τ3 h => ?_)
      refine k_i2l hX dX9_watch_99 ?_
      refine k_ladd hX dX9_watch_100 ?_
      refine k_nml h (fun v5 h => ?_)
      refine k_lstore [(5, .long v5), (0, .ref (E.2.2.2.2.1 0)), (1, .int x1), (2, .int x2), (3, .int x3), (4, .int x4), (7, .int x7)] hX dX9_watch_101 rfl rfl ?_
      refine k_iinc (j := 6) [(7, .int (x7 + 1)), (5, .long v5), (0, .ref (E.2.2.2.2.1 0)), (1, .int x1), (2, .int x2), (3, .int x3), (4, .int x4)] hX dX9_watch_103 rfl rfl rfl rfl ?_
      refine k_goto (tgt := 59) hX dX9_watch_106 (by decide) ?_
      refine k_lv [2, 3, 4, 5, 6, 1, 0] rfl ?_
      exact hk59 _ _ _ _ _ _ _ h
theorem T_watch_b59_ok {X : KC TS} {E : TE} {z : (Int32 × TS)} (T : tOK X E cX9_watch 8 (some .int)) (hR : tRoom X 141 3686) (e : tE_i X E z.1 z.2) {nf : Nat} : ∀ (n : Nat) (x1 : Int32) (x2 : Int32) (x3 : Int32) (x4 : Int32) (x5 : Int64) (x7 : Int32) (τ : TS), T_watch_b59 nf n x1 x2 x3 x4 x5 x7 τ = some z → kW X τ 59 [(0, .ref (E.2.2.2.2.1 0)), (1, .int x1), (2, .int x2), (3, .int x3), (4, .int x4), (5, .long x5), (7, .int x7)] [] := by
  intro n
  induction n with
  | zero => intro x1 x2 x3 x4 x5 x7 τ h; exact (nomatch (show (none : Option (Int32 × TS)) = some z from h))
  | succ n ih =>
    intro x1 x2 x3 x4 x5 x7 τ h
    have h : T_watch_b59_s nf (T_watch_b59 nf n) x1 x2 x3 x4 x5 x7 τ = some z := h
    exact T_watch_b59_s_ok T hR e ih h
theorem met_watch {l : Launch} {E : TE} (hE : tEnv E) {nf : Nat} : ∀ (x1 : Int32) (x2 : Int32) (x3 : Int32) (τ : TS) (z : (Int32 × TS)), T_watch nf x1 x2 x3 τ = some z → tMet_i l E yX9_watch (ws_ yX9_watch cX9_watch 8 (some .int)) 141 3686 [.ref (E.2.2.2.2.1 0), .int x1, .int x2, .int x3] τ z.1 z.2 := by
  intro x1 x2 x3 τ z h
  refine t_met_i hE (by decide +kernel) rfl rfl (fun X hl T hR e => ?_)
  unfold T_watch at h
  have hX := T.1
  show kW X τ 0 [(0, .ref (E.2.2.2.2.1 0)), (1, .int x1), (2, .int x2), (3, .int x3)] []
  refine k_aload_n hX dX9_watch_0 rfl 0 rfl ?_
  refine k_iconst (v := 0) hX dX9_watch_1 (by decide) ?_
  refine tp0 T h dX9_watch_2 (fun τ1 h => ?_)
  refine k_aload_n hX dX9_watch_5 rfl 0 rfl ?_
  refine k_iload_n hX dX9_watch_6 rfl 1 rfl ?_
  refine k_iload_n hX dX9_watch_7 rfl 2 rfl ?_
  refine k_iload_n hX dX9_watch_8 rfl 3 rfl ?_
  refine cX_isPlace T (met_isPlace T.2.1) (room_le hR rfl rfl) h rfl dX9_watch_9 (fun v2 h => ?_)
  refine k_if_eq (tgt := 34) hX h dX9_watch_12 (by decide) (fun h => ?_) (fun h => ?_)
  · refine k_iconst (v := (-1)) hX dX9_watch_34 (by decide) ?_
    exact t_ret_i T e h dX9_watch_35
  · refine k_aload_n hX dX9_watch_15 rfl 0 rfl ?_
    refine k_iload_n hX dX9_watch_16 rfl 1 rfl ?_
    refine k_iload_n hX dX9_watch_17 rfl 2 rfl ?_
    refine cX_kindAt T (met_kindAt T.2.1) (room_le hR rfl rfl) h rfl dX9_watch_18 (fun v3 h => ?_)
    refine k_iconst (v := 1) hX dX9_watch_21 (by decide) ?_
    refine k_icmp_ne (tgt := 34) hX h dX9_watch_22 (by decide) (fun h => ?_) (fun h => ?_)
    · refine k_iconst (v := (-1)) hX dX9_watch_34 (by decide) ?_
      exact t_ret_i T e h dX9_watch_35
    · refine k_aload_n hX dX9_watch_25 rfl 0 rfl ?_
      refine k_iload_n hX dX9_watch_26 rfl 1 rfl ?_
      refine k_iload_n hX dX9_watch_27 rfl 2 rfl ?_
      refine cX_isKnown T (met_isKnown T.2.1) (room_le hR rfl rfl) h rfl dX9_watch_28 (fun v4 h => ?_)
      refine k_if_eq (tgt := 36) hX h dX9_watch_31 (by decide) (fun h => ?_) (fun h => ?_)
      · refine k_aload_n hX dX9_watch_36 rfl 0 rfl ?_
        refine k_iconst (v := 3) hX dX9_watch_37 (by decide) ?_
        refine k_iconst (v := 0) hX dX9_watch_38 (by decide) ?_
        refine k_iconst (v := (-1)) hX dX9_watch_39 (by decide) ?_
        refine k_iconst (v := 0) hX dX9_watch_40 (by decide) ?_
        refine cX_asks T (met_asks T.2.1) (room_le hR rfl rfl) h rfl dX9_watch_41 (fun τ5 h => ?_)
        refine k_aload_n hX dX9_watch_44 rfl 0 rfl ?_
        refine k_iconst (v := 0) hX dX9_watch_45 (by decide) ?_
        refine k_iconst (v := 0) hX dX9_watch_46 (by decide) ?_
        refine k_iload_n hX dX9_watch_47 rfl 3 rfl ?_
        refine cX_worthFrom T (met_worthFrom T.2.1 20) (room_le hR rfl rfl) h rfl dX9_watch_48 (fun v7 τ6 h => ?_)
        refine k_istore [(4, .int v7), (0, .ref (E.2.2.2.2.1 0)), (1, .int x1), (2, .int x2), (3, .int x3)] hX dX9_watch_51 rfl rfl ?_
        refine k_lconst (v := 0) hX dX9_watch_53 (by decide) ?_
        refine k_lstore [(5, .long 0), (4, .int v7), (0, .ref (E.2.2.2.2.1 0)), (1, .int x1), (2, .int x2), (3, .int x3)] hX dX9_watch_54 rfl rfl ?_
        refine k_iconst (v := 0) hX dX9_watch_56 (by decide) ?_
        refine k_istore [(7, .int 0), (5, .long 0), (4, .int v7), (0, .ref (E.2.2.2.2.1 0)), (1, .int x1), (2, .int x2), (3, .int x3)] hX dX9_watch_57 rfl rfl ?_
        refine k_lv [3, 4, 5, 6, 2, 1, 0] rfl ?_
        exact T_watch_b59_ok T hR e _ _ _ _ _ _ _ _ h
      · refine k_iconst (v := (-1)) hX dX9_watch_34 (by decide) ?_
        exact t_ret_i T e h dX9_watch_35
theorem met_meanFrom0 {l : Launch} {E : TE} (hE : tEnv E) {nf : Nat} : ∀ (x1 : Int32) (τ : TS) (z : (Int32 × TS)), T_meanFrom0 nf x1 τ = some z → tMet_i l E yX9_meanFrom0 (ws_ yX9_meanFrom0 cX9_meanFrom0 2 (some .int)) 141 3686 [.ref (E.2.2.2.2.1 0), .int x1] τ z.1 z.2 := by
  intro x1 τ z h
  refine t_met_i hE (by decide +kernel) rfl rfl (fun X hl T hR e => ?_)
  unfold T_meanFrom0 at h
  have hX := T.1
  show kW X τ 0 [(0, .ref (E.2.2.2.2.1 0)), (1, .int x1)] []
  refine k_aload_n hX dX9_meanFrom0_0 rfl 0 rfl ?_
  refine k_iconst (v := 3) hX dX9_meanFrom0_1 (by decide) ?_
  refine k_iconst (v := 0) hX dX9_meanFrom0_2 (by decide) ?_
  refine k_iconst (v := (-1)) hX dX9_meanFrom0_3 (by decide) ?_
  refine k_iconst (v := 0) hX dX9_meanFrom0_4 (by decide) ?_
  refine cX_asks T (met_asks T.2.1) (room_le hR rfl rfl) h rfl dX9_meanFrom0_5 (fun τ1 h => ?_)
  refine k_aload_n hX dX9_meanFrom0_8 rfl 0 rfl ?_
  refine k_iconst (v := 0) hX dX9_meanFrom0_9 (by decide) ?_
  refine k_iconst (v := 0) hX dX9_meanFrom0_10 (by decide) ?_
  refine k_iload_n hX dX9_meanFrom0_11 rfl 1 rfl ?_
  refine cX_worthFrom T (met_worthFrom T.2.1 20) (room_le hR rfl rfl) h rfl dX9_meanFrom0_12 (fun v3 τ2 h => ?_)
  exact t_ret_i T e h dX9_meanFrom0_15
theorem T_worthiest_b113_ok {X : KC TS} {E : TE} {z : (Int32 × TS)} (T : tOK X E cX9_worthiest 9 (some .int)) (hR : tRoom X 142 3713) (e : tE_i X E z.1 z.2) {nf : Nat} {k7 : Int32 → Int32 → Int32 → Int32 → TS → Option (Int32 × TS)} (hk7 : ∀ (x1 : Int32) (x2 : Int32) (x3 : Int32) (x4 : Int32) (τ : TS), k7 x1 x2 x3 x4 τ = some z → kW X τ 7 [(0, .ref (E.2.2.2.2.1 0)), (1, .int x1), (2, .int x2), (3, .int x3), (4, .int x4)] []) {x1 : Int32} {x4 : Int32} {x5 : Int32} {x6 : Int32} {x8 : Int32} {τ : TS} (h : T_worthiest_b113 nf k7 x1 x4 x5 x6 x8 τ = some z) : kW X τ 113 [(0, .ref (E.2.2.2.2.1 0)), (1, .int x1), (4, .int x4), (5, .int x5), (6, .int x6), (8, .int x8)] [] := by
  unfold T_worthiest_b113 at h
  have hX := T.1
  refine k_bipush (v := 8) hX dX9_worthiest_113 (by decide) ?_
  refine k_iload hX dX9_worthiest_115 4 rfl ?_
  refine k_imul hX dX9_worthiest_117 ?_
  refine k_iload hX dX9_worthiest_118 3 rfl ?_
  refine k_iadd hX dX9_worthiest_120 ?_
  refine k_nm h (fun v1 h => ?_)
  refine k_istore_n [(2, .int v1), (0, .ref (E.2.2.2.2.1 0)), (1, .int x1), (4, .int x4), (5, .int x5), (6, .int x6), (8, .int x8)] hX dX9_worthiest_121 rfl rfl rfl ?_
  refine k_iload hX dX9_worthiest_122 6 rfl ?_
  refine k_istore_n [(3, .int x8), (2, .int v1), (0, .ref (E.2.2.2.2.1 0)), (1, .int x1), (4, .int x4), (5, .int x5), (6, .int x6), (8, .int x8)] hX dX9_worthiest_124 rfl rfl rfl ?_
  refine k_iinc (j := 4) [(4, .int (x4 + 1)), (3, .int x8), (2, .int v1), (0, .ref (E.2.2.2.2.1 0)), (1, .int x1), (5, .int x5), (6, .int x6), (8, .int x8)] hX dX9_worthiest_125 rfl rfl rfl rfl ?_
  refine k_goto (tgt := 7) hX dX9_worthiest_128 (by decide) ?_
  refine k_lv [3, 4, 2, 1, 0] rfl ?_
  exact hk7 _ _ _ _ _ h
theorem T_worthiest_b96_ok {X : KC TS} {E : TE} {z : (Int32 × TS)} (T : tOK X E cX9_worthiest 9 (some .int)) (hR : tRoom X 142 3713) (e : tE_i X E z.1 z.2) {nf : Nat} {k7 : Int32 → Int32 → Int32 → Int32 → TS → Option (Int32 × TS)} (hk7 : ∀ (x1 : Int32) (x2 : Int32) (x3 : Int32) (x4 : Int32) (τ : TS), k7 x1 x2 x3 x4 τ = some z → kW X τ 7 [(0, .ref (E.2.2.2.2.1 0)), (1, .int x1), (2, .int x2), (3, .int x3), (4, .int x4)] []) {x1 : Int32} {x2 : Int32} {x3 : Int32} {x4 : Int32} {x5 : Int32} {x6 : Int32} {x7 : Int32} {s0 : Int32} {τ : TS} (h : T_worthiest_b96 nf k7 x1 x2 x3 x4 x5 x6 x7 s0 τ = some z) : kW X τ 96 [(0, .ref (E.2.2.2.2.1 0)), (1, .int x1), (2, .int x2), (3, .int x3), (4, .int x4), (5, .int x5), (6, .int x6), (7, .int x7)] [.int s0] := by
  unfold T_worthiest_b96 at h
  have hX := T.1
  refine k_istore [(8, .int s0), (0, .ref (E.2.2.2.2.1 0)), (1, .int x1), (2, .int x2), (3, .int x3), (4, .int x4), (5, .int x5), (6, .int x6), (7, .int x7)] hX dX9_worthiest_96 rfl rfl ?_
  refine k_iload hX dX9_worthiest_98 8 rfl ?_
  refine k_if_eq (tgt := 125) hX h dX9_worthiest_100 (by decide) (fun h => ?_) (fun h => ?_)
  · refine k_iinc (j := 5) [(4, .int (x4 + 1)), (8, .int s0), (0, .ref (E.2.2.2.2.1 0)), (1, .int x1), (2, .int x2), (3, .int x3), (5, .int x5), (6, .int x6), (7, .int x7)] hX dX9_worthiest_125 rfl rfl rfl rfl ?_
    refine k_goto (tgt := 7) hX dX9_worthiest_128 (by decide) ?_
    refine k_lv [2, 3, 4, 5, 0] rfl ?_
    exact hk7 _ _ _ _ _ h
  · refine k_iload_n hX dX9_worthiest_103 rfl 3 rfl ?_
    refine k_if_lt (tgt := 113) hX h dX9_worthiest_104 (by decide) (fun h => ?_) (fun h => ?_)
    · refine k_lv [1, 2, 5, 6, 7, 0] rfl ?_
      exact T_worthiest_b113_ok T hR e hk7 h
    · refine k_iload hX dX9_worthiest_107 0 rfl ?_
      refine k_iload_n hX dX9_worthiest_109 rfl 4 rfl ?_
      refine k_icmp_le (tgt := 125) hX h dX9_worthiest_110 (by decide) (fun h => ?_) (fun h => ?_)
      · refine k_iinc (j := 5) [(4, .int (x4 + 1)), (8, .int s0), (0, .ref (E.2.2.2.2.1 0)), (1, .int x1), (2, .int x2), (3, .int x3), (5, .int x5), (6, .int x6), (7, .int x7)] hX dX9_worthiest_125 rfl rfl rfl rfl ?_
        refine k_goto (tgt := 7) hX dX9_worthiest_128 (by decide) ?_
        refine k_lv [2, 3, 4, 5, 0] rfl ?_
        exact hk7 _ _ _ _ _ h
      · refine k_lv [1, 2, 5, 6, 7, 0] rfl ?_
        exact T_worthiest_b113_ok T hR e hk7 h
theorem T_worthiest_b76_ok {X : KC TS} {E : TE} {z : (Int32 × TS)} (T : tOK X E cX9_worthiest 9 (some .int)) (hR : tRoom X 142 3713) (e : tE_i X E z.1 z.2) {nf : Nat} {k7 : Int32 → Int32 → Int32 → Int32 → TS → Option (Int32 × TS)} (hk7 : ∀ (x1 : Int32) (x2 : Int32) (x3 : Int32) (x4 : Int32) (τ : TS), k7 x1 x2 x3 x4 τ = some z → kW X τ 7 [(0, .ref (E.2.2.2.2.1 0)), (1, .int x1), (2, .int x2), (3, .int x3), (4, .int x4)] []) {x1 : Int32} {x2 : Int32} {x3 : Int32} {x4 : Int32} {x5 : Int32} {x6 : Int32} {s0 : Int32} {τ : TS} (h : T_worthiest_b76 nf k7 x1 x2 x3 x4 x5 x6 s0 τ = some z) : kW X τ 76 [(0, .ref (E.2.2.2.2.1 0)), (1, .int x1), (2, .int x2), (3, .int x3), (4, .int x4), (5, .int x5), (6, .int x6)] [.int s0] := by
  unfold T_worthiest_b76 at h
  have hX := T.1
  refine k_istore [(7, .int s0), (0, .ref (E.2.2.2.2.1 0)), (1, .int x1), (2, .int x2), (3, .int x3), (4, .int x4), (5, .int x5), (6, .int x6)] hX dX9_worthiest_76 rfl rfl ?_
  refine k_iload hX dX9_worthiest_78 0 rfl ?_
  refine k_if_eq (tgt := 95) hX h dX9_worthiest_80 (by decide) (fun h => ?_) (fun h => ?_)
  · refine k_iconst (v := 0) hX dX9_worthiest_95 (by decide) ?_
    refine k_lv [1, 2, 3, 4, 5, 6, 7, 0] rfl ?_
    exact T_worthiest_b96_ok T hR e hk7 h
  · refine k_aload_n hX dX9_worthiest_83 rfl 1 rfl ?_
    refine k_iload hX dX9_worthiest_84 6 rfl ?_
    refine k_iload hX dX9_worthiest_86 7 rfl ?_
    refine k_iload_n hX dX9_worthiest_88 rfl 2 rfl ?_
    refine cX_watch T (met_watch T.2.1) (room_le hR rfl rfl) h rfl dX9_worthiest_89 (fun v2 τ1 h => ?_)
    refine k_goto (tgt := 96) hX dX9_worthiest_92 (by decide) ?_
    refine k_lv [1, 2, 3, 4, 5, 6, 7, 0] rfl ?_
    exact T_worthiest_b96_ok T hR e hk7 h
theorem T_worthiest_b7_s_ok {X : KC TS} {E : TE} {z : (Int32 × TS)} (T : tOK X E cX9_worthiest 9 (some .int)) (hR : tRoom X 142 3713) (e : tE_i X E z.1 z.2) {nf : Nat} {k7 : Int32 → Int32 → Int32 → Int32 → TS → Option (Int32 × TS)} (hk7 : ∀ (x1 : Int32) (x2 : Int32) (x3 : Int32) (x4 : Int32) (τ : TS), k7 x1 x2 x3 x4 τ = some z → kW X τ 7 [(0, .ref (E.2.2.2.2.1 0)), (1, .int x1), (2, .int x2), (3, .int x3), (4, .int x4)] []) {x1 : Int32} {x2 : Int32} {x3 : Int32} {x4 : Int32} {τ : TS} (h : T_worthiest_b7_s nf k7 x1 x2 x3 x4 τ = some z) : kW X τ 7 [(0, .ref (E.2.2.2.2.1 0)), (1, .int x1), (2, .int x2), (3, .int x3), (4, .int x4)] [] := by
  unfold T_worthiest_b7_s at h
  have hX := T.1
  refine k_iload hX dX9_worthiest_7 4 rfl ?_
  refine k_bipush (v := 54) hX dX9_worthiest_9 (by decide) ?_
  refine k_icmp_ge (tgt := 131) hX h dX9_worthiest_11 (by decide) (fun h => ?_) (fun h => ?_)
  · refine k_aload_n hX dX9_worthiest_131 rfl 0 rfl ?_
    refine k_iconst (v := 0) hX dX9_worthiest_132 (by decide) ?_
    refine tp0 T h dX9_worthiest_133 (fun τ1 h => ?_)
    refine k_iload_n hX dX9_worthiest_136 rfl 2 rfl ?_
    exact t_ret_i T e h dX9_worthiest_137
  · refine k_iload hX dX9_worthiest_14 4 rfl ?_
    refine k_bipush (v := 6) hX dX9_worthiest_16 (by decide) ?_
    refine k_iremc hX (by decide) dX9_worthiest_18 ?_
    refine k_nm h (fun v2 h => ?_)
    refine k_istore [(5, .int v2), (0, .ref (E.2.2.2.2.1 0)), (1, .int x1), (2, .int x2), (3, .int x3), (4, .int x4)] hX dX9_worthiest_19 rfl rfl ?_
    refine k_iload hX dX9_worthiest_21 5 rfl ?_
    refine k_bipush (v := 6) hX dX9_worthiest_23 (by decide) ?_
    refine k_idivc hX (by decide) dX9_worthiest_25 ?_
    refine k_nm h (fun v3 h => ?_)
    refine k_istore [(6, .int v3), (5, .int v2), (0, .ref (E.2.2.2.2.1 0)), (1, .int x1), (2, .int x2), (3, .int x3), (4, .int x4)] hX dX9_worthiest_26 rfl rfl ?_
    refine k_aload_n hX dX9_worthiest_28 rfl 2 rfl ?_
    refine k_iload hX dX9_worthiest_29 1 rfl ?_
    refine k_iload hX dX9_worthiest_31 0 rfl ?_
    refine k_iload_n hX dX9_worthiest_33 rfl 3 rfl ?_
    refine cX_isPlace T (met_isPlace T.2.1) (room_le hR rfl rfl) h rfl dX9_worthiest_34 (fun v4 h => ?_)
    refine k_if_eq (tgt := 75) hX h dX9_worthiest_37 (by decide) (fun h => ?_) (fun h => ?_)
    · refine k_iconst (v := 0) hX dX9_worthiest_75 (by decide) ?_
      refine k_lv [2, 3, 4, 5, 6, 1, 0] rfl ?_
      exact T_worthiest_b76_ok T hR e hk7 h
    · refine k_aload_n hX dX9_worthiest_40 rfl 2 rfl ?_
      refine k_iload hX dX9_worthiest_41 1 rfl ?_
      refine k_iload hX dX9_worthiest_43 0 rfl ?_
      refine cX_kindAt T (met_kindAt T.2.1) (room_le hR rfl rfl) h rfl dX9_worthiest_45 (fun v5 h => ?_)
      refine k_iconst (v := 1) hX dX9_worthiest_48 (by decide) ?_
      refine k_icmp_ne (tgt := 75) hX h dX9_worthiest_49 (by decide) (fun h => ?_) (fun h => ?_)
      · refine k_iconst (v := 0) hX dX9_worthiest_75 (by decide) ?_
        refine k_lv [2, 3, 4, 5, 6, 1, 0] rfl ?_
        exact T_worthiest_b76_ok T hR e hk7 h
      · refine k_aload_n hX dX9_worthiest_52 rfl 2 rfl ?_
        refine k_iload hX dX9_worthiest_53 1 rfl ?_
        refine k_iload hX dX9_worthiest_55 0 rfl ?_
        refine cX_isKnown T (met_isKnown T.2.1) (room_le hR rfl rfl) h rfl dX9_worthiest_57 (fun v6 h => ?_)
        refine k_if_ne (tgt := 75) hX h dX9_worthiest_60 (by decide) (fun h => ?_) (fun h => ?_)
        · refine k_iconst (v := 0) hX dX9_worthiest_75 (by decide) ?_
          refine k_lv [2, 3, 4, 5, 6, 1, 0] rfl ?_
          exact T_worthiest_b76_ok T hR e hk7 h
        · refine k_aload_n hX dX9_worthiest_63 rfl 2 rfl ?_
          refine k_iload_n hX dX9_worthiest_64 rfl 3 rfl ?_
          refine cX_meanFrom0 T (met_meanFrom0 T.2.1) (room_le hR rfl rfl) h rfl dX9_worthiest_65 (fun v8 τ7 h => ?_)
          refine k_if_lt (tgt := 75) hX h dX9_worthiest_68 (by decide) (fun h => ?_) (fun h => ?_)
          · refine k_iconst (v := 0) hX dX9_worthiest_75 (by decide) ?_
            refine k_lv [2, 3, 4, 5, 6, 1, 0] rfl ?_
            exact T_worthiest_b76_ok T hR e hk7 h
          · refine k_iconst (v := 1) hX dX9_worthiest_71 (by decide) ?_
            refine k_goto (tgt := 76) hX dX9_worthiest_72 (by decide) ?_
            refine k_lv [2, 3, 4, 5, 6, 1, 0] rfl ?_
            exact T_worthiest_b76_ok T hR e hk7 h
theorem T_worthiest_b7_ok {X : KC TS} {E : TE} {z : (Int32 × TS)} (T : tOK X E cX9_worthiest 9 (some .int)) (hR : tRoom X 142 3713) (e : tE_i X E z.1 z.2) {nf : Nat} : ∀ (n : Nat) (x1 : Int32) (x2 : Int32) (x3 : Int32) (x4 : Int32) (τ : TS), T_worthiest_b7 nf n x1 x2 x3 x4 τ = some z → kW X τ 7 [(0, .ref (E.2.2.2.2.1 0)), (1, .int x1), (2, .int x2), (3, .int x3), (4, .int x4)] [] := by
  intro n
  induction n with
  | zero => intro x1 x2 x3 x4 τ h; exact (nomatch (show (none : Option (Int32 × TS)) = some z from h))
  | succ n ih =>
    intro x1 x2 x3 x4 τ h
    have h : T_worthiest_b7_s nf (T_worthiest_b7 nf n) x1 x2 x3 x4 τ = some z := h
    exact T_worthiest_b7_s_ok T hR e ih h
theorem met_worthiest {l : Launch} {E : TE} (hE : tEnv E) {nf : Nat} : ∀ (x1 : Int32) (τ : TS) (z : (Int32 × TS)), T_worthiest nf x1 τ = some z → tMet_i l E yX9_worthiest (ws_ yX9_worthiest cX9_worthiest 9 (some .int)) 142 3713 [.ref (E.2.2.2.2.1 0), .int x1] τ z.1 z.2 := by
  intro x1 τ z h
  refine t_met_i hE (by decide +kernel) rfl rfl (fun X hl T hR e => ?_)
  unfold T_worthiest at h
  have hX := T.1
  show kW X τ 0 [(0, .ref (E.2.2.2.2.1 0)), (1, .int x1)] []
  refine k_iconst (v := (-1)) hX dX9_worthiest_0 (by decide) ?_
  refine k_istore_n [(2, .int (-1)), (0, .ref (E.2.2.2.2.1 0)), (1, .int x1)] hX dX9_worthiest_1 rfl rfl rfl ?_
  refine k_iconst (v := 0) hX dX9_worthiest_2 (by decide) ?_
  refine k_istore_n [(3, .int 0), (2, .int (-1)), (0, .ref (E.2.2.2.2.1 0)), (1, .int x1)] hX dX9_worthiest_3 rfl rfl rfl ?_
  refine k_iconst (v := 0) hX dX9_worthiest_4 (by decide) ?_
  refine k_istore [(4, .int 0), (3, .int 0), (2, .int (-1)), (0, .ref (E.2.2.2.2.1 0)), (1, .int x1)] hX dX9_worthiest_5 rfl rfl ?_
  refine k_lv [3, 4, 2, 1, 0] rfl ?_
  exact T_worthiest_b7_ok T hR e _ _ _ _ _ _ h
theorem T_chanceFrom_b125_ok {X : KC TS} {E : TE} {z : (Int32 × TS)} (T : tOK X E cX9_chanceFrom 11 (some .int)) {Fr Lr : Nat} (hR : tRoom X (Fr + 145) (Lr + 3789)) (e : tE_i X E z.1 z.2) {nf : Nat} {rc : Int32 → Int32 → Int32 → TS → Option (Int32 × TS)} (hrc : ∀ (a0 : Int32) (a1 : Int32) (a2 : Int32) (τ : TS) (v : (Int32 × TS)), rc a0 a1 a2 τ = some v → tMet_i X.1.2.1 E yX9_chanceFrom (ws_ yX9_chanceFrom cX9_chanceFrom 11 (some .int)) Fr Lr [.ref (E.2.2.2.2.1 0), .int a0, .int a1, .int a2] τ v.1 v.2) {k102 : Int32 → Int32 → Int32 → Int32 → Int32 → Int32 → Int32 → Int32 → TS → Option (Int32 × TS)} (hk102 : ∀ (x1 : Int32) (x2 : Int32) (x3 : Int32) (x4 : Int32) (x5 : Int32) (x6 : Int32) (x7 : Int32) (x8 : Int32) (τ : TS), k102 x1 x2 x3 x4 x5 x6 x7 x8 τ = some z → kW X τ 102 [(0, .ref (E.2.2.2.2.1 0)), (1, .int x1), (2, .int x2), (3, .int x3), (4, .int x4), (5, .int x5), (6, .int x6), (7, .int x7), (8, .int x8)] []) {x1 : Int32} {x2 : Int32} {x3 : Int32} {x4 : Int32} {x5 : Int32} {x6 : Int32} {x7 : Int32} {x8 : Int32} {s0 : Int32} {τ : TS} (h : T_chanceFrom_b125 nf rc k102 x1 x2 x3 x4 x5 x6 x7 x8 s0 τ = some z) : kW X τ 125 [(0, .ref (E.2.2.2.2.1 0)), (1, .int x1), (2, .int x2), (3, .int x3), (4, .int x4), (5, .int x5), (6, .int x6), (7, .int x7), (8, .int x8)] [.int s0] := by
  unfold T_chanceFrom_b125 at h
  have hX := T.1
  refine k_istore [(9, .int s0), (0, .ref (E.2.2.2.2.1 0)), (1, .int x1), (2, .int x2), (3, .int x3), (4, .int x4), (5, .int x5), (6, .int x6), (7, .int x7), (8, .int x8)] hX dX9_chanceFrom_125 rfl rfl ?_
  refine k_aload_n hX dX9_chanceFrom_127 rfl 1 rfl ?_
  refine k_iload_n hX dX9_chanceFrom_128 rfl 2 rfl ?_
  refine k_iload_n hX dX9_chanceFrom_129 rfl 3 rfl ?_
  refine k_iload hX dX9_chanceFrom_130 6 rfl ?_
  refine k_iload hX dX9_chanceFrom_132 0 rfl ?_
  refine cX_wayOf T (met_wayOf T.2.1 (met_worthFrom T.2.1 20)) (room_lo hR (by omega) (by omega)) h rfl dX9_chanceFrom_134 (fun v2 τ1 h => ?_)
  refine k_istore [(10, .int v2), (9, .int s0), (0, .ref (E.2.2.2.2.1 0)), (1, .int x1), (2, .int x2), (3, .int x3), (4, .int x4), (5, .int x5), (6, .int x6), (7, .int x7), (8, .int x8)] hX dX9_chanceFrom_137 rfl rfl ?_
  refine k_iload hX dX9_chanceFrom_139 8 rfl ?_
  refine k_aload_n hX dX9_chanceFrom_141 rfl 2 rfl ?_
  refine k_iload_n hX dX9_chanceFrom_142 rfl 3 rfl ?_
  refine k_iconst (v := 1) hX dX9_chanceFrom_143 (by decide) ?_
  refine k_iadd hX dX9_chanceFrom_144 ?_
  refine k_iload hX dX9_chanceFrom_145 0 rfl ?_
  refine k_isub hX dX9_chanceFrom_147 ?_
  refine k_iload_n hX dX9_chanceFrom_148 rfl 4 rfl ?_
  refine k_iload hX dX9_chanceFrom_149 0 rfl ?_
  refine k_iadd hX dX9_chanceFrom_151 ?_
  refine k_iload_n hX dX9_chanceFrom_152 rfl 5 rfl ?_
  refine k_aload_n hX dX9_chanceFrom_153 rfl 2 rfl ?_
  refine k_iload_n hX dX9_chanceFrom_154 rfl 3 rfl ?_
  refine k_iload_n hX dX9_chanceFrom_155 rfl 4 rfl ?_
  refine k_iload hX dX9_chanceFrom_156 0 rfl ?_
  refine k_iload hX dX9_chanceFrom_158 1 rfl ?_
  refine cX_waitFor T (met_waitFor T.2.1) (room_lo hR (by omega) (by omega)) h rfl dX9_chanceFrom_160 (fun v3 h => ?_)
  refine k_iadd hX dX9_chanceFrom_163 ?_
  refine k_aload_n hX dX9_chanceFrom_164 rfl 2 rfl ?_
  refine tg10 T dX9_chanceFrom_165 ?_
  refine k_iconst (v := 2) hX dX9_chanceFrom_168 (by decide) ?_
  refine ta10 T h dX9_chanceFrom_169 (fun v4 h => ?_)
  refine k_iadd hX dX9_chanceFrom_170 ?_
  refine cX_chanceFrom T (hrc) (room_lo hR (by omega) (by omega)) h rfl dX9_chanceFrom_171 (fun v6 τ5 h => ?_)
  refine k_iadd hX dX9_chanceFrom_174 ?_
  refine k_nm h (fun v7 h => ?_)
  refine k_istore [(6, .int v7), (10, .int v2), (9, .int s0), (0, .ref (E.2.2.2.2.1 0)), (1, .int x1), (2, .int x2), (3, .int x3), (4, .int x4), (5, .int x5), (7, .int x7), (8, .int x8)] hX dX9_chanceFrom_175 rfl rfl ?_
  refine k_iinc (j := 10) [(8, .int (x8 + 1)), (6, .int v7), (10, .int v2), (9, .int s0), (0, .ref (E.2.2.2.2.1 0)), (1, .int x1), (2, .int x2), (3, .int x3), (4, .int x4), (5, .int x5), (7, .int x7)] hX dX9_chanceFrom_177 rfl rfl rfl rfl ?_
  refine k_goto (tgt := 102) hX dX9_chanceFrom_180 (by decide) ?_
  refine k_lv [4, 5, 6, 7, 8, 9, 1, 10, 0] rfl ?_
  exact hk102 _ _ _ _ _ _ _ _ _ h
theorem T_chanceFrom_b102_s_ok {X : KC TS} {E : TE} {z : (Int32 × TS)} (T : tOK X E cX9_chanceFrom 11 (some .int)) {Fr Lr : Nat} (hR : tRoom X (Fr + 145) (Lr + 3789)) (e : tE_i X E z.1 z.2) {nf : Nat} {rc : Int32 → Int32 → Int32 → TS → Option (Int32 × TS)} (hrc : ∀ (a0 : Int32) (a1 : Int32) (a2 : Int32) (τ : TS) (v : (Int32 × TS)), rc a0 a1 a2 τ = some v → tMet_i X.1.2.1 E yX9_chanceFrom (ws_ yX9_chanceFrom cX9_chanceFrom 11 (some .int)) Fr Lr [.ref (E.2.2.2.2.1 0), .int a0, .int a1, .int a2] τ v.1 v.2) {k102 : Int32 → Int32 → Int32 → Int32 → Int32 → Int32 → Int32 → Int32 → TS → Option (Int32 × TS)} (hk102 : ∀ (x1 : Int32) (x2 : Int32) (x3 : Int32) (x4 : Int32) (x5 : Int32) (x6 : Int32) (x7 : Int32) (x8 : Int32) (τ : TS), k102 x1 x2 x3 x4 x5 x6 x7 x8 τ = some z → kW X τ 102 [(0, .ref (E.2.2.2.2.1 0)), (1, .int x1), (2, .int x2), (3, .int x3), (4, .int x4), (5, .int x5), (6, .int x6), (7, .int x7), (8, .int x8)] []) {x1 : Int32} {x2 : Int32} {x3 : Int32} {x4 : Int32} {x5 : Int32} {x6 : Int32} {x7 : Int32} {x8 : Int32} {τ : TS} (h : T_chanceFrom_b102_s nf rc k102 x1 x2 x3 x4 x5 x6 x7 x8 τ = some z) : kW X τ 102 [(0, .ref (E.2.2.2.2.1 0)), (1, .int x1), (2, .int x2), (3, .int x3), (4, .int x4), (5, .int x5), (6, .int x6), (7, .int x7), (8, .int x8)] [] := by
  unfold T_chanceFrom_b102_s at h
  have hX := T.1
  refine k_iload hX dX9_chanceFrom_102 8 rfl ?_
  refine k_iload hX dX9_chanceFrom_104 7 rfl ?_
  refine k_icmp_ge (tgt := 183) hX h dX9_chanceFrom_106 (by decide) (fun h => ?_) (fun h => ?_)
  · refine k_aload_n hX dX9_chanceFrom_183 rfl 0 rfl ?_
    refine tg31 T dX9_chanceFrom_184 ?_
    refine k_iload hX dX9_chanceFrom_187 4 rfl ?_
    refine k_iload hX dX9_chanceFrom_189 6 rfl ?_
    refine k_iload hX dX9_chanceFrom_191 7 rfl ?_
    refine k_idiv hX h dX9_chanceFrom_193 (fun h => ?_)
    refine ts31 T h dX9_chanceFrom_194 (fun τ1 h => ?_)
    refine k_aload_n hX dX9_chanceFrom_195 rfl 0 rfl ?_
    refine tg32 T dX9_chanceFrom_196 ?_
    refine k_iload hX dX9_chanceFrom_199 4 rfl ?_
    refine k_aload_n hX dX9_chanceFrom_201 rfl 0 rfl ?_
    refine tg33 T dX9_chanceFrom_202 ?_
    refine ts32 T h dX9_chanceFrom_205 (fun τ2 h => ?_)
    refine k_aload_n hX dX9_chanceFrom_206 rfl 0 rfl ?_
    refine tg31 T dX9_chanceFrom_207 ?_
    refine k_iload hX dX9_chanceFrom_210 4 rfl ?_
    refine ta31 T h dX9_chanceFrom_212 (fun v3 h => ?_)
    exact t_ret_i T e h dX9_chanceFrom_213
  · refine k_aload_n hX dX9_chanceFrom_109 rfl 0 rfl ?_
    refine k_iload_n hX dX9_chanceFrom_110 rfl 1 rfl ?_
    refine k_iload_n hX dX9_chanceFrom_111 rfl 2 rfl ?_
    refine cX_isUnknown T (met_isUnknown T.2.1) (room_lo hR (by omega) (by omega)) h rfl dX9_chanceFrom_112 (fun v4 h => ?_)
    refine k_if_eq (tgt := 123) hX h dX9_chanceFrom_115 (by decide) (fun h => ?_) (fun h => ?_)
    · refine k_iload hX dX9_chanceFrom_123 5 rfl ?_
      refine k_lv [0, 1, 2, 3, 4, 5, 6, 7, 8] rfl ?_
      exact T_chanceFrom_b125_ok T hR e hrc hk102 h
    · refine k_iload hX dX9_chanceFrom_118 8 rfl ?_
      refine k_goto (tgt := 125) hX dX9_chanceFrom_120 (by decide) ?_
      refine k_lv [0, 1, 2, 3, 4, 5, 6, 7, 8] rfl ?_
      exact T_chanceFrom_b125_ok T hR e hrc hk102 h
theorem T_chanceFrom_b102_ok {X : KC TS} {E : TE} {z : (Int32 × TS)} (T : tOK X E cX9_chanceFrom 11 (some .int)) {Fr Lr : Nat} (hR : tRoom X (Fr + 145) (Lr + 3789)) (e : tE_i X E z.1 z.2) {nf : Nat} {rc : Int32 → Int32 → Int32 → TS → Option (Int32 × TS)} (hrc : ∀ (a0 : Int32) (a1 : Int32) (a2 : Int32) (τ : TS) (v : (Int32 × TS)), rc a0 a1 a2 τ = some v → tMet_i X.1.2.1 E yX9_chanceFrom (ws_ yX9_chanceFrom cX9_chanceFrom 11 (some .int)) Fr Lr [.ref (E.2.2.2.2.1 0), .int a0, .int a1, .int a2] τ v.1 v.2) : ∀ (n : Nat) (x1 : Int32) (x2 : Int32) (x3 : Int32) (x4 : Int32) (x5 : Int32) (x6 : Int32) (x7 : Int32) (x8 : Int32) (τ : TS), T_chanceFrom_b102 nf rc n x1 x2 x3 x4 x5 x6 x7 x8 τ = some z → kW X τ 102 [(0, .ref (E.2.2.2.2.1 0)), (1, .int x1), (2, .int x2), (3, .int x3), (4, .int x4), (5, .int x5), (6, .int x6), (7, .int x7), (8, .int x8)] [] := by
  intro n
  induction n with
  | zero => intro x1 x2 x3 x4 x5 x6 x7 x8 τ h; exact (nomatch (show (none : Option (Int32 × TS)) = some z from h))
  | succ n ih =>
    intro x1 x2 x3 x4 x5 x6 x7 x8 τ h
    have h : T_chanceFrom_b102_s nf rc (T_chanceFrom_b102 nf rc n) x1 x2 x3 x4 x5 x6 x7 x8 τ = some z := h
    exact T_chanceFrom_b102_s_ok T hR e hrc ih h
theorem met_chanceFrom_s {l : Launch} {E : TE} (hE : tEnv E) {nf : Nat} {rc : Int32 → Int32 → Int32 → TS → Option (Int32 × TS)} {Fr Lr : Nat} (hrc : ∀ (a0 : Int32) (a1 : Int32) (a2 : Int32) (τ : TS) (v : (Int32 × TS)), rc a0 a1 a2 τ = some v → tMet_i l E yX9_chanceFrom (ws_ yX9_chanceFrom cX9_chanceFrom 11 (some .int)) Fr Lr [.ref (E.2.2.2.2.1 0), .int a0, .int a1, .int a2] τ v.1 v.2) : ∀ (x1 : Int32) (x2 : Int32) (x3 : Int32) (τ : TS) (z : (Int32 × TS)), T_chanceFrom_s nf rc x1 x2 x3 τ = some z → tMet_i l E yX9_chanceFrom (ws_ yX9_chanceFrom cX9_chanceFrom 11 (some .int)) (Fr + 145) (Lr + 3789) [.ref (E.2.2.2.2.1 0), .int x1, .int x2, .int x3] τ z.1 z.2 := by
  intro x1 x2 x3 τ z h
  refine t_met_i hE (by decide +kernel) rfl rfl (fun X hl T hR e => ?_)
  unfold T_chanceFrom_s at h
  have hX := T.1
  show kW X τ 0 [(0, .ref (E.2.2.2.2.1 0)), (1, .int x1), (2, .int x2), (3, .int x3)] []
  subst hl
  refine k_aload_n hX dX9_chanceFrom_0 rfl 0 rfl ?_
  refine k_iload_n hX dX9_chanceFrom_1 rfl 1 rfl ?_
  refine k_iload_n hX dX9_chanceFrom_2 rfl 2 rfl ?_
  refine cX_isHome T (met_isHome T.2.1) (room_lo hR (by omega) (by omega)) h rfl dX9_chanceFrom_3 (fun v1 h => ?_)
  refine k_if_eq (tgt := 30) hX h dX9_chanceFrom_6 (by decide) (fun h => ?_) (fun h => ?_)
  · refine k_sipush (v := 1200) hX dX9_chanceFrom_30 (by decide) ?_
    refine k_bipush (v := 6) hX dX9_chanceFrom_33 (by decide) ?_
    refine k_iload_n hX dX9_chanceFrom_35 rfl 2 rfl ?_
    refine k_imul hX dX9_chanceFrom_36 ?_
    refine k_iload_n hX dX9_chanceFrom_37 rfl 1 rfl ?_
    refine k_iadd hX dX9_chanceFrom_38 ?_
    refine k_imul hX dX9_chanceFrom_39 ?_
    refine k_iload_n hX dX9_chanceFrom_40 rfl 3 rfl ?_
    refine k_iadd hX dX9_chanceFrom_41 ?_
    refine k_nm h (fun v2 h => ?_)
    refine k_istore [(4, .int v2), (0, .ref (E.2.2.2.2.1 0)), (1, .int x1), (2, .int x2), (3, .int x3)] hX dX9_chanceFrom_42 rfl rfl ?_
    refine k_aload_n hX dX9_chanceFrom_44 rfl 1 rfl ?_
    refine tg32 T dX9_chanceFrom_45 ?_
    refine k_iload hX dX9_chanceFrom_48 0 rfl ?_
    refine ta32 T h dX9_chanceFrom_50 (fun v3 h => ?_)
    refine k_aload_n hX dX9_chanceFrom_51 rfl 1 rfl ?_
    refine tg33 T dX9_chanceFrom_52 ?_
    refine k_icmp_eq (tgt := 206) hX h dX9_chanceFrom_55 (by decide) (fun h => ?_) (fun h => ?_)
    · refine k_aload_n hX dX9_chanceFrom_206 rfl 1 rfl ?_
      refine tg31 T dX9_chanceFrom_207 ?_
      refine k_iload hX dX9_chanceFrom_210 0 rfl ?_
      refine ta31 T h dX9_chanceFrom_212 (fun v4 h => ?_)
      exact t_ret_i T e h dX9_chanceFrom_213
    · refine k_aload_n hX dX9_chanceFrom_58 rfl 1 rfl ?_
      refine tg34 T dX9_chanceFrom_59 ?_
      refine k_iload_n hX dX9_chanceFrom_62 rfl 4 rfl ?_
      refine k_iadd hX dX9_chanceFrom_63 ?_
      refine k_aload_n hX dX9_chanceFrom_64 rfl 1 rfl ?_
      refine tg10 T dX9_chanceFrom_65 ?_
      refine k_bipush (v := 9) hX dX9_chanceFrom_68 (by decide) ?_
      refine ta10 T h dX9_chanceFrom_70 (fun v5 h => ?_)
      refine k_irem hX h dX9_chanceFrom_71 (fun h => ?_)
      refine k_nm h (fun v6 h => ?_)
      refine k_istore [(5, .int v6), (4, .int v2), (0, .ref (E.2.2.2.2.1 0)), (1, .int x1), (2, .int x2), (3, .int x3)] hX dX9_chanceFrom_72 rfl rfl ?_
      refine k_iconst (v := 0) hX dX9_chanceFrom_74 (by decide) ?_
      refine k_istore [(6, .int 0), (5, .int v6), (4, .int v2), (0, .ref (E.2.2.2.2.1 0)), (1, .int x1), (2, .int x2), (3, .int x3)] hX dX9_chanceFrom_75 rfl rfl ?_
      refine k_aload_n hX dX9_chanceFrom_77 rfl 3 rfl ?_
      refine k_iload_n hX dX9_chanceFrom_78 rfl 4 rfl ?_
      refine k_iload_n hX dX9_chanceFrom_79 rfl 5 rfl ?_
      refine cX_isUnknown T (met_isUnknown T.2.1) (room_lo hR (by omega) (by omega)) h rfl dX9_chanceFrom_80 (fun v7 h => ?_)
      refine k_if_eq (tgt := 96) hX h dX9_chanceFrom_83 (by decide) (fun h => ?_) (fun h => ?_)
      · refine k_iconst (v := 1) hX dX9_chanceFrom_96 (by decide) ?_
        refine k_istore [(7, .int 1), (6, .int 0), (5, .int v6), (4, .int v2), (0, .ref (E.2.2.2.2.1 0)), (1, .int x1), (2, .int x2), (3, .int x3)] hX dX9_chanceFrom_97 rfl rfl ?_
        refine k_iconst (v := 0) hX dX9_chanceFrom_99 (by decide) ?_
        refine k_istore [(8, .int 0), (7, .int 1), (6, .int 0), (5, .int v6), (4, .int v2), (0, .ref (E.2.2.2.2.1 0)), (1, .int x1), (2, .int x2), (3, .int x3)] hX dX9_chanceFrom_100 rfl rfl ?_
        refine k_lv [5, 6, 7, 8, 4, 3, 2, 1, 0] rfl ?_
        exact T_chanceFrom_b102_ok T hR e hrc _ _ _ _ _ _ _ _ _ _ h
      · refine k_aload_n hX dX9_chanceFrom_86 rfl 3 rfl ?_
        refine k_iload_n hX dX9_chanceFrom_87 rfl 4 rfl ?_
        refine k_iload_n hX dX9_chanceFrom_88 rfl 5 rfl ?_
        refine k_iconst (v := 1) hX dX9_chanceFrom_89 (by decide) ?_
        refine cX_lightAt T (met_lightAt T.2.1) (room_lo hR (by omega) (by omega)) h rfl dX9_chanceFrom_90 (fun v8 h => ?_)
        refine k_goto (tgt := 97) hX dX9_chanceFrom_93 (by decide) ?_
        refine k_istore [(7, .int v8), (6, .int 0), (5, .int v6), (4, .int v2), (0, .ref (E.2.2.2.2.1 0)), (1, .int x1), (2, .int x2), (3, .int x3)] hX dX9_chanceFrom_97 rfl rfl ?_
        refine k_iconst (v := 0) hX dX9_chanceFrom_99 (by decide) ?_
        refine k_istore [(8, .int 0), (7, .int v8), (6, .int 0), (5, .int v6), (4, .int v2), (0, .ref (E.2.2.2.2.1 0)), (1, .int x1), (2, .int x2), (3, .int x3)] hX dX9_chanceFrom_100 rfl rfl ?_
        refine k_lv [5, 6, 7, 8, 4, 3, 2, 1, 0] rfl ?_
        exact T_chanceFrom_b102_ok T hR e hrc _ _ _ _ _ _ _ _ _ _ h
  · refine k_aload_n hX dX9_chanceFrom_9 rfl 0 rfl ?_
    refine tg34 T dX9_chanceFrom_10 ?_
    refine k_iload_n hX dX9_chanceFrom_13 rfl 3 rfl ?_
    refine k_iadd hX dX9_chanceFrom_14 ?_
    refine k_aload_n hX dX9_chanceFrom_15 rfl 0 rfl ?_
    refine tg35 T dX9_chanceFrom_16 ?_
    refine k_icmp_gt (tgt := 28) hX h dX9_chanceFrom_19 (by decide) (fun h => ?_) (fun h => ?_)
    · refine k_iconst (v := 0) hX dX9_chanceFrom_28 (by decide) ?_
      exact t_ret_i T e h dX9_chanceFrom_29
    · refine k_ldcw (v := 1000000) hX q1982 dX9_chanceFrom_22 ?_
      refine k_goto (tgt := 29) hX dX9_chanceFrom_25 (by decide) ?_
      exact t_ret_i T e h dX9_chanceFrom_29
theorem met_chanceFrom {l : Launch} {E : TE} (hE : tEnv E) {nf : Nat} : ∀ (dp : Nat) (x1 : Int32) (x2 : Int32) (x3 : Int32) (τ : TS) (z : (Int32 × TS)), T_chanceFrom nf dp x1 x2 x3 τ = some z → tMet_i l E yX9_chanceFrom (ws_ yX9_chanceFrom cX9_chanceFrom 11 (some .int)) (145 * dp) (3789 * dp) [.ref (E.2.2.2.2.1 0), .int x1, .int x2, .int x3] τ z.1 z.2 := by
  intro dp
  induction dp with
  | zero => intro x1 x2 x3 τ z h; exact (nomatch (show (none : Option (Int32 × TS)) = some z from h))
  | succ dp ih =>
    intro x1 x2 x3 τ z h
    have h : T_chanceFrom_s nf (T_chanceFrom nf dp) x1 x2 x3 τ = some z := h
    exact met_chanceFrom_s hE ih _ _ _ _ _ h
theorem met_odds {l : Launch} {E : TE} (hE : tEnv E) {nf : Nat} : ∀ (x1 : Int32) (x2 : Int32) (x3 : Int32) (τ : TS) (z : (Int32 × TS)), T_odds nf x1 x2 x3 τ = some z → tMet_i l E yX9_odds (ws_ yX9_odds cX9_odds 4 (some .int)) 2901 75810 [.ref (E.2.2.2.2.1 0), .int x1, .int x2, .int x3] τ z.1 z.2 := by
  intro x1 x2 x3 τ z h
  refine t_met_i hE (by decide +kernel) rfl rfl (fun X hl T hR e => ?_)
  unfold T_odds at h
  have hX := T.1
  show kW X τ 0 [(0, .ref (E.2.2.2.2.1 0)), (1, .int x1), (2, .int x2), (3, .int x3)] []
  refine k_aload_n hX dX9_odds_0 rfl 0 rfl ?_
  refine k_iconst (v := 0) hX dX9_odds_1 (by decide) ?_
  refine tp0 T h dX9_odds_2 (fun τ1 h => ?_)
  refine k_aload_n hX dX9_odds_5 rfl 0 rfl ?_
  refine k_iload_n hX dX9_odds_6 rfl 1 rfl ?_
  refine cX_isGoer T (met_isGoer T.2.1) (room_le hR rfl rfl) h rfl dX9_odds_7 (fun v2 h => ?_)
  refine k_if_eq (tgt := 29) hX h dX9_odds_10 (by decide) (fun h => ?_) (fun h => ?_)
  · refine k_iconst (v := (-1)) hX dX9_odds_29 (by decide) ?_
    exact t_ret_i T e h dX9_odds_30
  · refine k_aload_n hX dX9_odds_13 rfl 0 rfl ?_
    refine k_iload_n hX dX9_odds_14 rfl 2 rfl ?_
    refine cX_isSecond T (met_isSecond T.2.1) (room_le hR rfl rfl) h rfl dX9_odds_15 (fun v3 h => ?_)
    refine k_if_eq (tgt := 29) hX h dX9_odds_18 (by decide) (fun h => ?_) (fun h => ?_)
    · refine k_iconst (v := (-1)) hX dX9_odds_29 (by decide) ?_
      exact t_ret_i T e h dX9_odds_30
    · refine k_aload_n hX dX9_odds_21 rfl 0 rfl ?_
      refine k_iload_n hX dX9_odds_22 rfl 3 rfl ?_
      refine cX_isSecond T (met_isSecond T.2.1) (room_le hR rfl rfl) h rfl dX9_odds_23 (fun v4 h => ?_)
      refine k_if_ne (tgt := 31) hX h dX9_odds_26 (by decide) (fun h => ?_) (fun h => ?_)
      · refine k_aload_n hX dX9_odds_31 rfl 0 rfl ?_
        refine k_iload_n hX dX9_odds_32 rfl 1 rfl ?_
        refine k_iconst (v := 0) hX dX9_odds_33 (by decide) ?_
        refine k_iconst (v := (-1)) hX dX9_odds_34 (by decide) ?_
        refine k_iconst (v := 0) hX dX9_odds_35 (by decide) ?_
        refine cX_asks T (met_asks T.2.1) (room_le hR rfl rfl) h rfl dX9_odds_36 (fun τ5 h => ?_)
        refine k_aload_n hX dX9_odds_39 rfl 0 rfl ?_
        refine k_iconst (v := 0) hX dX9_odds_40 (by decide) ?_
        refine k_iconst (v := 0) hX dX9_odds_41 (by decide) ?_
        refine k_iload_n hX dX9_odds_42 rfl 2 rfl ?_
        refine cX_worthFrom T (met_worthFrom T.2.1 20) (room_le hR rfl rfl) h rfl dX9_odds_43 (fun v7 τ6 h => ?_)
        refine k_if_ge (tgt := 51) hX h dX9_odds_46 (by decide) (fun h => ?_) (fun h => ?_)
        · refine k_aload_n hX dX9_odds_51 rfl 0 rfl ?_
          refine k_dup hX dX9_odds_52 rfl ?_
          refine tg33 T dX9_odds_53 ?_
          refine k_iconst (v := 1) hX dX9_odds_56 (by decide) ?_
          refine k_iadd hX dX9_odds_57 ?_
          refine tp33 T h dX9_odds_58 (fun τ8 h => ?_)
          refine k_aload_n hX dX9_odds_61 rfl 0 rfl ?_
          refine k_iload_n hX dX9_odds_62 rfl 2 rfl ?_
          refine tp34 T h dX9_odds_63 (fun τ9 h => ?_)
          refine k_aload_n hX dX9_odds_66 rfl 0 rfl ?_
          refine k_iload_n hX dX9_odds_67 rfl 3 rfl ?_
          refine tp35 T h dX9_odds_68 (fun τ10 h => ?_)
          refine k_aload_n hX dX9_odds_71 rfl 0 rfl ?_
          refine k_iconst (v := 0) hX dX9_odds_72 (by decide) ?_
          refine k_iconst (v := 0) hX dX9_odds_73 (by decide) ?_
          refine k_iconst (v := 0) hX dX9_odds_74 (by decide) ?_
          refine cX_chanceFrom T (met_chanceFrom T.2.1 20) (room_le hR rfl rfl) h rfl dX9_odds_75 (fun v12 τ11 h => ?_)
          exact t_ret_i T e h dX9_odds_78
        · refine k_iconst (v := (-1)) hX dX9_odds_49 (by decide) ?_
          exact t_ret_i T e h dX9_odds_50
      · refine k_iconst (v := (-1)) hX dX9_odds_29 (by decide) ?_
        exact t_ret_i T e h dX9_odds_30
theorem met_slowTime {l : Launch} {E : TE} (hE : tEnv E) {τ : TS} : ∀ (z : Int32), T_slowTime τ = some z → tMet_i l E yX9_slowTime (ws_ yX9_slowTime cX9_slowTime 1 (some .int)) 0 0 [.ref (E.2.2.2.2.1 0)] τ z τ := by
  intro z h
  refine t_met_i hE (by decide +kernel) rfl rfl (fun X hl T hR e => ?_)
  unfold T_slowTime at h
  have hX := T.1
  show kW X τ 0 [(0, .ref (E.2.2.2.2.1 0))] []
  refine k_aload_n hX dX9_slowTime_0 rfl 0 rfl ?_
  refine tg10 T dX9_slowTime_1 ?_
  refine k_iconst (v := 4) hX dX9_slowTime_4 (by decide) ?_
  refine ta10 T h dX9_slowTime_5 (fun v1 h => ?_)
  refine k_if_ge (tgt := 18) hX h dX9_slowTime_6 (by decide) (fun h => ?_) (fun h => ?_)
  · refine k_aload_n hX dX9_slowTime_18 rfl 0 rfl ?_
    refine tg10 T dX9_slowTime_19 ?_
    refine k_iconst (v := 4) hX dX9_slowTime_22 (by decide) ?_
    refine ta10 T h dX9_slowTime_23 (fun v2 h => ?_)
    exact t_ret_ir T e h dX9_slowTime_24
  · refine k_aload_n hX dX9_slowTime_9 rfl 0 rfl ?_
    refine tg10 T dX9_slowTime_10 ?_
    refine k_iconst (v := 2) hX dX9_slowTime_13 (by decide) ?_
    refine ta10 T h dX9_slowTime_14 (fun v3 h => ?_)
    refine k_goto (tgt := 24) hX dX9_slowTime_15 (by decide) ?_
    exact t_ret_ir T e h dX9_slowTime_24
theorem met_fastest {l : Launch} {E : TE} (hE : tEnv E) {τ : TS} : ∀ (z : Int32), T_fastest τ = some z → tMet_i l E yX9_fastest (ws_ yX9_fastest cX9_fastest 1 (some .int)) 1 20 [.ref (E.2.2.2.2.1 0)] τ z τ := by
  intro z h
  refine t_met_i hE (by decide +kernel) rfl rfl (fun X hl T hR e => ?_)
  unfold T_fastest at h
  have hX := T.1
  show kW X τ 0 [(0, .ref (E.2.2.2.2.1 0))] []
  refine k_aload_n hX dX9_fastest_0 rfl 0 rfl ?_
  refine cX_runTime T (met_runTime T.2.1) (room_le hR rfl rfl) h rfl dX9_fastest_1 (fun v1 h => ?_)
  refine k_aload_n hX dX9_fastest_4 rfl 0 rfl ?_
  refine cX_slowTime T (met_slowTime T.2.1) (room_le hR rfl rfl) h rfl dX9_fastest_5 (fun v2 h => ?_)
  refine k_icmp_le (tgt := 20) hX h dX9_fastest_8 (by decide) (fun h => ?_) (fun h => ?_)
  · refine k_aload_n hX dX9_fastest_20 rfl 0 rfl ?_
    refine cX_runTime T (met_runTime T.2.1) (room_le hR rfl rfl) h rfl dX9_fastest_21 (fun v3 h => ?_)
    exact t_ret_ir T e h dX9_fastest_24
  · refine k_aload_n hX dX9_fastest_11 rfl 0 rfl ?_
    refine tg10 T dX9_fastest_12 ?_
    refine k_iconst (v := 2) hX dX9_fastest_15 (by decide) ?_
    refine ta10 T h dX9_fastest_16 (fun v4 h => ?_)
    refine k_goto (tgt := 24) hX dX9_fastest_17 (by decide) ?_
    exact t_ret_ir T e h dX9_fastest_24
theorem T_xAt_b4_s_ok {X : KC TS} {E : TE} {z : Int32} {τ : TS} (T : tOK X E cX9_xAt 4 (some .int)) (hR : tRoom X 0 0) (e : tE_i X E z τ) {nf : Nat} {k4 : Int32 → Int32 → Int32 → Option Int32} (hk4 : ∀ (x1 : Int32) (x2 : Int32) (x3 : Int32), k4 x1 x2 x3 = some z → kW X τ 4 [(0, .ref (E.2.2.2.2.1 0)), (1, .int x1), (2, .int x2), (3, .int x3)] []) {x1 : Int32} {x2 : Int32} {x3 : Int32} (h : T_xAt_b4_s nf τ k4 x1 x2 x3 = some z) : kW X τ 4 [(0, .ref (E.2.2.2.2.1 0)), (1, .int x1), (2, .int x2), (3, .int x3)] [] := by
  unfold T_xAt_b4_s at h
  have hX := T.1
  refine k_iload_n hX dX9_xAt_4 rfl 3 rfl ?_
  refine k_iload_n hX dX9_xAt_5 rfl 1 rfl ?_
  refine k_icmp_ge (tgt := 30) hX h dX9_xAt_6 (by decide) (fun h => ?_) (fun h => ?_)
  · refine k_iload_n hX dX9_xAt_30 rfl 2 rfl ?_
    exact t_ret_ir T e h dX9_xAt_31
  · refine k_iload_n hX dX9_xAt_9 rfl 2 rfl ?_
    refine k_iconst (v := 1) hX dX9_xAt_10 (by decide) ?_
    refine k_aload_n hX dX9_xAt_11 rfl 0 rfl ?_
    refine tg16 T dX9_xAt_12 ?_
    refine k_iconst (v := 1) hX dX9_xAt_15 (by decide) ?_
    refine k_iconst (v := 2) hX dX9_xAt_16 (by decide) ?_
    refine k_iload_n hX dX9_xAt_17 rfl 3 rfl ?_
    refine k_imul hX dX9_xAt_18 ?_
    refine k_iadd hX dX9_xAt_19 ?_
    refine ta16 T h dX9_xAt_20 (fun v1 h => ?_)
    refine k_isub hX dX9_xAt_21 ?_
    refine k_iadd hX dX9_xAt_22 ?_
    refine k_nm h (fun v2 h => ?_)
    refine k_istore_n [(2, .int v2), (0, .ref (E.2.2.2.2.1 0)), (1, .int x1), (3, .int x3)] hX dX9_xAt_23 rfl rfl rfl ?_
    refine k_iinc (j := 3) [(3, .int (x3 + 1)), (2, .int v2), (0, .ref (E.2.2.2.2.1 0)), (1, .int x1)] hX dX9_xAt_24 rfl rfl rfl rfl ?_
    refine k_goto (tgt := 4) hX dX9_xAt_27 (by decide) ?_
    refine k_lv [2, 3, 1, 0] rfl ?_
    exact hk4 _ _ _ h
theorem T_xAt_b4_ok {X : KC TS} {E : TE} {z : Int32} {τ : TS} (T : tOK X E cX9_xAt 4 (some .int)) (hR : tRoom X 0 0) (e : tE_i X E z τ) {nf : Nat} : ∀ (n : Nat) (x1 : Int32) (x2 : Int32) (x3 : Int32), T_xAt_b4 nf τ n x1 x2 x3 = some z → kW X τ 4 [(0, .ref (E.2.2.2.2.1 0)), (1, .int x1), (2, .int x2), (3, .int x3)] [] := by
  intro n
  induction n with
  | zero => intro x1 x2 x3 h; exact (nomatch (show (none : Option Int32) = some z from h))
  | succ n ih =>
    intro x1 x2 x3 h
    have h : T_xAt_b4_s nf τ (T_xAt_b4 nf τ n) x1 x2 x3 = some z := h
    exact T_xAt_b4_s_ok T hR e ih h
theorem met_xAt {l : Launch} {E : TE} (hE : tEnv E) {nf : Nat} {τ : TS} : ∀ (x1 : Int32) (z : Int32), T_xAt nf τ x1 = some z → tMet_i l E yX9_xAt (ws_ yX9_xAt cX9_xAt 4 (some .int)) 0 0 [.ref (E.2.2.2.2.1 0), .int x1] τ z τ := by
  intro x1 z h
  refine t_met_i hE (by decide +kernel) rfl rfl (fun X hl T hR e => ?_)
  unfold T_xAt at h
  have hX := T.1
  show kW X τ 0 [(0, .ref (E.2.2.2.2.1 0)), (1, .int x1)] []
  refine k_iconst (v := 0) hX dX9_xAt_0 (by decide) ?_
  refine k_istore_n [(2, .int 0), (0, .ref (E.2.2.2.2.1 0)), (1, .int x1)] hX dX9_xAt_1 rfl rfl rfl ?_
  refine k_iconst (v := 0) hX dX9_xAt_2 (by decide) ?_
  refine k_istore_n [(3, .int 0), (2, .int 0), (0, .ref (E.2.2.2.2.1 0)), (1, .int x1)] hX dX9_xAt_3 rfl rfl rfl ?_
  refine k_lv [2, 3, 1, 0] rfl ?_
  exact T_xAt_b4_ok T hR e _ _ _ _ h
theorem met_slowest {l : Launch} {E : TE} (hE : tEnv E) {τ : TS} : ∀ (z : Int32), T_slowest τ = some z → tMet_i l E yX9_slowest (ws_ yX9_slowest cX9_slowest 1 (some .int)) 1 20 [.ref (E.2.2.2.2.1 0)] τ z τ := by
  intro z h
  refine t_met_i hE (by decide +kernel) rfl rfl (fun X hl T hR e => ?_)
  unfold T_slowest at h
  have hX := T.1
  show kW X τ 0 [(0, .ref (E.2.2.2.2.1 0))] []
  refine k_aload_n hX dX9_slowest_0 rfl 0 rfl ?_
  refine cX_runTime T (met_runTime T.2.1) (room_le hR rfl rfl) h rfl dX9_slowest_1 (fun v1 h => ?_)
  refine k_aload_n hX dX9_slowest_4 rfl 0 rfl ?_
  refine cX_slowTime T (met_slowTime T.2.1) (room_le hR rfl rfl) h rfl dX9_slowest_5 (fun v2 h => ?_)
  refine k_icmp_le (tgt := 20) hX h dX9_slowest_8 (by decide) (fun h => ?_) (fun h => ?_)
  · refine k_aload_n hX dX9_slowest_20 rfl 0 rfl ?_
    refine cX_slowTime T (met_slowTime T.2.1) (room_le hR rfl rfl) h rfl dX9_slowest_21 (fun v3 h => ?_)
    exact t_ret_ir T e h dX9_slowest_24
  · refine k_aload_n hX dX9_slowest_11 rfl 0 rfl ?_
    refine tg10 T dX9_slowest_12 ?_
    refine k_iconst (v := 2) hX dX9_slowest_15 (by decide) ?_
    refine ta10 T h dX9_slowest_16 (fun v4 h => ?_)
    refine k_goto (tgt := 24) hX dX9_slowest_17 (by decide) ?_
    exact t_ret_ir T e h dX9_slowest_24
theorem T_paceBy_b110_ok {X : KC TS} {E : TE} {z : (Int32 × TS)} (T : tOK X E cX9_paceBy 11 (some .int)) {Fr Lr : Nat} (hR : tRoom X (Fr + 3) (Lr + 74)) (e : tE_i X E z.1 z.2) {nf : Nat} {rc : Int32 → Int32 → Int32 → TS → Option (Int32 × TS)} (hrc : ∀ (a0 : Int32) (a1 : Int32) (a2 : Int32) (τ : TS) (v : (Int32 × TS)), rc a0 a1 a2 τ = some v → tMet_i X.1.2.1 E yX9_bestPace (ws_ yX9_bestPace cX9_bestPace 8 (some .int)) Fr Lr [.ref (E.2.2.2.2.1 0), .int a0, .int a1, .int a2] τ v.1 v.2) {x9 : Int32} {s0 : Int32} {s1 : Int32} {s2 : Int32} {τ : TS} (h : T_paceBy_b110 nf rc x9 s0 s1 s2 τ = some z) : kW X τ 110 [(0, .ref (E.2.2.2.2.1 0)), (9, .int x9)] [.int s0, .int s1, .int s2, .ref (E.2.2.2.2.1 0)] := by
  unfold T_paceBy_b110 at h
  have hX := T.1
  refine cX_bestPace T (hrc) (room_lo hR (by omega) (by omega)) h rfl dX9_paceBy_110 (fun v2 τ1 h => ?_)
  refine k_istore [(10, .int v2), (0, .ref (E.2.2.2.2.1 0)), (9, .int x9)] hX dX9_paceBy_113 rfl rfl ?_
  refine k_iload hX dX9_paceBy_115 0 rfl ?_
  refine k_ldcw (v := 2000000000) hX q2047 dX9_paceBy_117 ?_
  refine k_icmp_eq (tgt := 128) hX h dX9_paceBy_120 (by decide) (fun h => ?_) (fun h => ?_)
  · refine k_iload hX dX9_paceBy_128 0 rfl ?_
    refine k_goto (tgt := 139) hX dX9_paceBy_130 (by decide) ?_
    exact t_ret_i T e h dX9_paceBy_139
  · refine k_iload hX dX9_paceBy_123 2 rfl ?_
    refine k_if_ne (tgt := 133) hX h dX9_paceBy_125 (by decide) (fun h => ?_) (fun h => ?_)
    · refine k_iload hX dX9_paceBy_133 0 rfl ?_
      refine k_ldcw (v := 100000) hX q2172 dX9_paceBy_135 ?_
      refine k_iadd hX dX9_paceBy_138 ?_
      exact t_ret_i T e h dX9_paceBy_139
    · refine k_iload hX dX9_paceBy_128 0 rfl ?_
      refine k_goto (tgt := 139) hX dX9_paceBy_130 (by decide) ?_
      exact t_ret_i T e h dX9_paceBy_139
theorem T_paceBy_b69_ok {X : KC TS} {E : TE} {z : (Int32 × TS)} (T : tOK X E cX9_paceBy 11 (some .int)) {Fr Lr : Nat} (hR : tRoom X (Fr + 3) (Lr + 74)) (e : tE_i X E z.1 z.2) {nf : Nat} {rc : Int32 → Int32 → Int32 → TS → Option (Int32 × TS)} (hrc : ∀ (a0 : Int32) (a1 : Int32) (a2 : Int32) (τ : TS) (v : (Int32 × TS)), rc a0 a1 a2 τ = some v → tMet_i X.1.2.1 E yX9_bestPace (ws_ yX9_bestPace cX9_bestPace 8 (some .int)) Fr Lr [.ref (E.2.2.2.2.1 0), .int a0, .int a1, .int a2] τ v.1 v.2) {x1 : Int32} {x2 : Int32} {x3 : Int32} {x4 : Int32} {x5 : Int32} {x6 : Int32} {x7 : Int32} {x8 : Int32} {τ : TS} (h : T_paceBy_b69 nf rc x1 x2 x3 x4 x5 x6 x7 x8 τ = some z) : kW X τ 69 [(0, .ref (E.2.2.2.2.1 0)), (1, .int x1), (2, .int x2), (3, .int x3), (4, .int x4), (5, .int x5), (6, .int x6), (7, .int x7), (8, .int x8)] [] := by
  unfold T_paceBy_b69 at h
  have hX := T.1
  refine k_aload_n hX dX9_paceBy_69 rfl 0 rfl ?_
  refine k_iload hX dX9_paceBy_70 5 rfl ?_
  refine k_iload hX dX9_paceBy_72 6 rfl ?_
  refine k_iload hX dX9_paceBy_74 7 rfl ?_
  refine k_aload_n hX dX9_paceBy_76 rfl 0 rfl ?_
  refine tg37 T dX9_paceBy_77 ?_
  refine k_iload_n hX dX9_paceBy_80 rfl 2 rfl ?_
  refine k_iadd hX dX9_paceBy_81 ?_
  refine cX_waitFor T (met_waitFor T.2.1) (room_lo hR (by omega) (by omega)) h rfl dX9_paceBy_82 (fun v1 h => ?_)
  refine k_istore [(9, .int v1), (0, .ref (E.2.2.2.2.1 0)), (1, .int x1), (2, .int x2), (3, .int x3), (4, .int x4), (5, .int x5), (6, .int x6), (7, .int x7), (8, .int x8)] hX dX9_paceBy_85 rfl rfl ?_
  refine k_aload_n hX dX9_paceBy_87 rfl 1 rfl ?_
  refine k_iload_n hX dX9_paceBy_88 rfl 2 rfl ?_
  refine k_iconst (v := 1) hX dX9_paceBy_89 (by decide) ?_
  refine k_iadd hX dX9_paceBy_90 ?_
  refine k_iload_n hX dX9_paceBy_91 rfl 3 rfl ?_
  refine k_iload hX dX9_paceBy_92 0 rfl ?_
  refine k_iadd hX dX9_paceBy_94 ?_
  refine k_iload hX dX9_paceBy_95 5 rfl ?_
  refine k_iadd hX dX9_paceBy_97 ?_
  refine k_iload hX dX9_paceBy_98 9 rfl ?_
  refine k_if_eq (tgt := 109) hX h dX9_paceBy_100 (by decide) (fun h => ?_) (fun h => ?_)
  · refine k_iload_n hX dX9_paceBy_109 rfl 4 rfl ?_
    refine k_lv [1, 0] rfl ?_
    exact T_paceBy_b110_ok T hR e hrc h
  · refine k_iload_n hX dX9_paceBy_103 rfl 4 rfl ?_
    refine k_iconst (v := 1) hX dX9_paceBy_104 (by decide) ?_
    refine k_isub hX dX9_paceBy_105 ?_
    refine k_goto (tgt := 110) hX dX9_paceBy_106 (by decide) ?_
    refine k_lv [1, 0] rfl ?_
    exact T_paceBy_b110_ok T hR e hrc h
theorem T_paceBy_b41_ok {X : KC TS} {E : TE} {z : (Int32 × TS)} (T : tOK X E cX9_paceBy 11 (some .int)) {Fr Lr : Nat} (hR : tRoom X (Fr + 3) (Lr + 74)) (e : tE_i X E z.1 z.2) {nf : Nat} {rc : Int32 → Int32 → Int32 → TS → Option (Int32 × TS)} (hrc : ∀ (a0 : Int32) (a1 : Int32) (a2 : Int32) (τ : TS) (v : (Int32 × TS)), rc a0 a1 a2 τ = some v → tMet_i X.1.2.1 E yX9_bestPace (ws_ yX9_bestPace cX9_bestPace 8 (some .int)) Fr Lr [.ref (E.2.2.2.2.1 0), .int a0, .int a1, .int a2] τ v.1 v.2) {x1 : Int32} {x2 : Int32} {x3 : Int32} {x4 : Int32} {x5 : Int32} {x6 : Int32} {x7 : Int32} {s0 : Int32} {τ : TS} (h : T_paceBy_b41 nf rc x1 x2 x3 x4 x5 x6 x7 s0 τ = some z) : kW X τ 41 [(0, .ref (E.2.2.2.2.1 0)), (1, .int x1), (2, .int x2), (3, .int x3), (4, .int x4), (5, .int x5), (6, .int x6), (7, .int x7)] [.int s0] := by
  unfold T_paceBy_b41 at h
  have hX := T.1
  refine k_istore [(8, .int s0), (0, .ref (E.2.2.2.2.1 0)), (1, .int x1), (2, .int x2), (3, .int x3), (4, .int x4), (5, .int x5), (6, .int x6), (7, .int x7)] hX dX9_paceBy_41 rfl rfl ?_
  refine k_aload_n hX dX9_paceBy_43 rfl 1 rfl ?_
  refine k_iload hX dX9_paceBy_44 6 rfl ?_
  refine k_iload hX dX9_paceBy_46 7 rfl ?_
  refine k_iload hX dX9_paceBy_48 8 rfl ?_
  refine cX_canGo T (met_canGo T.2.1) (room_lo hR (by omega) (by omega)) h rfl dX9_paceBy_50 (fun v1 h => ?_)
  refine k_if_eq (tgt := 65) hX h dX9_paceBy_53 (by decide) (fun h => ?_) (fun h => ?_)
  · refine k_ldcw (v := 2000000000) hX q2047 dX9_paceBy_65 ?_
    exact t_ret_i T e h dX9_paceBy_68
  · refine k_iload hX dX9_paceBy_56 0 rfl ?_
    refine k_if_eq (tgt := 69) hX h dX9_paceBy_58 (by decide) (fun h => ?_) (fun h => ?_)
    · refine k_lv [1, 2, 3, 4, 5, 6, 7, 8, 0] rfl ?_
      exact T_paceBy_b69_ok T hR e hrc h
    · refine k_iload_n hX dX9_paceBy_61 rfl 4 rfl ?_
      refine k_if_ne (tgt := 69) hX h dX9_paceBy_62 (by decide) (fun h => ?_) (fun h => ?_)
      · refine k_lv [1, 2, 3, 4, 5, 6, 7, 8, 0] rfl ?_
        exact T_paceBy_b69_ok T hR e hrc h
      · refine k_ldcw (v := 2000000000) hX q2047 dX9_paceBy_65 ?_
        exact t_ret_i T e h dX9_paceBy_68
theorem met_paceBy {l : Launch} {E : TE} (hE : tEnv E) {nf : Nat} {rc : Int32 → Int32 → Int32 → TS → Option (Int32 × TS)} {Fr Lr : Nat} (hrc : ∀ (a0 : Int32) (a1 : Int32) (a2 : Int32) (τ : TS) (v : (Int32 × TS)), rc a0 a1 a2 τ = some v → tMet_i l E yX9_bestPace (ws_ yX9_bestPace cX9_bestPace 8 (some .int)) Fr Lr [.ref (E.2.2.2.2.1 0), .int a0, .int a1, .int a2] τ v.1 v.2) : ∀ (x1 : Int32) (x2 : Int32) (x3 : Int32) (x4 : Int32) (τ : TS) (z : (Int32 × TS)), T_paceBy nf rc x1 x2 x3 x4 τ = some z → tMet_i l E yX9_paceBy (ws_ yX9_paceBy cX9_paceBy 11 (some .int)) (Fr + 3) (Lr + 74) [.ref (E.2.2.2.2.1 0), .int x1, .int x2, .int x3, .int x4] τ z.1 z.2 := by
  intro x1 x2 x3 x4 τ z h
  refine t_met_i hE (by decide +kernel) rfl rfl (fun X hl T hR e => ?_)
  unfold T_paceBy at h
  have hX := T.1
  show kW X τ 0 [(0, .ref (E.2.2.2.2.1 0)), (1, .int x1), (2, .int x2), (3, .int x3), (4, .int x4)] []
  subst hl
  refine k_aload_n hX dX9_paceBy_0 rfl 0 rfl ?_
  refine k_iload_n hX dX9_paceBy_1 rfl 1 rfl ?_
  refine cX_xAt T (met_xAt T.2.1) (room_lo hR (by omega) (by omega)) h rfl dX9_paceBy_2 (fun v1 h => ?_)
  refine k_istore [(5, .int v1), (0, .ref (E.2.2.2.2.1 0)), (1, .int x1), (2, .int x2), (3, .int x3), (4, .int x4)] hX dX9_paceBy_5 rfl rfl ?_
  refine k_iload_n hX dX9_paceBy_7 rfl 2 rfl ?_
  refine k_iload hX dX9_paceBy_8 0 rfl ?_
  refine k_isub hX dX9_paceBy_10 ?_
  refine k_nm h (fun v2 h => ?_)
  refine k_istore [(6, .int v2), (5, .int v1), (0, .ref (E.2.2.2.2.1 0)), (1, .int x1), (2, .int x2), (3, .int x3), (4, .int x4)] hX dX9_paceBy_11 rfl rfl ?_
  refine k_aload_n hX dX9_paceBy_13 rfl 2 rfl ?_
  refine tg16 T dX9_paceBy_14 ?_
  refine k_iconst (v := 1) hX dX9_paceBy_17 (by decide) ?_
  refine k_iconst (v := 2) hX dX9_paceBy_18 (by decide) ?_
  refine k_iload_n hX dX9_paceBy_19 rfl 3 rfl ?_
  refine k_imul hX dX9_paceBy_20 ?_
  refine k_iadd hX dX9_paceBy_21 ?_
  refine ta16 T h dX9_paceBy_22 (fun v3 h => ?_)
  refine k_istore [(7, .int v3), (6, .int v2), (5, .int v1), (0, .ref (E.2.2.2.2.1 0)), (1, .int x1), (2, .int x2), (3, .int x3), (4, .int x4)] hX dX9_paceBy_23 rfl rfl ?_
  refine k_iload hX dX9_paceBy_25 7 rfl ?_
  refine k_aload_n hX dX9_paceBy_27 rfl 3 rfl ?_
  refine tg10 T dX9_paceBy_28 ?_
  refine k_iconst (v := 2) hX dX9_paceBy_31 (by decide) ?_
  refine ta10 T h dX9_paceBy_32 (fun v4 h => ?_)
  refine k_icmp_ge (tgt := 40) hX h dX9_paceBy_33 (by decide) (fun h => ?_) (fun h => ?_)
  · refine k_iconst (v := 0) hX dX9_paceBy_40 (by decide) ?_
    refine k_lv [3, 4, 5, 6, 7, 2, 1, 0] rfl ?_
    exact T_paceBy_b41_ok T hR e hrc h
  · refine k_iconst (v := 1) hX dX9_paceBy_36 (by decide) ?_
    refine k_goto (tgt := 41) hX dX9_paceBy_37 (by decide) ?_
    refine k_lv [3, 4, 5, 6, 7, 2, 1, 0] rfl ?_
    exact T_paceBy_b41_ok T hR e hrc h
theorem T_bestPace_b49_s_ok {X : KC TS} {E : TE} {z : (Int32 × TS)} (T : tOK X E cX9_bestPace 8 (some .int)) {Fr Lr : Nat} (hR : tRoom X (Fr + 4) (Lr + 104)) (e : tE_i X E z.1 z.2) {nf : Nat} {rc : Int32 → Int32 → Int32 → TS → Option (Int32 × TS)} (hrc : ∀ (a0 : Int32) (a1 : Int32) (a2 : Int32) (τ : TS) (v : (Int32 × TS)), rc a0 a1 a2 τ = some v → tMet_i X.1.2.1 E yX9_bestPace (ws_ yX9_bestPace cX9_bestPace 8 (some .int)) Fr Lr [.ref (E.2.2.2.2.1 0), .int a0, .int a1, .int a2] τ v.1 v.2) {k49 : Int32 → Int32 → Int32 → Int32 → Int32 → Int32 → TS → Option (Int32 × TS)} (hk49 : ∀ (x1 : Int32) (x2 : Int32) (x3 : Int32) (x4 : Int32) (x5 : Int32) (x6 : Int32) (τ : TS), k49 x1 x2 x3 x4 x5 x6 τ = some z → kW X τ 49 [(0, .ref (E.2.2.2.2.1 0)), (1, .int x1), (2, .int x2), (3, .int x3), (4, .int x4), (5, .int x5), (6, .int x6)] []) {x1 : Int32} {x2 : Int32} {x3 : Int32} {x4 : Int32} {x5 : Int32} {x6 : Int32} {τ : TS} (h : T_bestPace_b49_s nf rc k49 x1 x2 x3 x4 x5 x6 τ = some z) : kW X τ 49 [(0, .ref (E.2.2.2.2.1 0)), (1, .int x1), (2, .int x2), (3, .int x3), (4, .int x4), (5, .int x5), (6, .int x6)] [] := by
  unfold T_bestPace_b49_s at h
  have hX := T.1
  refine k_iload hX dX9_bestPace_49 6 rfl ?_
  refine k_aload_n hX dX9_bestPace_51 rfl 0 rfl ?_
  refine cX_slowest T (met_slowest T.2.1) (room_lo hR (by omega) (by omega)) h rfl dX9_bestPace_52 (fun v1 h => ?_)
  refine k_icmp_gt (tgt := 91) hX h dX9_bestPace_55 (by decide) (fun h => ?_) (fun h => ?_)
  · refine k_aload_n hX dX9_bestPace_91 rfl 0 rfl ?_
    refine tg36 T dX9_bestPace_92 ?_
    refine k_iload hX dX9_bestPace_95 4 rfl ?_
    refine k_iload hX dX9_bestPace_97 5 rfl ?_
    refine ts36 T h dX9_bestPace_99 (fun τ2 h => ?_)
    refine k_aload_n hX dX9_bestPace_100 rfl 0 rfl ?_
    refine tg36 T dX9_bestPace_101 ?_
    refine k_iload hX dX9_bestPace_104 4 rfl ?_
    refine ta36 T h dX9_bestPace_106 (fun v3 h => ?_)
    exact t_ret_i T e h dX9_bestPace_107
  · refine k_aload_n hX dX9_bestPace_58 rfl 0 rfl ?_
    refine k_iload_n hX dX9_bestPace_59 rfl 1 rfl ?_
    refine k_iload_n hX dX9_bestPace_60 rfl 2 rfl ?_
    refine k_iload_n hX dX9_bestPace_61 rfl 3 rfl ?_
    refine k_iload hX dX9_bestPace_62 6 rfl ?_
    refine cX_paceBy T (met_paceBy T.2.1 hrc) (room_lo hR (by omega) (by omega)) h rfl dX9_bestPace_64 (fun v5 τ4 h => ?_)
    refine k_istore [(7, .int v5), (0, .ref (E.2.2.2.2.1 0)), (1, .int x1), (2, .int x2), (3, .int x3), (4, .int x4), (5, .int x5), (6, .int x6)] hX dX9_bestPace_67 rfl rfl ?_
    refine k_iload hX dX9_bestPace_69 0 rfl ?_
    refine k_iload hX dX9_bestPace_71 6 rfl ?_
    refine k_icmp_ge (tgt := 81) hX h dX9_bestPace_73 (by decide) (fun h => ?_) (fun h => ?_)
    · refine k_iload hX dX9_bestPace_81 6 rfl ?_
      refine k_istore [(5, .int x5), (7, .int v5), (0, .ref (E.2.2.2.2.1 0)), (1, .int x1), (2, .int x2), (3, .int x3), (4, .int x4), (6, .int x6)] hX dX9_bestPace_83 rfl rfl ?_
      refine k_iinc (j := 7) [(6, .int (x6 + 1)), (5, .int x5), (7, .int v5), (0, .ref (E.2.2.2.2.1 0)), (1, .int x1), (2, .int x2), (3, .int x3), (4, .int x4)] hX dX9_bestPace_85 rfl rfl rfl rfl ?_
      refine k_goto (tgt := 49) hX dX9_bestPace_88 (by decide) ?_
      refine k_lv [3, 4, 5, 6, 7, 1, 0] rfl ?_
      exact hk49 _ _ _ _ _ _ _ h
    · refine k_iload hX dX9_bestPace_76 0 rfl ?_
      refine k_goto (tgt := 83) hX dX9_bestPace_78 (by decide) ?_
      refine k_istore [(5, .int v5), (7, .int v5), (0, .ref (E.2.2.2.2.1 0)), (1, .int x1), (2, .int x2), (3, .int x3), (4, .int x4), (6, .int x6)] hX dX9_bestPace_83 rfl rfl ?_
      refine k_iinc (j := 7) [(6, .int (x6 + 1)), (5, .int v5), (7, .int v5), (0, .ref (E.2.2.2.2.1 0)), (1, .int x1), (2, .int x2), (3, .int x3), (4, .int x4)] hX dX9_bestPace_85 rfl rfl rfl rfl ?_
      refine k_goto (tgt := 49) hX dX9_bestPace_88 (by decide) ?_
      refine k_lv [3, 4, 5, 6, 7, 1, 0] rfl ?_
      exact hk49 _ _ _ _ _ _ _ h
theorem T_bestPace_b49_ok {X : KC TS} {E : TE} {z : (Int32 × TS)} (T : tOK X E cX9_bestPace 8 (some .int)) {Fr Lr : Nat} (hR : tRoom X (Fr + 4) (Lr + 104)) (e : tE_i X E z.1 z.2) {nf : Nat} {rc : Int32 → Int32 → Int32 → TS → Option (Int32 × TS)} (hrc : ∀ (a0 : Int32) (a1 : Int32) (a2 : Int32) (τ : TS) (v : (Int32 × TS)), rc a0 a1 a2 τ = some v → tMet_i X.1.2.1 E yX9_bestPace (ws_ yX9_bestPace cX9_bestPace 8 (some .int)) Fr Lr [.ref (E.2.2.2.2.1 0), .int a0, .int a1, .int a2] τ v.1 v.2) : ∀ (n : Nat) (x1 : Int32) (x2 : Int32) (x3 : Int32) (x4 : Int32) (x5 : Int32) (x6 : Int32) (τ : TS), T_bestPace_b49 nf rc n x1 x2 x3 x4 x5 x6 τ = some z → kW X τ 49 [(0, .ref (E.2.2.2.2.1 0)), (1, .int x1), (2, .int x2), (3, .int x3), (4, .int x4), (5, .int x5), (6, .int x6)] [] := by
  intro n
  induction n with
  | zero => intro x1 x2 x3 x4 x5 x6 τ h; exact (nomatch (show (none : Option (Int32 × TS)) = some z from h))
  | succ n ih =>
    intro x1 x2 x3 x4 x5 x6 τ h
    have h : T_bestPace_b49_s nf rc (T_bestPace_b49 nf rc n) x1 x2 x3 x4 x5 x6 τ = some z := h
    exact T_bestPace_b49_s_ok T hR e hrc ih h
theorem met_bestPace_s {l : Launch} {E : TE} (hE : tEnv E) {nf : Nat} {rc : Int32 → Int32 → Int32 → TS → Option (Int32 × TS)} {Fr Lr : Nat} (hrc : ∀ (a0 : Int32) (a1 : Int32) (a2 : Int32) (τ : TS) (v : (Int32 × TS)), rc a0 a1 a2 τ = some v → tMet_i l E yX9_bestPace (ws_ yX9_bestPace cX9_bestPace 8 (some .int)) Fr Lr [.ref (E.2.2.2.2.1 0), .int a0, .int a1, .int a2] τ v.1 v.2) : ∀ (x1 : Int32) (x2 : Int32) (x3 : Int32) (τ : TS) (z : (Int32 × TS)), T_bestPace_s nf rc x1 x2 x3 τ = some z → tMet_i l E yX9_bestPace (ws_ yX9_bestPace cX9_bestPace 8 (some .int)) (Fr + 4) (Lr + 104) [.ref (E.2.2.2.2.1 0), .int x1, .int x2, .int x3] τ z.1 z.2 := by
  intro x1 x2 x3 τ z h
  refine t_met_i hE (by decide +kernel) rfl rfl (fun X hl T hR e => ?_)
  unfold T_bestPace_s at h
  have hX := T.1
  show kW X τ 0 [(0, .ref (E.2.2.2.2.1 0)), (1, .int x1), (2, .int x2), (3, .int x3)] []
  subst hl
  refine k_iload_n hX dX9_bestPace_0 rfl 1 rfl ?_
  refine k_aload_n hX dX9_bestPace_1 rfl 0 rfl ?_
  refine tg16 T dX9_bestPace_2 ?_
  refine k_iconst (v := 0) hX dX9_bestPace_5 (by decide) ?_
  refine ta16 T h dX9_bestPace_6 (fun v1 h => ?_)
  refine k_icmp_ne (tgt := 14) hX h dX9_bestPace_7 (by decide) (fun h => ?_) (fun h => ?_)
  · refine k_iload_n hX dX9_bestPace_14 rfl 1 rfl ?_
    refine k_sipush (v := 1200) hX dX9_bestPace_15 (by decide) ?_
    refine k_imul hX dX9_bestPace_18 ?_
    refine k_iload_n hX dX9_bestPace_19 rfl 2 rfl ?_
    refine k_iadd hX dX9_bestPace_20 ?_
    refine k_bipush (v := 10) hX dX9_bestPace_21 (by decide) ?_
    refine k_imul hX dX9_bestPace_23 ?_
    refine k_iload_n hX dX9_bestPace_24 rfl 3 rfl ?_
    refine k_iadd hX dX9_bestPace_25 ?_
    refine k_nm h (fun v2 h => ?_)
    refine k_istore [(4, .int v2), (0, .ref (E.2.2.2.2.1 0)), (1, .int x1), (2, .int x2), (3, .int x3)] hX dX9_bestPace_26 rfl rfl ?_
    refine k_aload_n hX dX9_bestPace_28 rfl 1 rfl ?_
    refine tg36 T dX9_bestPace_29 ?_
    refine k_iload hX dX9_bestPace_32 0 rfl ?_
    refine ta36 T h dX9_bestPace_34 (fun v3 h => ?_)
    refine k_if_ne (tgt := 100) hX h dX9_bestPace_35 (by decide) (fun h => ?_) (fun h => ?_)
    · refine k_aload_n hX dX9_bestPace_100 rfl 1 rfl ?_
      refine tg36 T dX9_bestPace_101 ?_
      refine k_iload hX dX9_bestPace_104 0 rfl ?_
      refine ta36 T h dX9_bestPace_106 (fun v4 h => ?_)
      exact t_ret_i T e h dX9_bestPace_107
    · refine k_ldcw (v := 2000000000) hX q2047 dX9_bestPace_38 ?_
      refine k_istore [(5, .int 2000000000), (4, .int v2), (0, .ref (E.2.2.2.2.1 0)), (1, .int x1), (2, .int x2), (3, .int x3)] hX dX9_bestPace_41 rfl rfl ?_
      refine k_aload_n hX dX9_bestPace_43 rfl 2 rfl ?_
      refine cX_fastest T (met_fastest T.2.1) (room_lo hR (by omega) (by omega)) h rfl dX9_bestPace_44 (fun v5 h => ?_)
      refine k_istore [(6, .int v5), (5, .int 2000000000), (4, .int v2), (0, .ref (E.2.2.2.2.1 0)), (1, .int x1), (2, .int x2), (3, .int x3)] hX dX9_bestPace_47 rfl rfl ?_
      refine k_lv [3, 4, 5, 6, 2, 1, 0] rfl ?_
      exact T_bestPace_b49_ok T hR e hrc _ _ _ _ _ _ _ _ h
  · refine k_iconst (v := 1) hX dX9_bestPace_10 (by decide) ?_
    refine k_iload_n hX dX9_bestPace_11 rfl 2 rfl ?_
    refine k_iadd hX dX9_bestPace_12 ?_
    exact t_ret_i T e h dX9_bestPace_13
theorem met_bestPace {l : Launch} {E : TE} (hE : tEnv E) {nf : Nat} : ∀ (dp : Nat) (x1 : Int32) (x2 : Int32) (x3 : Int32) (τ : TS) (z : (Int32 × TS)), T_bestPace nf dp x1 x2 x3 τ = some z → tMet_i l E yX9_bestPace (ws_ yX9_bestPace cX9_bestPace 8 (some .int)) (4 * dp) (104 * dp) [.ref (E.2.2.2.2.1 0), .int x1, .int x2, .int x3] τ z.1 z.2 := by
  intro dp
  induction dp with
  | zero => intro x1 x2 x3 τ z h; exact (nomatch (show (none : Option (Int32 × TS)) = some z from h))
  | succ dp ih =>
    intro x1 x2 x3 τ z h
    have h : T_bestPace_s nf (T_bestPace nf dp) x1 x2 x3 τ = some z := h
    exact met_bestPace_s hE ih _ _ _ _ _ h
theorem T_pace_b169_s_ok {X : KC TS} {E : TE} {z : (Int32 × TS)} (T : tOK X E cX9_pace 9 (some .int)) (hR : tRoom X 84 2184) (e : tE_i X E z.1 z.2) {nf : Nat} {k155 : Int32 → Int32 → Int32 → Int32 → Int32 → Int32 → TS → Option (Int32 × TS)} (hk155 : ∀ (x1 : Int32) (x2 : Int32) (x3 : Int32) (x5 : Int32) (x6 : Int32) (x7 : Int32) (τ : TS), k155 x1 x2 x3 x5 x6 x7 τ = some z → kW X τ 155 [(0, .ref (E.2.2.2.2.1 0)), (1, .int x1), (2, .int x2), (3, .int x3), (5, .int x5), (6, .int x6), (7, .int x7)] []) {k169 : Int32 → Int32 → Int32 → Int32 → Int32 → Int32 → TS → Option (Int32 × TS)} (hk169 : ∀ (x1 : Int32) (x2 : Int32) (x3 : Int32) (x5 : Int32) (x6 : Int32) (x7 : Int32) (τ : TS), k169 x1 x2 x3 x5 x6 x7 τ = some z → kW X τ 169 [(0, .ref (E.2.2.2.2.1 0)), (1, .int x1), (2, .int x2), (3, .int x3), (5, .int x5), (6, .int x6), (7, .int x7)] []) {x1 : Int32} {x2 : Int32} {x3 : Int32} {x5 : Int32} {x6 : Int32} {x7 : Int32} {τ : TS} (h : T_pace_b169_s nf k155 k169 x1 x2 x3 x5 x6 x7 τ = some z) : kW X τ 169 [(0, .ref (E.2.2.2.2.1 0)), (1, .int x1), (2, .int x2), (3, .int x3), (5, .int x5), (6, .int x6), (7, .int x7)] [] := by
  unfold T_pace_b169_s at h
  have hX := T.1
  refine k_aload_n hX dX9_pace_169 rfl 0 rfl ?_
  refine k_iload hX dX9_pace_170 6 rfl ?_
  refine k_iload hX dX9_pace_172 4 rfl ?_
  refine k_iload_n hX dX9_pace_174 rfl 3 rfl ?_
  refine k_iload hX dX9_pace_175 5 rfl ?_
  refine cX_paceBy T (met_paceBy T.2.1 (met_bestPace T.2.1 20)) (room_le hR rfl rfl) h rfl dX9_pace_177 (fun v2 τ1 h => ?_)
  refine k_aload_n hX dX9_pace_180 rfl 0 rfl ?_
  refine k_iload hX dX9_pace_181 6 rfl ?_
  refine k_iload hX dX9_pace_183 4 rfl ?_
  refine k_iload_n hX dX9_pace_185 rfl 3 rfl ?_
  refine cX_bestPace T (met_bestPace T.2.1 20) (room_le hR rfl rfl) h rfl dX9_pace_186 (fun v4 τ3 h => ?_)
  refine k_icmp_eq (tgt := 198) hX h dX9_pace_189 (by decide) (fun h => ?_) (fun h => ?_)
  · refine k_aload_n hX dX9_pace_198 rfl 0 rfl ?_
    refine k_iload hX dX9_pace_199 6 rfl ?_
    refine cX_xAt T (met_xAt T.2.1) (room_le hR rfl rfl) h rfl dX9_pace_201 (fun v5 h => ?_)
    refine k_istore [(8, .int v5), (0, .ref (E.2.2.2.2.1 0)), (1, .int x1), (2, .int x2), (3, .int x3), (5, .int x5), (6, .int x6), (7, .int x7)] hX dX9_pace_204 rfl rfl ?_
    refine k_iload hX dX9_pace_206 5 rfl ?_
    refine k_aload_n hX dX9_pace_208 rfl 1 rfl ?_
    refine k_iload hX dX9_pace_209 0 rfl ?_
    refine k_iload hX dX9_pace_211 7 rfl ?_
    refine k_iload hX dX9_pace_213 0 rfl ?_
    refine k_isub hX dX9_pace_215 ?_
    refine k_aload_n hX dX9_pace_216 rfl 1 rfl ?_
    refine tg16 T dX9_pace_217 ?_
    refine k_iconst (v := 1) hX dX9_pace_220 (by decide) ?_
    refine k_iconst (v := 2) hX dX9_pace_221 (by decide) ?_
    refine k_iload hX dX9_pace_222 7 rfl ?_
    refine k_imul hX dX9_pace_224 ?_
    refine k_iadd hX dX9_pace_225 ?_
    refine ta16 T h dX9_pace_226 (fun v6 h => ?_)
    refine k_iload_n hX dX9_pace_227 rfl 2 rfl ?_
    refine k_iload hX dX9_pace_228 5 rfl ?_
    refine k_iadd hX dX9_pace_230 ?_
    refine cX_waitFor T (met_waitFor T.2.1) (room_le hR rfl rfl) h rfl dX9_pace_231 (fun v7 h => ?_)
    refine k_iload hX dX9_pace_234 6 rfl ?_
    refine k_iadd hX dX9_pace_236 ?_
    refine k_iadd hX dX9_pace_237 ?_
    refine k_nm h (fun v8 h => ?_)
    refine k_istore [(5, .int v8), (8, .int v5), (0, .ref (E.2.2.2.2.1 0)), (1, .int x1), (2, .int x2), (3, .int x3), (6, .int x6), (7, .int x7)] hX dX9_pace_238 rfl rfl ?_
    refine k_iload_n hX dX9_pace_240 rfl 5 rfl ?_
    refine k_iload hX dX9_pace_241 6 rfl ?_
    refine k_aload_n hX dX9_pace_243 rfl 2 rfl ?_
    refine tg10 T dX9_pace_244 ?_
    refine k_iconst (v := 2) hX dX9_pace_247 (by decide) ?_
    refine ta10 T h dX9_pace_248 (fun v9 h => ?_)
    refine k_icmp_ge (tgt := 256) hX h dX9_pace_249 (by decide) (fun h => ?_) (fun h => ?_)
    · refine k_iconst (v := 0) hX dX9_pace_256 (by decide) ?_
      refine k_isub hX dX9_pace_257 ?_
      refine k_nm h (fun v10 h => ?_)
      refine k_istore_n [(3, .int v10), (5, .int v8), (8, .int v5), (0, .ref (E.2.2.2.2.1 0)), (1, .int x1), (2, .int x2), (6, .int x6), (7, .int x7)] hX dX9_pace_258 rfl rfl rfl ?_
      refine k_iinc (j := 7) [(7, .int (x7 + 1)), (3, .int v10), (5, .int v8), (8, .int v5), (0, .ref (E.2.2.2.2.1 0)), (1, .int x1), (2, .int x2), (6, .int x6)] hX dX9_pace_259 rfl rfl rfl rfl ?_
      refine k_goto (tgt := 155) hX dX9_pace_262 (by decide) ?_
      refine k_lv [4, 5, 6, 1, 2, 7, 0] rfl ?_
      exact hk155 _ _ _ _ _ _ _ h
    · refine k_iconst (v := 1) hX dX9_pace_252 (by decide) ?_
      refine k_goto (tgt := 257) hX dX9_pace_253 (by decide) ?_
      refine k_isub hX dX9_pace_257 ?_
      refine k_nm h (fun v11 h => ?_)
      refine k_istore_n [(3, .int v11), (5, .int v8), (8, .int v5), (0, .ref (E.2.2.2.2.1 0)), (1, .int x1), (2, .int x2), (6, .int x6), (7, .int x7)] hX dX9_pace_258 rfl rfl rfl ?_
      refine k_iinc (j := 7) [(7, .int (x7 + 1)), (3, .int v11), (5, .int v8), (8, .int v5), (0, .ref (E.2.2.2.2.1 0)), (1, .int x1), (2, .int x2), (6, .int x6)] hX dX9_pace_259 rfl rfl rfl rfl ?_
      refine k_goto (tgt := 155) hX dX9_pace_262 (by decide) ?_
      refine k_lv [4, 5, 6, 1, 2, 7, 0] rfl ?_
      exact hk155 _ _ _ _ _ _ _ h
  · refine k_iinc (j := 5) [(6, .int (x6 + 1)), (0, .ref (E.2.2.2.2.1 0)), (1, .int x1), (2, .int x2), (3, .int x3), (5, .int x5), (7, .int x7)] hX dX9_pace_192 rfl rfl rfl rfl ?_
    refine k_goto (tgt := 169) hX dX9_pace_195 (by decide) ?_
    refine k_lv [1, 2, 3, 4, 5, 0, 6] rfl ?_
    exact hk169 _ _ _ _ _ _ _ h
theorem T_pace_b169_ok {X : KC TS} {E : TE} {z : (Int32 × TS)} (T : tOK X E cX9_pace 9 (some .int)) (hR : tRoom X 84 2184) (e : tE_i X E z.1 z.2) {nf : Nat} {k155 : Int32 → Int32 → Int32 → Int32 → Int32 → Int32 → TS → Option (Int32 × TS)} (hk155 : ∀ (x1 : Int32) (x2 : Int32) (x3 : Int32) (x5 : Int32) (x6 : Int32) (x7 : Int32) (τ : TS), k155 x1 x2 x3 x5 x6 x7 τ = some z → kW X τ 155 [(0, .ref (E.2.2.2.2.1 0)), (1, .int x1), (2, .int x2), (3, .int x3), (5, .int x5), (6, .int x6), (7, .int x7)] []) : ∀ (n : Nat) (x1 : Int32) (x2 : Int32) (x3 : Int32) (x5 : Int32) (x6 : Int32) (x7 : Int32) (τ : TS), T_pace_b169 nf k155 n x1 x2 x3 x5 x6 x7 τ = some z → kW X τ 169 [(0, .ref (E.2.2.2.2.1 0)), (1, .int x1), (2, .int x2), (3, .int x3), (5, .int x5), (6, .int x6), (7, .int x7)] [] := by
  intro n
  induction n with
  | zero => intro x1 x2 x3 x5 x6 x7 τ h; exact (nomatch (show (none : Option (Int32 × TS)) = some z from h))
  | succ n ih =>
    intro x1 x2 x3 x5 x6 x7 τ h
    have h : T_pace_b169_s nf k155 (T_pace_b169 nf k155 n) x1 x2 x3 x5 x6 x7 τ = some z := h
    exact T_pace_b169_s_ok T hR e hk155 ih h
theorem T_pace_b155_s_ok {X : KC TS} {E : TE} {z : (Int32 × TS)} (T : tOK X E cX9_pace 9 (some .int)) (hR : tRoom X 84 2184) (e : tE_i X E z.1 z.2) {nf : Nat} {k155 : Int32 → Int32 → Int32 → Int32 → Int32 → Int32 → TS → Option (Int32 × TS)} (hk155 : ∀ (x1 : Int32) (x2 : Int32) (x3 : Int32) (x5 : Int32) (x6 : Int32) (x7 : Int32) (τ : TS), k155 x1 x2 x3 x5 x6 x7 τ = some z → kW X τ 155 [(0, .ref (E.2.2.2.2.1 0)), (1, .int x1), (2, .int x2), (3, .int x3), (5, .int x5), (6, .int x6), (7, .int x7)] []) {x1 : Int32} {x2 : Int32} {x3 : Int32} {x5 : Int32} {x6 : Int32} {x7 : Int32} {τ : TS} (h : T_pace_b155_s nf k155 x1 x2 x3 x5 x6 x7 τ = some z) : kW X τ 155 [(0, .ref (E.2.2.2.2.1 0)), (1, .int x1), (2, .int x2), (3, .int x3), (5, .int x5), (6, .int x6), (7, .int x7)] [] := by
  unfold T_pace_b155_s at h
  have hX := T.1
  refine k_iload hX dX9_pace_155 6 rfl ?_
  refine k_iload_n hX dX9_pace_157 rfl 2 rfl ?_
  refine k_iconst (v := 2) hX dX9_pace_158 (by decide) ?_
  refine k_isub hX dX9_pace_159 ?_
  refine k_icmp_gt (tgt := 265) hX h dX9_pace_160 (by decide) (fun h => ?_) (fun h => ?_)
  · refine k_iload hX dX9_pace_265 5 rfl ?_
    exact t_ret_i T e h dX9_pace_267
  · refine k_aload_n hX dX9_pace_163 rfl 0 rfl ?_
    refine cX_fastest T (met_fastest T.2.1) (room_le hR rfl rfl) h rfl dX9_pace_164 (fun v1 h => ?_)
    refine k_istore [(6, .int v1), (0, .ref (E.2.2.2.2.1 0)), (1, .int x1), (2, .int x2), (3, .int x3), (5, .int x5), (7, .int x7)] hX dX9_pace_167 rfl rfl ?_
    refine k_lv [1, 2, 3, 4, 5, 0, 6] rfl ?_
    exact T_pace_b169_ok T hR e hk155 _ _ _ _ _ _ _ _ h
theorem T_pace_b155_ok {X : KC TS} {E : TE} {z : (Int32 × TS)} (T : tOK X E cX9_pace 9 (some .int)) (hR : tRoom X 84 2184) (e : tE_i X E z.1 z.2) {nf : Nat} : ∀ (n : Nat) (x1 : Int32) (x2 : Int32) (x3 : Int32) (x5 : Int32) (x6 : Int32) (x7 : Int32) (τ : TS), T_pace_b155 nf n x1 x2 x3 x5 x6 x7 τ = some z → kW X τ 155 [(0, .ref (E.2.2.2.2.1 0)), (1, .int x1), (2, .int x2), (3, .int x3), (5, .int x5), (6, .int x6), (7, .int x7)] [] := by
  intro n
  induction n with
  | zero => intro x1 x2 x3 x5 x6 x7 τ h; exact (nomatch (show (none : Option (Int32 × TS)) = some z from h))
  | succ n ih =>
    intro x1 x2 x3 x5 x6 x7 τ h
    have h : T_pace_b155_s nf (T_pace_b155 nf n) x1 x2 x3 x5 x6 x7 τ = some z := h
    exact T_pace_b155_s_ok T hR e ih h
theorem T_pace_b110_ok {X : KC TS} {E : TE} {z : (Int32 × TS)} (T : tOK X E cX9_pace 9 (some .int)) (hR : tRoom X 84 2184) (e : tE_i X E z.1 z.2) {nf : Nat} {x1 : Int32} {x2 : Int32} {x4 : Int32} {τ : TS} (h : T_pace_b110 nf x1 x2 x4 τ = some z) : kW X τ 110 [(0, .ref (E.2.2.2.2.1 0)), (1, .int x1), (2, .int x2), (4, .int x4)] [] := by
  unfold T_pace_b110 at h
  have hX := T.1
  refine k_iload hX dX9_pace_110 3 rfl ?_
  refine k_ldcw (v := 2000000000) hX q2047 dX9_pace_112 ?_
  refine k_icmp_ne (tgt := 122) hX h dX9_pace_115 (by decide) (fun h => ?_) (fun h => ?_)
  · refine k_iload_n hX dX9_pace_122 rfl 2 rfl ?_
    refine k_if_ne (tgt := 135) hX h dX9_pace_123 (by decide) (fun h => ?_) (fun h => ?_)
    · refine k_iload_n hX dX9_pace_135 rfl 1 rfl ?_
      refine k_iload hX dX9_pace_136 3 rfl ?_
      refine k_ldcw (v := 100000) hX q2172 dX9_pace_138 ?_
      refine k_iremc hX (by decide) dX9_pace_141 ?_
      refine k_iadd hX dX9_pace_142 ?_
      refine k_iconst (v := 1) hX dX9_pace_143 (by decide) ?_
      refine k_isub hX dX9_pace_144 ?_
      exact t_ret_i T e h dX9_pace_145
    · refine k_iload hX dX9_pace_126 3 rfl ?_
      refine k_ldcw (v := 100000) hX q2172 dX9_pace_128 ?_
      refine k_idivc hX (by decide) dX9_pace_131 ?_
      refine k_goto (tgt := 145) hX dX9_pace_132 (by decide) ?_
      exact t_ret_i T e h dX9_pace_145
  · refine k_iconst (v := (-1)) hX dX9_pace_118 (by decide) ?_
    refine k_goto (tgt := 145) hX dX9_pace_119 (by decide) ?_
    exact t_ret_i T e h dX9_pace_145
theorem T_pace_b87_ok {X : KC TS} {E : TE} {z : (Int32 × TS)} (T : tOK X E cX9_pace 9 (some .int)) (hR : tRoom X 84 2184) (e : tE_i X E z.1 z.2) {nf : Nat} {x1 : Int32} {x2 : Int32} {s0 : Int32} {τ : TS} (h : T_pace_b87 nf x1 x2 s0 τ = some z) : kW X τ 87 [(0, .ref (E.2.2.2.2.1 0)), (1, .int x1), (2, .int x2)] [.int s0] := by
  unfold T_pace_b87 at h
  have hX := T.1
  refine k_istore_n [(3, .int s0), (0, .ref (E.2.2.2.2.1 0)), (1, .int x1), (2, .int x2)] hX dX9_pace_87 rfl rfl rfl ?_
  refine k_aload_n hX dX9_pace_88 rfl 1 rfl ?_
  refine k_iconst (v := 0) hX dX9_pace_89 (by decide) ?_
  refine k_iconst (v := 0) hX dX9_pace_90 (by decide) ?_
  refine k_iload_n hX dX9_pace_91 rfl 0 rfl ?_
  refine cX_bestPace T (met_bestPace T.2.1 20) (room_le hR rfl rfl) h rfl dX9_pace_92 (fun v2 τ1 h => ?_)
  refine k_istore [(4, .int v2), (3, .int s0), (0, .ref (E.2.2.2.2.1 0)), (1, .int x1), (2, .int x2)] hX dX9_pace_95 rfl rfl ?_
  refine k_iload hX dX9_pace_97 0 rfl ?_
  refine k_ldcw (v := 2000000000) hX q2047 dX9_pace_99 ?_
  refine k_icmp_eq (tgt := 110) hX h dX9_pace_102 (by decide) (fun h => ?_) (fun h => ?_)
  · refine k_lv [2, 3, 4, 0] rfl ?_
    exact T_pace_b110_ok T hR e h
  · refine k_iload_n hX dX9_pace_105 rfl 4 rfl ?_
    refine k_iconst (v := 2) hX dX9_pace_106 (by decide) ?_
    refine k_icmp_ge (tgt := 146) hX h dX9_pace_107 (by decide) (fun h => ?_) (fun h => ?_)
    · refine k_iconst (v := 0) hX dX9_pace_146 (by decide) ?_
      refine k_istore [(5, .int 0), (4, .int v2), (3, .int s0), (0, .ref (E.2.2.2.2.1 0)), (1, .int x1), (2, .int x2)] hX dX9_pace_147 rfl rfl ?_
      refine k_iconst (v := 0) hX dX9_pace_149 (by decide) ?_
      refine k_istore [(6, .int 0), (5, .int 0), (4, .int v2), (3, .int s0), (0, .ref (E.2.2.2.2.1 0)), (1, .int x1), (2, .int x2)] hX dX9_pace_150 rfl rfl ?_
      refine k_iconst (v := 0) hX dX9_pace_152 (by decide) ?_
      refine k_istore [(7, .int 0), (6, .int 0), (5, .int 0), (4, .int v2), (3, .int s0), (0, .ref (E.2.2.2.2.1 0)), (1, .int x1), (2, .int x2)] hX dX9_pace_153 rfl rfl ?_
      refine k_lv [5, 6, 7, 4, 2, 1, 0] rfl ?_
      exact T_pace_b155_ok T hR e _ _ _ _ _ _ _ _ h
    · refine k_lv [2, 3, 4, 0] rfl ?_
      exact T_pace_b110_ok T hR e h
theorem T_pace_b42_s_ok {X : KC TS} {E : TE} {z : (Int32 × TS)} (T : tOK X E cX9_pace 9 (some .int)) (hR : tRoom X 84 2184) (e : tE_i X E z.1 z.2) {nf : Nat} {k42 : Int32 → Int32 → Int32 → TS → Option (Int32 × TS)} (hk42 : ∀ (x1 : Int32) (x2 : Int32) (x3 : Int32) (τ : TS), k42 x1 x2 x3 τ = some z → kW X τ 42 [(0, .ref (E.2.2.2.2.1 0)), (1, .int x1), (2, .int x2), (3, .int x3)] []) {x1 : Int32} {x2 : Int32} {x3 : Int32} {τ : TS} (h : T_pace_b42_s nf k42 x1 x2 x3 τ = some z) : kW X τ 42 [(0, .ref (E.2.2.2.2.1 0)), (1, .int x1), (2, .int x2), (3, .int x3)] [] := by
  unfold T_pace_b42_s at h
  have hX := T.1
  refine k_iload_n hX dX9_pace_42 rfl 3 rfl ?_
  refine k_ldc (v := 156000) hX q1659 dX9_pace_43 ?_
  refine k_icmp_ge (tgt := 61) hX h dX9_pace_45 (by decide) (fun h => ?_) (fun h => ?_)
  · refine k_aload_n hX dX9_pace_61 rfl 0 rfl ?_
    refine k_iload_n hX dX9_pace_62 rfl 1 rfl ?_
    refine tp37 T h dX9_pace_63 (fun τ1 h => ?_)
    refine k_aload_n hX dX9_pace_66 rfl 0 rfl ?_
    refine tg10 T dX9_pace_67 ?_
    refine k_bipush (v := 6) hX dX9_pace_70 (by decide) ?_
    refine ta10 T h dX9_pace_72 (fun v2 h => ?_)
    refine k_iconst (v := 1) hX dX9_pace_73 (by decide) ?_
    refine k_icmp_ne (tgt := 81) hX h dX9_pace_74 (by decide) (fun h => ?_) (fun h => ?_)
    · refine k_aload_n hX dX9_pace_81 rfl 0 rfl ?_
      refine tg10 T dX9_pace_82 ?_
      refine k_iconst (v := 5) hX dX9_pace_85 (by decide) ?_
      refine ta10 T h dX9_pace_86 (fun v3 h => ?_)
      refine k_lv [0, 1, 2] rfl ?_
      exact T_pace_b87_ok T hR e h
    · refine k_iconst (v := 0) hX dX9_pace_77 (by decide) ?_
      refine k_goto (tgt := 87) hX dX9_pace_78 (by decide) ?_
      refine k_lv [0, 1, 2] rfl ?_
      exact T_pace_b87_ok T hR e h
  · refine k_aload_n hX dX9_pace_48 rfl 0 rfl ?_
    refine tg36 T dX9_pace_49 ?_
    refine k_iload_n hX dX9_pace_52 rfl 3 rfl ?_
    refine k_iconst (v := 0) hX dX9_pace_53 (by decide) ?_
    refine ts36 T h dX9_pace_54 (fun τ4 h => ?_)
    refine k_iinc (j := 3) [(3, .int (x3 + 1)), (0, .ref (E.2.2.2.2.1 0)), (1, .int x1), (2, .int x2)] hX dX9_pace_55 rfl rfl rfl rfl ?_
    refine k_goto (tgt := 42) hX dX9_pace_58 (by decide) ?_
    refine k_lv [1, 2, 3, 0] rfl ?_
    exact hk42 _ _ _ _ h
theorem T_pace_b42_ok {X : KC TS} {E : TE} {z : (Int32 × TS)} (T : tOK X E cX9_pace 9 (some .int)) (hR : tRoom X 84 2184) (e : tE_i X E z.1 z.2) {nf : Nat} : ∀ (n : Nat) (x1 : Int32) (x2 : Int32) (x3 : Int32) (τ : TS), T_pace_b42 nf n x1 x2 x3 τ = some z → kW X τ 42 [(0, .ref (E.2.2.2.2.1 0)), (1, .int x1), (2, .int x2), (3, .int x3)] [] := by
  intro n
  induction n with
  | zero => intro x1 x2 x3 τ h; exact (nomatch (show (none : Option (Int32 × TS)) = some z from h))
  | succ n ih =>
    intro x1 x2 x3 τ h
    have h : T_pace_b42_s nf (T_pace_b42 nf n) x1 x2 x3 τ = some z := h
    exact T_pace_b42_s_ok T hR e ih h
theorem met_pace {l : Launch} {E : TE} (hE : tEnv E) {nf : Nat} : ∀ (x1 : Int32) (x2 : Int32) (τ : TS) (z : (Int32 × TS)), T_pace nf x1 x2 τ = some z → tMet_i l E yX9_pace (ws_ yX9_pace cX9_pace 9 (some .int)) 84 2184 [.ref (E.2.2.2.2.1 0), .int x1, .int x2] τ z.1 z.2 := by
  intro x1 x2 τ z h
  refine t_met_i hE (by decide +kernel) rfl rfl (fun X hl T hR e => ?_)
  unfold T_pace at h
  have hX := T.1
  show kW X τ 0 [(0, .ref (E.2.2.2.2.1 0)), (1, .int x1), (2, .int x2)] []
  refine k_aload_n hX dX9_pace_0 rfl 0 rfl ?_
  refine k_iconst (v := 0) hX dX9_pace_1 (by decide) ?_
  refine tp0 T h dX9_pace_2 (fun τ1 h => ?_)
  refine k_aload_n hX dX9_pace_5 rfl 0 rfl ?_
  refine k_iload_n hX dX9_pace_6 rfl 1 rfl ?_
  refine cX_isSecond T (met_isSecond T.2.1) (room_le hR rfl rfl) h rfl dX9_pace_7 (fun v2 h => ?_)
  refine k_if_eq (tgt := 38) hX h dX9_pace_10 (by decide) (fun h => ?_) (fun h => ?_)
  · refine k_iconst (v := (-1)) hX dX9_pace_38 (by decide) ?_
    exact t_ret_i T e h dX9_pace_39
  · refine k_iload_n hX dX9_pace_13 rfl 2 rfl ?_
    refine k_iconst (v := 0) hX dX9_pace_14 (by decide) ?_
    refine k_iconst (v := 1) hX dX9_pace_15 (by decide) ?_
    refine k_aload_n hX dX9_pace_16 rfl 0 rfl ?_
    refine tg16 T dX9_pace_17 ?_
    refine k_iconst (v := 0) hX dX9_pace_20 (by decide) ?_
    refine ta16 T h dX9_pace_21 (fun v3 h => ?_)
    refine k_iadd hX dX9_pace_22 ?_
    refine cX_within T (met_within T.2.1) (room_le hR rfl rfl) h rfl dX9_pace_23 (fun v4 h => ?_)
    refine k_if_eq (tgt := 38) hX h dX9_pace_26 (by decide) (fun h => ?_) (fun h => ?_)
    · refine k_iconst (v := (-1)) hX dX9_pace_38 (by decide) ?_
      exact t_ret_i T e h dX9_pace_39
    · refine k_aload_n hX dX9_pace_29 rfl 0 rfl ?_
      refine tg16 T dX9_pace_30 ?_
      refine k_iconst (v := 0) hX dX9_pace_33 (by decide) ?_
      refine ta16 T h dX9_pace_34 (fun v5 h => ?_)
      refine k_if_ne (tgt := 40) hX h dX9_pace_35 (by decide) (fun h => ?_) (fun h => ?_)
      · refine k_iconst (v := 0) hX dX9_pace_40 (by decide) ?_
        refine k_istore_n [(3, .int 0), (0, .ref (E.2.2.2.2.1 0)), (1, .int x1), (2, .int x2)] hX dX9_pace_41 rfl rfl rfl ?_
        refine k_lv [1, 2, 3, 0] rfl ?_
        exact T_pace_b42_ok T hR e _ _ _ _ _ h
      · refine k_iconst (v := (-1)) hX dX9_pace_38 (by decide) ?_
        exact t_ret_i T e h dX9_pace_39
theorem T_tried_b93_ok {X : KC TS} {E : TE} {z : (Int32 × TS)} (T : tOK X E cX9_tried 6 (some .boolean)) (hR : tRoom X 2 42) (e : tE_i X E z.1 z.2) {x4 : Int32} {x5 : Int32} {s0 : Int32} {s1 : Int32} {τ : TS} (h : T_tried_b93 x4 x5 s0 s1 τ = some z) : kW X τ 93 [(0, .ref (E.2.2.2.2.1 0)), (4, .int x4), (5, .int x5)] [.int s0, .int s1, .ref (E.2.2.2.2.1 13)] := by
  unfold T_tried_b93 at h
  have hX := T.1
  refine ts19 T h dX9_tried_93 (fun τ1 h => ?_)
  refine k_aload_n hX dX9_tried_94 rfl 0 rfl ?_
  refine tg19 T dX9_tried_95 ?_
  refine k_iload hX dX9_tried_98 2 rfl ?_
  refine k_iconst (v := 2) hX dX9_tried_100 (by decide) ?_
  refine k_iadd hX dX9_tried_101 ?_
  refine k_iload hX dX9_tried_102 1 rfl ?_
  refine ts19 T h dX9_tried_104 (fun τ2 h => ?_)
  refine k_aload_n hX dX9_tried_105 rfl 0 rfl ?_
  refine tg19 T dX9_tried_106 ?_
  refine k_bipush (v := 58) hX dX9_tried_109 (by decide) ?_
  refine k_dup2 hX dX9_tried_111 rfl rfl ?_
  refine ta19 T h dX9_tried_112 (fun v3 h => ?_)
  refine k_iconst (v := 1) hX dX9_tried_113 (by decide) ?_
  refine k_iadd hX dX9_tried_114 ?_
  refine ts19 T h dX9_tried_115 (fun τ4 h => ?_)
  refine k_iconst (v := 1) hX dX9_tried_116 (by decide) ?_
  exact t_ret_zc T e rfl h dX9_tried_117
theorem met_tried {l : Launch} {E : TE} (hE : tEnv E) : ∀ (x1 : Int32) (x2 : Int32) (x3 : Int32) (x4 : Int32) (τ : TS) (z : (Int32 × TS)), T_tried x1 x2 x3 x4 τ = some z → tMet_i l E yX9_tried (ws_ yX9_tried cX9_tried 6 (some .boolean)) 2 42 [.ref (E.2.2.2.2.1 0), .int x1, .int x2, .int x3, .int x4] τ z.1 z.2 := by
  intro x1 x2 x3 x4 τ z h
  refine t_met_i hE (by decide +kernel) rfl rfl (fun X hl T hR e => ?_)
  unfold T_tried at h
  have hX := T.1
  show kW X τ 0 [(0, .ref (E.2.2.2.2.1 0)), (1, .int x1), (2, .int x2), (3, .int x3), (4, .int x4)] []
  refine k_aload_n hX dX9_tried_0 rfl 0 rfl ?_
  refine k_iconst (v := 0) hX dX9_tried_1 (by decide) ?_
  refine tp0 T h dX9_tried_2 (fun τ1 h => ?_)
  refine k_aload_n hX dX9_tried_5 rfl 0 rfl ?_
  refine k_iload_n hX dX9_tried_6 rfl 1 rfl ?_
  refine k_iload_n hX dX9_tried_7 rfl 2 rfl ?_
  refine cX_isCorner T (met_isCorner T.2.1) (room_le hR rfl rfl) h rfl dX9_tried_8 (fun v2 h => ?_)
  refine k_if_eq (tgt := 47) hX h dX9_tried_11 (by decide) (fun h => ?_) (fun h => ?_)
  · refine k_iconst (v := 0) hX dX9_tried_47 (by decide) ?_
    exact t_ret_zc T e rfl h dX9_tried_48
  · refine k_aload_n hX dX9_tried_14 rfl 0 rfl ?_
    refine k_iload_n hX dX9_tried_15 rfl 1 rfl ?_
    refine k_iload_n hX dX9_tried_16 rfl 2 rfl ?_
    refine cX_kindAt T (met_kindAt T.2.1) (room_le hR rfl rfl) h rfl dX9_tried_17 (fun v3 h => ?_)
    refine k_iconst (v := 2) hX dX9_tried_20 (by decide) ?_
    refine k_icmp_ne (tgt := 47) hX h dX9_tried_21 (by decide) (fun h => ?_) (fun h => ?_)
    · refine k_iconst (v := 0) hX dX9_tried_47 (by decide) ?_
      exact t_ret_zc T e rfl h dX9_tried_48
    · refine k_iload hX dX9_tried_24 4 rfl ?_
      refine k_iconst (v := 0) hX dX9_tried_26 (by decide) ?_
      refine k_bipush (v := 59) hX dX9_tried_27 (by decide) ?_
      refine cX_within T (met_within T.2.1) (room_le hR rfl rfl) h rfl dX9_tried_29 (fun v4 h => ?_)
      refine k_if_eq (tgt := 47) hX h dX9_tried_32 (by decide) (fun h => ?_) (fun h => ?_)
      · refine k_iconst (v := 0) hX dX9_tried_47 (by decide) ?_
        exact t_ret_zc T e rfl h dX9_tried_48
      · refine k_aload_n hX dX9_tried_35 rfl 0 rfl ?_
        refine tg19 T dX9_tried_36 ?_
        refine k_bipush (v := 58) hX dX9_tried_39 (by decide) ?_
        refine ta19 T h dX9_tried_41 (fun v5 h => ?_)
        refine k_bipush (v := 10) hX dX9_tried_42 (by decide) ?_
        refine k_icmp_ne (tgt := 49) hX h dX9_tried_44 (by decide) (fun h => ?_) (fun h => ?_)
        · refine k_bipush (v := 60) hX dX9_tried_49 (by decide) ?_
          refine k_iconst (v := 3) hX dX9_tried_51 (by decide) ?_
          refine k_aload_n hX dX9_tried_52 rfl 0 rfl ?_
          refine tg19 T dX9_tried_53 ?_
          refine k_bipush (v := 58) hX dX9_tried_56 (by decide) ?_
          refine ta19 T h dX9_tried_58 (fun v6 h => ?_)
          refine k_imul hX dX9_tried_59 ?_
          refine k_iadd hX dX9_tried_60 ?_
          refine k_nm h (fun v7 h => ?_)
          refine k_istore [(5, .int v7), (0, .ref (E.2.2.2.2.1 0)), (1, .int x1), (2, .int x2), (3, .int x3), (4, .int x4)] hX dX9_tried_61 rfl rfl ?_
          refine k_aload_n hX dX9_tried_63 rfl 1 rfl ?_
          refine tg19 T dX9_tried_64 ?_
          refine k_iload hX dX9_tried_67 0 rfl ?_
          refine k_bipush (v := 6) hX dX9_tried_69 (by decide) ?_
          refine k_iload_n hX dX9_tried_71 rfl 3 rfl ?_
          refine k_imul hX dX9_tried_72 ?_
          refine k_iload_n hX dX9_tried_73 rfl 2 rfl ?_
          refine k_iadd hX dX9_tried_74 ?_
          refine ts19 T h dX9_tried_75 (fun τ8 h => ?_)
          refine k_aload_n hX dX9_tried_76 rfl 1 rfl ?_
          refine tg19 T dX9_tried_77 ?_
          refine k_iload hX dX9_tried_80 0 rfl ?_
          refine k_iconst (v := 1) hX dX9_tried_82 (by decide) ?_
          refine k_iadd hX dX9_tried_83 ?_
          refine k_iload_n hX dX9_tried_84 rfl 4 rfl ?_
          refine k_if_eq (tgt := 92) hX h dX9_tried_85 (by decide) (fun h => ?_) (fun h => ?_)
          · refine k_iconst (v := 0) hX dX9_tried_92 (by decide) ?_
            refine k_lv [1, 5, 0] rfl ?_
            exact T_tried_b93_ok T hR e h
          · refine k_iconst (v := 1) hX dX9_tried_88 (by decide) ?_
            refine k_goto (tgt := 93) hX dX9_tried_89 (by decide) ?_
            refine k_lv [1, 5, 0] rfl ?_
            exact T_tried_b93_ok T hR e h
        · refine k_iconst (v := 0) hX dX9_tried_47 (by decide) ?_
          exact t_ret_zc T e rfl h dX9_tried_48
theorem T_does_b203_s_ok {X : KC TS} {E : TE} {z : (Int64 × TS)} (T : tOK X E cX9_does 18 (some .long)) (hR : tRoom X 2 42) (e : tE_l X E z.1 z.2) {nf : Nat} {k203 : Int32 → Int64 → Int64 → Int64 → Int64 → TS → Option (Int64 × TS)} (hk203 : ∀ (x3 : Int32) (x8 : Int64) (x10 : Int64) (x12 : Int64) (x14 : Int64) (τ : TS), k203 x3 x8 x10 x12 x14 τ = some z → kW X τ 203 [(0, .ref (E.2.2.2.2.1 0)), (3, .int x3), (8, .long x8), (10, .long x10), (12, .long x12), (14, .long x14)] []) {x3 : Int32} {x8 : Int64} {x10 : Int64} {x12 : Int64} {x14 : Int64} {τ : TS} (h : T_does_b203_s nf k203 x3 x8 x10 x12 x14 τ = some z) : kW X τ 203 [(0, .ref (E.2.2.2.2.1 0)), (3, .int x3), (8, .long x8), (10, .long x10), (12, .long x12), (14, .long x14)] [] := by
  unfold T_does_b203_s at h
  have hX := T.1
  refine k_lload hX dX9_does_203 5 rfl ?_
  refine k_lconst (v := 0) hX dX9_does_205 (by decide) ?_
  refine k_lcmp_eq (tgt := 228) hX h dX9_does_206 dX9_does_207 (by decide) (fun h => ?_) (fun h => ?_)
  · refine k_iload_n hX dX9_does_228 rfl 1 rfl ?_
    refine k_if_ne (tgt := 237) hX h dX9_does_229 (by decide) (fun h => ?_) (fun h => ?_)
    · refine k_lload hX dX9_does_237 2 rfl ?_
      refine k_lload hX dX9_does_239 3 rfl ?_
      refine k_ladd hX dX9_does_241 ?_
      refine k_lload hX dX9_does_242 4 rfl ?_
      refine k_ldiv hX h dX9_does_244 (fun h => ?_)
      exact t_ret_l T e h dX9_does_245
    · refine k_lload hX dX9_does_232 2 rfl ?_
      refine k_goto (tgt := 242) hX dX9_does_234 (by decide) ?_
      refine k_lload hX dX9_does_242 4 rfl ?_
      refine k_ldiv hX h dX9_does_244 (fun h => ?_)
      exact t_ret_l T e h dX9_does_245
  · refine k_lload hX dX9_does_210 4 rfl ?_
    refine k_lload hX dX9_does_212 5 rfl ?_
    refine k_lrem hX h dX9_does_214 (fun h => ?_)
    refine k_nml h (fun v1 h => ?_)
    refine k_lstore [(16, .long v1), (0, .ref (E.2.2.2.2.1 0)), (3, .int x3), (8, .long x8), (10, .long x10), (12, .long x12), (14, .long x14)] hX dX9_does_215 rfl rfl ?_
    refine k_lload hX dX9_does_217 6 rfl ?_
    refine k_lstore [(12, .long x14), (16, .long v1), (0, .ref (E.2.2.2.2.1 0)), (3, .int x3), (8, .long x8), (10, .long x10), (14, .long x14)] hX dX9_does_219 rfl rfl ?_
    refine k_lload hX dX9_does_221 1 rfl ?_
    refine k_lstore [(14, .long v1), (12, .long x14), (16, .long v1), (0, .ref (E.2.2.2.2.1 0)), (3, .int x3), (8, .long x8), (10, .long x10)] hX dX9_does_223 rfl rfl ?_
    refine k_goto (tgt := 203) hX dX9_does_225 (by decide) ?_
    refine k_lv [3, 4, 5, 6, 1, 0] rfl ?_
    exact hk203 _ _ _ _ _ _ h
theorem T_does_b203_ok {X : KC TS} {E : TE} {z : (Int64 × TS)} (T : tOK X E cX9_does 18 (some .long)) (hR : tRoom X 2 42) (e : tE_l X E z.1 z.2) {nf : Nat} : ∀ (n : Nat) (x3 : Int32) (x8 : Int64) (x10 : Int64) (x12 : Int64) (x14 : Int64) (τ : TS), T_does_b203 nf n x3 x8 x10 x12 x14 τ = some z → kW X τ 203 [(0, .ref (E.2.2.2.2.1 0)), (3, .int x3), (8, .long x8), (10, .long x10), (12, .long x12), (14, .long x14)] [] := by
  intro n
  induction n with
  | zero => intro x3 x8 x10 x12 x14 τ h; exact (nomatch (show (none : Option (Int64 × TS)) = some z from h))
  | succ n ih =>
    intro x3 x8 x10 x12 x14 τ h
    have h : T_does_b203_s nf (T_does_b203 nf n) x3 x8 x10 x12 x14 τ = some z := h
    exact T_does_b203_s_ok T hR e ih h
theorem T_does_b143_ok {X : KC TS} {E : TE} {z : (Int64 × TS)} (T : tOK X E cX9_does 18 (some .long)) (hR : tRoom X 2 42) (e : tE_l X E z.1 z.2) {nf : Nat} {k68 : Int32 → Int32 → Int32 → Int64 → Int64 → Int64 → Int64 → Int32 → TS → Option (Int64 × TS)} (hk68 : ∀ (x1 : Int32) (x2 : Int32) (x3 : Int32) (x4 : Int64) (x6 : Int64) (x8 : Int64) (x10 : Int64) (x12 : Int32) (τ : TS), k68 x1 x2 x3 x4 x6 x8 x10 x12 τ = some z → kW X τ 68 [(0, .ref (E.2.2.2.2.1 0)), (1, .int x1), (2, .int x2), (3, .int x3), (4, .long x4), (6, .long x6), (8, .long x8), (10, .long x10), (12, .int x12)] []) {x1 : Int32} {x2 : Int32} {x3 : Int32} {x4 : Int64} {x6 : Int64} {x10 : Int64} {x12 : Int32} {x13 : Int32} {s0 : Int64} {τ : TS} (h : T_does_b143 nf k68 x1 x2 x3 x4 x6 x10 x12 x13 s0 τ = some z) : kW X τ 143 [(0, .ref (E.2.2.2.2.1 0)), (1, .int x1), (2, .int x2), (3, .int x3), (4, .long x4), (6, .long x6), (10, .long x10), (12, .int x12), (13, .int x13)] [.long s0] := by
  unfold T_does_b143 at h
  have hX := T.1
  refine k_lstore [(8, .long s0), (0, .ref (E.2.2.2.2.1 0)), (1, .int x1), (2, .int x2), (3, .int x3), (4, .long x4), (6, .long x6), (10, .long x10), (12, .int x12), (13, .int x13)] hX dX9_does_143 rfl rfl ?_
  refine k_aload_n hX dX9_does_145 rfl 1 rfl ?_
  refine tg19 T dX9_does_146 ?_
  refine k_iload hX dX9_does_149 9 rfl ?_
  refine k_iconst (v := 2) hX dX9_does_151 (by decide) ?_
  refine k_iadd hX dX9_does_152 ?_
  refine ta19 T h dX9_does_153 (fun v1 h => ?_)
  refine k_i2l hX dX9_does_154 ?_
  refine k_lload hX dX9_does_155 5 rfl ?_
  refine k_lcmp_ge (tgt := 169) hX h dX9_does_157 dX9_does_158 (by decide) (fun h => ?_) (fun h => ?_)
  · refine k_lconst (v := 0) hX dX9_does_169 (by decide) ?_
    refine k_lstore [(10, .long 0), (8, .long s0), (0, .ref (E.2.2.2.2.1 0)), (1, .int x1), (2, .int x2), (3, .int x3), (4, .long x4), (6, .long x6), (12, .int x12), (13, .int x13)] hX dX9_does_170 rfl rfl ?_
    refine k_iinc (j := 8) [(12, .int (x12 + 1)), (10, .long 0), (8, .long s0), (0, .ref (E.2.2.2.2.1 0)), (1, .int x1), (2, .int x2), (3, .int x3), (4, .long x4), (6, .long x6), (13, .int x13)] hX dX9_does_172 rfl rfl rfl rfl ?_
    refine k_goto (tgt := 68) hX dX9_does_175 (by decide) ?_
    refine k_lv [3, 4, 5, 6, 7, 8, 2, 1, 0] rfl ?_
    exact hk68 _ _ _ _ _ _ _ _ _ h
  · refine k_lload hX dX9_does_161 7 rfl ?_
    refine k_lload hX dX9_does_163 6 rfl ?_
    refine k_lmul hX dX9_does_165 ?_
    refine k_goto (tgt := 170) hX dX9_does_166 (by decide) ?_
    refine k_nml h (fun v2 h => ?_)
    refine k_lstore [(10, .long v2), (8, .long s0), (0, .ref (E.2.2.2.2.1 0)), (1, .int x1), (2, .int x2), (3, .int x3), (4, .long x4), (6, .long x6), (12, .int x12), (13, .int x13)] hX dX9_does_170 rfl rfl ?_
    refine k_iinc (j := 8) [(12, .int (x12 + 1)), (10, .long v2), (8, .long s0), (0, .ref (E.2.2.2.2.1 0)), (1, .int x1), (2, .int x2), (3, .int x3), (4, .long x4), (6, .long x6), (13, .int x13)] hX dX9_does_172 rfl rfl rfl rfl ?_
    refine k_goto (tgt := 68) hX dX9_does_175 (by decide) ?_
    refine k_lv [3, 4, 5, 6, 7, 8, 2, 1, 0] rfl ?_
    exact hk68 _ _ _ _ _ _ _ _ _ h
theorem T_does_b68_s_ok {X : KC TS} {E : TE} {z : (Int64 × TS)} (T : tOK X E cX9_does 18 (some .long)) (hR : tRoom X 2 42) (e : tE_l X E z.1 z.2) {nf : Nat} {k68 : Int32 → Int32 → Int32 → Int64 → Int64 → Int64 → Int64 → Int32 → TS → Option (Int64 × TS)} (hk68 : ∀ (x1 : Int32) (x2 : Int32) (x3 : Int32) (x4 : Int64) (x6 : Int64) (x8 : Int64) (x10 : Int64) (x12 : Int32) (τ : TS), k68 x1 x2 x3 x4 x6 x8 x10 x12 τ = some z → kW X τ 68 [(0, .ref (E.2.2.2.2.1 0)), (1, .int x1), (2, .int x2), (3, .int x3), (4, .long x4), (6, .long x6), (8, .long x8), (10, .long x10), (12, .int x12)] []) {x1 : Int32} {x2 : Int32} {x3 : Int32} {x4 : Int64} {x6 : Int64} {x8 : Int64} {x10 : Int64} {x12 : Int32} {τ : TS} (h : T_does_b68_s nf k68 x1 x2 x3 x4 x6 x8 x10 x12 τ = some z) : kW X τ 68 [(0, .ref (E.2.2.2.2.1 0)), (1, .int x1), (2, .int x2), (3, .int x3), (4, .long x4), (6, .long x6), (8, .long x8), (10, .long x10), (12, .int x12)] [] := by
  unfold T_does_b68_s at h
  have hX := T.1
  refine k_iload hX dX9_does_68 8 rfl ?_
  refine k_aload_n hX dX9_does_70 rfl 0 rfl ?_
  refine tg19 T dX9_does_71 ?_
  refine k_bipush (v := 58) hX dX9_does_74 (by decide) ?_
  refine ta19 T h dX9_does_76 (fun v1 h => ?_)
  refine k_icmp_ge (tgt := 178) hX h dX9_does_77 (by decide) (fun h => ?_) (fun h => ?_)
  · refine k_lload hX dX9_does_178 6 rfl ?_
    refine k_lload hX dX9_does_180 7 rfl ?_
    refine k_ladd hX dX9_does_182 ?_
    refine k_lconst (v := 0) hX dX9_does_183 (by decide) ?_
    refine k_lcmp_ne (tgt := 192) hX h dX9_does_184 dX9_does_185 (by decide) (fun h => ?_) (fun h => ?_)
    · refine k_lload hX dX9_does_192 6 rfl ?_
      refine k_lstore [(12, .long x8), (0, .ref (E.2.2.2.2.1 0)), (1, .int x1), (2, .int x2), (3, .int x3), (4, .long x4), (6, .long x6), (8, .long x8), (10, .long x10)] hX dX9_does_194 rfl rfl ?_
      refine k_lload hX dX9_does_196 7 rfl ?_
      refine k_lload hX dX9_does_198 8 rfl ?_
      refine k_ladd hX dX9_does_200 ?_
      refine k_nml h (fun v2 h => ?_)
      refine k_lstore [(14, .long v2), (12, .long x8), (0, .ref (E.2.2.2.2.1 0)), (1, .int x1), (2, .int x2), (3, .int x3), (4, .long x4), (6, .long x6), (8, .long x8), (10, .long x10)] hX dX9_does_201 rfl rfl ?_
      refine k_lv [2, 5, 8, 9, 1, 0] rfl ?_
      exact T_does_b203_ok T hR e _ _ _ _ _ _ _ h
    · refine k_ldc2 (v := (-1)) hX q2181 dX9_does_188 ?_
      exact t_ret_l T e h dX9_does_191
  · refine k_bipush (v := 60) hX dX9_does_80 (by decide) ?_
    refine k_iconst (v := 3) hX dX9_does_82 (by decide) ?_
    refine k_iload hX dX9_does_83 8 rfl ?_
    refine k_imul hX dX9_does_85 ?_
    refine k_iadd hX dX9_does_86 ?_
    refine k_nm h (fun v3 h => ?_)
    refine k_istore [(13, .int v3), (0, .ref (E.2.2.2.2.1 0)), (1, .int x1), (2, .int x2), (3, .int x3), (4, .long x4), (6, .long x6), (8, .long x8), (10, .long x10), (12, .int x12)] hX dX9_does_87 rfl rfl ?_
    refine k_aload_n hX dX9_does_89 rfl 1 rfl ?_
    refine tg19 T dX9_does_90 ?_
    refine k_iload hX dX9_does_93 0 rfl ?_
    refine ta19 T h dX9_does_95 (fun v4 h => ?_)
    refine k_bipush (v := 6) hX dX9_does_96 (by decide) ?_
    refine k_iload_n hX dX9_does_98 rfl 3 rfl ?_
    refine k_imul hX dX9_does_99 ?_
    refine k_iload_n hX dX9_does_100 rfl 2 rfl ?_
    refine k_iadd hX dX9_does_101 ?_
    refine k_icmp_ne (tgt := 172) hX h dX9_does_102 (by decide) (fun h => ?_) (fun h => ?_)
    · refine k_iinc (j := 9) [(12, .int (x12 + 1)), (13, .int v3), (0, .ref (E.2.2.2.2.1 0)), (1, .int x1), (2, .int x2), (3, .int x3), (4, .long x4), (6, .long x6), (8, .long x8), (10, .long x10)] hX dX9_does_172 rfl rfl rfl rfl ?_
      refine k_goto (tgt := 68) hX dX9_does_175 (by decide) ?_
      refine k_lv [2, 3, 4, 5, 6, 7, 8, 9, 0] rfl ?_
      exact hk68 _ _ _ _ _ _ _ _ _ h
    · refine k_aload_n hX dX9_does_105 rfl 1 rfl ?_
      refine tg19 T dX9_does_106 ?_
      refine k_iload hX dX9_does_109 0 rfl ?_
      refine k_iconst (v := 1) hX dX9_does_111 (by decide) ?_
      refine k_iadd hX dX9_does_112 ?_
      refine ta19 T h dX9_does_113 (fun v5 h => ?_)
      refine k_iconst (v := 1) hX dX9_does_114 (by decide) ?_
      refine k_icmp_ne (tgt := 172) hX h dX9_does_115 (by decide) (fun h => ?_) (fun h => ?_)
      · refine k_iinc (j := 9) [(12, .int (x12 + 1)), (13, .int v3), (0, .ref (E.2.2.2.2.1 0)), (1, .int x1), (2, .int x2), (3, .int x3), (4, .long x4), (6, .long x6), (8, .long x8), (10, .long x10)] hX dX9_does_172 rfl rfl rfl rfl ?_
        refine k_goto (tgt := 68) hX dX9_does_175 (by decide) ?_
        refine k_lv [2, 3, 4, 5, 6, 7, 8, 9, 0] rfl ?_
        exact hk68 _ _ _ _ _ _ _ _ _ h
      · refine k_aload_n hX dX9_does_118 rfl 1 rfl ?_
        refine tg19 T dX9_does_119 ?_
        refine k_iload hX dX9_does_122 0 rfl ?_
        refine k_iconst (v := 2) hX dX9_does_124 (by decide) ?_
        refine k_iadd hX dX9_does_125 ?_
        refine ta19 T h dX9_does_126 (fun v6 h => ?_)
        refine k_i2l hX dX9_does_127 ?_
        refine k_lload hX dX9_does_128 6 rfl ?_
        refine k_lcmp_ge (tgt := 142) hX h dX9_does_130 dX9_does_131 (by decide) (fun h => ?_) (fun h => ?_)
        · refine k_lconst (v := 0) hX dX9_does_142 (by decide) ?_
          refine k_lv [1, 2, 3, 4, 5, 6, 8, 9, 0] rfl ?_
          exact T_does_b143_ok T hR e hk68 h
        · refine k_lload hX dX9_does_134 7 rfl ?_
          refine k_lload hX dX9_does_136 5 rfl ?_
          refine k_lmul hX dX9_does_138 ?_
          refine k_goto (tgt := 143) hX dX9_does_139 (by decide) ?_
          refine k_lv [1, 2, 3, 4, 5, 6, 8, 9, 0] rfl ?_
          exact T_does_b143_ok T hR e hk68 h
theorem T_does_b68_ok {X : KC TS} {E : TE} {z : (Int64 × TS)} (T : tOK X E cX9_does 18 (some .long)) (hR : tRoom X 2 42) (e : tE_l X E z.1 z.2) {nf : Nat} : ∀ (n : Nat) (x1 : Int32) (x2 : Int32) (x3 : Int32) (x4 : Int64) (x6 : Int64) (x8 : Int64) (x10 : Int64) (x12 : Int32) (τ : TS), T_does_b68 nf n x1 x2 x3 x4 x6 x8 x10 x12 τ = some z → kW X τ 68 [(0, .ref (E.2.2.2.2.1 0)), (1, .int x1), (2, .int x2), (3, .int x3), (4, .long x4), (6, .long x6), (8, .long x8), (10, .long x10), (12, .int x12)] [] := by
  intro n
  induction n with
  | zero => intro x1 x2 x3 x4 x6 x8 x10 x12 τ h; exact (nomatch (show (none : Option (Int64 × TS)) = some z from h))
  | succ n ih =>
    intro x1 x2 x3 x4 x6 x8 x10 x12 τ h
    have h : T_does_b68_s nf (T_does_b68 nf n) x1 x2 x3 x4 x6 x8 x10 x12 τ = some z := h
    exact T_does_b68_s_ok T hR e ih h
theorem met_does {l : Launch} {E : TE} (hE : tEnv E) {nf : Nat} : ∀ (x1 : Int32) (x2 : Int32) (x3 : Int32) (τ : TS) (z : (Int64 × TS)), T_does nf x1 x2 x3 τ = some z → tMet_l l E yX9_does (ws_ yX9_does cX9_does 18 (some .long)) 2 42 [.ref (E.2.2.2.2.1 0), .int x1, .int x2, .int x3] τ z.1 z.2 := by
  intro x1 x2 x3 τ z h
  refine t_met_l hE (by decide +kernel) rfl rfl (fun X hl T hR e => ?_)
  unfold T_does at h
  have hX := T.1
  show kW X τ 0 [(0, .ref (E.2.2.2.2.1 0)), (1, .int x1), (2, .int x2), (3, .int x3)] []
  refine k_aload_n hX dX9_does_0 rfl 0 rfl ?_
  refine k_iconst (v := 0) hX dX9_does_1 (by decide) ?_
  refine tp0 T h dX9_does_2 (fun τ1 h => ?_)
  refine k_aload_n hX dX9_does_5 rfl 0 rfl ?_
  refine k_iload_n hX dX9_does_6 rfl 1 rfl ?_
  refine k_iload_n hX dX9_does_7 rfl 2 rfl ?_
  refine cX_isCorner T (met_isCorner T.2.1) (room_le hR rfl rfl) h rfl dX9_does_8 (fun v2 h => ?_)
  refine k_if_eq (tgt := 33) hX h dX9_does_11 (by decide) (fun h => ?_) (fun h => ?_)
  · refine k_ldc2 (v := (-1)) hX q2181 dX9_does_33 ?_
    exact t_ret_l T e h dX9_does_36
  · refine k_aload_n hX dX9_does_14 rfl 0 rfl ?_
    refine k_iload_n hX dX9_does_15 rfl 1 rfl ?_
    refine k_iload_n hX dX9_does_16 rfl 2 rfl ?_
    refine cX_kindAt T (met_kindAt T.2.1) (room_le hR rfl rfl) h rfl dX9_does_17 (fun v3 h => ?_)
    refine k_iconst (v := 2) hX dX9_does_20 (by decide) ?_
    refine k_icmp_ne (tgt := 33) hX h dX9_does_21 (by decide) (fun h => ?_) (fun h => ?_)
    · refine k_ldc2 (v := (-1)) hX q2181 dX9_does_33 ?_
      exact t_ret_l T e h dX9_does_36
    · refine k_iload_n hX dX9_does_24 rfl 3 rfl ?_
      refine k_iconst (v := 0) hX dX9_does_25 (by decide) ?_
      refine k_iconst (v := 1) hX dX9_does_26 (by decide) ?_
      refine cX_within T (met_within T.2.1) (room_le hR rfl rfl) h rfl dX9_does_27 (fun v4 h => ?_)
      refine k_if_ne (tgt := 37) hX h dX9_does_30 (by decide) (fun h => ?_) (fun h => ?_)
      · refine k_aload_n hX dX9_does_37 rfl 0 rfl ?_
        refine k_iload_n hX dX9_does_38 rfl 1 rfl ?_
        refine k_iload_n hX dX9_does_39 rfl 2 rfl ?_
        refine k_iconst (v := 1) hX dX9_does_40 (by decide) ?_
        refine cX_lightAt T (met_lightAt T.2.1) (room_le hR rfl rfl) h rfl dX9_does_41 (fun v5 h => ?_)
        refine k_i2l hX dX9_does_44 ?_
        refine k_lstore [(4, .long v5.toInt64), (0, .ref (E.2.2.2.2.1 0)), (1, .int x1), (2, .int x2), (3, .int x3)] hX dX9_does_45 rfl rfl ?_
        refine k_aload_n hX dX9_does_47 rfl 1 rfl ?_
        refine k_iload_n hX dX9_does_48 rfl 2 rfl ?_
        refine k_iload_n hX dX9_does_49 rfl 3 rfl ?_
        refine k_iconst (v := 2) hX dX9_does_50 (by decide) ?_
        refine cX_lightAt T (met_lightAt T.2.1) (room_le hR rfl rfl) h rfl dX9_does_51 (fun v6 h => ?_)
        refine k_i2l hX dX9_does_54 ?_
        refine k_lconst (v := 1) hX dX9_does_55 (by decide) ?_
        refine k_ladd hX dX9_does_56 ?_
        refine k_nml h (fun v7 h => ?_)
        refine k_lstore [(6, .long v7), (4, .long v5.toInt64), (0, .ref (E.2.2.2.2.1 0)), (1, .int x1), (2, .int x2), (3, .int x3)] hX dX9_does_57 rfl rfl ?_
        refine k_lconst (v := 1) hX dX9_does_59 (by decide) ?_
        refine k_lstore [(8, .long 1), (6, .long v7), (4, .long v5.toInt64), (0, .ref (E.2.2.2.2.1 0)), (1, .int x1), (2, .int x2), (3, .int x3)] hX dX9_does_60 rfl rfl ?_
        refine k_lconst (v := 1) hX dX9_does_62 (by decide) ?_
        refine k_lstore [(10, .long 1), (8, .long 1), (6, .long v7), (4, .long v5.toInt64), (0, .ref (E.2.2.2.2.1 0)), (1, .int x1), (2, .int x2), (3, .int x3)] hX dX9_does_63 rfl rfl ?_
        refine k_iconst (v := 0) hX dX9_does_65 (by decide) ?_
        refine k_istore [(12, .int 0), (10, .long 1), (8, .long 1), (6, .long v7), (4, .long v5.toInt64), (0, .ref (E.2.2.2.2.1 0)), (1, .int x1), (2, .int x2), (3, .int x3)] hX dX9_does_66 rfl rfl ?_
        refine k_lv [5, 6, 7, 8, 4, 3, 2, 1, 0] rfl ?_
        exact T_does_b68_ok T hR e _ _ _ _ _ _ _ _ _ _ h
      · refine k_ldc2 (v := (-1)) hX q2181 dX9_does_33 ?_
        exact t_ret_l T e h dX9_does_36
theorem T_ones_b4_s_ok {X : KC TS} {E : TE} {z : Int32} {τ : TS} (T : tOK X E cX9_ones 4 (some .int)) (hR : tRoom X 0 0) (e : tE_i X E z τ) {nf : Nat} {k4 : Int64 → Int32 → Int32 → Option Int32} (hk4 : ∀ (x0 : Int64) (x2 : Int32) (x3 : Int32), k4 x0 x2 x3 = some z → kW X τ 4 [(0, .long x0), (2, .int x2), (3, .int x3)] []) {x0 : Int64} {x2 : Int32} {x3 : Int32} (h : T_ones_b4_s nf τ k4 x0 x2 x3 = some z) : kW X τ 4 [(0, .long x0), (2, .int x2), (3, .int x3)] [] := by
  unfold T_ones_b4_s at h
  have hX := T.1
  refine k_iload_n hX dX9_ones_4 rfl 2 rfl ?_
  refine k_bipush (v := 60) hX dX9_ones_5 (by decide) ?_
  refine k_icmp_ge (tgt := 25) hX h dX9_ones_7 (by decide) (fun h => ?_) (fun h => ?_)
  · refine k_iload_n hX dX9_ones_25 rfl 1 rfl ?_
    exact t_ret_ir T e h dX9_ones_26
  · refine k_iload_n hX dX9_ones_10 rfl 1 rfl ?_
    refine k_lload_n hX dX9_ones_11 rfl 0 rfl ?_
    refine k_iload_n hX dX9_ones_12 rfl 2 rfl ?_
    refine k_lshr hX dX9_ones_13 ?_
    refine k_lconst (v := 1) hX dX9_ones_14 (by decide) ?_
    refine k_land hX dX9_ones_15 ?_
    refine k_l2i hX dX9_ones_16 ?_
    refine k_iadd hX dX9_ones_17 ?_
    refine k_nm h (fun v1 h => ?_)
    refine k_istore_n [(2, .int v1), (0, .long x0), (3, .int x3)] hX dX9_ones_18 rfl rfl rfl ?_
    refine k_iinc (j := 2) [(3, .int (x3 + 1)), (2, .int v1), (0, .long x0)] hX dX9_ones_19 rfl rfl rfl rfl ?_
    refine k_goto (tgt := 4) hX dX9_ones_22 (by decide) ?_
    refine k_lv [2, 1, 0] rfl ?_
    exact hk4 _ _ _ h
theorem T_ones_b4_ok {X : KC TS} {E : TE} {z : Int32} {τ : TS} (T : tOK X E cX9_ones 4 (some .int)) (hR : tRoom X 0 0) (e : tE_i X E z τ) {nf : Nat} : ∀ (n : Nat) (x0 : Int64) (x2 : Int32) (x3 : Int32), T_ones_b4 nf τ n x0 x2 x3 = some z → kW X τ 4 [(0, .long x0), (2, .int x2), (3, .int x3)] [] := by
  intro n
  induction n with
  | zero => intro x0 x2 x3 h; exact (nomatch (show (none : Option Int32) = some z from h))
  | succ n ih =>
    intro x0 x2 x3 h
    have h : T_ones_b4_s nf τ (T_ones_b4 nf τ n) x0 x2 x3 = some z := h
    exact T_ones_b4_s_ok T hR e ih h
theorem met_ones {l : Launch} {E : TE} (hE : tEnv E) {nf : Nat} {τ : TS} : ∀ (x0 : Int64) (z : Int32), T_ones nf τ x0 = some z → tMet_i l E yX9_ones (ws_ yX9_ones cX9_ones 4 (some .int)) 0 0 [.long x0] τ z τ := by
  intro x0 z h
  refine t_met_i hE (by decide +kernel) rfl rfl (fun X hl T hR e => ?_)
  unfold T_ones at h
  have hX := T.1
  show kW X τ 0 [(0, .long x0)] []
  refine k_iconst (v := 0) hX dX9_ones_0 (by decide) ?_
  refine k_istore_n [(2, .int 0), (0, .long x0)] hX dX9_ones_1 rfl rfl rfl ?_
  refine k_iconst (v := 0) hX dX9_ones_2 (by decide) ?_
  refine k_istore_n [(3, .int 0), (2, .int 0), (0, .long x0)] hX dX9_ones_3 rfl rfl rfl ?_
  refine k_lv [2, 1, 0] rfl ?_
  exact T_ones_b4_ok T hR e _ _ _ _ h
theorem T_triesWave_b75_s_ok {X : KC TS} {E : TE} {z : TS} (T : tOK X E cX9_triesWave 11 none) {Fr Lr : Nat} (hR : tRoom X (Fr + 1) (Lr + 30)) (e : tE_v X E z) {nf : Nat} {rc : Int32 → Int32 → Int32 → Int64 → Int64 → Int32 → TS → Option TS} (hrc : ∀ (a0 : Int32) (a1 : Int32) (a2 : Int32) (a3 : Int64) (a4 : Int64) (a5 : Int32) (τ : TS) (v : TS), rc a0 a1 a2 a3 a4 a5 τ = some v → tMet_v X.1.2.1 E yX9_triesWave (ws_ yX9_triesWave cX9_triesWave 11 none) Fr Lr [.ref (E.2.2.2.2.1 0), .int a0, .int a1, .int a2, .long a3, .long a4, .int a5] τ v) {k75 : Int32 → Int32 → Int32 → Int64 → Int64 → Int32 → Int32 → TS → Option TS} (hk75 : ∀ (x1 : Int32) (x2 : Int32) (x3 : Int32) (x4 : Int64) (x6 : Int64) (x8 : Int32) (x9 : Int32) (τ : TS), k75 x1 x2 x3 x4 x6 x8 x9 τ = some z → kW X τ 75 [(0, .ref (E.2.2.2.2.1 0)), (1, .int x1), (2, .int x2), (3, .int x3), (4, .long x4), (6, .long x6), (8, .int x8), (9, .int x9)] []) {x1 : Int32} {x2 : Int32} {x3 : Int32} {x4 : Int64} {x6 : Int64} {x8 : Int32} {x9 : Int32} {τ : TS} (h : T_triesWave_b75_s nf rc k75 x1 x2 x3 x4 x6 x8 x9 τ = some z) : kW X τ 75 [(0, .ref (E.2.2.2.2.1 0)), (1, .int x1), (2, .int x2), (3, .int x3), (4, .long x4), (6, .long x6), (8, .int x8), (9, .int x9)] [] := by
  unfold T_triesWave_b75_s at h
  have hX := T.1
  refine k_iload hX dX9_triesWave_75 7 rfl ?_
  refine k_iload_n hX dX9_triesWave_77 rfl 3 rfl ?_
  refine k_icmp_ge (tgt := 136) hX h dX9_triesWave_78 (by decide) (fun h => ?_) (fun h => ?_)
  · exact t_ret_v T e h dX9_triesWave_136
  · refine k_aload_n hX dX9_triesWave_81 rfl 0 rfl ?_
    refine tg40 T dX9_triesWave_82 ?_
    refine k_iload_n hX dX9_triesWave_85 rfl 1 rfl ?_
    refine k_iload hX dX9_triesWave_86 7 rfl ?_
    refine ts40 T h dX9_triesWave_88 (fun τ1 h => ?_)
    refine k_aload_n hX dX9_triesWave_89 rfl 0 rfl ?_
    refine k_iload_n hX dX9_triesWave_90 rfl 1 rfl ?_
    refine k_iconst (v := 1) hX dX9_triesWave_91 (by decide) ?_
    refine k_iadd hX dX9_triesWave_92 ?_
    refine k_iload_n hX dX9_triesWave_93 rfl 2 rfl ?_
    refine k_iload_n hX dX9_triesWave_94 rfl 3 rfl ?_
    refine k_lload hX dX9_triesWave_95 4 rfl ?_
    refine k_aload_n hX dX9_triesWave_97 rfl 0 rfl ?_
    refine tg38 T dX9_triesWave_98 ?_
    refine k_bipush (v := 60) hX dX9_triesWave_101 (by decide) ?_
    refine k_iload_n hX dX9_triesWave_103 rfl 1 rfl ?_
    refine k_imul hX dX9_triesWave_104 ?_
    refine k_iload hX dX9_triesWave_105 7 rfl ?_
    refine k_iadd hX dX9_triesWave_107 ?_
    refine ta38 T h dX9_triesWave_108 (fun v2 h => ?_)
    refine k_land hX dX9_triesWave_109 ?_
    refine k_lload hX dX9_triesWave_110 5 rfl ?_
    refine k_aload_n hX dX9_triesWave_112 rfl 0 rfl ?_
    refine tg39 T dX9_triesWave_113 ?_
    refine k_bipush (v := 60) hX dX9_triesWave_116 (by decide) ?_
    refine k_iload_n hX dX9_triesWave_118 rfl 1 rfl ?_
    refine k_imul hX dX9_triesWave_119 ?_
    refine k_iload hX dX9_triesWave_120 7 rfl ?_
    refine k_iadd hX dX9_triesWave_122 ?_
    refine ta39 T h dX9_triesWave_123 (fun v3 h => ?_)
    refine k_land hX dX9_triesWave_124 ?_
    refine k_iload hX dX9_triesWave_125 6 rfl ?_
    refine cX_triesWave T (hrc) (room_lo hR (by omega) (by omega)) h rfl dX9_triesWave_127 (fun τ4 h => ?_)
    refine k_iinc (j := 7) [(9, .int (x9 + 1)), (0, .ref (E.2.2.2.2.1 0)), (1, .int x1), (2, .int x2), (3, .int x3), (4, .long x4), (6, .long x6), (8, .int x8)] hX dX9_triesWave_130 rfl rfl rfl rfl ?_
    refine k_goto (tgt := 75) hX dX9_triesWave_133 (by decide) ?_
    refine k_lv [1, 2, 3, 4, 5, 6, 7, 0] rfl ?_
    exact hk75 _ _ _ _ _ _ _ _ h
theorem T_triesWave_b75_ok {X : KC TS} {E : TE} {z : TS} (T : tOK X E cX9_triesWave 11 none) {Fr Lr : Nat} (hR : tRoom X (Fr + 1) (Lr + 30)) (e : tE_v X E z) {nf : Nat} {rc : Int32 → Int32 → Int32 → Int64 → Int64 → Int32 → TS → Option TS} (hrc : ∀ (a0 : Int32) (a1 : Int32) (a2 : Int32) (a3 : Int64) (a4 : Int64) (a5 : Int32) (τ : TS) (v : TS), rc a0 a1 a2 a3 a4 a5 τ = some v → tMet_v X.1.2.1 E yX9_triesWave (ws_ yX9_triesWave cX9_triesWave 11 none) Fr Lr [.ref (E.2.2.2.2.1 0), .int a0, .int a1, .int a2, .long a3, .long a4, .int a5] τ v) : ∀ (n : Nat) (x1 : Int32) (x2 : Int32) (x3 : Int32) (x4 : Int64) (x6 : Int64) (x8 : Int32) (x9 : Int32) (τ : TS), T_triesWave_b75 nf rc n x1 x2 x3 x4 x6 x8 x9 τ = some z → kW X τ 75 [(0, .ref (E.2.2.2.2.1 0)), (1, .int x1), (2, .int x2), (3, .int x3), (4, .long x4), (6, .long x6), (8, .int x8), (9, .int x9)] [] := by
  intro n
  induction n with
  | zero => intro x1 x2 x3 x4 x6 x8 x9 τ h; exact (nomatch (show (none : Option TS) = some z from h))
  | succ n ih =>
    intro x1 x2 x3 x4 x6 x8 x9 τ h
    have h : T_triesWave_b75_s nf rc (T_triesWave_b75 nf rc n) x1 x2 x3 x4 x6 x8 x9 τ = some z := h
    exact T_triesWave_b75_s_ok T hR e hrc ih h
theorem T_triesWave_b45_s_ok {X : KC TS} {E : TE} {z : TS} (T : tOK X E cX9_triesWave 11 none) {Fr Lr : Nat} (hR : tRoom X (Fr + 1) (Lr + 30)) (e : tE_v X E z) {nf : Nat} {rc : Int32 → Int32 → Int32 → Int64 → Int64 → Int32 → TS → Option TS} (hrc : ∀ (a0 : Int32) (a1 : Int32) (a2 : Int32) (a3 : Int64) (a4 : Int64) (a5 : Int32) (τ : TS) (v : TS), rc a0 a1 a2 a3 a4 a5 τ = some v → tMet_v X.1.2.1 E yX9_triesWave (ws_ yX9_triesWave cX9_triesWave 11 none) Fr Lr [.ref (E.2.2.2.2.1 0), .int a0, .int a1, .int a2, .long a3, .long a4, .int a5] τ v) {k45 : Int32 → Int32 → TS → Option TS} (hk45 : ∀ (x2 : Int32) (x10 : Int32) (τ : TS), k45 x2 x10 τ = some z → kW X τ 45 [(0, .ref (E.2.2.2.2.1 0)), (2, .int x2), (10, .int x10)] []) {x2 : Int32} {x10 : Int32} {τ : TS} (h : T_triesWave_b45_s nf rc k45 x2 x10 τ = some z) : kW X τ 45 [(0, .ref (E.2.2.2.2.1 0)), (2, .int x2), (10, .int x10)] [] := by
  unfold T_triesWave_b45_s at h
  have hX := T.1
  refine k_iload hX dX9_triesWave_45 2 rfl ?_
  refine k_iload_n hX dX9_triesWave_47 rfl 1 rfl ?_
  refine k_icmp_ge (tgt := 71) hX h dX9_triesWave_48 (by decide) (fun h => ?_) (fun h => ?_)
  · exact t_ret_v T e h dX9_triesWave_71
  · refine k_aload_n hX dX9_triesWave_51 rfl 0 rfl ?_
    refine tg41 T dX9_triesWave_52 ?_
    refine k_iload hX dX9_triesWave_55 2 rfl ?_
    refine k_aload_n hX dX9_triesWave_57 rfl 0 rfl ?_
    refine tg40 T dX9_triesWave_58 ?_
    refine k_iload hX dX9_triesWave_61 2 rfl ?_
    refine ta40 T h dX9_triesWave_63 (fun v1 h => ?_)
    refine ts41 T h dX9_triesWave_64 (fun τ2 h => ?_)
    refine k_iinc (j := 2) [(10, .int (x10 + 1)), (0, .ref (E.2.2.2.2.1 0)), (2, .int x2)] hX dX9_triesWave_65 rfl rfl rfl rfl ?_
    refine k_goto (tgt := 45) hX dX9_triesWave_68 (by decide) ?_
    refine k_lv [1, 2, 0] rfl ?_
    exact hk45 _ _ _ h
theorem T_triesWave_b45_ok {X : KC TS} {E : TE} {z : TS} (T : tOK X E cX9_triesWave 11 none) {Fr Lr : Nat} (hR : tRoom X (Fr + 1) (Lr + 30)) (e : tE_v X E z) {nf : Nat} {rc : Int32 → Int32 → Int32 → Int64 → Int64 → Int32 → TS → Option TS} (hrc : ∀ (a0 : Int32) (a1 : Int32) (a2 : Int32) (a3 : Int64) (a4 : Int64) (a5 : Int32) (τ : TS) (v : TS), rc a0 a1 a2 a3 a4 a5 τ = some v → tMet_v X.1.2.1 E yX9_triesWave (ws_ yX9_triesWave cX9_triesWave 11 none) Fr Lr [.ref (E.2.2.2.2.1 0), .int a0, .int a1, .int a2, .long a3, .long a4, .int a5] τ v) : ∀ (n : Nat) (x2 : Int32) (x10 : Int32) (τ : TS), T_triesWave_b45 nf rc n x2 x10 τ = some z → kW X τ 45 [(0, .ref (E.2.2.2.2.1 0)), (2, .int x2), (10, .int x10)] [] := by
  intro n
  induction n with
  | zero => intro x2 x10 τ h; exact (nomatch (show (none : Option TS) = some z from h))
  | succ n ih =>
    intro x2 x10 τ h
    have h : T_triesWave_b45_s nf rc (T_triesWave_b45 nf rc n) x2 x10 τ = some z := h
    exact T_triesWave_b45_s_ok T hR e hrc ih h
theorem T_triesWave_b24_ok {X : KC TS} {E : TE} {z : TS} (T : tOK X E cX9_triesWave 11 none) {Fr Lr : Nat} (hR : tRoom X (Fr + 1) (Lr + 30)) (e : tE_v X E z) {nf : Nat} {rc : Int32 → Int32 → Int32 → Int64 → Int64 → Int32 → TS → Option TS} (hrc : ∀ (a0 : Int32) (a1 : Int32) (a2 : Int32) (a3 : Int64) (a4 : Int64) (a5 : Int32) (τ : TS) (v : TS), rc a0 a1 a2 a3 a4 a5 τ = some v → tMet_v X.1.2.1 E yX9_triesWave (ws_ yX9_triesWave cX9_triesWave 11 none) Fr Lr [.ref (E.2.2.2.2.1 0), .int a0, .int a1, .int a2, .long a3, .long a4, .int a5] τ v) {x2 : Int32} {s0 : Int32} {s1 : Int32} {τ : TS} (h : T_triesWave_b24 nf rc x2 s0 s1 τ = some z) : kW X τ 24 [(0, .ref (E.2.2.2.2.1 0)), (2, .int x2)] [.int s0, .int s1] := by
  unfold T_triesWave_b24 at h
  have hX := T.1
  refine k_iadd hX dX9_triesWave_24 ?_
  refine k_nm h (fun v1 h => ?_)
  refine k_istore [(9, .int v1), (0, .ref (E.2.2.2.2.1 0)), (2, .int x2)] hX dX9_triesWave_25 rfl rfl ?_
  refine k_iload hX dX9_triesWave_27 0 rfl ?_
  refine k_aload_n hX dX9_triesWave_29 rfl 1 rfl ?_
  refine tg42 T dX9_triesWave_30 ?_
  refine k_icmp_le (tgt := 71) hX h dX9_triesWave_33 (by decide) (fun h => ?_) (fun h => ?_)
  · exact t_ret_v T e h dX9_triesWave_71
  · refine k_aload_n hX dX9_triesWave_36 rfl 1 rfl ?_
    refine k_iload hX dX9_triesWave_37 0 rfl ?_
    refine tp42 T h dX9_triesWave_39 (fun τ2 h => ?_)
    refine k_iconst (v := 0) hX dX9_triesWave_42 (by decide) ?_
    refine k_istore [(10, .int 0), (9, .int v1), (0, .ref (E.2.2.2.2.1 0)), (2, .int x2)] hX dX9_triesWave_43 rfl rfl ?_
    refine k_lv [2, 3, 0] rfl ?_
    exact T_triesWave_b45_ok T hR e hrc _ _ _ _ h
theorem met_triesWave_s {l : Launch} {E : TE} (hE : tEnv E) {nf : Nat} {rc : Int32 → Int32 → Int32 → Int64 → Int64 → Int32 → TS → Option TS} {Fr Lr : Nat} (hrc : ∀ (a0 : Int32) (a1 : Int32) (a2 : Int32) (a3 : Int64) (a4 : Int64) (a5 : Int32) (τ : TS) (v : TS), rc a0 a1 a2 a3 a4 a5 τ = some v → tMet_v l E yX9_triesWave (ws_ yX9_triesWave cX9_triesWave 11 none) Fr Lr [.ref (E.2.2.2.2.1 0), .int a0, .int a1, .int a2, .long a3, .long a4, .int a5] τ v) : ∀ (x1 : Int32) (x2 : Int32) (x3 : Int32) (x4 : Int64) (x6 : Int64) (x8 : Int32) (τ : TS) (z : TS), T_triesWave_s nf rc x1 x2 x3 x4 x6 x8 τ = some z → tMet_v l E yX9_triesWave (ws_ yX9_triesWave cX9_triesWave 11 none) (Fr + 1) (Lr + 30) [.ref (E.2.2.2.2.1 0), .int x1, .int x2, .int x3, .long x4, .long x6, .int x8] τ z := by
  intro x1 x2 x3 x4 x6 x8 τ z h
  refine t_met_v hE (by decide +kernel) rfl rfl (fun X hl T hR e => ?_)
  unfold T_triesWave_s at h
  have hX := T.1
  show kW X τ 0 [(0, .ref (E.2.2.2.2.1 0)), (1, .int x1), (2, .int x2), (3, .int x3), (4, .long x4), (6, .long x6), (8, .int x8)] []
  subst hl
  refine k_iload_n hX dX9_triesWave_0 rfl 1 rfl ?_
  refine k_iload_n hX dX9_triesWave_1 rfl 2 rfl ?_
  refine k_icmp_ne (tgt := 72) hX h dX9_triesWave_2 (by decide) (fun h => ?_) (fun h => ?_)
  · refine k_iconst (v := 0) hX dX9_triesWave_72 (by decide) ?_
    refine k_istore [(9, .int 0), (0, .ref (E.2.2.2.2.1 0)), (1, .int x1), (2, .int x2), (3, .int x3), (4, .long x4), (6, .long x6), (8, .int x8)] hX dX9_triesWave_73 rfl rfl ?_
    refine k_lv [1, 2, 3, 4, 5, 6, 7, 0] rfl ?_
    exact T_triesWave_b75_ok T hR e hrc _ _ _ _ _ _ _ _ _ h
  · refine k_lload hX dX9_triesWave_5 4 rfl ?_
    refine cX_ones T (met_ones T.2.1) (room_lo hR (by omega) (by omega)) h rfl dX9_triesWave_7 (fun v1 h => ?_)
    refine k_iload hX dX9_triesWave_10 6 rfl ?_
    refine k_if_eq (tgt := 23) hX h dX9_triesWave_12 (by decide) (fun h => ?_) (fun h => ?_)
    · refine k_iconst (v := 0) hX dX9_triesWave_23 (by decide) ?_
      refine k_lv [0, 2] rfl ?_
      exact T_triesWave_b24_ok T hR e hrc h
    · refine k_lload hX dX9_triesWave_15 5 rfl ?_
      refine cX_ones T (met_ones T.2.1) (room_lo hR (by omega) (by omega)) h rfl dX9_triesWave_17 (fun v2 h => ?_)
      refine k_goto (tgt := 24) hX dX9_triesWave_20 (by decide) ?_
      refine k_lv [0, 2] rfl ?_
      exact T_triesWave_b24_ok T hR e hrc h
theorem met_triesWave {l : Launch} {E : TE} (hE : tEnv E) {nf : Nat} : ∀ (dp : Nat) (x1 : Int32) (x2 : Int32) (x3 : Int32) (x4 : Int64) (x6 : Int64) (x8 : Int32) (τ : TS) (z : TS), T_triesWave nf dp x1 x2 x3 x4 x6 x8 τ = some z → tMet_v l E yX9_triesWave (ws_ yX9_triesWave cX9_triesWave 11 none) (1 * dp) (30 * dp) [.ref (E.2.2.2.2.1 0), .int x1, .int x2, .int x3, .long x4, .long x6, .int x8] τ z := by
  intro dp
  induction dp with
  | zero => intro x1 x2 x3 x4 x6 x8 τ z h; exact (nomatch (show (none : Option TS) = some z from h))
  | succ dp ih =>
    intro x1 x2 x3 x4 x6 x8 τ z h
    have h : T_triesWave_s nf (T_triesWave nf dp) x1 x2 x3 x4 x6 x8 τ = some z := h
    exact met_triesWave_s hE ih _ _ _ _ _ _ _ _ h
theorem T_turned_b5_s_ok {X : KC TS} {E : TE} {z : Int64} {τ : TS} (T : tOK X E cX9_turned 6 (some .long)) (hR : tRoom X 0 0) (e : tE_l X E z τ) {nf : Nat} {k5 : Int32 → Int32 → Int32 → Int64 → Int32 → Option Int64} (hk5 : ∀ (x0 : Int32) (x1 : Int32) (x2 : Int32) (x3 : Int64) (x5 : Int32), k5 x0 x1 x2 x3 x5 = some z → kW X τ 5 [(0, .int x0), (1, .int x1), (2, .int x2), (3, .long x3), (5, .int x5)] []) {x0 : Int32} {x1 : Int32} {x2 : Int32} {x3 : Int64} {x5 : Int32} (h : T_turned_b5_s nf τ k5 x0 x1 x2 x3 x5 = some z) : kW X τ 5 [(0, .int x0), (1, .int x1), (2, .int x2), (3, .long x3), (5, .int x5)] [] := by
  unfold T_turned_b5_s at h
  have hX := T.1
  refine k_iload hX dX9_turned_5 4 rfl ?_
  refine k_iload_n hX dX9_turned_7 rfl 1 rfl ?_
  refine k_icmp_ge (tgt := 32) hX h dX9_turned_8 (by decide) (fun h => ?_) (fun h => ?_)
  · refine k_lload_n hX dX9_turned_32 rfl 3 rfl ?_
    exact t_ret_lr T e h dX9_turned_33
  · refine k_lload_n hX dX9_turned_11 rfl 3 rfl ?_
    refine k_lconst (v := 1) hX dX9_turned_12 (by decide) ?_
    refine k_iload_n hX dX9_turned_13 rfl 0 rfl ?_
    refine k_iload hX dX9_turned_14 4 rfl ?_
    refine k_iadd hX dX9_turned_16 ?_
    refine k_iload_n hX dX9_turned_17 rfl 2 rfl ?_
    refine k_irem hX h dX9_turned_18 (fun h => ?_)
    refine k_iload_n hX dX9_turned_19 rfl 2 rfl ?_
    refine k_iadd hX dX9_turned_20 ?_
    refine k_iload_n hX dX9_turned_21 rfl 2 rfl ?_
    refine k_irem hX h dX9_turned_22 (fun h => ?_)
    refine k_lshl hX dX9_turned_23 ?_
    refine k_lor hX dX9_turned_24 ?_
    refine k_nml h (fun v1 h => ?_)
    refine k_lstore_n [(3, .long v1), (0, .int x0), (1, .int x1), (2, .int x2), (5, .int x5)] hX dX9_turned_25 rfl rfl rfl ?_
    refine k_iinc (j := 4) [(5, .int (x5 + 1)), (3, .long v1), (0, .int x0), (1, .int x1), (2, .int x2)] hX dX9_turned_26 rfl rfl rfl rfl ?_
    refine k_goto (tgt := 5) hX dX9_turned_29 (by decide) ?_
    refine k_lv [2, 3, 4, 1, 0] rfl ?_
    exact hk5 _ _ _ _ _ h
theorem T_turned_b5_ok {X : KC TS} {E : TE} {z : Int64} {τ : TS} (T : tOK X E cX9_turned 6 (some .long)) (hR : tRoom X 0 0) (e : tE_l X E z τ) {nf : Nat} : ∀ (n : Nat) (x0 : Int32) (x1 : Int32) (x2 : Int32) (x3 : Int64) (x5 : Int32), T_turned_b5 nf τ n x0 x1 x2 x3 x5 = some z → kW X τ 5 [(0, .int x0), (1, .int x1), (2, .int x2), (3, .long x3), (5, .int x5)] [] := by
  intro n
  induction n with
  | zero => intro x0 x1 x2 x3 x5 h; exact (nomatch (show (none : Option Int64) = some z from h))
  | succ n ih =>
    intro x0 x1 x2 x3 x5 h
    have h : T_turned_b5_s nf τ (T_turned_b5 nf τ n) x0 x1 x2 x3 x5 = some z := h
    exact T_turned_b5_s_ok T hR e ih h
theorem met_turned {l : Launch} {E : TE} (hE : tEnv E) {nf : Nat} {τ : TS} : ∀ (x0 : Int32) (x1 : Int32) (x2 : Int32) (z : Int64), T_turned nf τ x0 x1 x2 = some z → tMet_l l E yX9_turned (ws_ yX9_turned cX9_turned 6 (some .long)) 0 0 [.int x0, .int x1, .int x2] τ z τ := by
  intro x0 x1 x2 z h
  refine t_met_l hE (by decide +kernel) rfl rfl (fun X hl T hR e => ?_)
  unfold T_turned at h
  have hX := T.1
  show kW X τ 0 [(0, .int x0), (1, .int x1), (2, .int x2)] []
  refine k_lconst (v := 0) hX dX9_turned_0 (by decide) ?_
  refine k_lstore_n [(3, .long 0), (0, .int x0), (1, .int x1), (2, .int x2)] hX dX9_turned_1 rfl rfl rfl ?_
  refine k_iconst (v := 0) hX dX9_turned_2 (by decide) ?_
  refine k_istore [(5, .int 0), (3, .long 0), (0, .int x0), (1, .int x1), (2, .int x2)] hX dX9_turned_3 rfl rfl ?_
  refine k_lv [2, 3, 4, 1, 0] rfl ?_
  exact T_turned_b5_ok T hR e _ _ _ _ _ _ h
theorem T_wave_b154_s_ok {X : KC TS} {E : TE} {z : (Int32 × TS)} (T : tOK X E cX9_wave 11 (some .int)) (hR : tRoom X 11 330) (e : tE_i X E z.1 z.2) {nf : Nat} {k130 : Int32 → Int32 → Int32 → Int32 → Int32 → Int32 → Int32 → TS → Option (Int32 × TS)} (hk130 : ∀ (x1 : Int32) (x2 : Int32) (x3 : Int32) (x4 : Int32) (x5 : Int32) (x7 : Int32) (x8 : Int32) (τ : TS), k130 x1 x2 x3 x4 x5 x7 x8 τ = some z → kW X τ 130 [(0, .ref (E.2.2.2.2.1 0)), (1, .int x1), (2, .int x2), (3, .int x3), (4, .int x4), (5, .int x5), (7, .int x7), (8, .int x8)] []) {k154 : Int32 → Int32 → Int32 → Int32 → Int32 → Int32 → Int32 → Int32 → Int32 → TS → Option (Int32 × TS)} (hk154 : ∀ (x1 : Int32) (x2 : Int32) (x3 : Int32) (x4 : Int32) (x5 : Int32) (x7 : Int32) (x8 : Int32) (x9 : Int32) (x10 : Int32) (τ : TS), k154 x1 x2 x3 x4 x5 x7 x8 x9 x10 τ = some z → kW X τ 154 [(0, .ref (E.2.2.2.2.1 0)), (1, .int x1), (2, .int x2), (3, .int x3), (4, .int x4), (5, .int x5), (7, .int x7), (8, .int x8), (9, .int x9), (10, .int x10)] []) {x1 : Int32} {x2 : Int32} {x3 : Int32} {x4 : Int32} {x5 : Int32} {x7 : Int32} {x8 : Int32} {x9 : Int32} {x10 : Int32} {τ : TS} (h : T_wave_b154_s nf k130 k154 x1 x2 x3 x4 x5 x7 x8 x9 x10 τ = some z) : kW X τ 154 [(0, .ref (E.2.2.2.2.1 0)), (1, .int x1), (2, .int x2), (3, .int x3), (4, .int x4), (5, .int x5), (7, .int x7), (8, .int x8), (9, .int x9), (10, .int x10)] [] := by
  unfold T_wave_b154_s at h
  have hX := T.1
  refine k_iload hX dX9_wave_154 9 rfl ?_
  refine k_iload hX dX9_wave_156 6 rfl ?_
  refine k_icmp_ge (tgt := 235) hX h dX9_wave_158 (by decide) (fun h => ?_) (fun h => ?_)
  · refine k_iinc (j := 7) [(8, .int (x8 + 1)), (0, .ref (E.2.2.2.2.1 0)), (1, .int x1), (2, .int x2), (3, .int x3), (4, .int x4), (5, .int x5), (7, .int x7), (9, .int x9), (10, .int x10)] hX dX9_wave_235 rfl rfl rfl rfl ?_
    refine k_goto (tgt := 130) hX dX9_wave_238 (by decide) ?_
    refine k_lv [1, 2, 3, 4, 5, 6, 7, 0] rfl ?_
    exact hk130 _ _ _ _ _ _ _ _ h
  · refine k_aload_n hX dX9_wave_161 rfl 0 rfl ?_
    refine tg38 T dX9_wave_162 ?_
    refine k_bipush (v := 60) hX dX9_wave_165 (by decide) ?_
    refine k_iload hX dX9_wave_167 7 rfl ?_
    refine k_imul hX dX9_wave_169 ?_
    refine k_iload hX dX9_wave_170 9 rfl ?_
    refine k_iadd hX dX9_wave_172 ?_
    refine k_iload hX dX9_wave_173 9 rfl ?_
    refine k_iload hX dX9_wave_175 7 rfl ?_
    refine k_aload_n hX dX9_wave_177 rfl 0 rfl ?_
    refine tg10 T dX9_wave_178 ?_
    refine k_iconst (v := 2) hX dX9_wave_181 (by decide) ?_
    refine ta10 T h dX9_wave_182 (fun v1 h => ?_)
    refine k_imul hX dX9_wave_183 ?_
    refine k_isub hX dX9_wave_184 ?_
    refine k_iload hX dX9_wave_185 8 rfl ?_
    refine k_iload hX dX9_wave_187 6 rfl ?_
    refine cX_turned T (met_turned T.2.1) (room_le hR rfl rfl) h rfl dX9_wave_189 (fun v2 h => ?_)
    refine ts38 T h dX9_wave_192 (fun τ3 h => ?_)
    refine k_aload_n hX dX9_wave_193 rfl 0 rfl ?_
    refine tg39 T dX9_wave_194 ?_
    refine k_bipush (v := 60) hX dX9_wave_197 (by decide) ?_
    refine k_iload hX dX9_wave_199 7 rfl ?_
    refine k_imul hX dX9_wave_201 ?_
    refine k_iload hX dX9_wave_202 9 rfl ?_
    refine k_iadd hX dX9_wave_204 ?_
    refine k_iload hX dX9_wave_205 9 rfl ?_
    refine k_iload_n hX dX9_wave_207 rfl 3 rfl ?_
    refine k_iconst (v := 1) hX dX9_wave_208 (by decide) ?_
    refine k_isub hX dX9_wave_209 ?_
    refine k_iload hX dX9_wave_210 7 rfl ?_
    refine k_isub hX dX9_wave_212 ?_
    refine k_aload_n hX dX9_wave_213 rfl 0 rfl ?_
    refine tg10 T dX9_wave_214 ?_
    refine k_iconst (v := 2) hX dX9_wave_217 (by decide) ?_
    refine ta10 T h dX9_wave_218 (fun v4 h => ?_)
    refine k_imul hX dX9_wave_219 ?_
    refine k_isub hX dX9_wave_220 ?_
    refine k_iload hX dX9_wave_221 8 rfl ?_
    refine k_iload hX dX9_wave_223 6 rfl ?_
    refine cX_turned T (met_turned T.2.1) (room_le hR rfl rfl) h rfl dX9_wave_225 (fun v5 h => ?_)
    refine ts39 T h dX9_wave_228 (fun τ6 h => ?_)
    refine k_iinc (j := 9) [(10, .int (x10 + 1)), (0, .ref (E.2.2.2.2.1 0)), (1, .int x1), (2, .int x2), (3, .int x3), (4, .int x4), (5, .int x5), (7, .int x7), (8, .int x8), (9, .int x9)] hX dX9_wave_229 rfl rfl rfl rfl ?_
    refine k_goto (tgt := 154) hX dX9_wave_232 (by decide) ?_
    refine k_lv [1, 2, 3, 4, 5, 6, 7, 8, 9, 0] rfl ?_
    exact hk154 _ _ _ _ _ _ _ _ _ _ h
theorem T_wave_b154_ok {X : KC TS} {E : TE} {z : (Int32 × TS)} (T : tOK X E cX9_wave 11 (some .int)) (hR : tRoom X 11 330) (e : tE_i X E z.1 z.2) {nf : Nat} {k130 : Int32 → Int32 → Int32 → Int32 → Int32 → Int32 → Int32 → TS → Option (Int32 × TS)} (hk130 : ∀ (x1 : Int32) (x2 : Int32) (x3 : Int32) (x4 : Int32) (x5 : Int32) (x7 : Int32) (x8 : Int32) (τ : TS), k130 x1 x2 x3 x4 x5 x7 x8 τ = some z → kW X τ 130 [(0, .ref (E.2.2.2.2.1 0)), (1, .int x1), (2, .int x2), (3, .int x3), (4, .int x4), (5, .int x5), (7, .int x7), (8, .int x8)] []) : ∀ (n : Nat) (x1 : Int32) (x2 : Int32) (x3 : Int32) (x4 : Int32) (x5 : Int32) (x7 : Int32) (x8 : Int32) (x9 : Int32) (x10 : Int32) (τ : TS), T_wave_b154 nf k130 n x1 x2 x3 x4 x5 x7 x8 x9 x10 τ = some z → kW X τ 154 [(0, .ref (E.2.2.2.2.1 0)), (1, .int x1), (2, .int x2), (3, .int x3), (4, .int x4), (5, .int x5), (7, .int x7), (8, .int x8), (9, .int x9), (10, .int x10)] [] := by
  intro n
  induction n with
  | zero => intro x1 x2 x3 x4 x5 x7 x8 x9 x10 τ h; exact (nomatch (show (none : Option (Int32 × TS)) = some z from h))
  | succ n ih =>
    intro x1 x2 x3 x4 x5 x7 x8 x9 x10 τ h
    have h : T_wave_b154_s nf k130 (T_wave_b154 nf k130 n) x1 x2 x3 x4 x5 x7 x8 x9 x10 τ = some z := h
    exact T_wave_b154_s_ok T hR e hk130 ih h
theorem T_wave_b130_s_ok {X : KC TS} {E : TE} {z : (Int32 × TS)} (T : tOK X E cX9_wave 11 (some .int)) (hR : tRoom X 11 330) (e : tE_i X E z.1 z.2) {nf : Nat} {k130 : Int32 → Int32 → Int32 → Int32 → Int32 → Int32 → Int32 → TS → Option (Int32 × TS)} (hk130 : ∀ (x1 : Int32) (x2 : Int32) (x3 : Int32) (x4 : Int32) (x5 : Int32) (x7 : Int32) (x8 : Int32) (τ : TS), k130 x1 x2 x3 x4 x5 x7 x8 τ = some z → kW X τ 130 [(0, .ref (E.2.2.2.2.1 0)), (1, .int x1), (2, .int x2), (3, .int x3), (4, .int x4), (5, .int x5), (7, .int x7), (8, .int x8)] []) {x1 : Int32} {x2 : Int32} {x3 : Int32} {x4 : Int32} {x5 : Int32} {x7 : Int32} {x8 : Int32} {τ : TS} (h : T_wave_b130_s nf k130 x1 x2 x3 x4 x5 x7 x8 τ = some z) : kW X τ 130 [(0, .ref (E.2.2.2.2.1 0)), (1, .int x1), (2, .int x2), (3, .int x3), (4, .int x4), (5, .int x5), (7, .int x7), (8, .int x8)] [] := by
  unfold T_wave_b130_s at h
  have hX := T.1
  refine k_iload hX dX9_wave_130 7 rfl ?_
  refine k_iload_n hX dX9_wave_132 rfl 3 rfl ?_
  refine k_icmp_ge (tgt := 241) hX h dX9_wave_133 (by decide) (fun h => ?_) (fun h => ?_)
  · refine k_aload_n hX dX9_wave_241 rfl 0 rfl ?_
    refine k_iconst (v := (-1)) hX dX9_wave_242 (by decide) ?_
    refine tp42 T h dX9_wave_243 (fun τ1 h => ?_)
    refine k_aload_n hX dX9_wave_246 rfl 0 rfl ?_
    refine k_iload_n hX dX9_wave_247 rfl 1 rfl ?_
    refine k_iload_n hX dX9_wave_248 rfl 2 rfl ?_
    refine k_iconst (v := 2) hX dX9_wave_249 (by decide) ?_
    refine cX_lightAt T (met_lightAt T.2.1) (room_le hR rfl rfl) h rfl dX9_wave_250 (fun v2 h => ?_)
    refine k_aload_n hX dX9_wave_253 rfl 0 rfl ?_
    refine k_iload_n hX dX9_wave_254 rfl 1 rfl ?_
    refine k_iload_n hX dX9_wave_255 rfl 2 rfl ?_
    refine k_iconst (v := 3) hX dX9_wave_256 (by decide) ?_
    refine cX_lightAt T (met_lightAt T.2.1) (room_le hR rfl rfl) h rfl dX9_wave_257 (fun v3 h => ?_)
    refine k_iadd hX dX9_wave_260 ?_
    refine k_iload hX dX9_wave_261 6 rfl ?_
    refine k_irem hX h dX9_wave_263 (fun h => ?_)
    refine k_nm h (fun v4 h => ?_)
    refine k_istore [(8, .int v4), (0, .ref (E.2.2.2.2.1 0)), (1, .int x1), (2, .int x2), (3, .int x3), (4, .int x4), (5, .int x5), (7, .int x7)] hX dX9_wave_264 rfl rfl ?_
    refine k_aload_n hX dX9_wave_266 rfl 1 rfl ?_
    refine tg40 T dX9_wave_267 ?_
    refine k_iconst (v := 0) hX dX9_wave_270 (by decide) ?_
    refine k_iload hX dX9_wave_271 0 rfl ?_
    refine ts40 T h dX9_wave_273 (fun τ5 h => ?_)
    refine k_aload_n hX dX9_wave_274 rfl 1 rfl ?_
    refine k_iconst (v := 1) hX dX9_wave_275 (by decide) ?_
    refine k_iload_n hX dX9_wave_276 rfl 4 rfl ?_
    refine k_iload hX dX9_wave_277 7 rfl ?_
    refine k_aload_n hX dX9_wave_279 rfl 1 rfl ?_
    refine tg38 T dX9_wave_280 ?_
    refine k_iload hX dX9_wave_283 0 rfl ?_
    refine ta38 T h dX9_wave_285 (fun v6 h => ?_)
    refine k_aload_n hX dX9_wave_286 rfl 1 rfl ?_
    refine tg39 T dX9_wave_287 ?_
    refine k_iload hX dX9_wave_290 0 rfl ?_
    refine ta39 T h dX9_wave_292 (fun v7 h => ?_)
    refine k_iload hX dX9_wave_293 5 rfl ?_
    refine cX_triesWave T (met_triesWave T.2.1 10) (room_le hR rfl rfl) h rfl dX9_wave_295 (fun τ8 h => ?_)
    refine k_iload hX dX9_wave_298 6 rfl ?_
    refine k_if_ne (tgt := 310) hX h dX9_wave_300 (by decide) (fun h => ?_) (fun h => ?_)
    · refine k_aload_n hX dX9_wave_310 rfl 1 rfl ?_
      refine tg41 T dX9_wave_311 ?_
      refine k_iload hX dX9_wave_314 6 rfl ?_
      refine ta41 T h dX9_wave_316 (fun v9 h => ?_)
      exact t_ret_i T e h dX9_wave_317
    · refine k_aload_n hX dX9_wave_303 rfl 1 rfl ?_
      refine tg42 T dX9_wave_304 ?_
      refine k_goto (tgt := 317) hX dX9_wave_307 (by decide) ?_
      exact t_ret_i T e h dX9_wave_317
  · refine k_iload hX dX9_wave_136 6 rfl ?_
    refine k_aload_n hX dX9_wave_138 rfl 0 rfl ?_
    refine k_iload_n hX dX9_wave_139 rfl 1 rfl ?_
    refine k_iload_n hX dX9_wave_140 rfl 2 rfl ?_
    refine k_iload hX dX9_wave_141 7 rfl ?_
    refine k_iadd hX dX9_wave_143 ?_
    refine k_iconst (v := 3) hX dX9_wave_144 (by decide) ?_
    refine cX_lightAt T (met_lightAt T.2.1) (room_le hR rfl rfl) h rfl dX9_wave_145 (fun v10 h => ?_)
    refine k_isub hX dX9_wave_148 ?_
    refine k_nm h (fun v11 h => ?_)
    refine k_istore [(9, .int v11), (0, .ref (E.2.2.2.2.1 0)), (1, .int x1), (2, .int x2), (3, .int x3), (4, .int x4), (5, .int x5), (7, .int x7), (8, .int x8)] hX dX9_wave_149 rfl rfl ?_
    refine k_iconst (v := 0) hX dX9_wave_151 (by decide) ?_
    refine k_istore [(10, .int 0), (9, .int v11), (0, .ref (E.2.2.2.2.1 0)), (1, .int x1), (2, .int x2), (3, .int x3), (4, .int x4), (5, .int x5), (7, .int x7), (8, .int x8)] hX dX9_wave_152 rfl rfl ?_
    refine k_lv [2, 3, 4, 5, 6, 7, 8, 9, 1, 0] rfl ?_
    exact T_wave_b154_ok T hR e hk130 _ _ _ _ _ _ _ _ _ _ _ h
theorem T_wave_b130_ok {X : KC TS} {E : TE} {z : (Int32 × TS)} (T : tOK X E cX9_wave 11 (some .int)) (hR : tRoom X 11 330) (e : tE_i X E z.1 z.2) {nf : Nat} : ∀ (n : Nat) (x1 : Int32) (x2 : Int32) (x3 : Int32) (x4 : Int32) (x5 : Int32) (x7 : Int32) (x8 : Int32) (τ : TS), T_wave_b130 nf n x1 x2 x3 x4 x5 x7 x8 τ = some z → kW X τ 130 [(0, .ref (E.2.2.2.2.1 0)), (1, .int x1), (2, .int x2), (3, .int x3), (4, .int x4), (5, .int x5), (7, .int x7), (8, .int x8)] [] := by
  intro n
  induction n with
  | zero => intro x1 x2 x3 x4 x5 x7 x8 τ h; exact (nomatch (show (none : Option (Int32 × TS)) = some z from h))
  | succ n ih =>
    intro x1 x2 x3 x4 x5 x7 x8 τ h
    have h : T_wave_b130_s nf (T_wave_b130 nf n) x1 x2 x3 x4 x5 x7 x8 τ = some z := h
    exact T_wave_b130_s_ok T hR e ih h
theorem T_wave_b111_ok {X : KC TS} {E : TE} {z : (Int32 × TS)} (T : tOK X E cX9_wave 11 (some .int)) (hR : tRoom X 11 330) (e : tE_i X E z.1 z.2) {nf : Nat} {x1 : Int32} {x2 : Int32} {x3 : Int32} {x4 : Int32} {x5 : Int32} {x6 : Int32} {τ : TS} (h : T_wave_b111 nf x1 x2 x3 x4 x5 x6 τ = some z) : kW X τ 111 [(0, .ref (E.2.2.2.2.1 0)), (1, .int x1), (2, .int x2), (3, .int x3), (4, .int x4), (5, .int x5), (6, .int x6)] [] := by
  unfold T_wave_b111 at h
  have hX := T.1
  refine k_iload hX dX9_wave_111 6 rfl ?_
  refine k_if_ne (tgt := 118) hX h dX9_wave_113 (by decide) (fun h => ?_) (fun h => ?_)
  · refine k_aload_n hX dX9_wave_118 rfl 0 rfl ?_
    refine k_iload_n hX dX9_wave_119 rfl 1 rfl ?_
    refine k_iload_n hX dX9_wave_120 rfl 2 rfl ?_
    refine k_iconst (v := 1) hX dX9_wave_121 (by decide) ?_
    refine cX_lightAt T (met_lightAt T.2.1) (room_le hR rfl rfl) h rfl dX9_wave_122 (fun v1 h => ?_)
    refine k_istore [(7, .int v1), (0, .ref (E.2.2.2.2.1 0)), (1, .int x1), (2, .int x2), (3, .int x3), (4, .int x4), (5, .int x5), (6, .int x6)] hX dX9_wave_125 rfl rfl ?_
    refine k_iconst (v := 0) hX dX9_wave_127 (by decide) ?_
    refine k_istore [(8, .int 0), (7, .int v1), (0, .ref (E.2.2.2.2.1 0)), (1, .int x1), (2, .int x2), (3, .int x3), (4, .int x4), (5, .int x5), (6, .int x6)] hX dX9_wave_128 rfl rfl ?_
    refine k_lv [2, 3, 4, 5, 6, 7, 1, 0] rfl ?_
    exact T_wave_b130_ok T hR e _ _ _ _ _ _ _ _ _ h
  · refine k_iconst (v := (-1)) hX dX9_wave_116 (by decide) ?_
    exact t_ret_i T e h dX9_wave_117
theorem T_wave_b55_s_ok {X : KC TS} {E : TE} {z : (Int32 × TS)} (T : tOK X E cX9_wave 11 (some .int)) (hR : tRoom X 11 330) (e : tE_i X E z.1 z.2) {nf : Nat} {k55 : Int32 → Int32 → Int32 → Int32 → Int32 → Int32 → Int32 → TS → Option (Int32 × TS)} (hk55 : ∀ (x1 : Int32) (x2 : Int32) (x3 : Int32) (x4 : Int32) (x5 : Int32) (x6 : Int32) (x7 : Int32) (τ : TS), k55 x1 x2 x3 x4 x5 x6 x7 τ = some z → kW X τ 55 [(0, .ref (E.2.2.2.2.1 0)), (1, .int x1), (2, .int x2), (3, .int x3), (4, .int x4), (5, .int x5), (6, .int x6), (7, .int x7)] []) {x1 : Int32} {x2 : Int32} {x3 : Int32} {x4 : Int32} {x5 : Int32} {x6 : Int32} {x7 : Int32} {τ : TS} (h : T_wave_b55_s nf k55 x1 x2 x3 x4 x5 x6 x7 τ = some z) : kW X τ 55 [(0, .ref (E.2.2.2.2.1 0)), (1, .int x1), (2, .int x2), (3, .int x3), (4, .int x4), (5, .int x5), (6, .int x6), (7, .int x7)] [] := by
  unfold T_wave_b55_s at h
  have hX := T.1
  refine k_iload hX dX9_wave_55 7 rfl ?_
  refine k_iload_n hX dX9_wave_57 rfl 3 rfl ?_
  refine k_icmp_ge (tgt := 111) hX h dX9_wave_58 (by decide) (fun h => ?_) (fun h => ?_)
  · refine k_lv [0, 1, 2, 3, 4, 5, 6] rfl ?_
    exact T_wave_b111_ok T hR e h
  · refine k_iload hX dX9_wave_61 6 rfl ?_
    refine k_if_eq (tgt := 111) hX h dX9_wave_63 (by decide) (fun h => ?_) (fun h => ?_)
    · refine k_lv [0, 1, 2, 3, 4, 5, 6] rfl ?_
      exact T_wave_b111_ok T hR e h
    · refine k_aload_n hX dX9_wave_66 rfl 0 rfl ?_
      refine k_iload_n hX dX9_wave_67 rfl 1 rfl ?_
      refine k_iload_n hX dX9_wave_68 rfl 2 rfl ?_
      refine k_iload hX dX9_wave_69 7 rfl ?_
      refine k_iadd hX dX9_wave_71 ?_
      refine cX_isTimed T (met_isTimed T.2.1) (room_le hR rfl rfl) h rfl dX9_wave_72 (fun v1 h => ?_)
      refine k_if_eq (tgt := 102) hX h dX9_wave_75 (by decide) (fun h => ?_) (fun h => ?_)
      · refine k_iconst (v := 0) hX dX9_wave_102 (by decide) ?_
        refine k_istore [(6, .int 0), (0, .ref (E.2.2.2.2.1 0)), (1, .int x1), (2, .int x2), (3, .int x3), (4, .int x4), (5, .int x5), (7, .int x7)] hX dX9_wave_103 rfl rfl ?_
        refine k_iinc (j := 7) [(7, .int (x7 + 1)), (6, .int 0), (0, .ref (E.2.2.2.2.1 0)), (1, .int x1), (2, .int x2), (3, .int x3), (4, .int x4), (5, .int x5)] hX dX9_wave_105 rfl rfl rfl rfl ?_
        refine k_goto (tgt := 55) hX dX9_wave_108 (by decide) ?_
        refine k_lv [2, 3, 4, 5, 6, 7, 1, 0] rfl ?_
        exact hk55 _ _ _ _ _ _ _ _ h
      · refine k_aload_n hX dX9_wave_78 rfl 0 rfl ?_
        refine k_iload_n hX dX9_wave_79 rfl 1 rfl ?_
        refine k_iload_n hX dX9_wave_80 rfl 2 rfl ?_
        refine k_iload hX dX9_wave_81 7 rfl ?_
        refine k_iadd hX dX9_wave_83 ?_
        refine k_iconst (v := 1) hX dX9_wave_84 (by decide) ?_
        refine cX_lightAt T (met_lightAt T.2.1) (room_le hR rfl rfl) h rfl dX9_wave_85 (fun v2 h => ?_)
        refine k_aload_n hX dX9_wave_88 rfl 0 rfl ?_
        refine k_iload_n hX dX9_wave_89 rfl 1 rfl ?_
        refine k_iload_n hX dX9_wave_90 rfl 2 rfl ?_
        refine k_iconst (v := 1) hX dX9_wave_91 (by decide) ?_
        refine cX_lightAt T (met_lightAt T.2.1) (room_le hR rfl rfl) h rfl dX9_wave_92 (fun v3 h => ?_)
        refine k_icmp_ne (tgt := 102) hX h dX9_wave_95 (by decide) (fun h => ?_) (fun h => ?_)
        · refine k_iconst (v := 0) hX dX9_wave_102 (by decide) ?_
          refine k_istore [(6, .int 0), (0, .ref (E.2.2.2.2.1 0)), (1, .int x1), (2, .int x2), (3, .int x3), (4, .int x4), (5, .int x5), (7, .int x7)] hX dX9_wave_103 rfl rfl ?_
          refine k_iinc (j := 7) [(7, .int (x7 + 1)), (6, .int 0), (0, .ref (E.2.2.2.2.1 0)), (1, .int x1), (2, .int x2), (3, .int x3), (4, .int x4), (5, .int x5)] hX dX9_wave_105 rfl rfl rfl rfl ?_
          refine k_goto (tgt := 55) hX dX9_wave_108 (by decide) ?_
          refine k_lv [2, 3, 4, 5, 6, 7, 1, 0] rfl ?_
          exact hk55 _ _ _ _ _ _ _ _ h
        · refine k_iconst (v := 1) hX dX9_wave_98 (by decide) ?_
          refine k_goto (tgt := 103) hX dX9_wave_99 (by decide) ?_
          refine k_istore [(6, .int 1), (0, .ref (E.2.2.2.2.1 0)), (1, .int x1), (2, .int x2), (3, .int x3), (4, .int x4), (5, .int x5), (7, .int x7)] hX dX9_wave_103 rfl rfl ?_
          refine k_iinc (j := 7) [(7, .int (x7 + 1)), (6, .int 1), (0, .ref (E.2.2.2.2.1 0)), (1, .int x1), (2, .int x2), (3, .int x3), (4, .int x4), (5, .int x5)] hX dX9_wave_105 rfl rfl rfl rfl ?_
          refine k_goto (tgt := 55) hX dX9_wave_108 (by decide) ?_
          refine k_lv [2, 3, 4, 5, 6, 7, 1, 0] rfl ?_
          exact hk55 _ _ _ _ _ _ _ _ h
theorem T_wave_b55_ok {X : KC TS} {E : TE} {z : (Int32 × TS)} (T : tOK X E cX9_wave 11 (some .int)) (hR : tRoom X 11 330) (e : tE_i X E z.1 z.2) {nf : Nat} : ∀ (n : Nat) (x1 : Int32) (x2 : Int32) (x3 : Int32) (x4 : Int32) (x5 : Int32) (x6 : Int32) (x7 : Int32) (τ : TS), T_wave_b55 nf n x1 x2 x3 x4 x5 x6 x7 τ = some z → kW X τ 55 [(0, .ref (E.2.2.2.2.1 0)), (1, .int x1), (2, .int x2), (3, .int x3), (4, .int x4), (5, .int x5), (6, .int x6), (7, .int x7)] [] := by
  intro n
  induction n with
  | zero => intro x1 x2 x3 x4 x5 x6 x7 τ h; exact (nomatch (show (none : Option (Int32 × TS)) = some z from h))
  | succ n ih =>
    intro x1 x2 x3 x4 x5 x6 x7 τ h
    have h : T_wave_b55_s nf (T_wave_b55 nf n) x1 x2 x3 x4 x5 x6 x7 τ = some z := h
    exact T_wave_b55_s_ok T hR e ih h
theorem met_wave {l : Launch} {E : TE} (hE : tEnv E) {nf : Nat} : ∀ (x1 : Int32) (x2 : Int32) (x3 : Int32) (x4 : Int32) (x5 : Int32) (τ : TS) (z : (Int32 × TS)), T_wave nf x1 x2 x3 x4 x5 τ = some z → tMet_i l E yX9_wave (ws_ yX9_wave cX9_wave 11 (some .int)) 11 330 [.ref (E.2.2.2.2.1 0), .int x1, .int x2, .int x3, .int x4, .int x5] τ z.1 z.2 := by
  intro x1 x2 x3 x4 x5 τ z h
  refine t_met_i hE (by decide +kernel) rfl rfl (fun X hl T hR e => ?_)
  unfold T_wave at h
  have hX := T.1
  show kW X τ 0 [(0, .ref (E.2.2.2.2.1 0)), (1, .int x1), (2, .int x2), (3, .int x3), (4, .int x4), (5, .int x5)] []
  refine k_aload_n hX dX9_wave_0 rfl 0 rfl ?_
  refine k_iconst (v := 0) hX dX9_wave_1 (by decide) ?_
  refine tp0 T h dX9_wave_2 (fun τ1 h => ?_)
  refine k_aload_n hX dX9_wave_5 rfl 0 rfl ?_
  refine k_iload_n hX dX9_wave_6 rfl 1 rfl ?_
  refine k_iload_n hX dX9_wave_7 rfl 2 rfl ?_
  refine cX_isCorner T (met_isCorner T.2.1) (room_le hR rfl rfl) h rfl dX9_wave_8 (fun v2 h => ?_)
  refine k_if_eq (tgt := 49) hX h dX9_wave_11 (by decide) (fun h => ?_) (fun h => ?_)
  · refine k_iconst (v := 0) hX dX9_wave_49 (by decide) ?_
    refine k_istore [(6, .int 0), (0, .ref (E.2.2.2.2.1 0)), (1, .int x1), (2, .int x2), (3, .int x3), (4, .int x4), (5, .int x5)] hX dX9_wave_50 rfl rfl ?_
    refine k_iconst (v := 0) hX dX9_wave_52 (by decide) ?_
    refine k_istore [(7, .int 0), (6, .int 0), (0, .ref (E.2.2.2.2.1 0)), (1, .int x1), (2, .int x2), (3, .int x3), (4, .int x4), (5, .int x5)] hX dX9_wave_53 rfl rfl ?_
    refine k_lv [2, 3, 4, 5, 6, 7, 1, 0] rfl ?_
    exact T_wave_b55_ok T hR e _ _ _ _ _ _ _ _ _ h
  · refine k_iload_n hX dX9_wave_14 rfl 3 rfl ?_
    refine k_iconst (v := 2) hX dX9_wave_15 (by decide) ?_
    refine k_iconst (v := 4) hX dX9_wave_16 (by decide) ?_
    refine cX_within T (met_within T.2.1) (room_le hR rfl rfl) h rfl dX9_wave_17 (fun v3 h => ?_)
    refine k_if_eq (tgt := 49) hX h dX9_wave_20 (by decide) (fun h => ?_) (fun h => ?_)
    · refine k_iconst (v := 0) hX dX9_wave_49 (by decide) ?_
      refine k_istore [(6, .int 0), (0, .ref (E.2.2.2.2.1 0)), (1, .int x1), (2, .int x2), (3, .int x3), (4, .int x4), (5, .int x5)] hX dX9_wave_50 rfl rfl ?_
      refine k_iconst (v := 0) hX dX9_wave_52 (by decide) ?_
      refine k_istore [(7, .int 0), (6, .int 0), (0, .ref (E.2.2.2.2.1 0)), (1, .int x1), (2, .int x2), (3, .int x3), (4, .int x4), (5, .int x5)] hX dX9_wave_53 rfl rfl ?_
      refine k_lv [2, 3, 4, 5, 6, 7, 1, 0] rfl ?_
      exact T_wave_b55_ok T hR e _ _ _ _ _ _ _ _ _ h
    · refine k_iload_n hX dX9_wave_23 rfl 2 rfl ?_
      refine k_iload_n hX dX9_wave_24 rfl 3 rfl ?_
      refine k_iadd hX dX9_wave_25 ?_
      refine k_aload_n hX dX9_wave_26 rfl 0 rfl ?_
      refine cX_deep T (met_deep T.2.1) (room_le hR rfl rfl) h rfl dX9_wave_27 (fun v4 h => ?_)
      refine k_icmp_gt (tgt := 49) hX h dX9_wave_30 (by decide) (fun h => ?_) (fun h => ?_)
      · refine k_iconst (v := 0) hX dX9_wave_49 (by decide) ?_
        refine k_istore [(6, .int 0), (0, .ref (E.2.2.2.2.1 0)), (1, .int x1), (2, .int x2), (3, .int x3), (4, .int x4), (5, .int x5)] hX dX9_wave_50 rfl rfl ?_
        refine k_iconst (v := 0) hX dX9_wave_52 (by decide) ?_
        refine k_istore [(7, .int 0), (6, .int 0), (0, .ref (E.2.2.2.2.1 0)), (1, .int x1), (2, .int x2), (3, .int x3), (4, .int x4), (5, .int x5)] hX dX9_wave_53 rfl rfl ?_
        refine k_lv [2, 3, 4, 5, 6, 7, 1, 0] rfl ?_
        exact T_wave_b55_ok T hR e _ _ _ _ _ _ _ _ _ h
      · refine k_iload hX dX9_wave_33 5 rfl ?_
        refine k_iconst (v := 0) hX dX9_wave_35 (by decide) ?_
        refine k_iload_n hX dX9_wave_36 rfl 3 rfl ?_
        refine k_iconst (v := 1) hX dX9_wave_37 (by decide) ?_
        refine k_isub hX dX9_wave_38 ?_
        refine cX_within T (met_within T.2.1) (room_le hR rfl rfl) h rfl dX9_wave_39 (fun v5 h => ?_)
        refine k_if_eq (tgt := 49) hX h dX9_wave_42 (by decide) (fun h => ?_) (fun h => ?_)
        · refine k_iconst (v := 0) hX dX9_wave_49 (by decide) ?_
          refine k_istore [(6, .int 0), (0, .ref (E.2.2.2.2.1 0)), (1, .int x1), (2, .int x2), (3, .int x3), (4, .int x4), (5, .int x5)] hX dX9_wave_50 rfl rfl ?_
          refine k_iconst (v := 0) hX dX9_wave_52 (by decide) ?_
          refine k_istore [(7, .int 0), (6, .int 0), (0, .ref (E.2.2.2.2.1 0)), (1, .int x1), (2, .int x2), (3, .int x3), (4, .int x4), (5, .int x5)] hX dX9_wave_53 rfl rfl ?_
          refine k_lv [2, 3, 4, 5, 6, 7, 1, 0] rfl ?_
          exact T_wave_b55_ok T hR e _ _ _ _ _ _ _ _ _ h
        · refine k_iconst (v := 1) hX dX9_wave_45 (by decide) ?_
          refine k_goto (tgt := 50) hX dX9_wave_46 (by decide) ?_
          refine k_istore [(6, .int 1), (0, .ref (E.2.2.2.2.1 0)), (1, .int x1), (2, .int x2), (3, .int x3), (4, .int x4), (5, .int x5)] hX dX9_wave_50 rfl rfl ?_
          refine k_iconst (v := 0) hX dX9_wave_52 (by decide) ?_
          refine k_istore [(7, .int 0), (6, .int 1), (0, .ref (E.2.2.2.2.1 0)), (1, .int x1), (2, .int x2), (3, .int x3), (4, .int x4), (5, .int x5)] hX dX9_wave_53 rfl rfl ?_
          refine k_lv [2, 3, 4, 5, 6, 7, 1, 0] rfl ?_
          exact T_wave_b55_ok T hR e _ _ _ _ _ _ _ _ _ h
theorem T_rules_b11_s_ok {X : KC TS} {E : TE} {z : (Int32 × TS)} (T : tOK X E cX9_rules 5 (some .int)) (hR : tRoom X 141 3686) (e : tE_i X E z.1 z.2) {nf : Nat} {k11 : Int32 → Int32 → Int32 → TS → Option (Int32 × TS)} (hk11 : ∀ (x1 : Int32) (x2 : Int32) (x3 : Int32) (τ : TS), k11 x1 x2 x3 τ = some z → kW X τ 11 [(0, .ref (E.2.2.2.2.1 0)), (1, .int x1), (2, .int x2), (3, .int x3)] []) {x1 : Int32} {x2 : Int32} {x3 : Int32} {τ : TS} (h : T_rules_b11_s nf k11 x1 x2 x3 τ = some z) : kW X τ 11 [(0, .ref (E.2.2.2.2.1 0)), (1, .int x1), (2, .int x2), (3, .int x3)] [] := by
  unfold T_rules_b11_s at h
  have hX := T.1
  refine k_iload_n hX dX9_rules_11 rfl 3 rfl ?_
  refine k_aload_n hX dX9_rules_12 rfl 0 rfl ?_
  refine tg10 T dX9_rules_13 ?_
  refine k_bipush (v := 8) hX dX9_rules_16 (by decide) ?_
  refine ta10 T h dX9_rules_18 (fun v1 h => ?_)
  refine k_icmp_ge (tgt := 67) hX h dX9_rules_19 (by decide) (fun h => ?_) (fun h => ?_)
  · refine k_iload_n hX dX9_rules_67 rfl 1 rfl ?_
    exact t_ret_i T e h dX9_rules_68
  · refine k_aload_n hX dX9_rules_22 rfl 0 rfl ?_
    refine k_iconst (v := 4) hX dX9_rules_23 (by decide) ?_
    refine k_iload_n hX dX9_rules_24 rfl 3 rfl ?_
    refine k_iadd hX dX9_rules_25 ?_
    refine k_iconst (v := 0) hX dX9_rules_26 (by decide) ?_
    refine k_iconst (v := (-1)) hX dX9_rules_27 (by decide) ?_
    refine k_iconst (v := 0) hX dX9_rules_28 (by decide) ?_
    refine cX_asks T (met_asks T.2.1) (room_le hR rfl rfl) h rfl dX9_rules_29 (fun τ2 h => ?_)
    refine k_aload_n hX dX9_rules_32 rfl 0 rfl ?_
    refine k_iconst (v := 0) hX dX9_rules_33 (by decide) ?_
    refine k_iconst (v := 0) hX dX9_rules_34 (by decide) ?_
    refine k_iconst (v := 0) hX dX9_rules_35 (by decide) ?_
    refine cX_worthFrom T (met_worthFrom T.2.1 20) (room_le hR rfl rfl) h rfl dX9_rules_36 (fun v4 τ3 h => ?_)
    refine k_istore [(4, .int v4), (0, .ref (E.2.2.2.2.1 0)), (1, .int x1), (2, .int x2), (3, .int x3)] hX dX9_rules_39 rfl rfl ?_
    refine k_iload hX dX9_rules_41 0 rfl ?_
    refine k_if_lt (tgt := 61) hX h dX9_rules_43 (by decide) (fun h => ?_) (fun h => ?_)
    · refine k_iinc (j := 4) [(3, .int (x3 + 1)), (4, .int v4), (0, .ref (E.2.2.2.2.1 0)), (1, .int x1), (2, .int x2)] hX dX9_rules_61 rfl rfl rfl rfl ?_
      refine k_goto (tgt := 11) hX dX9_rules_64 (by decide) ?_
      refine k_lv [2, 3, 4, 0] rfl ?_
      exact hk11 _ _ _ _ h
    · refine k_iload_n hX dX9_rules_46 rfl 2 rfl ?_
      refine k_if_lt (tgt := 56) hX h dX9_rules_47 (by decide) (fun h => ?_) (fun h => ?_)
      · refine k_iload_n hX dX9_rules_56 rfl 4 rfl ?_
        refine k_istore_n [(1, .int x3), (4, .int v4), (0, .ref (E.2.2.2.2.1 0)), (2, .int x2), (3, .int x3)] hX dX9_rules_57 rfl rfl rfl ?_
        refine k_iload hX dX9_rules_58 1 rfl ?_
        refine k_istore_n [(2, .int v4), (1, .int x3), (4, .int v4), (0, .ref (E.2.2.2.2.1 0)), (3, .int x3)] hX dX9_rules_60 rfl rfl rfl ?_
        refine k_iinc (j := 4) [(3, .int (x3 + 1)), (2, .int v4), (1, .int x3), (4, .int v4), (0, .ref (E.2.2.2.2.1 0))] hX dX9_rules_61 rfl rfl rfl rfl ?_
        refine k_goto (tgt := 11) hX dX9_rules_64 (by decide) ?_
        refine k_lv [4, 2, 1, 0] rfl ?_
        exact hk11 _ _ _ _ h
      · refine k_iload hX dX9_rules_50 0 rfl ?_
        refine k_iload_n hX dX9_rules_52 rfl 3 rfl ?_
        refine k_icmp_ge (tgt := 61) hX h dX9_rules_53 (by decide) (fun h => ?_) (fun h => ?_)
        · refine k_iinc (j := 4) [(3, .int (x3 + 1)), (4, .int v4), (0, .ref (E.2.2.2.2.1 0)), (1, .int x1), (2, .int x2)] hX dX9_rules_61 rfl rfl rfl rfl ?_
          refine k_goto (tgt := 11) hX dX9_rules_64 (by decide) ?_
          refine k_lv [2, 3, 4, 0] rfl ?_
          exact hk11 _ _ _ _ h
        · refine k_iload_n hX dX9_rules_56 rfl 4 rfl ?_
          refine k_istore_n [(1, .int x3), (4, .int v4), (0, .ref (E.2.2.2.2.1 0)), (2, .int x2), (3, .int x3)] hX dX9_rules_57 rfl rfl rfl ?_
          refine k_iload hX dX9_rules_58 1 rfl ?_
          refine k_istore_n [(2, .int v4), (1, .int x3), (4, .int v4), (0, .ref (E.2.2.2.2.1 0)), (3, .int x3)] hX dX9_rules_60 rfl rfl rfl ?_
          refine k_iinc (j := 4) [(3, .int (x3 + 1)), (2, .int v4), (1, .int x3), (4, .int v4), (0, .ref (E.2.2.2.2.1 0))] hX dX9_rules_61 rfl rfl rfl rfl ?_
          refine k_goto (tgt := 11) hX dX9_rules_64 (by decide) ?_
          refine k_lv [4, 2, 1, 0] rfl ?_
          exact hk11 _ _ _ _ h
theorem T_rules_b11_ok {X : KC TS} {E : TE} {z : (Int32 × TS)} (T : tOK X E cX9_rules 5 (some .int)) (hR : tRoom X 141 3686) (e : tE_i X E z.1 z.2) {nf : Nat} : ∀ (n : Nat) (x1 : Int32) (x2 : Int32) (x3 : Int32) (τ : TS), T_rules_b11 nf n x1 x2 x3 τ = some z → kW X τ 11 [(0, .ref (E.2.2.2.2.1 0)), (1, .int x1), (2, .int x2), (3, .int x3)] [] := by
  intro n
  induction n with
  | zero => intro x1 x2 x3 τ h; exact (nomatch (show (none : Option (Int32 × TS)) = some z from h))
  | succ n ih =>
    intro x1 x2 x3 τ h
    have h : T_rules_b11_s nf (T_rules_b11 nf n) x1 x2 x3 τ = some z := h
    exact T_rules_b11_s_ok T hR e ih h
theorem met_rules {l : Launch} {E : TE} (hE : tEnv E) {nf : Nat} : ∀ (τ : TS) (z : (Int32 × TS)), T_rules nf τ = some z → tMet_i l E yX9_rules (ws_ yX9_rules cX9_rules 5 (some .int)) 141 3686 [.ref (E.2.2.2.2.1 0)] τ z.1 z.2 := by
  intro τ z h
  refine t_met_i hE (by decide +kernel) rfl rfl (fun X hl T hR e => ?_)
  unfold T_rules at h
  have hX := T.1
  show kW X τ 0 [(0, .ref (E.2.2.2.2.1 0))] []
  refine k_aload_n hX dX9_rules_0 rfl 0 rfl ?_
  refine k_iconst (v := 0) hX dX9_rules_1 (by decide) ?_
  refine tp0 T h dX9_rules_2 (fun τ1 h => ?_)
  refine k_iconst (v := (-1)) hX dX9_rules_5 (by decide) ?_
  refine k_istore_n [(1, .int (-1)), (0, .ref (E.2.2.2.2.1 0))] hX dX9_rules_6 rfl rfl rfl ?_
  refine k_iconst (v := 0) hX dX9_rules_7 (by decide) ?_
  refine k_istore_n [(2, .int 0), (1, .int (-1)), (0, .ref (E.2.2.2.2.1 0))] hX dX9_rules_8 rfl rfl rfl ?_
  refine k_iconst (v := 0) hX dX9_rules_9 (by decide) ?_
  refine k_istore_n [(3, .int 0), (2, .int 0), (1, .int (-1)), (0, .ref (E.2.2.2.2.1 0))] hX dX9_rules_10 rfl rfl rfl ?_
  refine k_lv [3, 2, 1, 0] rfl ?_
  exact T_rules_b11_ok T hR e _ _ _ _ _ h
theorem met_was {l : Launch} {E : TE} (hE : tEnv E) : ∀ (x1 : Int32) (x2 : Int32) (x3 : Int32) (τ : TS) (z : (Int32 × TS)), T_was x1 x2 x3 τ = some z → tMet_i l E yX9_was (ws_ yX9_was cX9_was 5 (some .boolean)) 2 42 [.ref (E.2.2.2.2.1 0), .int x1, .int x2, .int x3] τ z.1 z.2 := by
  intro x1 x2 x3 τ z h
  refine t_met_i hE (by decide +kernel) rfl rfl (fun X hl T hR e => ?_)
  unfold T_was at h
  have hX := T.1
  show kW X τ 0 [(0, .ref (E.2.2.2.2.1 0)), (1, .int x1), (2, .int x2), (3, .int x3)] []
  refine k_aload_n hX dX9_was_0 rfl 0 rfl ?_
  refine k_iconst (v := 0) hX dX9_was_1 (by decide) ?_
  refine tp0 T h dX9_was_2 (fun τ1 h => ?_)
  refine k_aload_n hX dX9_was_5 rfl 0 rfl ?_
  refine k_iload_n hX dX9_was_6 rfl 1 rfl ?_
  refine k_iload_n hX dX9_was_7 rfl 2 rfl ?_
  refine cX_isCorner T (met_isCorner T.2.1) (room_le hR rfl rfl) h rfl dX9_was_8 (fun v2 h => ?_)
  refine k_if_eq (tgt := 37) hX h dX9_was_11 (by decide) (fun h => ?_) (fun h => ?_)
  · refine k_iconst (v := 0) hX dX9_was_37 (by decide) ?_
    exact t_ret_zc T e rfl h dX9_was_38
  · refine k_iload_n hX dX9_was_14 rfl 3 rfl ?_
    refine k_iconst (v := 0) hX dX9_was_15 (by decide) ?_
    refine k_sipush (v := 9999) hX dX9_was_16 (by decide) ?_
    refine cX_within T (met_within T.2.1) (room_le hR rfl rfl) h rfl dX9_was_19 (fun v3 h => ?_)
    refine k_if_eq (tgt := 37) hX h dX9_was_22 (by decide) (fun h => ?_) (fun h => ?_)
    · refine k_iconst (v := 0) hX dX9_was_37 (by decide) ?_
      exact t_ret_zc T e rfl h dX9_was_38
    · refine k_aload_n hX dX9_was_25 rfl 0 rfl ?_
      refine tg19 T dX9_was_26 ?_
      refine k_bipush (v := 59) hX dX9_was_29 (by decide) ?_
      refine ta19 T h dX9_was_31 (fun v4 h => ?_)
      refine k_bipush (v := 8) hX dX9_was_32 (by decide) ?_
      refine k_icmp_ne (tgt := 39) hX h dX9_was_34 (by decide) (fun h => ?_) (fun h => ?_)
      · refine k_bipush (v := 92) hX dX9_was_39 (by decide) ?_
        refine k_iconst (v := 3) hX dX9_was_41 (by decide) ?_
        refine k_aload_n hX dX9_was_42 rfl 0 rfl ?_
        refine tg19 T dX9_was_43 ?_
        refine k_bipush (v := 59) hX dX9_was_46 (by decide) ?_
        refine ta19 T h dX9_was_48 (fun v5 h => ?_)
        refine k_imul hX dX9_was_49 ?_
        refine k_iadd hX dX9_was_50 ?_
        refine k_nm h (fun v6 h => ?_)
        refine k_istore [(4, .int v6), (0, .ref (E.2.2.2.2.1 0)), (1, .int x1), (2, .int x2), (3, .int x3)] hX dX9_was_51 rfl rfl ?_
        refine k_aload_n hX dX9_was_53 rfl 1 rfl ?_
        refine tg19 T dX9_was_54 ?_
        refine k_iload hX dX9_was_57 0 rfl ?_
        refine k_iload_n hX dX9_was_59 rfl 2 rfl ?_
        refine ts19 T h dX9_was_60 (fun τ7 h => ?_)
        refine k_aload_n hX dX9_was_61 rfl 1 rfl ?_
        refine tg19 T dX9_was_62 ?_
        refine k_iload hX dX9_was_65 0 rfl ?_
        refine k_iconst (v := 1) hX dX9_was_67 (by decide) ?_
        refine k_iadd hX dX9_was_68 ?_
        refine k_iload_n hX dX9_was_69 rfl 3 rfl ?_
        refine ts19 T h dX9_was_70 (fun τ8 h => ?_)
        refine k_aload_n hX dX9_was_71 rfl 1 rfl ?_
        refine tg19 T dX9_was_72 ?_
        refine k_iload hX dX9_was_75 0 rfl ?_
        refine k_iconst (v := 2) hX dX9_was_77 (by decide) ?_
        refine k_iadd hX dX9_was_78 ?_
        refine k_iload_n hX dX9_was_79 rfl 4 rfl ?_
        refine ts19 T h dX9_was_80 (fun τ9 h => ?_)
        refine k_aload_n hX dX9_was_81 rfl 1 rfl ?_
        refine tg19 T dX9_was_82 ?_
        refine k_bipush (v := 59) hX dX9_was_85 (by decide) ?_
        refine k_dup2 hX dX9_was_87 rfl rfl ?_
        refine ta19 T h dX9_was_88 (fun v10 h => ?_)
        refine k_iconst (v := 1) hX dX9_was_89 (by decide) ?_
        refine k_iadd hX dX9_was_90 ?_
        refine ts19 T h dX9_was_91 (fun τ11 h => ?_)
        refine k_iconst (v := 1) hX dX9_was_92 (by decide) ?_
        exact t_ret_zc T e rfl h dX9_was_93
      · refine k_iconst (v := 0) hX dX9_was_37 (by decide) ?_
        exact t_ret_zc T e rfl h dX9_was_38
theorem T_fits0_b57_ok {X : KC TS} {E : TE} {z : TS} (T : tOK X E cX9_fits0 5 none) (hR : tRoom X 0 0) (e : tE_v X E z) {s0 : Int64} {τ : TS} (h : T_fits0_b57 s0 τ = some z) : kW X τ 57 [(0, .ref (E.2.2.2.2.1 0))] [.long s0, .ref (E.2.2.2.2.1 0)] := by
  unfold T_fits0_b57 at h
  have hX := T.1
  refine tp45 T h dX9_fits0_57 (fun τ1 h => ?_)
  refine k_aload_n hX dX9_fits0_60 rfl 0 rfl ?_
  refine k_dup hX dX9_fits0_61 rfl ?_
  refine tg43 T dX9_fits0_62 ?_
  refine k_lconst (v := 1) hX dX9_fits0_65 (by decide) ?_
  refine k_ladd hX dX9_fits0_66 ?_
  refine tp43 T h dX9_fits0_67 (fun τ2 h => ?_)
  exact t_ret_v T e h dX9_fits0_70
theorem T_fits0_b34_ok {X : KC TS} {E : TE} {z : TS} (T : tOK X E cX9_fits0 5 none) (hR : tRoom X 0 0) (e : tE_v X E z) {x2 : Int64} {s0 : Int32} {τ : TS} (h : T_fits0_b34 x2 s0 τ = some z) : kW X τ 34 [(0, .ref (E.2.2.2.2.1 0)), (2, .long x2)] [.int s0, .ref (E.2.2.2.2.1 0)] := by
  unfold T_fits0_b34 at h
  have hX := T.1
  refine tp44 T h dX9_fits0_34 (fun τ1 h => ?_)
  refine k_aload_n hX dX9_fits0_37 rfl 0 rfl ?_
  refine k_aload_n hX dX9_fits0_38 rfl 0 rfl ?_
  refine tg43 T dX9_fits0_39 ?_
  refine k_lconst (v := 0) hX dX9_fits0_42 (by decide) ?_
  refine k_lcmp_ne (tgt := 51) hX h dX9_fits0_43 dX9_fits0_44 (by decide) (fun h => ?_) (fun h => ?_)
  · refine k_aload_n hX dX9_fits0_51 rfl 0 rfl ?_
    refine tg45 T dX9_fits0_52 ?_
    refine k_lload_n hX dX9_fits0_55 rfl 1 rfl ?_
    refine k_land hX dX9_fits0_56 ?_
    refine k_lv [0] rfl ?_
    exact T_fits0_b57_ok T hR e h
  · refine k_lload_n hX dX9_fits0_47 rfl 1 rfl ?_
    refine k_goto (tgt := 57) hX dX9_fits0_48 (by decide) ?_
    refine k_lv [0] rfl ?_
    exact T_fits0_b57_ok T hR e h
theorem met_fits0 {l : Launch} {E : TE} (hE : tEnv E) : ∀ (x1 : Int32) (x2 : Int64) (x4 : Int32) (τ : TS) (z : TS), T_fits0 x1 x2 x4 τ = some z → tMet_v l E yX9_fits0 (ws_ yX9_fits0 cX9_fits0 5 none) 0 0 [.ref (E.2.2.2.2.1 0), .int x1, .long x2, .int x4] τ z := by
  intro x1 x2 x4 τ z h
  refine t_met_v hE (by decide +kernel) rfl rfl (fun X hl T hR e => ?_)
  unfold T_fits0 at h
  have hX := T.1
  show kW X τ 0 [(0, .ref (E.2.2.2.2.1 0)), (1, .int x1), (2, .long x2), (4, .int x4)] []
  refine k_iload_n hX dX9_fits0_0 rfl 1 rfl ?_
  refine k_iconst (v := 1) hX dX9_fits0_1 (by decide) ?_
  refine k_aload_n hX dX9_fits0_2 rfl 0 rfl ?_
  refine tg19 T dX9_fits0_3 ?_
  refine k_bipush (v := 59) hX dX9_fits0_6 (by decide) ?_
  refine ta19 T h dX9_fits0_8 (fun v1 h => ?_)
  refine k_ishl hX dX9_fits0_9 ?_
  refine k_iconst (v := 1) hX dX9_fits0_10 (by decide) ?_
  refine k_isub hX dX9_fits0_11 ?_
  refine k_icmp_ne (tgt := 70) hX h dX9_fits0_12 (by decide) (fun h => ?_) (fun h => ?_)
  · exact t_ret_v T e h dX9_fits0_70
  · refine k_aload_n hX dX9_fits0_15 rfl 0 rfl ?_
    refine k_aload_n hX dX9_fits0_16 rfl 0 rfl ?_
    refine tg43 T dX9_fits0_17 ?_
    refine k_lconst (v := 0) hX dX9_fits0_20 (by decide) ?_
    refine k_lcmp_ne (tgt := 30) hX h dX9_fits0_21 dX9_fits0_22 (by decide) (fun h => ?_) (fun h => ?_)
    · refine k_aload_n hX dX9_fits0_30 rfl 0 rfl ?_
      refine tg44 T dX9_fits0_31 ?_
      refine k_lv [0, 2] rfl ?_
      exact T_fits0_b34_ok T hR e h
    · refine k_iload hX dX9_fits0_25 3 rfl ?_
      refine k_goto (tgt := 34) hX dX9_fits0_27 (by decide) ?_
      refine k_lv [0, 2] rfl ?_
      exact T_fits0_b34_ok T hR e h
theorem T_wasBetween_b6_s_ok {X : KC TS} {E : TE} {z : Int32} {τ : TS} (T : tOK X E cX9_wasBetween 8 (some .int)) (hR : tRoom X 1 22) (e : tE_i X E z τ) {nf : Nat} {k6 : Int32 → Int32 → Int32 → Int32 → Int32 → Int32 → Option Int32} (hk6 : ∀ (x1 : Int32) (x2 : Int32) (x3 : Int32) (x4 : Int32) (x5 : Int32) (x6 : Int32), k6 x1 x2 x3 x4 x5 x6 = some z → kW X τ 6 [(0, .ref (E.2.2.2.2.1 0)), (1, .int x1), (2, .int x2), (3, .int x3), (4, .int x4), (5, .int x5), (6, .int x6)] []) {x1 : Int32} {x2 : Int32} {x3 : Int32} {x4 : Int32} {x5 : Int32} {x6 : Int32} (h : T_wasBetween_b6_s nf τ k6 x1 x2 x3 x4 x5 x6 = some z) : kW X τ 6 [(0, .ref (E.2.2.2.2.1 0)), (1, .int x1), (2, .int x2), (3, .int x3), (4, .int x4), (5, .int x5), (6, .int x6)] [] := by
  unfold T_wasBetween_b6_s at h
  have hX := T.1
  refine k_iload hX dX9_wasBetween_6 6 rfl ?_
  refine k_aload_n hX dX9_wasBetween_8 rfl 0 rfl ?_
  refine tg19 T dX9_wasBetween_9 ?_
  refine k_bipush (v := 59) hX dX9_wasBetween_12 (by decide) ?_
  refine ta19 T h dX9_wasBetween_14 (fun v1 h => ?_)
  refine k_icmp_ge (tgt := 88) hX h dX9_wasBetween_15 (by decide) (fun h => ?_) (fun h => ?_)
  · refine k_iload hX dX9_wasBetween_88 5 rfl ?_
    exact t_ret_ir T e h dX9_wasBetween_90
  · refine k_bipush (v := 92) hX dX9_wasBetween_18 (by decide) ?_
    refine k_iconst (v := 3) hX dX9_wasBetween_20 (by decide) ?_
    refine k_iload hX dX9_wasBetween_21 6 rfl ?_
    refine k_imul hX dX9_wasBetween_23 ?_
    refine k_iadd hX dX9_wasBetween_24 ?_
    refine k_nm h (fun v2 h => ?_)
    refine k_istore [(7, .int v2), (0, .ref (E.2.2.2.2.1 0)), (1, .int x1), (2, .int x2), (3, .int x3), (4, .int x4), (5, .int x5), (6, .int x6)] hX dX9_wasBetween_25 rfl rfl ?_
    refine k_iload hX dX9_wasBetween_27 6 rfl ?_
    refine k_aload_n hX dX9_wasBetween_29 rfl 1 rfl ?_
    refine tg19 T dX9_wasBetween_30 ?_
    refine k_iload hX dX9_wasBetween_33 0 rfl ?_
    refine ta19 T h dX9_wasBetween_35 (fun v3 h => ?_)
    refine k_iload_n hX dX9_wasBetween_36 rfl 2 rfl ?_
    refine k_icmp_ne (tgt := 78) hX h dX9_wasBetween_37 (by decide) (fun h => ?_) (fun h => ?_)
    · refine k_iconst (v := 0) hX dX9_wasBetween_78 (by decide) ?_
      refine k_ior hX dX9_wasBetween_79 ?_
      refine k_nm h (fun v4 h => ?_)
      refine k_istore [(5, .int v4), (7, .int v2), (0, .ref (E.2.2.2.2.1 0)), (1, .int x1), (2, .int x2), (3, .int x3), (4, .int x4), (6, .int x6)] hX dX9_wasBetween_80 rfl rfl ?_
      refine k_iinc (j := 7) [(6, .int (x6 + 1)), (5, .int v4), (7, .int v2), (0, .ref (E.2.2.2.2.1 0)), (1, .int x1), (2, .int x2), (3, .int x3), (4, .int x4)] hX dX9_wasBetween_82 rfl rfl rfl rfl ?_
      refine k_goto (tgt := 6) hX dX9_wasBetween_85 (by decide) ?_
      refine k_lv [3, 4, 5, 6, 7, 1, 0] rfl ?_
      exact hk6 _ _ _ _ _ _ h
    · refine k_aload_n hX dX9_wasBetween_40 rfl 1 rfl ?_
      refine tg19 T dX9_wasBetween_41 ?_
      refine k_iload hX dX9_wasBetween_44 0 rfl ?_
      refine k_iconst (v := 1) hX dX9_wasBetween_46 (by decide) ?_
      refine k_iadd hX dX9_wasBetween_47 ?_
      refine ta19 T h dX9_wasBetween_48 (fun v5 h => ?_)
      refine k_iload_n hX dX9_wasBetween_49 rfl 3 rfl ?_
      refine k_icmp_ne (tgt := 78) hX h dX9_wasBetween_50 (by decide) (fun h => ?_) (fun h => ?_)
      · refine k_iconst (v := 0) hX dX9_wasBetween_78 (by decide) ?_
        refine k_ior hX dX9_wasBetween_79 ?_
        refine k_nm h (fun v6 h => ?_)
        refine k_istore [(5, .int v6), (7, .int v2), (0, .ref (E.2.2.2.2.1 0)), (1, .int x1), (2, .int x2), (3, .int x3), (4, .int x4), (6, .int x6)] hX dX9_wasBetween_80 rfl rfl ?_
        refine k_iinc (j := 7) [(6, .int (x6 + 1)), (5, .int v6), (7, .int v2), (0, .ref (E.2.2.2.2.1 0)), (1, .int x1), (2, .int x2), (3, .int x3), (4, .int x4)] hX dX9_wasBetween_82 rfl rfl rfl rfl ?_
        refine k_goto (tgt := 6) hX dX9_wasBetween_85 (by decide) ?_
        refine k_lv [3, 4, 5, 6, 7, 1, 0] rfl ?_
        exact hk6 _ _ _ _ _ _ h
      · refine k_aload_n hX dX9_wasBetween_53 rfl 1 rfl ?_
        refine tg19 T dX9_wasBetween_54 ?_
        refine k_iload hX dX9_wasBetween_57 0 rfl ?_
        refine k_iconst (v := 2) hX dX9_wasBetween_59 (by decide) ?_
        refine k_iadd hX dX9_wasBetween_60 ?_
        refine ta19 T h dX9_wasBetween_61 (fun v7 h => ?_)
        refine k_iload_n hX dX9_wasBetween_62 rfl 4 rfl ?_
        refine k_iload hX dX9_wasBetween_63 5 rfl ?_
        refine cX_within T (met_within T.2.1) (room_le hR rfl rfl) h rfl dX9_wasBetween_65 (fun v8 h => ?_)
        refine k_if_eq (tgt := 78) hX h dX9_wasBetween_68 (by decide) (fun h => ?_) (fun h => ?_)
        · refine k_iconst (v := 0) hX dX9_wasBetween_78 (by decide) ?_
          refine k_ior hX dX9_wasBetween_79 ?_
          refine k_nm h (fun v9 h => ?_)
          refine k_istore [(5, .int v9), (7, .int v2), (0, .ref (E.2.2.2.2.1 0)), (1, .int x1), (2, .int x2), (3, .int x3), (4, .int x4), (6, .int x6)] hX dX9_wasBetween_80 rfl rfl ?_
          refine k_iinc (j := 7) [(6, .int (x6 + 1)), (5, .int v9), (7, .int v2), (0, .ref (E.2.2.2.2.1 0)), (1, .int x1), (2, .int x2), (3, .int x3), (4, .int x4)] hX dX9_wasBetween_82 rfl rfl rfl rfl ?_
          refine k_goto (tgt := 6) hX dX9_wasBetween_85 (by decide) ?_
          refine k_lv [3, 4, 5, 6, 7, 1, 0] rfl ?_
          exact hk6 _ _ _ _ _ _ h
        · refine k_iconst (v := 1) hX dX9_wasBetween_71 (by decide) ?_
          refine k_iload hX dX9_wasBetween_72 7 rfl ?_
          refine k_ishl hX dX9_wasBetween_74 ?_
          refine k_goto (tgt := 79) hX dX9_wasBetween_75 (by decide) ?_
          refine k_ior hX dX9_wasBetween_79 ?_
          refine k_nm h (fun v10 h => ?_)
          refine k_istore [(5, .int v10), (7, .int v2), (0, .ref (E.2.2.2.2.1 0)), (1, .int x1), (2, .int x2), (3, .int x3), (4, .int x4), (6, .int x6)] hX dX9_wasBetween_80 rfl rfl ?_
          refine k_iinc (j := 7) [(6, .int (x6 + 1)), (5, .int v10), (7, .int v2), (0, .ref (E.2.2.2.2.1 0)), (1, .int x1), (2, .int x2), (3, .int x3), (4, .int x4)] hX dX9_wasBetween_82 rfl rfl rfl rfl ?_
          refine k_goto (tgt := 6) hX dX9_wasBetween_85 (by decide) ?_
          refine k_lv [3, 4, 5, 6, 7, 1, 0] rfl ?_
          exact hk6 _ _ _ _ _ _ h
theorem T_wasBetween_b6_ok {X : KC TS} {E : TE} {z : Int32} {τ : TS} (T : tOK X E cX9_wasBetween 8 (some .int)) (hR : tRoom X 1 22) (e : tE_i X E z τ) {nf : Nat} : ∀ (n : Nat) (x1 : Int32) (x2 : Int32) (x3 : Int32) (x4 : Int32) (x5 : Int32) (x6 : Int32), T_wasBetween_b6 nf τ n x1 x2 x3 x4 x5 x6 = some z → kW X τ 6 [(0, .ref (E.2.2.2.2.1 0)), (1, .int x1), (2, .int x2), (3, .int x3), (4, .int x4), (5, .int x5), (6, .int x6)] [] := by
  intro n
  induction n with
  | zero => intro x1 x2 x3 x4 x5 x6 h; exact (nomatch (show (none : Option Int32) = some z from h))
  | succ n ih =>
    intro x1 x2 x3 x4 x5 x6 h
    have h : T_wasBetween_b6_s nf τ (T_wasBetween_b6 nf τ n) x1 x2 x3 x4 x5 x6 = some z := h
    exact T_wasBetween_b6_s_ok T hR e ih h
theorem met_wasBetween {l : Launch} {E : TE} (hE : tEnv E) {nf : Nat} {τ : TS} : ∀ (x1 : Int32) (x2 : Int32) (x3 : Int32) (x4 : Int32) (z : Int32), T_wasBetween nf τ x1 x2 x3 x4 = some z → tMet_i l E yX9_wasBetween (ws_ yX9_wasBetween cX9_wasBetween 8 (some .int)) 1 22 [.ref (E.2.2.2.2.1 0), .int x1, .int x2, .int x3, .int x4] τ z τ := by
  intro x1 x2 x3 x4 z h
  refine t_met_i hE (by decide +kernel) rfl rfl (fun X hl T hR e => ?_)
  unfold T_wasBetween at h
  have hX := T.1
  show kW X τ 0 [(0, .ref (E.2.2.2.2.1 0)), (1, .int x1), (2, .int x2), (3, .int x3), (4, .int x4)] []
  refine k_iconst (v := 0) hX dX9_wasBetween_0 (by decide) ?_
  refine k_istore [(5, .int 0), (0, .ref (E.2.2.2.2.1 0)), (1, .int x1), (2, .int x2), (3, .int x3), (4, .int x4)] hX dX9_wasBetween_1 rfl rfl ?_
  refine k_iconst (v := 0) hX dX9_wasBetween_3 (by decide) ?_
  refine k_istore [(6, .int 0), (5, .int 0), (0, .ref (E.2.2.2.2.1 0)), (1, .int x1), (2, .int x2), (3, .int x3), (4, .int x4)] hX dX9_wasBetween_4 rfl rfl ?_
  refine k_lv [2, 3, 4, 5, 6, 1, 0] rfl ?_
  exact T_wasBetween_b6_ok T hR e _ _ _ _ _ _ _ h
