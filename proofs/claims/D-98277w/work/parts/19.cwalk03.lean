/-! THE COMPONENT's walks and contracts (printed by gen/gen_c.py) -/
set_option maxRecDepth 100000
theorem FX0_judged_b9_s_ok {X : KC CS} {E : CE} {z : Int32} {z0 l0 z1 l1 : Nat} {s : CS} (T : cOK X E cX0_judged RX0 5 (some .int) z0 l0 z1 l1) (hR : cRoom X 3 74) (e : cE_i X E z0 l0 z1 l1 z s) {nf : Nat} {k9 : Nat → Int32 → Int32 → Int32 → Int32 → Option Int32} (hk9 : ∀ (x0 : Nat) (x1 : Int32) (x2 : Int32) (x3 : Int32) (x4 : Int32), k9 x0 x1 x2 x3 x4 = some z → cW X z1 l1 s 9 [(0, .ref x0), (1, .int x1), (2, .int x2), (3, .int x3), (4, .int x4)] []) {x0 : Nat} {x1 : Int32} {x2 : Int32} {x3 : Int32} {x4 : Int32} (h : FX0_judged_b9_s nf s k9 x0 x1 x2 x3 x4 = some z) : cW X z1 l1 s 9 [(0, .ref x0), (1, .int x1), (2, .int x2), (3, .int x3), (4, .int x4)] [] := by
  unfold FX0_judged_b9_s at h
  have hX := T.1
  refine cw (k_iload hX dX0_judged_9 4 rfl) ?_
  refine cw (k_aload_n hX dX0_judged_11 rfl 0 rfl) ?_
  refine cg_X0_42 T h dX0_judged_12 (fun r1 h => ?_)
  obtain ⟨p2, e_p2, hq_p2⟩ := nn_of h
  subst e_p2
  have h := hq_p2
  show cW X z1 l1 _ 15 [(0, .ref x0), (1, .int x1), (2, .int x2), (3, .int x3), (4, .int x4)] [.ref p2, .int x4]
  refine cg_X0_225 T h dX0_judged_15 (fun v3 h => ?_)
  refine c_br h (k_icmp_ge (tgt := 101) hX h dX0_judged_18 (by decide)) (fun h => ?_) (fun h => ?_)
  · refine cw (k_iconst (v := (-1)) hX dX0_judged_101 (by decide)) ?_
    exact c_ret_ir T e h dX0_judged_102
  · refine cw (k_aload_n hX dX0_judged_21 rfl 0 rfl) ?_
    refine cw (k_iload_n hX dX0_judged_22 rfl 1 rfl) ?_
    refine cw (k_iload_n hX dX0_judged_23 rfl 2 rfl) ?_
    refine cw (k_aload_n hX dX0_judged_24 rfl 0 rfl) ?_
    refine cg_X0_42 T h dX0_judged_25 (fun r4 h => ?_)
    obtain ⟨p5, e_p5, hq_p5⟩ := nn_of h
    subst e_p5
    have h := hq_p5
    show cW X z1 l1 _ 28 [(0, .ref x0), (1, .int x1), (2, .int x2), (3, .int x3), (4, .int x4)] [.ref p5, .int x2, .int x1, .ref x0]
    refine cg_X0_228 T h dX0_judged_28 (fun r6 h => ?_)
    refine cw (k_iload hX dX0_judged_31 4 rfl) ?_
    obtain ⟨p7, e_p7, hq_p7⟩ := nn_of h
    subst e_p7
    have h := hq_p7
    show cW X z1 l1 _ 33 [(0, .ref x0), (1, .int x1), (2, .int x2), (3, .int x3), (4, .int x4)] [.int x4, .ref p7, .int x2, .int x1, .ref x0]
    refine ca_ild T h dX0_judged_33 (fun v8 h => ?_)
    refine cw (k_iload_n hX dX0_judged_34 rfl 3 rfl) ?_
    refine cw (k_aload_n hX dX0_judged_35 rfl 0 rfl) ?_
    refine cg_X0_42 T h dX0_judged_36 (fun r9 h => ?_)
    obtain ⟨p10, e_p10, hq_p10⟩ := nn_of h
    subst e_p10
    have h := hq_p10
    show cW X z1 l1 _ 39 [(0, .ref x0), (1, .int x1), (2, .int x2), (3, .int x3), (4, .int x4)] [.ref p10, .int x3, .int v8, .int x2, .int x1, .ref x0]
    refine cg_X0_231 T h dX0_judged_39 (fun r11 h => ?_)
    refine cw (k_iload hX dX0_judged_42 4 rfl) ?_
    obtain ⟨p12, e_p12, hq_p12⟩ := nn_of h
    subst e_p12
    have h := hq_p12
    show cW X z1 l1 _ 44 [(0, .ref x0), (1, .int x1), (2, .int x2), (3, .int x3), (4, .int x4)] [.int x4, .ref p12, .int x3, .int v8, .int x2, .int x1, .ref x0]
    refine ca_ild T h dX0_judged_44 (fun v13 h => ?_)
    refine cX_X0_233 T met_FX0_isSo (c_room hR rfl rfl) h rfl dX0_judged_45 (fun v14 h => ?_)
    refine c_brn h (k_if_ne (tgt := 54) hX h dX0_judged_48 (by decide)) (fun h => ?_) (fun h => ?_)
    · refine cw (k_aload_n hX dX0_judged_54 rfl 0 rfl) ?_
      refine cg_X0_42 T h dX0_judged_55 (fun r15 h => ?_)
      obtain ⟨p16, e_p16, hq_p16⟩ := nn_of h
      subst e_p16
      have h := hq_p16
      show cW X z1 l1 _ 58 [(0, .ref x0), (1, .int x1), (2, .int x2), (3, .int x3), (4, .int x4)] [.ref p16]
      refine cg_X0_231 T h dX0_judged_58 (fun r17 h => ?_)
      refine cw (k_iload hX dX0_judged_61 4 rfl) ?_
      obtain ⟨p18, e_p18, hq_p18⟩ := nn_of h
      subst e_p18
      have h := hq_p18
      show cW X z1 l1 _ 63 [(0, .ref x0), (1, .int x1), (2, .int x2), (3, .int x3), (4, .int x4)] [.int x4, .ref p18]
      refine ca_ild T h dX0_judged_63 (fun v19 h => ?_)
      refine cw (k_aload_n hX dX0_judged_64 rfl 0 rfl) ?_
      refine cg_X0_35 T h dX0_judged_65 (fun r20 h => ?_)
      obtain ⟨p21, e_p21, hq_p21⟩ := nn_of h
      subst e_p21
      have h := hq_p21
      show cW X z1 l1 _ 68 [(0, .ref x0), (1, .int x1), (2, .int x2), (3, .int x3), (4, .int x4)] [.ref p21, .int v19]
      refine cX_X0_217 T met_FX2_walk (c_room hR rfl rfl) h rfl dX0_judged_68 (fun v22 h => ?_)
      refine cw (k_iadd hX dX0_judged_71) ?_
      refine c_nm h (fun v23 h => ?_)
      refine cw (k_istore_n [(3, .int v23), (0, .ref x0), (1, .int x1), (2, .int x2), (4, .int x4)] hX dX0_judged_72 rfl rfl rfl) ?_
      refine cw (k_aload_n hX dX0_judged_73 rfl 1 rfl) ?_
      refine cg_X0_42 T h dX0_judged_74 (fun r24 h => ?_)
      obtain ⟨p25, e_p25, hq_p25⟩ := nn_of h
      subst e_p25
      have h := hq_p25
      show cW X z1 l1 _ 77 [(3, .int v23), (0, .ref x0), (1, .int x1), (2, .int x2), (4, .int x4)] [.ref p25]
      refine cg_X0_228 T h dX0_judged_77 (fun r26 h => ?_)
      refine cw (k_iload hX dX0_judged_80 4 rfl) ?_
      obtain ⟨p27, e_p27, hq_p27⟩ := nn_of h
      subst e_p27
      have h := hq_p27
      show cW X z1 l1 _ 82 [(3, .int v23), (0, .ref x0), (1, .int x1), (2, .int x2), (4, .int x4)] [.int x4, .ref p27]
      refine ca_ild T h dX0_judged_82 (fun v28 h => ?_)
      refine c_brn h (k_if_ne (tgt := 92) hX h dX0_judged_83 (by decide)) (fun h => ?_) (fun h => ?_)
      · refine cw (k_iinc (j := 3) [(2, .int (x2 + 1)), (3, .int v23), (0, .ref x0), (1, .int x1), (4, .int x4)] hX dX0_judged_92 rfl rfl rfl rfl) ?_
        refine cw (k_iinc (j := 4) [(4, .int (x4 + 1)), (2, .int (x2 + 1)), (3, .int v23), (0, .ref x0), (1, .int x1)] hX dX0_judged_95 rfl rfl rfl rfl) ?_
        refine cw (k_goto (tgt := 9) hX dX0_judged_98 (by decide)) ?_
        refine cw (k_lv (lv' := [(0, .ref x0), (1, .int x1), (2, .int (x2 + 1)), (3, .int v23), (4, .int (x4 + 1))]) [3, 4, 1, 2, 0] rfl) ?_
        exact hk9 _ _ _ _ _ h
      · refine cw (k_iinc (j := 2) [(1, .int (x1 + 1)), (3, .int v23), (0, .ref x0), (2, .int x2), (4, .int x4)] hX dX0_judged_86 rfl rfl rfl rfl) ?_
        refine cw (k_goto (tgt := 95) hX dX0_judged_89 (by decide)) ?_
        refine cw (k_iinc (j := 4) [(4, .int (x4 + 1)), (1, .int (x1 + 1)), (3, .int v23), (0, .ref x0), (2, .int x2)] hX dX0_judged_95 rfl rfl rfl rfl) ?_
        refine cw (k_goto (tgt := 9) hX dX0_judged_98 (by decide)) ?_
        refine cw (k_lv (lv' := [(0, .ref x0), (1, .int (x1 + 1)), (2, .int x2), (3, .int v23), (4, .int (x4 + 1))]) [3, 1, 4, 2, 0] rfl) ?_
        exact hk9 _ _ _ _ _ h
    · refine cw (k_iload hX dX0_judged_51 4 rfl) ?_
      exact c_ret_ir T e h dX0_judged_53
theorem FX0_judged_b9_ok {X : KC CS} {E : CE} {z : Int32} {z0 l0 z1 l1 : Nat} {s : CS} (T : cOK X E cX0_judged RX0 5 (some .int) z0 l0 z1 l1) (hR : cRoom X 3 74) (e : cE_i X E z0 l0 z1 l1 z s) {nf : Nat} : ∀ (n : Nat) (x0 : Nat) (x1 : Int32) (x2 : Int32) (x3 : Int32) (x4 : Int32), FX0_judged_b9 nf s n x0 x1 x2 x3 x4 = some z → cW X z1 l1 s 9 [(0, .ref x0), (1, .int x1), (2, .int x2), (3, .int x3), (4, .int x4)] [] := by
  intro n
  induction n with
  | zero => intro x0 x1 x2 x3 x4 h; exact (nomatch (show (none : Option Int32) = some z from h))
  | succ n ih =>
    intro x0 x1 x2 x3 x4 h
    have h : FX0_judged_b9_s nf s (FX0_judged_b9 nf s n) x0 x1 x2 x3 x4 = some z := h
    exact FX0_judged_b9_s_ok T hR e ih h
theorem met_FX0_judged {l : Launch} {E : CE} {nf : Nat} {s : CS} : ∀ (x0 : Nat) (z : Int32), FX0_judged nf s x0 = some z → (isK s x0 [0] = true ∧ cMet_i l E yX0_judged (ws_ yX0_judged cX0_judged 5 (some .int)) 3 74 [.ref x0] s z s) := by
  intro x0 z h
  unfold FX0_judged at h
  obtain ⟨hg, h⟩ := gd_of h
  refine ⟨hg, c_met_i ⟨Nat.le_refl _, Nat.le_refl _⟩ (by decide +kernel) rfl (fun X hl hin T hR e => ?_)⟩
  have T : cOK X E cX0_judged RX0 5 (some .int) _ _ _ _ := T
  have hX := T.1
  show cW X _ _ s 0 [(0, .ref x0)] []
  refine cw (k_iconst (v := 0) hX dX0_judged_0 (by decide)) ?_
  refine cw (k_istore_n [(1, .int 0), (0, .ref x0)] hX dX0_judged_1 rfl rfl rfl) ?_
  refine cw (k_iconst (v := 0) hX dX0_judged_2 (by decide)) ?_
  refine cw (k_istore_n [(2, .int 0), (1, .int 0), (0, .ref x0)] hX dX0_judged_3 rfl rfl rfl) ?_
  refine cw (k_iconst (v := 0) hX dX0_judged_4 (by decide)) ?_
  refine cw (k_istore_n [(3, .int 0), (2, .int 0), (1, .int 0), (0, .ref x0)] hX dX0_judged_5 rfl rfl rfl) ?_
  refine cw (k_iconst (v := 0) hX dX0_judged_6 (by decide)) ?_
  refine cw (k_istore [(4, .int 0), (3, .int 0), (2, .int 0), (1, .int 0), (0, .ref x0)] hX dX0_judged_7 rfl rfl) ?_
  refine cw (k_lv (lv' := [(0, .ref x0), (1, .int 0), (2, .int 0), (3, .int 0), (4, .int 0)]) [4, 3, 2, 1, 0] rfl) ?_
  exact FX0_judged_b9_ok T hR e _ _ _ _ _ _ h
theorem FX0_soonest_b166_ok {X : KC CS} {E : CE} {z : (Int32 × CS)} {z0 l0 z1 l1 : Nat} (T : cOK X E cX0_soonest RX0 13 (some .int) z0 l0 z1 l1) (hR : cRoom X 607 29583) (e : cE_i X E z0 l0 z1 l1 z.1 z.2) {nf : Nat} {k73 : Nat → Int32 → Int32 → Int32 → Int32 → Int32 → CS → Option (Int32 × CS)} (hk73 : ∀ (x0 : Nat) (x4 : Int32) (x6 : Int32) (x7 : Int32) (x8 : Int32) (x9 : Int32) (s : CS), k73 x0 x4 x6 x7 x8 x9 s = some z → cW X z1 l1 s 73 [(0, .ref x0), (4, .int x4), (6, .int x6), (7, .int x7), (8, .int x8), (9, .int x9)] []) {x0 : Nat} {x4 : Int32} {x6 : Int32} {x7 : Int32} {x9 : Int32} {x12 : Int32} {s_0 : Int32} {s_1 : Int32} {s : CS} (h : FX0_soonest_b166 nf k73 x0 x4 x6 x7 x9 x12 s_0 s_1 s = some z) : cW X z1 l1 s 166 [(0, .ref x0), (4, .int x4), (6, .int x6), (7, .int x7), (9, .int x9), (12, .int x12)] [.int s_0, .int s_1] := by
  unfold FX0_soonest_b166 at h
  have hX := T.1
  refine cw (k_aload_n hX dX0_soonest_166 rfl 0 rfl) ?_
  refine cg_X0_35 T h dX0_soonest_167 (fun r1 h => ?_)
  obtain ⟨p2, e_p2, hq_p2⟩ := nn_of h
  subst e_p2
  have h := hq_p2
  show cW X z1 l1 _ 170 [(0, .ref x0), (4, .int x4), (6, .int x6), (7, .int x7), (9, .int x9), (12, .int x12)] [.ref p2, .int s_0, .int s_1]
  refine cX_X0_217 T met_FX2_walk (c_room hR rfl rfl) h rfl dX0_soonest_170 (fun v3 h => ?_)
  refine cw (k_iadd hX dX0_soonest_173) ?_
  refine cw (k_iadd hX dX0_soonest_174) ?_
  refine c_nm h (fun v4 h => ?_)
  refine cw (k_istore [(8, .int v4), (0, .ref x0), (4, .int x4), (6, .int x6), (7, .int x7), (9, .int x9), (12, .int x12)] hX dX0_soonest_175 rfl rfl) ?_
  refine cw (k_iload hX dX0_soonest_177 6 rfl) ?_
  refine c_brn h (k_if_ne (tgt := 188) hX h dX0_soonest_179 (by decide)) (fun h => ?_) (fun h => ?_)
  · refine cw (k_iinc (j := 4) [(7, .int (x7 + 1)), (8, .int v4), (0, .ref x0), (4, .int x4), (6, .int x6), (9, .int x9), (12, .int x12)] hX dX0_soonest_188 rfl rfl rfl rfl) ?_
    refine cw (k_iinc (j := 5) [(9, .int (x9 + 1)), (7, .int (x7 + 1)), (8, .int v4), (0, .ref x0), (4, .int x4), (6, .int x6), (12, .int x12)] hX dX0_soonest_191 rfl rfl rfl rfl) ?_
    refine cw (k_goto (tgt := 73) hX dX0_soonest_194 (by decide)) ?_
    refine cw (k_lv (lv' := [(0, .ref x0), (4, .int x4), (6, .int x6), (7, .int (x7 + 1)), (8, .int v4), (9, .int (x9 + 1))]) [3, 4, 5, 1, 2, 0] rfl) ?_
    exact hk73 _ _ _ _ _ _ _ h
  · refine cw (k_iinc (j := 3) [(6, .int (x6 + 1)), (8, .int v4), (0, .ref x0), (4, .int x4), (7, .int x7), (9, .int x9), (12, .int x12)] hX dX0_soonest_182 rfl rfl rfl rfl) ?_
    refine cw (k_goto (tgt := 191) hX dX0_soonest_185 (by decide)) ?_
    refine cw (k_iinc (j := 5) [(9, .int (x9 + 1)), (6, .int (x6 + 1)), (8, .int v4), (0, .ref x0), (4, .int x4), (7, .int x7), (12, .int x12)] hX dX0_soonest_191 rfl rfl rfl rfl) ?_
    refine cw (k_goto (tgt := 73) hX dX0_soonest_194 (by decide)) ?_
    refine cw (k_lv (lv' := [(0, .ref x0), (4, .int x4), (6, .int (x6 + 1)), (7, .int x7), (8, .int v4), (9, .int (x9 + 1))]) [3, 4, 1, 5, 2, 0] rfl) ?_
    exact hk73 _ _ _ _ _ _ _ h
theorem FX0_soonest_b73_s_ok {X : KC CS} {E : CE} {z : (Int32 × CS)} {z0 l0 z1 l1 : Nat} (T : cOK X E cX0_soonest RX0 13 (some .int) z0 l0 z1 l1) (hR : cRoom X 607 29583) (e : cE_i X E z0 l0 z1 l1 z.1 z.2) {nf : Nat} {k73 : Nat → Int32 → Int32 → Int32 → Int32 → Int32 → CS → Option (Int32 × CS)} (hk73 : ∀ (x0 : Nat) (x4 : Int32) (x6 : Int32) (x7 : Int32) (x8 : Int32) (x9 : Int32) (s : CS), k73 x0 x4 x6 x7 x8 x9 s = some z → cW X z1 l1 s 73 [(0, .ref x0), (4, .int x4), (6, .int x6), (7, .int x7), (8, .int x8), (9, .int x9)] []) {x0 : Nat} {x4 : Int32} {x6 : Int32} {x7 : Int32} {x8 : Int32} {x9 : Int32} {s : CS} (h : FX0_soonest_b73_s nf k73 x0 x4 x6 x7 x8 x9 s = some z) : cW X z1 l1 s 73 [(0, .ref x0), (4, .int x4), (6, .int x6), (7, .int x7), (8, .int x8), (9, .int x9)] [] := by
  unfold FX0_soonest_b73_s at h
  have hX := T.1
  refine cw (k_aload_n hX dX0_soonest_73 rfl 0 rfl) ?_
  refine cw (k_iload hX dX0_soonest_74 2 rfl) ?_
  refine cw (k_iload hX dX0_soonest_76 3 rfl) ?_
  refine cX_X0_278 T met_FX0_isHome (c_room hR rfl rfl) h rfl dX0_soonest_78 (fun v1 h => ?_)
  refine c_brn h (k_if_ne (tgt := 197) hX h dX0_soonest_81 (by decide)) (fun h => ?_) (fun h => ?_)
  · refine cw (k_bipush (v := (-2)) hX dX0_soonest_197 (by decide)) ?_
    exact c_ret_i T e h dX0_soonest_199
  · refine cw (k_aload_n hX dX0_soonest_84 rfl 0 rfl) ?_
    refine cw (k_iload hX dX0_soonest_85 2 rfl) ?_
    refine cw (k_iload hX dX0_soonest_87 3 rfl) ?_
    refine cw (k_iconst (v := 0) hX dX0_soonest_89 (by decide)) ?_
    refine cw (k_iload hX dX0_soonest_90 4 rfl) ?_
    refine cX_X0_191 T met_FX0_waits (c_room hR rfl rfl) h rfl dX0_soonest_92 (fun v2 h => ?_)
    refine cw (k_istore [(10, .int v2), (0, .ref x0), (4, .int x4), (6, .int x6), (7, .int x7), (8, .int x8), (9, .int x9)] hX dX0_soonest_95 rfl rfl) ?_
    refine cw (k_aload_n hX dX0_soonest_97 rfl 1 rfl) ?_
    refine cw (k_iload hX dX0_soonest_98 3 rfl) ?_
    refine cw (k_iload hX dX0_soonest_100 4 rfl) ?_
    refine cw (k_iconst (v := 1) hX dX0_soonest_102 (by decide)) ?_
    refine cw (k_iload hX dX0_soonest_103 5 rfl) ?_
    refine cX_X0_191 T met_FX0_waits (c_room hR rfl rfl) h rfl dX0_soonest_105 (fun v3 h => ?_)
    refine cw (k_istore [(11, .int v3), (10, .int v2), (0, .ref x0), (4, .int x4), (6, .int x6), (7, .int x7), (8, .int x8), (9, .int x9)] hX dX0_soonest_108 rfl rfl) ?_
    refine cw (k_aload_n hX dX0_soonest_110 rfl 2 rfl) ?_
    refine cw (k_aload_n hX dX0_soonest_111 rfl 2 rfl) ?_
    refine cw (k_iload hX dX0_soonest_112 4 rfl) ?_
    refine cw (k_iload hX dX0_soonest_114 5 rfl) ?_
    refine cw (k_iconst (v := 0) hX dX0_soonest_116 (by decide)) ?_
    refine cw (k_iload hX dX0_soonest_117 6 rfl) ?_
    refine cw (k_iload hX dX0_soonest_119 1 rfl) ?_
    refine cX_X0_256 T met_FX0_by (c_room hR rfl rfl) h rfl dX0_soonest_121 (fun v4 h => ?_)
    refine cw (k_aload_n hX dX0_soonest_124 rfl 2 rfl) ?_
    refine cw (k_iload hX dX0_soonest_125 4 rfl) ?_
    refine cw (k_iload hX dX0_soonest_127 5 rfl) ?_
    refine cw (k_iconst (v := 1) hX dX0_soonest_129 (by decide)) ?_
    refine cw (k_iload hX dX0_soonest_130 6 rfl) ?_
    refine cw (k_iload hX dX0_soonest_132 0 rfl) ?_
    refine cX_X0_256 T met_FX0_by (c_room hR rfl rfl) h rfl dX0_soonest_134 (fun v5 h => ?_)
    refine cX_X0_260 T met_FX0_better (c_room hR rfl rfl) h rfl dX0_soonest_137 (fun v6 h => ?_)
    refine cw (k_istore [(12, .int v6), (11, .int v3), (10, .int v2), (0, .ref x0), (4, .int x4), (6, .int x6), (7, .int x7), (8, .int x8), (9, .int x9)] hX dX0_soonest_140 rfl rfl) ?_
    refine cw (k_iload hX dX0_soonest_142 8 rfl) ?_
    refine cw (k_iload hX dX0_soonest_144 4 rfl) ?_
    refine c_brn h (k_icmp_ne (tgt := 152) hX h dX0_soonest_146 (by decide)) (fun h => ?_) (fun h => ?_)
    · refine cw (k_iload hX dX0_soonest_152 7 rfl) ?_
      refine cw (k_iload hX dX0_soonest_154 0 rfl) ?_
      refine c_brn h (k_if_ne (tgt := 164) hX h dX0_soonest_156 (by decide)) (fun h => ?_) (fun h => ?_)
      · refine cw (k_iload hX dX0_soonest_164 1 rfl) ?_
        refine cw (k_lv (lv' := [(0, .ref x0), (4, .int x4), (6, .int x6), (7, .int x7), (9, .int x9), (12, .int v6)]) [3, 4, 5, 6, 8, 0] rfl) ?_
        exact FX0_soonest_b166_ok T hR e hk73 h
      · refine cw (k_iload hX dX0_soonest_159 2 rfl) ?_
        refine cw (k_goto (tgt := 166) hX dX0_soonest_161 (by decide)) ?_
        refine cw (k_lv (lv' := [(0, .ref x0), (4, .int x4), (6, .int x6), (7, .int x7), (9, .int x9), (12, .int v6)]) [3, 4, 5, 6, 8, 0] rfl) ?_
        exact FX0_soonest_b166_ok T hR e hk73 h
    · refine cw (k_iload hX dX0_soonest_149 0 rfl) ?_
      exact c_ret_i T e h dX0_soonest_151
theorem FX0_soonest_b73_ok {X : KC CS} {E : CE} {z : (Int32 × CS)} {z0 l0 z1 l1 : Nat} (T : cOK X E cX0_soonest RX0 13 (some .int) z0 l0 z1 l1) (hR : cRoom X 607 29583) (e : cE_i X E z0 l0 z1 l1 z.1 z.2) {nf : Nat} : ∀ (n : Nat) (x0 : Nat) (x4 : Int32) (x6 : Int32) (x7 : Int32) (x8 : Int32) (x9 : Int32) (s : CS), FX0_soonest_b73 nf n x0 x4 x6 x7 x8 x9 s = some z → cW X z1 l1 s 73 [(0, .ref x0), (4, .int x4), (6, .int x6), (7, .int x7), (8, .int x8), (9, .int x9)] [] := by
  intro n
  induction n with
  | zero => intro x0 x4 x6 x7 x8 x9 s h; exact (nomatch (show (none : Option (Int32 × CS)) = some z from h))
  | succ n ih =>
    intro x0 x4 x6 x7 x8 x9 s h
    have h : FX0_soonest_b73_s nf (FX0_soonest_b73 nf n) x0 x4 x6 x7 x8 x9 s = some z := h
    exact FX0_soonest_b73_s_ok T hR e ih h
theorem FX0_soonest_b46_ok {X : KC CS} {E : CE} {z : (Int32 × CS)} {z0 l0 z1 l1 : Nat} (T : cOK X E cX0_soonest RX0 13 (some .int) z0 l0 z1 l1) (hR : cRoom X 607 29583) (e : cE_i X E z0 l0 z1 l1 z.1 z.2) {nf : Nat} {x3 : Int32} {x5 : Int32} {s : CS} (h : FX0_soonest_b46 nf x3 x5 s = some z) : cW X z1 l1 s 46 [(3, .int x3), (5, .int x5)] [] := by
  unfold FX0_soonest_b46 at h
  have hX := T.1
  refine cw (k_iload hX dX0_soonest_46 1 rfl) ?_
  refine c_br h (k_if_ge (tgt := 56) hX h dX0_soonest_48 (by decide)) (fun h => ?_) (fun h => ?_)
  · refine cw (k_iload_n hX dX0_soonest_56 rfl 0 rfl) ?_
    refine cw (k_iload hX dX0_soonest_57 1 rfl) ?_
    refine cw (k_iadd hX dX0_soonest_59) ?_
    exact c_ret_i T e h dX0_soonest_60
  · refine cw (k_bipush (v := (-2)) hX dX0_soonest_51 (by decide)) ?_
    refine cw (k_goto (tgt := 60) hX dX0_soonest_53 (by decide)) ?_
    exact c_ret_i T e h dX0_soonest_60
theorem met_FX0_soonest {l : Launch} {E : CE} {nf : Nat} : ∀ (x0 : Nat) (x1 : Int32) (x2 : Int32) (x3 : Int32) (x4 : Int32) (s : CS) (z : (Int32 × CS)), FX0_soonest nf x0 x1 x2 x3 x4 s = some z → (isK s x0 [0] = true ∧ cMet_i l E yX0_soonest (ws_ yX0_soonest cX0_soonest 13 (some .int)) 607 29583 [.ref x0, .int x1, .int x2, .int x3, .int x4] s z.1 z.2) := by
  intro x0 x1 x2 x3 x4 s z h
  unfold FX0_soonest at h
  obtain ⟨hm, h⟩ := mz_of h
  obtain ⟨hg, h⟩ := gd_of h
  refine ⟨hg, c_met_i hm (by decide +kernel) rfl (fun X hl hin T hR e => ?_)⟩
  have T : cOK X E cX0_soonest RX0 13 (some .int) _ _ _ _ := T
  have hX := T.1
  show cW X _ _ s 0 [(0, .ref x0), (1, .int x1), (2, .int x2), (3, .int x3), (4, .int x4)] []
  refine cw (k_aload_n hX dX0_soonest_0 rfl 0 rfl) ?_
  refine cw (k_iload_n hX dX0_soonest_1 rfl 1 rfl) ?_
  refine cw (k_iload_n hX dX0_soonest_2 rfl 2 rfl) ?_
  refine cw (k_iload_n hX dX0_soonest_3 rfl 3 rfl) ?_
  refine cX_X0_185 T met_FX0_isAsked (c_room hR rfl rfl) h rfl dX0_soonest_4 (fun v1 h => ?_)
  refine c_br h (k_if_eq (tgt := 16) hX h dX0_soonest_7 (by decide)) (fun h => ?_) (fun h => ?_)
  · refine cw (k_bipush (v := (-2)) hX dX0_soonest_16 (by decide)) ?_
    exact c_ret_i T e h dX0_soonest_18
  · refine cw (k_iload hX dX0_soonest_10 4 rfl) ?_
    refine cw (k_iconst (v := (-1)) hX dX0_soonest_12 (by decide)) ?_
    refine c_br h (k_icmp_ge (tgt := 19) hX h dX0_soonest_13 (by decide)) (fun h => ?_) (fun h => ?_)
    · refine cw (k_aload_n hX dX0_soonest_19 rfl 0 rfl) ?_
      refine cw (k_iconst (v := 3) hX dX0_soonest_20 (by decide)) ?_
      refine cw (k_iconst (v := 1) hX dX0_soonest_21 (by decide)) ?_
      refine cw (k_iconst (v := 1) hX dX0_soonest_22 (by decide)) ?_
      refine cX_X0_305 T met_FX0_tables (c_room hR rfl rfl) h rfl dX0_soonest_23 (fun s2 h => ?_)
      refine cw (k_aload_n hX dX0_soonest_26 rfl 0 rfl) ?_
      refine cw (k_iload_n hX dX0_soonest_27 rfl 1 rfl) ?_
      refine cw (k_iload_n hX dX0_soonest_28 rfl 2 rfl) ?_
      refine cw (k_iload_n hX dX0_soonest_29 rfl 3 rfl) ?_
      refine cX_X0_244 T met_FX0_takesAt (c_room hR rfl rfl) h rfl dX0_soonest_30 (fun v3 h => ?_)
      refine cw (k_istore [(5, .int v3), (0, .ref x0), (1, .int x1), (2, .int x2), (3, .int x3), (4, .int x4)] hX dX0_soonest_33 rfl rfl) ?_
      refine cw (k_iload hX dX0_soonest_35 0 rfl) ?_
      refine c_br h (k_if_lt (tgt := 46) hX h dX0_soonest_37 (by decide)) (fun h => ?_) (fun h => ?_)
      · refine cw (k_lv (lv' := [(3, .int x3), (5, .int v3)]) [4, 0] rfl) ?_
        exact FX0_soonest_b46_ok T hR e h
      · refine cw (k_iload hX dX0_soonest_40 5 rfl) ?_
        refine cw (k_iconst (v := (-1)) hX dX0_soonest_42 (by decide)) ?_
        refine c_brn h (k_icmp_ne (tgt := 61) hX h dX0_soonest_43 (by decide)) (fun h => ?_) (fun h => ?_)
        · refine cw (k_iload_n hX dX0_soonest_61 rfl 2 rfl) ?_
          refine cw (k_istore [(6, .int x1), (5, .int v3), (0, .ref x0), (1, .int x1), (2, .int x2), (3, .int x3), (4, .int x4)] hX dX0_soonest_62 rfl rfl) ?_
          refine cw (k_iload_n hX dX0_soonest_64 rfl 4 rfl) ?_
          refine cw (k_istore [(7, .int x2), (6, .int x1), (5, .int v3), (0, .ref x0), (1, .int x1), (2, .int x2), (3, .int x3), (4, .int x4)] hX dX0_soonest_65 rfl rfl) ?_
          refine cw (k_iload_n hX dX0_soonest_67 rfl 6 rfl) ?_
          refine cw (k_istore [(8, .int x3), (7, .int x2), (6, .int x1), (5, .int v3), (0, .ref x0), (1, .int x1), (2, .int x2), (3, .int x3), (4, .int x4)] hX dX0_soonest_68 rfl rfl) ?_
          refine cw (k_iconst (v := 0) hX dX0_soonest_70 (by decide)) ?_
          refine cw (k_istore [(9, .int 0), (8, .int x3), (7, .int x2), (6, .int x1), (5, .int v3), (0, .ref x0), (1, .int x1), (2, .int x2), (3, .int x3), (4, .int x4)] hX dX0_soonest_71 rfl rfl) ?_
          refine cw (k_lv (lv' := [(0, .ref x0), (4, .int x4), (6, .int x1), (7, .int x2), (8, .int x3), (9, .int 0)]) [5, 9, 3, 2, 1, 0] rfl) ?_
          exact FX0_soonest_b73_ok T hR e _ _ _ _ _ _ _ _ h
        · refine cw (k_lv (lv' := [(3, .int x3), (5, .int v3)]) [4, 0] rfl) ?_
          exact FX0_soonest_b46_ok T hR e h
    · refine cw (k_bipush (v := (-2)) hX dX0_soonest_16 (by decide)) ?_
      exact c_ret_i T e h dX0_soonest_18
theorem FX0_latest_b20_s_ok {X : KC CS} {E : CE} {z : (Int32 × CS)} {z0 l0 z1 l1 : Nat} (T : cOK X E cX0_latest RX0 6 (some .int) z0 l0 z1 l1) (hR : cRoom X 608 29615) (e : cE_i X E z0 l0 z1 l1 z.1 z.2) {nf : Nat} {k20 : Nat → Int32 → Int32 → Int32 → Int32 → Int32 → CS → Option (Int32 × CS)} (hk20 : ∀ (x0 : Nat) (x1 : Int32) (x2 : Int32) (x3 : Int32) (x4 : Int32) (x5 : Int32) (s : CS), k20 x0 x1 x2 x3 x4 x5 s = some z → cW X z1 l1 s 20 [(0, .ref x0), (1, .int x1), (2, .int x2), (3, .int x3), (4, .int x4), (5, .int x5)] []) {x0 : Nat} {x1 : Int32} {x2 : Int32} {x3 : Int32} {x4 : Int32} {x5 : Int32} {s : CS} (h : FX0_latest_b20_s nf k20 x0 x1 x2 x3 x4 x5 s = some z) : cW X z1 l1 s 20 [(0, .ref x0), (1, .int x1), (2, .int x2), (3, .int x3), (4, .int x4), (5, .int x5)] [] := by
  unfold FX0_latest_b20_s at h
  have hX := T.1
  refine cw (k_iload hX dX0_latest_20 5 rfl) ?_
  refine cw (k_iconst (v := 1) hX dX0_latest_22 (by decide)) ?_
  refine cw (k_iadd hX dX0_latest_23) ?_
  refine cw (k_iload_n hX dX0_latest_24 rfl 3 rfl) ?_
  refine cw (k_aload_n hX dX0_latest_25 rfl 0 rfl) ?_
  refine cg_X0_35 T h dX0_latest_26 (fun r1 h => ?_)
  obtain ⟨p2, e_p2, hq_p2⟩ := nn_of h
  subst e_p2
  have h := hq_p2
  show cW X z1 l1 _ 29 [(0, .ref x0), (1, .int x1), (2, .int x2), (3, .int x3), (4, .int x4), (5, .int x5)] [.ref p2, .int x3, .int (x5 + 1)]
  refine cg_X0_241 T h dX0_latest_29 (fun v3 h => ?_)
  refine cw (k_iadd hX dX0_latest_32) ?_
  refine c_br h (k_icmp_ge (tgt := 62) hX h dX0_latest_33 (by decide)) (fun h => ?_) (fun h => ?_)
  · refine cw (k_iload hX dX0_latest_62 5 rfl) ?_
    exact c_ret_i T e h dX0_latest_64
  · refine cw (k_iload hX dX0_latest_36 5 rfl) ?_
    refine cw (k_iconst (v := 1) hX dX0_latest_38 (by decide)) ?_
    refine cw (k_iadd hX dX0_latest_39) ?_
    refine cw (k_aload_n hX dX0_latest_40 rfl 0 rfl) ?_
    refine cw (k_iload_n hX dX0_latest_41 rfl 1 rfl) ?_
    refine cw (k_iload_n hX dX0_latest_42 rfl 2 rfl) ?_
    refine cw (k_iload hX dX0_latest_43 5 rfl) ?_
    refine cw (k_iconst (v := 1) hX dX0_latest_45 (by decide)) ?_
    refine cw (k_iadd hX dX0_latest_46) ?_
    refine cX_X0_244 T met_FX0_takesAt (c_room hR rfl rfl) h rfl dX0_latest_47 (fun v4 h => ?_)
    refine cw (k_iadd hX dX0_latest_50) ?_
    refine cw (k_iload hX dX0_latest_51 4 rfl) ?_
    refine c_brn h (k_icmp_ne (tgt := 62) hX h dX0_latest_53 (by decide)) (fun h => ?_) (fun h => ?_)
    · refine cw (k_iload hX dX0_latest_62 5 rfl) ?_
      exact c_ret_i T e h dX0_latest_64
    · refine cw (k_iinc (j := 5) [(5, .int (x5 + 1)), (0, .ref x0), (1, .int x1), (2, .int x2), (3, .int x3), (4, .int x4)] hX dX0_latest_56 rfl rfl rfl rfl) ?_
      refine cw (k_goto (tgt := 20) hX dX0_latest_59 (by decide)) ?_
      refine cw (k_lv (lv' := [(0, .ref x0), (1, .int x1), (2, .int x2), (3, .int x3), (4, .int x4), (5, .int (x5 + 1))]) [1, 2, 3, 4, 5, 0] rfl) ?_
      exact hk20 _ _ _ _ _ _ _ h
theorem FX0_latest_b20_ok {X : KC CS} {E : CE} {z : (Int32 × CS)} {z0 l0 z1 l1 : Nat} (T : cOK X E cX0_latest RX0 6 (some .int) z0 l0 z1 l1) (hR : cRoom X 608 29615) (e : cE_i X E z0 l0 z1 l1 z.1 z.2) {nf : Nat} : ∀ (n : Nat) (x0 : Nat) (x1 : Int32) (x2 : Int32) (x3 : Int32) (x4 : Int32) (x5 : Int32) (s : CS), FX0_latest_b20 nf n x0 x1 x2 x3 x4 x5 s = some z → cW X z1 l1 s 20 [(0, .ref x0), (1, .int x1), (2, .int x2), (3, .int x3), (4, .int x4), (5, .int x5)] [] := by
  intro n
  induction n with
  | zero => intro x0 x1 x2 x3 x4 x5 s h; exact (nomatch (show (none : Option (Int32 × CS)) = some z from h))
  | succ n ih =>
    intro x0 x1 x2 x3 x4 x5 s h
    have h : FX0_latest_b20_s nf (FX0_latest_b20 nf n) x0 x1 x2 x3 x4 x5 s = some z := h
    exact FX0_latest_b20_s_ok T hR e ih h
theorem met_FX0_latest {l : Launch} {E : CE} {nf : Nat} : ∀ (x0 : Nat) (x1 : Int32) (x2 : Int32) (x3 : Int32) (s : CS) (z : (Int32 × CS)), FX0_latest nf x0 x1 x2 x3 s = some z → (isK s x0 [0] = true ∧ cMet_i l E yX0_latest (ws_ yX0_latest cX0_latest 6 (some .int)) 608 29615 [.ref x0, .int x1, .int x2, .int x3] s z.1 z.2) := by
  intro x0 x1 x2 x3 s z h
  unfold FX0_latest at h
  obtain ⟨hm, h⟩ := mz_of h
  obtain ⟨hg, h⟩ := gd_of h
  refine ⟨hg, c_met_i hm (by decide +kernel) rfl (fun X hl hin T hR e => ?_)⟩
  have T : cOK X E cX0_latest RX0 6 (some .int) _ _ _ _ := T
  have hX := T.1
  show cW X _ _ s 0 [(0, .ref x0), (1, .int x1), (2, .int x2), (3, .int x3)] []
  refine cw (k_aload_n hX dX0_latest_0 rfl 0 rfl) ?_
  refine cw (k_iload_n hX dX0_latest_1 rfl 1 rfl) ?_
  refine cw (k_iload_n hX dX0_latest_2 rfl 2 rfl) ?_
  refine cw (k_iload_n hX dX0_latest_3 rfl 3 rfl) ?_
  refine cw (k_iconst (v := (-1)) hX dX0_latest_4 (by decide)) ?_
  refine cX_X0_308 T met_FX0_soonest (c_room hR rfl rfl) h rfl dX0_latest_5 (fun v2 s1 h => ?_)
  refine cw (k_istore [(4, .int v2), (0, .ref x0), (1, .int x1), (2, .int x2), (3, .int x3)] hX dX0_latest_8 rfl rfl) ?_
  refine cw (k_iload_n hX dX0_latest_10 rfl 4 rfl) ?_
  refine cw (k_istore [(5, .int x3), (4, .int v2), (0, .ref x0), (1, .int x1), (2, .int x2), (3, .int x3)] hX dX0_latest_11 rfl rfl) ?_
  refine cw (k_iload hX dX0_latest_13 1 rfl) ?_
  refine c_br h (k_if_ge (tgt := 20) hX h dX0_latest_15 (by decide)) (fun h => ?_) (fun h => ?_)
  · refine cw (k_lv (lv' := [(0, .ref x0), (1, .int x1), (2, .int x2), (3, .int x3), (4, .int v2), (5, .int x3)]) [2, 3, 4, 5, 1, 0] rfl) ?_
    exact FX0_latest_b20_ok T hR e _ _ _ _ _ _ _ _ h
  · refine cw (k_iconst (v := (-1)) hX dX0_latest_18 (by decide)) ?_
    exact c_ret_i T e h dX0_latest_19
theorem met_V11_kind {l : Launch} {E : CE} {s : CS} : ∀ (o : Nat) (v : Int32), V11_kind s o = some v → (isK s o [12] = true ∧ ∃ F' L' : Nat, F' ≤ 0 ∧ L' ≤ 0 ∧ cMet_i l E yX12_kind (ws_ yX12_kind cX12_kind 1 (some .int)) F' L' [.ref o] s v s) ∨ (isK s o [13] = true ∧ ∃ F' L' : Nat, F' ≤ 0 ∧ L' ≤ 0 ∧ cMet_i l E yX13_kind (ws_ yX13_kind cX13_kind 1 (some .int)) F' L' [.ref o] s v s) ∨ (isK s o [14] = true ∧ ∃ F' L' : Nat, F' ≤ 0 ∧ L' ≤ 0 ∧ cMet_i l E yX14_kind (ws_ yX14_kind cX14_kind 1 (some .int)) F' L' [.ref o] s v s) ∨ (isK s o [15] = true ∧ ∃ F' L' : Nat, F' ≤ 0 ∧ L' ≤ 0 ∧ cMet_i l E yX15_kind (ws_ yX15_kind cX15_kind 1 (some .int)) F' L' [.ref o] s v s) := by
  intro o v h
  unfold V11_kind at h
  by_cases q0 : isK s o [12] = true
  · rw [if_pos q0] at h
    exact Or.inl ⟨q0, _, _, by decide, by decide, (met_FX12_kind _ _ h).2⟩
  rw [if_neg q0] at h
  by_cases q1 : isK s o [13] = true
  · rw [if_pos q1] at h
    exact Or.inr (Or.inl ⟨q1, _, _, by decide, by decide, (met_FX13_kind _ _ h).2⟩)
  rw [if_neg q1] at h
  by_cases q2 : isK s o [14] = true
  · rw [if_pos q2] at h
    exact Or.inr (Or.inr (Or.inl ⟨q2, _, _, by decide, by decide, (met_FX14_kind _ _ h).2⟩))
  rw [if_neg q2] at h
  by_cases q3 : isK s o [15] = true
  · rw [if_pos q3] at h
    exact Or.inr (Or.inr (Or.inr (⟨q3, _, _, by decide, by decide, (met_FX15_kind _ _ h).2⟩)))
  rw [if_neg q3] at h
  cases h
theorem met_FX0_light {l : Launch} {E : CE} {s : CS} : ∀ (x0 : Nat) (x1 : Int32) (x2 : Int32) (x3 : Int32) (z : Int32), FX0_light s x0 x1 x2 x3 = some z → (isK s x0 [0] = true ∧ cMet_i l E yX0_light (ws_ yX0_light cX0_light 5 (some .int)) 2 44 [.ref x0, .int x1, .int x2, .int x3] s z s) := by
  intro x0 x1 x2 x3 z h
  unfold FX0_light at h
  obtain ⟨hg, h⟩ := gd_of h
  refine ⟨hg, c_met_i ⟨Nat.le_refl _, Nat.le_refl _⟩ (by decide +kernel) rfl (fun X hl hin T hR e => ?_)⟩
  have T : cOK X E cX0_light RX0 5 (some .int) _ _ _ _ := T
  have hX := T.1
  show cW X _ _ s 0 [(0, .ref x0), (1, .int x1), (2, .int x2), (3, .int x3)] []
  refine cw (k_aload_n hX dX0_light_0 rfl 0 rfl) ?_
  refine cg_X0_35 T h dX0_light_1 (fun r1 h => ?_)
  refine cw (k_iload_n hX dX0_light_4 rfl 1 rfl) ?_
  refine cw (k_iload_n hX dX0_light_5 rfl 2 rfl) ?_
  obtain ⟨p2, e_p2, hq_p2⟩ := nn_of h
  subst e_p2
  have h := hq_p2
  show cW X _ _ _ 6 [(0, .ref x0), (1, .int x1), (2, .int x2), (3, .int x3)] [.int x2, .int x1, .ref p2]
  refine cX_X0_149 T met_FX2_isCorner (c_room hR rfl rfl) h rfl dX0_light_6 (fun v3 h => ?_)
  refine c_br h (k_if_eq (tgt := 21) hX h dX0_light_9 (by decide)) (fun h => ?_) (fun h => ?_)
  · refine cw (k_iconst (v := (-1)) hX dX0_light_21 (by decide)) ?_
    exact c_ret_ir T e h dX0_light_22
  · refine cw (k_iload_n hX dX0_light_12 rfl 3 rfl) ?_
    refine cw (k_iconst (v := 0) hX dX0_light_13 (by decide)) ?_
    refine cw (k_iconst (v := 5) hX dX0_light_14 (by decide)) ?_
    refine cX_X0_127 T met_FX0_in (c_room hR rfl rfl) h rfl dX0_light_15 (fun v4 h => ?_)
    refine c_brn h (k_if_ne (tgt := 23) hX h dX0_light_18 (by decide)) (fun h => ?_) (fun h => ?_)
    · refine cw (k_iload_n hX dX0_light_23 rfl 3 rfl) ?_
      refine cw (k_iconst (v := 5) hX dX0_light_24 (by decide)) ?_
      refine c_brn h (k_icmp_ne (tgt := 43) hX h dX0_light_25 (by decide)) (fun h => ?_) (fun h => ?_)
      · refine cw (k_aload_n hX dX0_light_43 rfl 0 rfl) ?_
        refine cw (k_iload_n hX dX0_light_44 rfl 1 rfl) ?_
        refine cw (k_iload_n hX dX0_light_45 rfl 2 rfl) ?_
        refine cX_X0_140 T met_FX0_lightAt (c_room hR rfl rfl) h rfl dX0_light_46 (fun r5 h => ?_)
        refine cw (k_astoreO [(4, va_rf r5), (0, .ref x0), (1, .int x1), (2, .int x2), (3, .int x3)] hX dX0_light_49 rfl rfl) ?_
        refine cw (k_aloadO hX dX0_light_51 0 rfl) ?_
        rcases r5 with _ | p6
        · replace h := nul_n h
          show cW X _ _ _ 53 [(4, .null), (0, .ref x0), (1, .int x1), (2, .int x2), (3, .int x3)] [.null]
          refine cw (k_ifnonnullN hX dX0_light_53) ?_
          refine cw (k_iconst (v := (-1)) hX dX0_light_56 (by decide)) ?_
          exact c_ret_ir T e h dX0_light_57
        · replace h := nul_s h
          show cW X _ _ _ 53 [(4, .ref p6), (0, .ref x0), (1, .int x1), (2, .int x2), (3, .int x3)] [.ref p6]
          refine cw (k_ifnonnullS (tgt := 58) hX dX0_light_53 (by decide)) ?_
          refine cw (k_iload_n hX dX0_light_58 rfl 4 rfl) ?_
          refine c_brn h (k_if_ne (tgt := 70) hX h dX0_light_59 (by decide)) (fun h => ?_) (fun h => ?_)
          · refine cw (k_iload_n hX dX0_light_70 rfl 4 rfl) ?_
            refine cw (k_iconst (v := 1) hX dX0_light_71 (by decide)) ?_
            refine c_brn h (k_icmp_ne (tgt := 83) hX h dX0_light_72 (by decide)) (fun h => ?_) (fun h => ?_)
            · refine cw (k_iload_n hX dX0_light_83 rfl 4 rfl) ?_
              refine cw (k_iconst (v := 2) hX dX0_light_84 (by decide)) ?_
              refine c_brn h (k_icmp_ne (tgt := 96) hX h dX0_light_85 (by decide)) (fun h => ?_) (fun h => ?_)
              · refine cw (k_iload_n hX dX0_light_96 rfl 4 rfl) ?_
                refine cw (k_iconst (v := 3) hX dX0_light_97 (by decide)) ?_
                refine c_brn h (k_icmp_ne (tgt := 109) hX h dX0_light_98 (by decide)) (fun h => ?_) (fun h => ?_)
                · refine cw (k_aload_n hX dX0_light_109 rfl 1 rfl) ?_
                  refine cg_X0_49 T h dX0_light_110 (fun r7 h => ?_)
                  obtain ⟨p8, e_p8, hq_p8⟩ := nn_of h
                  subst e_p8
                  have h := hq_p8
                  show cW X _ _ _ 113 [(4, .ref p6), (0, .ref x0), (1, .int x1), (2, .int x2), (3, .int x3)] [.ref p8]
                  refine cg_X0_169 T h dX0_light_113 (fun r9 h => ?_)
                  refine cw (k_iload_n hX dX0_light_116 rfl 3 rfl) ?_
                  refine cw (k_bipush (v := 6) hX dX0_light_117 (by decide)) ?_
                  refine cw (k_imul hX dX0_light_119) ?_
                  refine cw (k_iload_n hX dX0_light_120 rfl 2 rfl) ?_
                  refine cw (k_iadd hX dX0_light_121) ?_
                  obtain ⟨p10, e_p10, hq_p10⟩ := nn_of h
                  subst e_p10
                  have h := hq_p10
                  show cW X _ _ _ 122 [(4, .ref p6), (0, .ref x0), (1, .int x1), (2, .int x2), (3, .int x3)] [.int ((x2 * 6) + x1), .ref p10]
                  refine ca_zld T h dX0_light_122 (fun v11 h => ?_)
                  refine c_br h (k_if_eq (tgt := 130) hX h dX0_light_123 (by decide)) (fun h => ?_) (fun h => ?_)
                  · refine cw (k_iconst (v := 0) hX dX0_light_130 (by decide)) ?_
                    exact c_ret_ir T e h dX0_light_131
                  · refine cw (k_iconst (v := 1) hX dX0_light_126 (by decide)) ?_
                    refine cw (k_goto (tgt := 131) hX dX0_light_127 (by decide)) ?_
                    exact c_ret_ir T e h dX0_light_131
                · refine cw (k_aload hX dX0_light_101 0 rfl) ?_
                  refine cg_X0_166 T h dX0_light_103 (fun v12 h => ?_)
                  refine cw (k_goto (tgt := 131) hX dX0_light_106 (by decide)) ?_
                  exact c_ret_ir T e h dX0_light_131
              · refine cw (k_aload hX dX0_light_88 0 rfl) ?_
                refine cg_X0_163 T h dX0_light_90 (fun v13 h => ?_)
                refine cw (k_goto (tgt := 131) hX dX0_light_93 (by decide)) ?_
                exact c_ret_ir T e h dX0_light_131
            · refine cw (k_aload hX dX0_light_75 0 rfl) ?_
              refine cg_X0_160 T h dX0_light_77 (fun v14 h => ?_)
              refine cw (k_goto (tgt := 131) hX dX0_light_80 (by decide)) ?_
              exact c_ret_ir T e h dX0_light_131
          · refine cw (k_aload hX dX0_light_62 0 rfl) ?_
            refine cX_X0_156 T met_V11_kind (fun k hk => c_room hR rfl (Nat.ble_eq.mpr (by omega))) h rfl dX0_light_64 (fun v15 h => ?_)
            refine cw (k_goto (tgt := 131) hX dX0_light_67 (by decide)) ?_
            exact c_ret_ir T e h dX0_light_131
      · refine cw (k_aload_n hX dX0_light_28 rfl 0 rfl) ?_
        refine cg_X0_35 T h dX0_light_29 (fun r16 h => ?_)
        obtain ⟨p17, e_p17, hq_p17⟩ := nn_of h
        subst e_p17
        have h := hq_p17
        show cW X _ _ _ 32 [(0, .ref x0), (1, .int x1), (2, .int x2), (3, .int x3)] [.ref p17]
        refine cg_X0_153 T h dX0_light_32 (fun r18 h => ?_)
        refine cw (k_iload_n hX dX0_light_35 rfl 2 rfl) ?_
        refine cw (k_bipush (v := 6) hX dX0_light_36 (by decide)) ?_
        refine cw (k_imul hX dX0_light_38) ?_
        refine cw (k_iload_n hX dX0_light_39 rfl 1 rfl) ?_
        refine cw (k_iadd hX dX0_light_40) ?_
        obtain ⟨p19, e_p19, hq_p19⟩ := nn_of h
        subst e_p19
        have h := hq_p19
        show cW X _ _ _ 41 [(0, .ref x0), (1, .int x1), (2, .int x2), (3, .int x3)] [.int ((x2 * 6) + x1), .ref p19]
        refine ca_ild T h dX0_light_41 (fun v20 h => ?_)
        exact c_ret_ir T e h dX0_light_42
    · refine cw (k_iconst (v := (-1)) hX dX0_light_21 (by decide)) ?_
      exact c_ret_ir T e h dX0_light_22
theorem FX0_lives_b131_ok {X : KC CS} {E : CE} {z : (Int32 × CS)} {z0 l0 z1 l1 : Nat} (T : cOK X E cX0_lives RX0 9 (some .int) z0 l0 z1 l1) (hR : cRoom X 603 29474) (e : cE_i X E z0 l0 z1 l1 z.1 z.2) {nf : Nat} {k55 : Nat → Nat → Int32 → Int32 → Int32 → CS → Option (Int32 × CS)} (hk55 : ∀ (x0 : Nat) (x1 : Nat) (x2 : Int32) (x3 : Int32) (x4 : Int32) (s : CS), k55 x0 x1 x2 x3 x4 s = some z → cW X z1 l1 s 55 [(0, .ref x0), (1, .ref x1), (2, .int x2), (3, .int x3), (4, .int x4)] []) {x0 : Nat} {x1 : Nat} {x2 : Int32} {x3 : Int32} {x8 : Int32} {s_0 : Int32} {s_1 : Int32} {s : CS} (h : FX0_lives_b131 nf k55 x0 x1 x2 x3 x8 s_0 s_1 s = some z) : cW X z1 l1 s 131 [(0, .ref x0), (1, .ref x1), (2, .int x2), (3, .int x3), (8, .int x8)] [.int s_0, .int s_1] := by
  unfold FX0_lives_b131 at h
  have hX := T.1
  refine cw (k_aload_n hX dX0_lives_131 rfl 0 rfl) ?_
  refine cg_X0_35 T h dX0_lives_132 (fun r1 h => ?_)
  obtain ⟨p2, e_p2, hq_p2⟩ := nn_of h
  subst e_p2
  have h := hq_p2
  show cW X z1 l1 _ 135 [(0, .ref x0), (1, .ref x1), (2, .int x2), (3, .int x3), (8, .int x8)] [.ref p2, .int s_0, .int s_1]
  refine cX_X0_217 T met_FX2_walk (c_room hR rfl rfl) h rfl dX0_lives_135 (fun v3 h => ?_)
  refine cw (k_iadd hX dX0_lives_138) ?_
  refine cw (k_iadd hX dX0_lives_139) ?_
  refine c_nm h (fun v4 h => ?_)
  refine cw (k_istore [(4, .int v4), (0, .ref x0), (1, .ref x1), (2, .int x2), (3, .int x3), (8, .int x8)] hX dX0_lives_140 rfl rfl) ?_
  refine cw (k_iload hX dX0_lives_142 5 rfl) ?_
  refine c_brn h (k_if_ne (tgt := 153) hX h dX0_lives_144 (by decide)) (fun h => ?_) (fun h => ?_)
  · refine cw (k_iinc (j := 4) [(3, .int (x3 + 1)), (4, .int v4), (0, .ref x0), (1, .ref x1), (2, .int x2), (8, .int x8)] hX dX0_lives_153 rfl rfl rfl rfl) ?_
    refine cw (k_goto (tgt := 55) hX dX0_lives_156 (by decide)) ?_
    refine cw (k_lv (lv' := [(0, .ref x0), (1, .ref x1), (2, .int x2), (3, .int (x3 + 1)), (4, .int v4)]) [2, 3, 4, 0, 1] rfl) ?_
    exact hk55 _ _ _ _ _ _ h
  · refine cw (k_iinc (j := 3) [(2, .int (x2 + 1)), (4, .int v4), (0, .ref x0), (1, .ref x1), (3, .int x3), (8, .int x8)] hX dX0_lives_147 rfl rfl rfl rfl) ?_
    refine cw (k_goto (tgt := 156) hX dX0_lives_150 (by decide)) ?_
    refine cw (k_goto (tgt := 55) hX dX0_lives_156 (by decide)) ?_
    refine cw (k_lv (lv' := [(0, .ref x0), (1, .ref x1), (2, .int (x2 + 1)), (3, .int x3), (4, .int v4)]) [2, 3, 0, 4, 1] rfl) ?_
    exact hk55 _ _ _ _ _ _ h
theorem FX0_lives_b55_s_ok {X : KC CS} {E : CE} {z : (Int32 × CS)} {z0 l0 z1 l1 : Nat} (T : cOK X E cX0_lives RX0 9 (some .int) z0 l0 z1 l1) (hR : cRoom X 603 29474) (e : cE_i X E z0 l0 z1 l1 z.1 z.2) {nf : Nat} {k55 : Nat → Nat → Int32 → Int32 → Int32 → CS → Option (Int32 × CS)} (hk55 : ∀ (x0 : Nat) (x1 : Nat) (x2 : Int32) (x3 : Int32) (x4 : Int32) (s : CS), k55 x0 x1 x2 x3 x4 s = some z → cW X z1 l1 s 55 [(0, .ref x0), (1, .ref x1), (2, .int x2), (3, .int x3), (4, .int x4)] []) {x0 : Nat} {x1 : Nat} {x2 : Int32} {x3 : Int32} {x4 : Int32} {s : CS} (h : FX0_lives_b55_s nf k55 x0 x1 x2 x3 x4 s = some z) : cW X z1 l1 s 55 [(0, .ref x0), (1, .ref x1), (2, .int x2), (3, .int x3), (4, .int x4)] [] := by
  unfold FX0_lives_b55_s at h
  have hX := T.1
  refine cw (k_aload_n hX dX0_lives_55 rfl 0 rfl) ?_
  refine cw (k_iload_n hX dX0_lives_56 rfl 2 rfl) ?_
  refine cw (k_iload_n hX dX0_lives_57 rfl 3 rfl) ?_
  refine cX_X0_278 T met_FX0_isHome (c_room hR rfl rfl) h rfl dX0_lives_58 (fun v1 h => ?_)
  refine c_brn h (k_if_ne (tgt := 159) hX h dX0_lives_61 (by decide)) (fun h => ?_) (fun h => ?_)
  · refine cw (k_iload hX dX0_lives_159 4 rfl) ?_
    exact c_ret_i T e h dX0_lives_161
  · refine cw (k_iload hX dX0_lives_64 4 rfl) ?_
    refine cw (k_aload_n hX dX0_lives_66 rfl 0 rfl) ?_
    refine cg_X0_90 T h dX0_lives_67 (fun r2 h => ?_)
    refine cw (k_iload_n hX dX0_lives_70 rfl 3 rfl) ?_
    refine cw (k_bipush (v := 6) hX dX0_lives_71 (by decide)) ?_
    refine cw (k_imul hX dX0_lives_73) ?_
    refine cw (k_iload_n hX dX0_lives_74 rfl 2 rfl) ?_
    refine cw (k_iadd hX dX0_lives_75) ?_
    obtain ⟨p3, e_p3, hq_p3⟩ := nn_of h
    subst e_p3
    have h := hq_p3
    show cW X z1 l1 _ 76 [(0, .ref x0), (1, .ref x1), (2, .int x2), (3, .int x3), (4, .int x4)] [.int ((x3 * 6) + x2), .ref p3, .int x4]
    refine ca_ild T h dX0_lives_76 (fun v4 h => ?_)
    refine cw (k_iadd hX dX0_lives_77) ?_
    refine c_nm h (fun v5 h => ?_)
    refine cw (k_istore [(5, .int v5), (0, .ref x0), (1, .ref x1), (2, .int x2), (3, .int x3), (4, .int x4)] hX dX0_lives_78 rfl rfl) ?_
    refine cw (k_aload_n hX dX0_lives_80 rfl 1 rfl) ?_
    refine cw (k_iload_n hX dX0_lives_81 rfl 3 rfl) ?_
    refine cw (k_iload_n hX dX0_lives_82 rfl 4 rfl) ?_
    refine cw (k_iconst (v := 0) hX dX0_lives_83 (by decide)) ?_
    refine cw (k_iload hX dX0_lives_84 0 rfl) ?_
    refine cX_X0_191 T met_FX0_waits (c_room hR rfl rfl) h rfl dX0_lives_86 (fun v6 h => ?_)
    refine cw (k_istore [(6, .int v6), (5, .int v5), (0, .ref x0), (1, .ref x1), (2, .int x2), (3, .int x3), (4, .int x4)] hX dX0_lives_89 rfl rfl) ?_
    refine cw (k_aload_n hX dX0_lives_91 rfl 2 rfl) ?_
    refine cw (k_iload_n hX dX0_lives_92 rfl 4 rfl) ?_
    refine cw (k_iload_n hX dX0_lives_93 rfl 5 rfl) ?_
    refine cw (k_iconst (v := 1) hX dX0_lives_94 (by decide)) ?_
    refine cw (k_iload hX dX0_lives_95 1 rfl) ?_
    refine cX_X0_191 T met_FX0_waits (c_room hR rfl rfl) h rfl dX0_lives_97 (fun v7 h => ?_)
    refine cw (k_istore [(7, .int v7), (6, .int v6), (5, .int v5), (0, .ref x0), (1, .ref x1), (2, .int x2), (3, .int x3), (4, .int x4)] hX dX0_lives_100 rfl rfl) ?_
    refine cw (k_aload_n hX dX0_lives_102 rfl 3 rfl) ?_
    refine cw (k_aload_n hX dX0_lives_103 rfl 4 rfl) ?_
    refine cw (k_iload_n hX dX0_lives_104 rfl 5 rfl) ?_
    refine cw (k_iload_n hX dX0_lives_105 rfl 6 rfl) ?_
    refine cw (k_iload hX dX0_lives_106 7 rfl) ?_
    refine cw (k_iload hX dX0_lives_108 1 rfl) ?_
    refine cw (k_iload hX dX0_lives_110 0 rfl) ?_
    refine cX_X0_265 T met_FX0_wayOf (c_room hR rfl rfl) h rfl dX0_lives_112 (fun v9 s8 h => ?_)
    refine cw (k_istore [(8, .int v9), (7, .int v7), (6, .int v6), (5, .int v5), (0, .ref x0), (1, .ref x1), (2, .int x2), (3, .int x3), (4, .int x4)] hX dX0_lives_115 rfl rfl) ?_
    refine cw (k_iload hX dX0_lives_117 8 rfl) ?_
    refine cw (k_iload hX dX0_lives_119 0 rfl) ?_
    refine c_brn h (k_if_ne (tgt := 129) hX h dX0_lives_121 (by decide)) (fun h => ?_) (fun h => ?_)
    · refine cw (k_iload hX dX0_lives_129 1 rfl) ?_
      refine cw (k_lv (lv' := [(0, .ref x0), (1, .ref x1), (2, .int x2), (3, .int x3), (8, .int v9)]) [4, 5, 6, 7, 0] rfl) ?_
      exact FX0_lives_b131_ok T hR e hk55 h
    · refine cw (k_iload hX dX0_lives_124 2 rfl) ?_
      refine cw (k_goto (tgt := 131) hX dX0_lives_126 (by decide)) ?_
      refine cw (k_lv (lv' := [(0, .ref x0), (1, .ref x1), (2, .int x2), (3, .int x3), (8, .int v9)]) [4, 5, 6, 7, 0] rfl) ?_
      exact FX0_lives_b131_ok T hR e hk55 h
theorem FX0_lives_b55_ok {X : KC CS} {E : CE} {z : (Int32 × CS)} {z0 l0 z1 l1 : Nat} (T : cOK X E cX0_lives RX0 9 (some .int) z0 l0 z1 l1) (hR : cRoom X 603 29474) (e : cE_i X E z0 l0 z1 l1 z.1 z.2) {nf : Nat} : ∀ (n : Nat) (x0 : Nat) (x1 : Nat) (x2 : Int32) (x3 : Int32) (x4 : Int32) (s : CS), FX0_lives_b55 nf n x0 x1 x2 x3 x4 s = some z → cW X z1 l1 s 55 [(0, .ref x0), (1, .ref x1), (2, .int x2), (3, .int x3), (4, .int x4)] [] := by
  intro n
  induction n with
  | zero => intro x0 x1 x2 x3 x4 s h; exact (nomatch (show (none : Option (Int32 × CS)) = some z from h))
  | succ n ih =>
    intro x0 x1 x2 x3 x4 s h
    have h : FX0_lives_b55_s nf (FX0_lives_b55 nf n) x0 x1 x2 x3 x4 s = some z := h
    exact FX0_lives_b55_s_ok T hR e ih h
theorem FX0_lives_b2_s_ok {X : KC CS} {E : CE} {z : (Int32 × CS)} {z0 l0 z1 l1 : Nat} (T : cOK X E cX0_lives RX0 9 (some .int) z0 l0 z1 l1) (hR : cRoom X 603 29474) (e : cE_i X E z0 l0 z1 l1 z.1 z.2) {nf : Nat} {k2 : Nat → Nat → Int32 → CS → Option (Int32 × CS)} (hk2 : ∀ (x0 : Nat) (x1 : Nat) (x2 : Int32) (s : CS), k2 x0 x1 x2 s = some z → cW X z1 l1 s 2 [(0, .ref x0), (1, .ref x1), (2, .int x2)] []) {x0 : Nat} {x1 : Nat} {x2 : Int32} {s : CS} (h : FX0_lives_b2_s nf k2 x0 x1 x2 s = some z) : cW X z1 l1 s 2 [(0, .ref x0), (1, .ref x1), (2, .int x2)] [] := by
  unfold FX0_lives_b2_s at h
  have hX := T.1
  refine cw (k_iload_n hX dX0_lives_2 rfl 2 rfl) ?_
  refine cw (k_bipush (v := 54) hX dX0_lives_3 (by decide)) ?_
  refine c_br h (k_icmp_ge (tgt := 48) hX h dX0_lives_5 (by decide)) (fun h => ?_) (fun h => ?_)
  · refine cw (k_iconst (v := 0) hX dX0_lives_48 (by decide)) ?_
    refine cw (k_istore_n [(2, .int 0), (0, .ref x0), (1, .ref x1)] hX dX0_lives_49 rfl rfl rfl) ?_
    refine cw (k_iconst (v := 0) hX dX0_lives_50 (by decide)) ?_
    refine cw (k_istore_n [(3, .int 0), (2, .int 0), (0, .ref x0), (1, .ref x1)] hX dX0_lives_51 rfl rfl rfl) ?_
    refine cw (k_iconst (v := 0) hX dX0_lives_52 (by decide)) ?_
    refine cw (k_istore [(4, .int 0), (3, .int 0), (2, .int 0), (0, .ref x0), (1, .ref x1)] hX dX0_lives_53 rfl rfl) ?_
    refine cw (k_lv (lv' := [(0, .ref x0), (1, .ref x1), (2, .int 0), (3, .int 0), (4, .int 0)]) [3, 4, 2, 1, 0] rfl) ?_
    exact FX0_lives_b55_ok T hR e _ _ _ _ _ _ _ h
  · refine cw (k_aload_n hX dX0_lives_8 rfl 0 rfl) ?_
    refine cg_X0_90 T h dX0_lives_9 (fun r1 h => ?_)
    refine cw (k_iload_n hX dX0_lives_12 rfl 2 rfl) ?_
    refine cw (k_aload_n hX dX0_lives_13 rfl 0 rfl) ?_
    refine cw (k_iload_n hX dX0_lives_14 rfl 2 rfl) ?_
    refine cX_X0_222 T met_FX0_isUnknown (c_room hR rfl rfl) h (by cases r1 <;> rfl) dX0_lives_15 (fun v2 h => ?_)
    refine c_br h (k_if_eq (tgt := 40) hX h dX0_lives_18 (by decide)) (fun h => ?_) (fun h => ?_)
    · refine cw (k_iconst (v := 0) hX dX0_lives_40 (by decide)) ?_
      obtain ⟨p3, e_p3, hq_p3⟩ := nn_of h
      subst e_p3
      have h := hq_p3
      show cW X z1 l1 _ 41 [(0, .ref x0), (1, .ref x1), (2, .int x2)] [.int 0, .int x2, .ref p3]
      refine ca_ist T h dX0_lives_41 (fun s4 h => ?_)
      refine cw (k_iinc (j := 2) [(2, .int (x2 + 1)), (0, .ref x0), (1, .ref x1)] hX dX0_lives_42 rfl rfl rfl rfl) ?_
      refine cw (k_goto (tgt := 2) hX dX0_lives_45 (by decide)) ?_
      refine cw (k_lv (lv' := [(0, .ref x0), (1, .ref x1), (2, .int (x2 + 1))]) [1, 2, 0] rfl) ?_
      exact hk2 _ _ _ _ h
    · refine cw (k_aload_n hX dX0_lives_21 rfl 0 rfl) ?_
      refine cw (k_aload_n hX dX0_lives_22 rfl 0 rfl) ?_
      refine cg_X0_35 T h dX0_lives_23 (fun r5 h => ?_)
      obtain ⟨p6, e_p6, hq_p6⟩ := nn_of h
      subst e_p6
      have h := hq_p6
      show cW X z1 l1 _ 26 [(0, .ref x0), (1, .ref x1), (2, .int x2)] [.ref p6, .ref x0, .int x2, va_rf r1]
      refine cg_X0_122 T h dX0_lives_26 (fun r7 h => ?_)
      refine cw (k_iload_n hX dX0_lives_29 rfl 2 rfl) ?_
      obtain ⟨p8, e_p8, hq_p8⟩ := nn_of h
      subst e_p8
      have h := hq_p8
      show cW X z1 l1 _ 30 [(0, .ref x0), (1, .ref x1), (2, .int x2)] [.int x2, .ref p8, .ref x0, .int x2, va_rf r1]
      refine ca_qld104 T h dX0_lives_30 (fun r9 h => ?_)
      obtain ⟨p10, e_p10, hq_p10⟩ := nn_of h
      subst e_p10
      have h := hq_p10
      show cW X z1 l1 _ 31 [(0, .ref x0), (1, .ref x1), (2, .int x2)] [.ref p10, .ref x0, .int x2, va_rf r1]
      refine cg_X0_160 T h dX0_lives_31 (fun v11 h => ?_)
      refine cX_X0_450 T met_FX0_draws (c_room hR rfl rfl) h (by cases r1 <;> rfl) dX0_lives_34 (fun v13 s12 h => ?_)
      refine cw (k_goto (tgt := 41) hX dX0_lives_37 (by decide)) ?_
      obtain ⟨p14, e_p14, hq_p14⟩ := nn_of h
      subst e_p14
      have h := hq_p14
      show cW X z1 l1 _ 41 [(0, .ref x0), (1, .ref x1), (2, .int x2)] [.int v13, .int x2, .ref p14]
      refine ca_ist T h dX0_lives_41 (fun s15 h => ?_)
      refine cw (k_iinc (j := 2) [(2, .int (x2 + 1)), (0, .ref x0), (1, .ref x1)] hX dX0_lives_42 rfl rfl rfl rfl) ?_
      refine cw (k_goto (tgt := 2) hX dX0_lives_45 (by decide)) ?_
      refine cw (k_lv (lv' := [(0, .ref x0), (1, .ref x1), (2, .int (x2 + 1))]) [1, 2, 0] rfl) ?_
      exact hk2 _ _ _ _ h
theorem FX0_lives_b2_ok {X : KC CS} {E : CE} {z : (Int32 × CS)} {z0 l0 z1 l1 : Nat} (T : cOK X E cX0_lives RX0 9 (some .int) z0 l0 z1 l1) (hR : cRoom X 603 29474) (e : cE_i X E z0 l0 z1 l1 z.1 z.2) {nf : Nat} : ∀ (n : Nat) (x0 : Nat) (x1 : Nat) (x2 : Int32) (s : CS), FX0_lives_b2 nf n x0 x1 x2 s = some z → cW X z1 l1 s 2 [(0, .ref x0), (1, .ref x1), (2, .int x2)] [] := by
  intro n
  induction n with
  | zero => intro x0 x1 x2 s h; exact (nomatch (show (none : Option (Int32 × CS)) = some z from h))
  | succ n ih =>
    intro x0 x1 x2 s h
    have h : FX0_lives_b2_s nf (FX0_lives_b2 nf n) x0 x1 x2 s = some z := h
    exact FX0_lives_b2_s_ok T hR e ih h
theorem met_FX0_lives {l : Launch} {E : CE} {nf : Nat} : ∀ (x0 : Nat) (x1 : Nat) (s : CS) (z : (Int32 × CS)), FX0_lives nf x0 x1 s = some z → (isK s x0 [0] = true ∧ cMet_i l E yX0_lives (ws_ yX0_lives cX0_lives 9 (some .int)) 603 29474 [.ref x0, .ref x1] s z.1 z.2) := by
  intro x0 x1 s z h
  unfold FX0_lives at h
  obtain ⟨hm, h⟩ := mz_of h
  obtain ⟨hg, h⟩ := gd_of h
  refine ⟨hg, c_met_i hm (by decide +kernel) rfl (fun X hl hin T hR e => ?_)⟩
  have T : cOK X E cX0_lives RX0 9 (some .int) _ _ _ _ := T
  have hX := T.1
  show cW X _ _ s 0 [(0, .ref x0), (1, .ref x1)] []
  refine cw (k_iconst (v := 0) hX dX0_lives_0 (by decide)) ?_
  refine cw (k_istore_n [(2, .int 0), (0, .ref x0), (1, .ref x1)] hX dX0_lives_1 rfl rfl rfl) ?_
  refine cw (k_lv (lv' := [(0, .ref x0), (1, .ref x1), (2, .int 0)]) [1, 2, 0] rfl) ?_
  exact FX0_lives_b2_ok T hR e _ _ _ _ _ h
theorem met_FX0_look {l : Launch} {E : CE} {nf : Nat} : ∀ (x0 : Nat) (s : CS) (z : (Int32 × CS)), FX0_look nf x0 s = some z → (isK s x0 [0] = true ∧ cMet_i l E yX0_look (ws_ yX0_look cX0_look 2 (some .boolean)) 3 82 [.ref x0] s z.1 z.2) := by
  intro x0 s z h
  unfold FX0_look at h
  obtain ⟨hm, h⟩ := mz_of h
  obtain ⟨hg, h⟩ := gd_of h
  refine ⟨hg, c_met_i hm (by decide +kernel) rfl (fun X hl hin T hR e => ?_)⟩
  have T : cOK X E cX0_look RX0 2 (some .boolean) _ _ _ _ := T
  have hX := T.1
  show cW X _ _ s 0 [(0, .ref x0)] []
  refine cw (k_aload_n hX dX0_look_0 rfl 0 rfl) ?_
  refine cg_X0_49 T h dX0_look_1 (fun r1 h => ?_)
  obtain ⟨p2, e_p2, hq_p2⟩ := nn_of h
  subst e_p2
  have h := hq_p2
  show cW X _ _ _ 4 [(0, .ref x0)] [.ref p2]
  refine cg_X0_200 T h dX0_look_4 (fun v3 h => ?_)
  refine cw (k_bipush (v := 6) hX dX0_look_7 (by decide)) ?_
  refine cw (k_imul hX dX0_look_9) ?_
  refine cw (k_aload_n hX dX0_look_10 rfl 0 rfl) ?_
  refine cg_X0_49 T h dX0_look_11 (fun r4 h => ?_)
  obtain ⟨p5, e_p5, hq_p5⟩ := nn_of h
  subst e_p5
  have h := hq_p5
  show cW X _ _ _ 14 [(0, .ref x0)] [.ref p5, .int (v3 * 6)]
  refine cg_X0_197 T h dX0_look_14 (fun v6 h => ?_)
  refine cw (k_iadd hX dX0_look_17) ?_
  refine c_nm h (fun v7 h => ?_)
  refine cw (k_istore_n [(1, .int v7), (0, .ref x0)] hX dX0_look_18 rfl rfl rfl) ?_
  refine cw (k_aload_n hX dX0_look_19 rfl 1 rfl) ?_
  refine cw (k_iload_n hX dX0_look_20 rfl 0 rfl) ?_
  refine cX_X0_222 T met_FX0_isUnknown (c_room hR rfl rfl) h rfl dX0_look_21 (fun v8 h => ?_)
  refine c_brn h (k_if_ne (tgt := 29) hX h dX0_look_24 (by decide)) (fun h => ?_) (fun h => ?_)
  · refine cw (k_aload_n hX dX0_look_29 rfl 1 rfl) ?_
    refine cX_X0_211 T met_FX0_keeps (c_room hR rfl rfl) h rfl dX0_look_30 (fun s9 h => ?_)
    refine cw (k_aload_n hX dX0_look_33 rfl 1 rfl) ?_
    refine cg_X0_49 T h dX0_look_34 (fun r10 h => ?_)
    obtain ⟨p11, e_p11, hq_p11⟩ := nn_of h
    subst e_p11
    have h := hq_p11
    show cW X _ _ _ 37 [(1, .int v7), (0, .ref x0)] [.ref p11]
    refine cg_X0_169 T h dX0_look_37 (fun r12 h => ?_)
    refine cw (k_iload_n hX dX0_look_40 rfl 0 rfl) ?_
    refine cw (k_iconst (v := 1) hX dX0_look_41 (by decide)) ?_
    obtain ⟨p13, e_p13, hq_p13⟩ := nn_of h
    subst e_p13
    have h := hq_p13
    show cW X _ _ _ 42 [(1, .int v7), (0, .ref x0)] [.int 1, .int v7, .ref p13]
    refine ca_zst T h dX0_look_42 (fun s14 h => ?_)
    refine cw (k_iconst (v := 1) hX dX0_look_43 (by decide)) ?_
    exact c_ret_zc T e rfl h dX0_look_44
  · refine cw (k_iconst (v := 0) hX dX0_look_27 (by decide)) ?_
    exact c_ret_zc T e rfl h dX0_look_28
theorem FX0_mark_b46_ok {X : KC CS} {E : CE} {z : (Int32 × CS)} {z0 l0 z1 l1 : Nat} (T : cOK X E cX0_mark RX0 3 (some .boolean) z0 l0 z1 l1) (hR : cRoom X 2 60) (e : cE_i X E z0 l0 z1 l1 z.1 z.2) {nf : Nat} {x0 : Nat} {x1 : Int32} {x2 : Int32} {s : CS} (h : FX0_mark_b46 nf x0 x1 x2 s = some z) : cW X z1 l1 s 46 [(0, .ref x0), (1, .int x1), (2, .int x2)] [] := by
  unfold FX0_mark_b46 at h
  have hX := T.1
  refine cw (k_iload_n hX dX0_mark_46 rfl 2 rfl) ?_
  refine c_br h (k_if_eq (tgt := 71) hX h dX0_mark_47 (by decide)) (fun h => ?_) (fun h => ?_)
  · refine cw (k_aload_n hX dX0_mark_71 rfl 0 rfl) ?_
    refine cg_X0_93 T h dX0_mark_72 (fun r1 h => ?_)
    refine cw (k_iload_n hX dX0_mark_75 rfl 1 rfl) ?_
    obtain ⟨p2, e_p2, hq_p2⟩ := nn_of h
    subst e_p2
    have h := hq_p2
    show cW X z1 l1 _ 76 [(0, .ref x0), (1, .int x1), (2, .int x2)] [.int x1, .ref p2]
    refine ca_qld105 T h dX0_mark_76 (fun r3 h => ?_)
    refine cw (k_aload_n hX dX0_mark_77 rfl 0 rfl) ?_
    refine cg_X0_49 T h dX0_mark_78 (fun r4 h => ?_)
    obtain ⟨p5, e_p5, hq_p5⟩ := nn_of h
    subst e_p5
    have h := hq_p5
    show cW X z1 l1 _ 81 [(0, .ref x0), (1, .int x1), (2, .int x2)] [va_rf r4, .ref p5]
    obtain ⟨p6, e_p6, hq_p6⟩ := nn_of h
    subst e_p6
    have h := hq_p6
    show cW X z1 l1 _ 81 [(0, .ref x0), (1, .int x1), (2, .int x2)] [.ref p6, .ref p5]
    refine cX_X0_457 T met_FX8_be (c_room hR rfl rfl) h rfl dX0_mark_81 (fun s7 h => ?_)
    refine cw (k_iconst (v := 1) hX dX0_mark_84 (by decide)) ?_
    exact c_ret_zc T e rfl h dX0_mark_85
  · refine cw (k_aload_n hX dX0_mark_50 rfl 0 rfl) ?_
    refine cg_X0_49 T h dX0_mark_51 (fun r8 h => ?_)
    refine cw (k_aload_n hX dX0_mark_54 rfl 0 rfl) ?_
    refine cg_X0_93 T h dX0_mark_55 (fun r9 h => ?_)
    refine cw (k_iload_n hX dX0_mark_58 rfl 1 rfl) ?_
    obtain ⟨p10, e_p10, hq_p10⟩ := nn_of h
    subst e_p10
    have h := hq_p10
    show cW X z1 l1 _ 59 [(0, .ref x0), (1, .int x1), (2, .int x2)] [.int x1, .ref p10, va_rf r8]
    refine ca_qld105 T h dX0_mark_59 (fun r11 h => ?_)
    obtain ⟨p12, e_p12, hq_p12⟩ := nn_of h
    subst e_p12
    have h := hq_p12
    show cW X z1 l1 _ 60 [(0, .ref x0), (1, .int x1), (2, .int x2)] [va_rf r11, .ref p12]
    obtain ⟨p13, e_p13, hq_p13⟩ := nn_of h
    subst e_p13
    have h := hq_p13
    show cW X z1 l1 _ 60 [(0, .ref x0), (1, .int x1), (2, .int x2)] [.ref p13, .ref p12]
    refine cX_X0_457 T met_FX8_be (c_room hR rfl rfl) h rfl dX0_mark_60 (fun s14 h => ?_)
    refine cw (k_aload_n hX dX0_mark_63 rfl 0 rfl) ?_
    refine cw (k_iconst (v := 0) hX dX0_mark_64 (by decide)) ?_
    refine cp_X0_116 T h dX0_mark_65 (fun s15 h => ?_)
    refine cw (k_goto (tgt := 84) hX dX0_mark_68 (by decide)) ?_
    refine cw (k_iconst (v := 1) hX dX0_mark_84 (by decide)) ?_
    exact c_ret_zc T e rfl h dX0_mark_85
theorem FX0_mark_b24_ok {X : KC CS} {E : CE} {z : (Int32 × CS)} {z0 l0 z1 l1 : Nat} (T : cOK X E cX0_mark RX0 3 (some .boolean) z0 l0 z1 l1) (hR : cRoom X 2 60) (e : cE_i X E z0 l0 z1 l1 z.1 z.2) {nf : Nat} {x0 : Nat} {x1 : Int32} {x2 : Int32} {s : CS} (h : FX0_mark_b24 nf x0 x1 x2 s = some z) : cW X z1 l1 s 24 [(0, .ref x0), (1, .int x1), (2, .int x2)] [] := by
  unfold FX0_mark_b24 at h
  have hX := T.1
  refine cw (k_aload_n hX dX0_mark_24 rfl 0 rfl) ?_
  refine cg_X0_93 T h dX0_mark_25 (fun r1 h => ?_)
  refine cw (k_iload_n hX dX0_mark_28 rfl 1 rfl) ?_
  obtain ⟨p2, e_p2, hq_p2⟩ := nn_of h
  subst e_p2
  have h := hq_p2
  show cW X z1 l1 _ 29 [(0, .ref x0), (1, .int x1), (2, .int x2)] [.int x1, .ref p2]
  refine ca_qld105 T h dX0_mark_29 (fun r3 h => ?_)
  rcases r3 with _ | p4
  · replace h := nul_n h
    show cW X z1 l1 _ 30 [(0, .ref x0), (1, .int x1), (2, .int x2)] [.null]
    refine cw (k_ifnonnullN hX dX0_mark_30) ?_
    refine cw (k_aload_n hX dX0_mark_33 rfl 0 rfl) ?_
    refine cg_X0_93 T h dX0_mark_34 (fun r5 h => ?_)
    refine cw (k_iload_n hX dX0_mark_37 rfl 1 rfl) ?_
    refine c_newO kX8 q430 q431 q151 (nd8 _) T h dX0_mark_38 (fun o6 s7 h => ?_)
    refine cw (k_dup hX dX0_mark_41 rfl) ?_
    refine cX_X0_48 T met_FX8_init (c_room hR rfl rfl) h (by cases r5 <;> rfl) dX0_mark_42 (fun s8 h => ?_)
    obtain ⟨p9, e_p9, hq_p9⟩ := nn_of h
    subst e_p9
    have h := hq_p9
    show cW X z1 l1 _ 45 [(0, .ref x0), (1, .int x1), (2, .int x2)] [.ref o6, .int x1, .ref p9]
    refine ca_ast105 T h dX0_mark_45 (fun s10 h => ?_)
    refine cw (k_lv (lv' := [(0, .ref x0), (1, .int x1), (2, .int x2)]) [0, 1, 2] rfl) ?_
    exact FX0_mark_b46_ok T hR e h
  · replace h := nul_s h
    show cW X z1 l1 _ 30 [(0, .ref x0), (1, .int x1), (2, .int x2)] [.ref p4]
    refine cw (k_ifnonnullS (tgt := 46) hX dX0_mark_30 (by decide)) ?_
    refine cw (k_lv (lv' := [(0, .ref x0), (1, .int x1), (2, .int x2)]) [0, 1, 2] rfl) ?_
    exact FX0_mark_b46_ok T hR e h
theorem met_FX0_mark {l : Launch} {E : CE} {nf : Nat} : ∀ (x0 : Nat) (x1 : Int32) (x2 : Int32) (s : CS) (z : (Int32 × CS)), FX0_mark nf x0 x1 x2 s = some z → (isK s x0 [0] = true ∧ cMet_i l E yX0_mark (ws_ yX0_mark cX0_mark 3 (some .boolean)) 2 60 [.ref x0, .int x1, .int x2] s z.1 z.2) := by
  intro x0 x1 x2 s z h
  unfold FX0_mark at h
  obtain ⟨hm, h⟩ := mz_of h
  obtain ⟨hg, h⟩ := gd_of h
  refine ⟨hg, c_met_i hm (by decide +kernel) rfl (fun X hl hin T hR e => ?_)⟩
  have T : cOK X E cX0_mark RX0 3 (some .boolean) _ _ _ _ := T
  have hX := T.1
  show cW X _ _ s 0 [(0, .ref x0), (1, .int x1), (2, .int x2)] []
  refine cw (k_iload_n hX dX0_mark_0 rfl 1 rfl) ?_
  refine cw (k_iconst (v := 0) hX dX0_mark_1 (by decide)) ?_
  refine cw (k_iconst (v := 3) hX dX0_mark_2 (by decide)) ?_
  refine cX_X0_127 T met_FX0_in (c_room hR rfl rfl) h rfl dX0_mark_3 (fun v1 h => ?_)
  refine c_br h (k_if_eq (tgt := 22) hX h dX0_mark_6 (by decide)) (fun h => ?_) (fun h => ?_)
  · refine cw (k_iconst (v := 0) hX dX0_mark_22 (by decide)) ?_
    exact c_ret_zc T e rfl h dX0_mark_23
  · refine cw (k_iload_n hX dX0_mark_9 rfl 2 rfl) ?_
    refine c_br h (k_if_eq (tgt := 24) hX h dX0_mark_10 (by decide)) (fun h => ?_) (fun h => ?_)
    · refine cw (k_lv (lv' := [(0, .ref x0), (1, .int x1), (2, .int x2)]) [0, 1, 2] rfl) ?_
      exact FX0_mark_b24_ok T hR e h
    · refine cw (k_aload_n hX dX0_mark_13 rfl 0 rfl) ?_
      refine cg_X0_93 T h dX0_mark_14 (fun r2 h => ?_)
      refine cw (k_iload_n hX dX0_mark_17 rfl 1 rfl) ?_
      obtain ⟨p3, e_p3, hq_p3⟩ := nn_of h
      subst e_p3
      have h := hq_p3
      show cW X _ _ _ 18 [(0, .ref x0), (1, .int x1), (2, .int x2)] [.int x1, .ref p3]
      refine ca_qld105 T h dX0_mark_18 (fun r4 h => ?_)
      rcases r4 with _ | p5
      · replace h := nul_n h
        show cW X _ _ _ 19 [(0, .ref x0), (1, .int x1), (2, .int x2)] [.null]
        refine cw (k_ifnonnullN hX dX0_mark_19) ?_
        refine cw (k_iconst (v := 0) hX dX0_mark_22 (by decide)) ?_
        exact c_ret_zc T e rfl h dX0_mark_23
      · replace h := nul_s h
        show cW X _ _ _ 19 [(0, .ref x0), (1, .int x1), (2, .int x2)] [.ref p5]
        refine cw (k_ifnonnullS (tgt := 24) hX dX0_mark_19 (by decide)) ?_
        refine cw (k_lv (lv' := [(0, .ref x0), (1, .int x1), (2, .int x2)]) [0, 1, 2] rfl) ?_
        exact FX0_mark_b24_ok T hR e h
theorem FX0_nights_b59_s_ok {X : KC CS} {E : CE} {z : (Int32 × CS)} {z0 l0 z1 l1 : Nat} (T : cOK X E cX0_nights RX0 9 (some .int) z0 l0 z1 l1) (hR : cRoom X 608 29607) (e : cE_i X E z0 l0 z1 l1 z.1 z.2) {nf : Nat} {k59 : Nat → Int32 → Int32 → Int32 → Int32 → Int32 → Int32 → CS → Option (Int32 × CS)} (hk59 : ∀ (x0 : Nat) (x2 : Int32) (x3 : Int32) (x4 : Int32) (x5 : Int32) (x6 : Int32) (x7 : Int32) (s : CS), k59 x0 x2 x3 x4 x5 x6 x7 s = some z → cW X z1 l1 s 59 [(0, .ref x0), (2, .int x2), (3, .int x3), (4, .int x4), (5, .int x5), (6, .int x6), (7, .int x7)] []) {x0 : Nat} {x2 : Int32} {x3 : Int32} {x4 : Int32} {x5 : Int32} {x6 : Int32} {x7 : Int32} {s : CS} (h : FX0_nights_b59_s nf k59 x0 x2 x3 x4 x5 x6 x7 s = some z) : cW X z1 l1 s 59 [(0, .ref x0), (2, .int x2), (3, .int x3), (4, .int x4), (5, .int x5), (6, .int x6), (7, .int x7)] [] := by
  unfold FX0_nights_b59_s at h
  have hX := T.1
  refine cw (k_iload hX dX0_nights_59 6 rfl) ?_
  refine cw (k_iload_n hX dX0_nights_61 rfl 1 rfl) ?_
  refine c_br h (k_icmp_ge (tgt := 107) hX h dX0_nights_62 (by decide)) (fun h => ?_) (fun h => ?_)
  · refine cw (k_iload hX dX0_nights_107 3 rfl) ?_
    refine c_brn h (k_if_ne (tgt := 117) hX h dX0_nights_109 (by decide)) (fun h => ?_) (fun h => ?_)
    · refine cw (k_iload hX dX0_nights_117 5 rfl) ?_
      exact c_ret_i T e h dX0_nights_119
    · refine cw (k_iload hX dX0_nights_112 4 rfl) ?_
      refine cw (k_goto (tgt := 119) hX dX0_nights_114 (by decide)) ?_
      exact c_ret_i T e h dX0_nights_119
  · refine cw (k_aload_n hX dX0_nights_65 rfl 0 rfl) ?_
    refine cw (k_aload_n hX dX0_nights_66 rfl 0 rfl) ?_
    refine cg_X0_35 T h dX0_nights_67 (fun r1 h => ?_)
    obtain ⟨p2, e_p2, hq_p2⟩ := nn_of h
    subst e_p2
    have h := hq_p2
    show cW X z1 l1 _ 70 [(0, .ref x0), (2, .int x2), (3, .int x3), (4, .int x4), (5, .int x5), (6, .int x6), (7, .int x7)] [.ref p2, .ref x0]
    refine cg_X0_291 T h dX0_nights_70 (fun r3 h => ?_)
    refine cw (k_iload_n hX dX0_nights_73 rfl 2 rfl) ?_
    obtain ⟨p4, e_p4, hq_p4⟩ := nn_of h
    subst e_p4
    have h := hq_p4
    show cW X z1 l1 _ 74 [(0, .ref x0), (2, .int x2), (3, .int x3), (4, .int x4), (5, .int x5), (6, .int x6), (7, .int x7)] [.int x3, .ref p4, .ref x0]
    refine cX_X0_295 T met_FJ2_get (c_room hR rfl rfl) h rfl dX0_nights_74 (fun r5 h => ?_)
    obtain ⟨p6, e_p6, hq_p6⟩ := nn_of h
    subst e_p6
    have h := hq_p6
    show cW X z1 l1 _ 77 [(0, .ref x0), (2, .int x2), (3, .int x3), (4, .int x4), (5, .int x5), (6, .int x6), (7, .int x7)] [.ref p6, .ref x0]
    obtain ⟨hc_77, h⟩ := gd_of h
    refine cw (cc_X0_252 T hc_77 dX0_nights_77) ?_
    refine cX_X0_453 T met_FX0_lives (c_room hR rfl rfl) h rfl dX0_nights_80 (fun v8 s7 h => ?_)
    refine cw (k_istore [(8, .int v8), (0, .ref x0), (2, .int x2), (3, .int x3), (4, .int x4), (5, .int x5), (6, .int x6), (7, .int x7)] hX dX0_nights_83 rfl rfl) ?_
    refine cw (k_iload hX dX0_nights_85 5 rfl) ?_
    refine cw (k_iload hX dX0_nights_87 0 rfl) ?_
    refine cw (k_iadd hX dX0_nights_89) ?_
    refine c_nm h (fun v9 h => ?_)
    refine cw (k_istore [(5, .int v9), (8, .int v8), (0, .ref x0), (2, .int x2), (3, .int x3), (4, .int x4), (6, .int x6), (7, .int x7)] hX dX0_nights_90 rfl rfl) ?_
    refine cw (k_iload hX dX0_nights_92 6 rfl) ?_
    refine cw (k_iload hX dX0_nights_94 1 rfl) ?_
    refine c_mmax T hR q1417 q289 q145 q290 rfl dX0_nights_96 ?_
    refine c_nm h (fun v10 h => ?_)
    refine cw (k_istore [(6, .int v10), (5, .int v9), (8, .int v8), (0, .ref x0), (2, .int x2), (3, .int x3), (4, .int x4), (7, .int x7)] hX dX0_nights_99 rfl rfl) ?_
    refine cw (k_iinc (j := 7) [(7, .int (x7 + 1)), (6, .int v10), (5, .int v9), (8, .int v8), (0, .ref x0), (2, .int x2), (3, .int x3), (4, .int x4)] hX dX0_nights_101 rfl rfl rfl rfl) ?_
    refine cw (k_goto (tgt := 59) hX dX0_nights_104 (by decide)) ?_
    refine cw (k_lv (lv' := [(0, .ref x0), (2, .int x2), (3, .int x3), (4, .int x4), (5, .int v9), (6, .int v10), (7, .int (x7 + 1))]) [4, 5, 6, 7, 2, 1, 0] rfl) ?_
    exact hk59 _ _ _ _ _ _ _ _ h
theorem FX0_nights_b59_ok {X : KC CS} {E : CE} {z : (Int32 × CS)} {z0 l0 z1 l1 : Nat} (T : cOK X E cX0_nights RX0 9 (some .int) z0 l0 z1 l1) (hR : cRoom X 608 29607) (e : cE_i X E z0 l0 z1 l1 z.1 z.2) {nf : Nat} : ∀ (n : Nat) (x0 : Nat) (x2 : Int32) (x3 : Int32) (x4 : Int32) (x5 : Int32) (x6 : Int32) (x7 : Int32) (s : CS), FX0_nights_b59 nf n x0 x2 x3 x4 x5 x6 x7 s = some z → cW X z1 l1 s 59 [(0, .ref x0), (2, .int x2), (3, .int x3), (4, .int x4), (5, .int x5), (6, .int x6), (7, .int x7)] [] := by
  intro n
  induction n with
  | zero => intro x0 x2 x3 x4 x5 x6 x7 s h; exact (nomatch (show (none : Option (Int32 × CS)) = some z from h))
  | succ n ih =>
    intro x0 x2 x3 x4 x5 x6 x7 s h
    have h : FX0_nights_b59_s nf (FX0_nights_b59 nf n) x0 x2 x3 x4 x5 x6 x7 s = some z := h
    exact FX0_nights_b59_s_ok T hR e ih h
theorem met_FX0_nights {l : Launch} {E : CE} {nf : Nat} : ∀ (x0 : Nat) (x1 : Int32) (x2 : Int32) (x3 : Int32) (x4 : Int32) (s : CS) (z : (Int32 × CS)), FX0_nights nf x0 x1 x2 x3 x4 s = some z → (isK s x0 [0] = true ∧ cMet_i l E yX0_nights (ws_ yX0_nights cX0_nights 9 (some .int)) 608 29607 [.ref x0, .int x1, .int x2, .int x3, .int x4] s z.1 z.2) := by
  intro x0 x1 x2 x3 x4 s z h
  unfold FX0_nights at h
  obtain ⟨hm, h⟩ := mz_of h
  obtain ⟨hg, h⟩ := gd_of h
  refine ⟨hg, c_met_i hm (by decide +kernel) rfl (fun X hl hin T hR e => ?_)⟩
  have T : cOK X E cX0_nights RX0 9 (some .int) _ _ _ _ := T
  have hX := T.1
  show cW X _ _ s 0 [(0, .ref x0), (1, .int x1), (2, .int x2), (3, .int x3), (4, .int x4)] []
  refine cw (k_iload_n hX dX0_nights_0 rfl 1 rfl) ?_
  refine cw (k_iconst (v := 0) hX dX0_nights_1 (by decide)) ?_
  refine cw (k_sipush (v := 9999) hX dX0_nights_2 (by decide)) ?_
  refine cX_X0_127 T met_FX0_in (c_room hR rfl rfl) h rfl dX0_nights_5 (fun v1 h => ?_)
  refine c_br h (k_if_eq (tgt := 42) hX h dX0_nights_8 (by decide)) (fun h => ?_) (fun h => ?_)
  · refine cw (k_iconst (v := (-1)) hX dX0_nights_42 (by decide)) ?_
    exact c_ret_i T e h dX0_nights_43
  · refine cw (k_iload_n hX dX0_nights_11 rfl 2 rfl) ?_
    refine cw (k_iconst (v := 1) hX dX0_nights_12 (by decide)) ?_
    refine cw (k_bipush (v := 30) hX dX0_nights_13 (by decide)) ?_
    refine cX_X0_127 T met_FX0_in (c_room hR rfl rfl) h rfl dX0_nights_15 (fun v2 h => ?_)
    refine c_br h (k_if_eq (tgt := 42) hX h dX0_nights_18 (by decide)) (fun h => ?_) (fun h => ?_)
    · refine cw (k_iconst (v := (-1)) hX dX0_nights_42 (by decide)) ?_
      exact c_ret_i T e h dX0_nights_43
    · refine cw (k_iload hX dX0_nights_21 4 rfl) ?_
      refine cw (k_iconst (v := 0) hX dX0_nights_23 (by decide)) ?_
      refine cw (k_iconst (v := 1) hX dX0_nights_24 (by decide)) ?_
      refine cX_X0_127 T met_FX0_in (c_room hR rfl rfl) h rfl dX0_nights_25 (fun v3 h => ?_)
      refine c_br h (k_if_eq (tgt := 42) hX h dX0_nights_28 (by decide)) (fun h => ?_) (fun h => ?_)
      · refine cw (k_iconst (v := (-1)) hX dX0_nights_42 (by decide)) ?_
        exact c_ret_i T e h dX0_nights_43
      · refine cw (k_aload_n hX dX0_nights_31 rfl 0 rfl) ?_
        refine cw (k_iload_n hX dX0_nights_32 rfl 3 rfl) ?_
        refine cw (k_iconst (v := 0) hX dX0_nights_33 (by decide)) ?_
        refine cw (k_iconst (v := 0) hX dX0_nights_34 (by decide)) ?_
        refine cw (k_iconst (v := 0) hX dX0_nights_35 (by decide)) ?_
        refine cX_X0_332 T met_FX0_mean (c_room hR rfl rfl) h rfl dX0_nights_36 (fun v5 s4 h => ?_)
        refine c_br h (k_if_ge (tgt := 44) hX h dX0_nights_39 (by decide)) (fun h => ?_) (fun h => ?_)
        · refine cw (k_aload_n hX dX0_nights_44 rfl 0 rfl) ?_
          refine cw (k_iload_n hX dX0_nights_45 rfl 1 rfl) ?_
          refine cw (k_i2l hX dX0_nights_46) ?_
          refine cp_X0_439 T h dX0_nights_47 (fun s6 h => ?_)
          refine cw (k_iconst (v := 0) hX dX0_nights_50 (by decide)) ?_
          refine cw (k_istore [(5, .int 0), (0, .ref x0), (1, .int x1), (2, .int x2), (3, .int x3), (4, .int x4)] hX dX0_nights_51 rfl rfl) ?_
          refine cw (k_iconst (v := 0) hX dX0_nights_53 (by decide)) ?_
          refine cw (k_istore [(6, .int 0), (5, .int 0), (0, .ref x0), (1, .int x1), (2, .int x2), (3, .int x3), (4, .int x4)] hX dX0_nights_54 rfl rfl) ?_
          refine cw (k_iconst (v := 0) hX dX0_nights_56 (by decide)) ?_
          refine cw (k_istore [(7, .int 0), (6, .int 0), (5, .int 0), (0, .ref x0), (1, .int x1), (2, .int x2), (3, .int x3), (4, .int x4)] hX dX0_nights_57 rfl rfl) ?_
          refine cw (k_lv (lv' := [(0, .ref x0), (2, .int x2), (3, .int x3), (4, .int x4), (5, .int 0), (6, .int 0), (7, .int 0)]) [3, 5, 6, 7, 2, 1, 0] rfl) ?_
          exact FX0_nights_b59_ok T hR e _ _ _ _ _ _ _ _ _ h
        · refine cw (k_iconst (v := (-1)) hX dX0_nights_42 (by decide)) ?_
          exact c_ret_i T e h dX0_nights_43
theorem FX0_oddsBy_b91_ok {X : KC CS} {E : CE} {z : (Int32 × CS)} {z0 l0 z1 l1 : Nat} (T : cOK X E cX0_oddsBy RX0 12 (some .int) z0 l0 z1 l1) {Fr Lr : Nat} (hR : cRoom X (Fr + 1) (Lr + 49)) (e : cE_i X E z0 l0 z1 l1 z.1 z.2) {rc : Nat → Nat → Int32 → Int32 → Int32 → Int32 → Int32 → CS → Option (Int32 × CS)} (hrc : ∀ (o : Nat) (a0 : Nat) (a1 : Int32) (a2 : Int32) (a3 : Int32) (a4 : Int32) (a5 : Int32) (s : CS) (v : (Int32 × CS)), rc o a0 a1 a2 a3 a4 a5 s = some v → (isK s o [0] = true ∧ cMet_i X.1.2.1 E yX0_oddsAt (ws_ yX0_oddsAt cX0_oddsAt 12 (some .int)) Fr Lr [.ref o, .ref a0, .int a1, .int a2, .int a3, .int a4, .int a5] s v.1 v.2)) (hN : 603 ≤ Fr) (hM : 29474 ≤ Lr) {x5 : Int32} {x6 : Int32} {x11 : Int32} {s_0 : Int32} {s_1 : Int32} {s_2 : Nat} {s_3 : Nat} {s : CS} (h : FX0_oddsBy_b91 rc x5 x6 x11 s_0 s_1 s_2 s_3 s = some z) : cW X z1 l1 s 91 [(5, .int x5), (6, .int x6), (11, .int x11)] [.int s_0, .int s_1, .ref s_2, .ref s_3] := by
  unfold FX0_oddsBy_b91 at h
  have hX := T.1
  refine cw (k_iload hX dX0_oddsBy_91 2 rfl) ?_
  refine cw (k_iload hX dX0_oddsBy_93 0 rfl) ?_
  refine cw (k_iload hX dX0_oddsBy_95 1 rfl) ?_
  refine cX_X0_338 T hrc (c_roomo hR (by omega) (by omega)) h rfl dX0_oddsBy_97 (fun v2 s1 h => ?_)
  exact c_ret_i T e h dX0_oddsBy_100
theorem FX0_oddsBy_b79_ok {X : KC CS} {E : CE} {z : (Int32 × CS)} {z0 l0 z1 l1 : Nat} (T : cOK X E cX0_oddsBy RX0 12 (some .int) z0 l0 z1 l1) {Fr Lr : Nat} (hR : cRoom X (Fr + 1) (Lr + 49)) (e : cE_i X E z0 l0 z1 l1 z.1 z.2) {rc : Nat → Nat → Int32 → Int32 → Int32 → Int32 → Int32 → CS → Option (Int32 × CS)} (hrc : ∀ (o : Nat) (a0 : Nat) (a1 : Int32) (a2 : Int32) (a3 : Int32) (a4 : Int32) (a5 : Int32) (s : CS) (v : (Int32 × CS)), rc o a0 a1 a2 a3 a4 a5 s = some v → (isK s o [0] = true ∧ cMet_i X.1.2.1 E yX0_oddsAt (ws_ yX0_oddsAt cX0_oddsAt 12 (some .int)) Fr Lr [.ref o, .ref a0, .int a1, .int a2, .int a3, .int a4, .int a5] s v.1 v.2)) (hN : 603 ≤ Fr) (hM : 29474 ≤ Lr) {x3 : Int32} {x5 : Int32} {x6 : Int32} {x10 : Int32} {x11 : Int32} {s_0 : Int32} {s_1 : Nat} {s_2 : Nat} {s : CS} (h : FX0_oddsBy_b79 rc x3 x5 x6 x10 x11 s_0 s_1 s_2 s = some z) : cW X z1 l1 s 79 [(3, .int x3), (5, .int x5), (6, .int x6), (10, .int x10), (11, .int x11)] [.int s_0, .ref s_1, .ref s_2] := by
  unfold FX0_oddsBy_b79 at h
  have hX := T.1
  refine cw (k_iload hX dX0_oddsBy_79 3 rfl) ?_
  refine c_brn h (k_if_ne (tgt := 88) hX h dX0_oddsBy_81 (by decide)) (fun h => ?_) (fun h => ?_)
  · refine cw (k_iload_n hX dX0_oddsBy_88 rfl 0 rfl) ?_
    refine cw (k_iconst (v := 1) hX dX0_oddsBy_89 (by decide)) ?_
    refine cw (k_iadd hX dX0_oddsBy_90) ?_
    refine cw (k_lv (lv' := [(5, .int x5), (6, .int x6), (11, .int x11)]) [1, 2, 4] rfl) ?_
    exact FX0_oddsBy_b91_ok T hR e hrc hN hM h
  · refine cw (k_iload_n hX dX0_oddsBy_84 rfl 0 rfl) ?_
    refine cw (k_goto (tgt := 91) hX dX0_oddsBy_85 (by decide)) ?_
    refine cw (k_lv (lv' := [(5, .int x5), (6, .int x6), (11, .int x11)]) [1, 2, 4] rfl) ?_
    exact FX0_oddsBy_b91_ok T hR e hrc hN hM h
theorem FX0_oddsBy_b54_ok {X : KC CS} {E : CE} {z : (Int32 × CS)} {z0 l0 z1 l1 : Nat} (T : cOK X E cX0_oddsBy RX0 12 (some .int) z0 l0 z1 l1) {Fr Lr : Nat} (hR : cRoom X (Fr + 1) (Lr + 49)) (e : cE_i X E z0 l0 z1 l1 z.1 z.2) {rc : Nat → Nat → Int32 → Int32 → Int32 → Int32 → Int32 → CS → Option (Int32 × CS)} (hrc : ∀ (o : Nat) (a0 : Nat) (a1 : Int32) (a2 : Int32) (a3 : Int32) (a4 : Int32) (a5 : Int32) (s : CS) (v : (Int32 × CS)), rc o a0 a1 a2 a3 a4 a5 s = some v → (isK s o [0] = true ∧ cMet_i X.1.2.1 E yX0_oddsAt (ws_ yX0_oddsAt cX0_oddsAt 12 (some .int)) Fr Lr [.ref o, .ref a0, .int a1, .int a2, .int a3, .int a4, .int a5] s v.1 v.2)) (hN : 603 ≤ Fr) (hM : 29474 ≤ Lr) {x0 : Nat} {x1 : Nat} {x2 : Int32} {x3 : Int32} {x5 : Int32} {x6 : Int32} {x10 : Int32} {s_0 : Int32} {s_1 : Int32} {s : CS} (h : FX0_oddsBy_b54 rc x0 x1 x2 x3 x5 x6 x10 s_0 s_1 s = some z) : cW X z1 l1 s 54 [(0, .ref x0), (1, .ref x1), (2, .int x2), (3, .int x3), (5, .int x5), (6, .int x6), (10, .int x10)] [.int s_0, .int s_1] := by
  unfold FX0_oddsBy_b54 at h
  have hX := T.1
  refine cw (k_iadd hX dX0_oddsBy_54) ?_
  refine cw (k_aload_n hX dX0_oddsBy_55 rfl 0 rfl) ?_
  refine cg_X0_35 T h dX0_oddsBy_56 (fun r1 h => ?_)
  obtain ⟨p2, e_p2, hq_p2⟩ := nn_of h
  subst e_p2
  have h := hq_p2
  show cW X z1 l1 _ 59 [(0, .ref x0), (1, .ref x1), (2, .int x2), (3, .int x3), (5, .int x5), (6, .int x6), (10, .int x10)] [.ref p2, .int (s_1 + s_0)]
  refine cX_X0_217 T met_FX2_walk (c_roomo hR (by omega) (by omega)) h rfl dX0_oddsBy_59 (fun v3 h => ?_)
  refine cw (k_iadd hX dX0_oddsBy_62) ?_
  refine c_nm h (fun v4 h => ?_)
  refine cw (k_istore [(11, .int v4), (0, .ref x0), (1, .ref x1), (2, .int x2), (3, .int x3), (5, .int x5), (6, .int x6), (10, .int x10)] hX dX0_oddsBy_63 rfl rfl) ?_
  refine cw (k_aload_n hX dX0_oddsBy_65 rfl 1 rfl) ?_
  refine cw (k_aload_n hX dX0_oddsBy_66 rfl 2 rfl) ?_
  refine cw (k_iload hX dX0_oddsBy_67 7 rfl) ?_
  refine c_brn h (k_if_ne (tgt := 78) hX h dX0_oddsBy_69 (by decide)) (fun h => ?_) (fun h => ?_)
  · refine cw (k_iload_n hX dX0_oddsBy_78 rfl 3 rfl) ?_
    refine cw (k_lv (lv' := [(3, .int x3), (5, .int x5), (6, .int x6), (10, .int x10), (11, .int v4)]) [4, 5, 6, 7, 0] rfl) ?_
    exact FX0_oddsBy_b79_ok T hR e hrc hN hM h
  · refine cw (k_iload_n hX dX0_oddsBy_72 rfl 3 rfl) ?_
    refine cw (k_iconst (v := 1) hX dX0_oddsBy_73 (by decide)) ?_
    refine cw (k_iadd hX dX0_oddsBy_74) ?_
    refine cw (k_goto (tgt := 79) hX dX0_oddsBy_75 (by decide)) ?_
    refine cw (k_lv (lv' := [(3, .int x3), (5, .int x5), (6, .int x6), (10, .int x10), (11, .int v4)]) [4, 5, 6, 7, 0] rfl) ?_
    exact FX0_oddsBy_b79_ok T hR e hrc hN hM h
theorem met_FX0_oddsBy {l : Launch} {E : CE} {rc : Nat → Nat → Int32 → Int32 → Int32 → Int32 → Int32 → CS → Option (Int32 × CS)} {Fr Lr : Nat} (hrc : ∀ (o : Nat) (a0 : Nat) (a1 : Int32) (a2 : Int32) (a3 : Int32) (a4 : Int32) (a5 : Int32) (s : CS) (v : (Int32 × CS)), rc o a0 a1 a2 a3 a4 a5 s = some v → (isK s o [0] = true ∧ cMet_i l E yX0_oddsAt (ws_ yX0_oddsAt cX0_oddsAt 12 (some .int)) Fr Lr [.ref o, .ref a0, .int a1, .int a2, .int a3, .int a4, .int a5] s v.1 v.2)) (hN : 603 ≤ Fr) (hM : 29474 ≤ Lr) : ∀ (x0 : Nat) (x1 : Nat) (x2 : Int32) (x3 : Int32) (x4 : Int32) (x5 : Int32) (x6 : Int32) (x7 : Int32) (s : CS) (z : (Int32 × CS)), FX0_oddsBy rc x0 x1 x2 x3 x4 x5 x6 x7 s = some z → (isK s x0 [0] = true ∧ cMet_i l E yX0_oddsBy (ws_ yX0_oddsBy cX0_oddsBy 12 (some .int)) (Fr + 1) (Lr + 49) [.ref x0, .ref x1, .int x2, .int x3, .int x4, .int x5, .int x6, .int x7] s z.1 z.2) := by
  intro x0 x1 x2 x3 x4 x5 x6 x7 s z h
  unfold FX0_oddsBy at h
  obtain ⟨hm, h⟩ := mz_of h
  obtain ⟨hg, h⟩ := gd_of h
  refine ⟨hg, c_met_i hm (by decide +kernel) rfl (fun X hl hin T hR e => ?_)⟩
  have T : cOK X E cX0_oddsBy RX0 12 (some .int) _ _ _ _ := T
  have hX := T.1
  show cW X _ _ s 0 [(0, .ref x0), (1, .ref x1), (2, .int x2), (3, .int x3), (4, .int x4), (5, .int x5), (6, .int x6), (7, .int x7)] []
  subst hl
  refine cw (k_aload_n hX dX0_oddsBy_0 rfl 0 rfl) ?_
  refine cw (k_iload_n hX dX0_oddsBy_1 rfl 2 rfl) ?_
  refine cw (k_iload_n hX dX0_oddsBy_2 rfl 3 rfl) ?_
  refine cw (k_iconst (v := 0) hX dX0_oddsBy_3 (by decide)) ?_
  refine cw (k_iload hX dX0_oddsBy_4 7 rfl) ?_
  refine cX_X0_191 T met_FX0_waits (c_roomo hR (by omega) (by omega)) h rfl dX0_oddsBy_6 (fun v1 h => ?_)
  refine cw (k_istore [(8, .int v1), (0, .ref x0), (1, .ref x1), (2, .int x2), (3, .int x3), (4, .int x4), (5, .int x5), (6, .int x6), (7, .int x7)] hX dX0_oddsBy_9 rfl rfl) ?_
  refine cw (k_aload_n hX dX0_oddsBy_11 rfl 1 rfl) ?_
  refine cw (k_iload_n hX dX0_oddsBy_12 rfl 3 rfl) ?_
  refine cw (k_iload_n hX dX0_oddsBy_13 rfl 4 rfl) ?_
  refine cw (k_iconst (v := 1) hX dX0_oddsBy_14 (by decide)) ?_
  refine cw (k_iload hX dX0_oddsBy_15 8 rfl) ?_
  refine cX_X0_191 T met_FX0_waits (c_roomo hR (by omega) (by omega)) h rfl dX0_oddsBy_17 (fun v2 h => ?_)
  refine cw (k_istore [(9, .int v2), (8, .int v1), (0, .ref x0), (1, .ref x1), (2, .int x2), (3, .int x3), (4, .int x4), (5, .int x5), (6, .int x6), (7, .int x7)] hX dX0_oddsBy_20 rfl rfl) ?_
  refine cw (k_aload_n hX dX0_oddsBy_22 rfl 2 rfl) ?_
  refine cw (k_aload_n hX dX0_oddsBy_23 rfl 3 rfl) ?_
  refine cw (k_iload_n hX dX0_oddsBy_24 rfl 4 rfl) ?_
  refine cw (k_iload_n hX dX0_oddsBy_25 rfl 5 rfl) ?_
  refine cw (k_iload hX dX0_oddsBy_26 7 rfl) ?_
  refine cw (k_iload hX dX0_oddsBy_28 6 rfl) ?_
  refine cw (k_iadd hX dX0_oddsBy_30) ?_
  refine cw (k_iload hX dX0_oddsBy_31 1 rfl) ?_
  refine cw (k_iload hX dX0_oddsBy_33 0 rfl) ?_
  refine cX_X0_265 T met_FX0_wayOf (c_roomo hR (by omega) (by omega)) h rfl dX0_oddsBy_35 (fun v4 s3 h => ?_)
  refine cw (k_istore [(10, .int v4), (9, .int v2), (8, .int v1), (0, .ref x0), (1, .ref x1), (2, .int x2), (3, .int x3), (4, .int x4), (5, .int x5), (6, .int x6), (7, .int x7)] hX dX0_oddsBy_38 rfl rfl) ?_
  refine cw (k_iload hX dX0_oddsBy_40 7 rfl) ?_
  refine cw (k_iload hX dX0_oddsBy_42 0 rfl) ?_
  refine c_brn h (k_if_ne (tgt := 52) hX h dX0_oddsBy_44 (by decide)) (fun h => ?_) (fun h => ?_)
  · refine cw (k_iload hX dX0_oddsBy_52 1 rfl) ?_
    refine cw (k_lv (lv' := [(0, .ref x0), (1, .ref x1), (2, .int x2), (3, .int x3), (5, .int x5), (6, .int x6), (10, .int v4)]) [3, 4, 5, 6, 8, 9, 0] rfl) ?_
    exact FX0_oddsBy_b54_ok T hR e hrc hN hM h
  · refine cw (k_iload hX dX0_oddsBy_47 2 rfl) ?_
    refine cw (k_goto (tgt := 54) hX dX0_oddsBy_49 (by decide)) ?_
    refine cw (k_lv (lv' := [(0, .ref x0), (1, .ref x1), (2, .int x2), (3, .int x3), (5, .int x5), (6, .int x6), (10, .int v4)]) [3, 4, 5, 6, 8, 9, 0] rfl) ?_
    exact FX0_oddsBy_b54_ok T hR e hrc hN hM h
theorem FX0_oddsAt_b76_s_ok {X : KC CS} {E : CE} {z : (Int32 × CS)} {z0 l0 z1 l1 : Nat} (T : cOK X E cX0_oddsAt RX0 12 (some .int) z0 l0 z1 l1) {Fr Lr : Nat} (hR : cRoom X (Fr + 2) (Lr + 80)) (e : cE_i X E z0 l0 z1 l1 z.1 z.2) {nf : Nat} {rc : Nat → Nat → Int32 → Int32 → Int32 → Int32 → Int32 → CS → Option (Int32 × CS)} (hrc : ∀ (o : Nat) (a0 : Nat) (a1 : Int32) (a2 : Int32) (a3 : Int32) (a4 : Int32) (a5 : Int32) (s : CS) (v : (Int32 × CS)), rc o a0 a1 a2 a3 a4 a5 s = some v → (isK s o [0] = true ∧ cMet_i X.1.2.1 E yX0_oddsAt (ws_ yX0_oddsAt cX0_oddsAt 12 (some .int)) Fr Lr [.ref o, .ref a0, .int a1, .int a2, .int a3, .int a4, .int a5] s v.1 v.2)) (hN : 603 ≤ Fr) (hM : 29474 ≤ Lr) {k76 : Nat → Nat → Int32 → Int32 → Int32 → Int32 → Int32 → Int32 → Int64 → Int32 → CS → Option (Int32 × CS)} (hk76 : ∀ (x0 : Nat) (x1 : Nat) (x2 : Int32) (x3 : Int32) (x4 : Int32) (x5 : Int32) (x6 : Int32) (x8 : Int32) (x9 : Int64) (x11 : Int32) (s : CS), k76 x0 x1 x2 x3 x4 x5 x6 x8 x9 x11 s = some z → cW X z1 l1 s 76 [(0, .ref x0), (1, .ref x1), (2, .int x2), (3, .int x3), (4, .int x4), (5, .int x5), (6, .int x6), (8, .int x8), (9, .long x9), (11, .int x11)] []) {x0 : Nat} {x1 : Nat} {x2 : Int32} {x3 : Int32} {x4 : Int32} {x5 : Int32} {x6 : Int32} {x8 : Int32} {x9 : Int64} {x11 : Int32} {s : CS} (h : FX0_oddsAt_b76_s nf rc k76 x0 x1 x2 x3 x4 x5 x6 x8 x9 x11 s = some z) : cW X z1 l1 s 76 [(0, .ref x0), (1, .ref x1), (2, .int x2), (3, .int x3), (4, .int x4), (5, .int x5), (6, .int x6), (8, .int x8), (9, .long x9), (11, .int x11)] [] := by
  unfold FX0_oddsAt_b76_s at h
  have hX := T.1
  refine cw (k_iload hX dX0_oddsAt_76 9 rfl) ?_
  refine cw (k_aload_n hX dX0_oddsAt_78 rfl 0 rfl) ?_
  refine cw (k_iload_n hX dX0_oddsAt_79 rfl 2 rfl) ?_
  refine cw (k_iload_n hX dX0_oddsAt_80 rfl 3 rfl) ?_
  refine cX_X0_140 T met_FX0_lightAt (c_roomo hR (by omega) (by omega)) h rfl dX0_oddsAt_81 (fun r1 h => ?_)
  obtain ⟨p2, e_p2, hq_p2⟩ := nn_of h
  subst e_p2
  have h := hq_p2
  show cW X z1 l1 _ 84 [(0, .ref x0), (1, .ref x1), (2, .int x2), (3, .int x3), (4, .int x4), (5, .int x5), (6, .int x6), (8, .int x8), (9, .long x9), (11, .int x11)] [.ref p2, .int x11]
  refine cg_X0_160 T h dX0_oddsAt_84 (fun v3 h => ?_)
  refine c_br h (k_icmp_ge (tgt := 117) hX h dX0_oddsAt_87 (by decide)) (fun h => ?_) (fun h => ?_)
  · refine cw (k_aload_n hX dX0_oddsAt_117 rfl 0 rfl) ?_
    refine cg_X0_70 T h dX0_oddsAt_118 (fun r4 h => ?_)
    refine cw (k_iload hX dX0_oddsAt_121 7 rfl) ?_
    refine cw (k_lload hX dX0_oddsAt_123 8 rfl) ?_
    refine cw (k_aload_n hX dX0_oddsAt_125 rfl 0 rfl) ?_
    refine cw (k_iload_n hX dX0_oddsAt_126 rfl 2 rfl) ?_
    refine cw (k_iload_n hX dX0_oddsAt_127 rfl 3 rfl) ?_
    refine cX_X0_140 T met_FX0_lightAt (c_roomo hR (by omega) (by omega)) h (by cases r4 <;> rfl) dX0_oddsAt_128 (fun r5 h => ?_)
    obtain ⟨p6, e_p6, hq_p6⟩ := nn_of h
    subst e_p6
    have h := hq_p6
    show cW X z1 l1 _ 131 [(0, .ref x0), (1, .ref x1), (2, .int x2), (3, .int x3), (4, .int x4), (5, .int x5), (6, .int x6), (8, .int x8), (9, .long x9), (11, .int x11)] [.ref p6, .long x9, .int x8, va_rf r4]
    refine cg_X0_160 T h dX0_oddsAt_131 (fun v7 h => ?_)
    refine cw (k_i2l hX dX0_oddsAt_134) ?_
    refine c_d64 h (k_ldiv hX h dX0_oddsAt_135) (fun h => ?_)
    refine cw (k_l2i hX dX0_oddsAt_136) ?_
    obtain ⟨p8, e_p8, hq_p8⟩ := nn_of h
    subst e_p8
    have h := hq_p8
    show cW X z1 l1 _ 137 [(0, .ref x0), (1, .ref x1), (2, .int x2), (3, .int x3), (4, .int x4), (5, .int x5), (6, .int x6), (8, .int x8), (9, .long x9), (11, .int x11)] [.int ((x9 / v7.toInt64).toInt32), .int x8, .ref p8]
    refine ca_ist T h dX0_oddsAt_137 (fun s9 h => ?_)
    refine cw (k_goto (tgt := 166) hX dX0_oddsAt_138 (by decide)) ?_
    refine cw (k_aload_n hX dX0_oddsAt_166 rfl 0 rfl) ?_
    refine cg_X0_70 T h dX0_oddsAt_167 (fun r10 h => ?_)
    refine cw (k_iload hX dX0_oddsAt_170 7 rfl) ?_
    obtain ⟨p11, e_p11, hq_p11⟩ := nn_of h
    subst e_p11
    have h := hq_p11
    show cW X z1 l1 _ 172 [(0, .ref x0), (1, .ref x1), (2, .int x2), (3, .int x3), (4, .int x4), (5, .int x5), (6, .int x6), (8, .int x8), (9, .long x9), (11, .int x11)] [.int x8, .ref p11]
    refine ca_ild T h dX0_oddsAt_172 (fun v12 h => ?_)
    exact c_ret_i T e h dX0_oddsAt_173
  · refine cw (k_lload hX dX0_oddsAt_90 8 rfl) ?_
    refine cw (k_aload_n hX dX0_oddsAt_92 rfl 0 rfl) ?_
    refine cw (k_aload_n hX dX0_oddsAt_93 rfl 1 rfl) ?_
    refine cw (k_iload_n hX dX0_oddsAt_94 rfl 2 rfl) ?_
    refine cw (k_iload_n hX dX0_oddsAt_95 rfl 3 rfl) ?_
    refine cw (k_iload hX dX0_oddsAt_96 4 rfl) ?_
    refine cw (k_iload hX dX0_oddsAt_98 5 rfl) ?_
    refine cw (k_iload hX dX0_oddsAt_100 6 rfl) ?_
    refine cw (k_iload hX dX0_oddsAt_102 9 rfl) ?_
    refine cX_X0_341 T (met_FX0_oddsBy hrc (by omega) (by omega)) (c_roomo hR (by omega) (by omega)) h rfl dX0_oddsAt_104 (fun v14 s13 h => ?_)
    refine cw (k_i2l hX dX0_oddsAt_107) ?_
    refine cw (k_ladd hX dX0_oddsAt_108) ?_
    refine c_nml h (fun v15 h => ?_)
    refine cw (k_lstore [(9, .long v15), (0, .ref x0), (1, .ref x1), (2, .int x2), (3, .int x3), (4, .int x4), (5, .int x5), (6, .int x6), (8, .int x8), (11, .int x11)] hX dX0_oddsAt_109 rfl rfl) ?_
    refine cw (k_iinc (j := 9) [(11, .int (x11 + 1)), (9, .long v15), (0, .ref x0), (1, .ref x1), (2, .int x2), (3, .int x3), (4, .int x4), (5, .int x5), (6, .int x6), (8, .int x8)] hX dX0_oddsAt_111 rfl rfl rfl rfl) ?_
    refine cw (k_goto (tgt := 76) hX dX0_oddsAt_114 (by decide)) ?_
    refine cw (k_lv (lv' := [(0, .ref x0), (1, .ref x1), (2, .int x2), (3, .int x3), (4, .int x4), (5, .int x5), (6, .int x6), (8, .int x8), (9, .long v15), (11, .int (x11 + 1))]) [2, 3, 4, 5, 6, 7, 8, 9, 1, 0] rfl) ?_
    exact hk76 _ _ _ _ _ _ _ _ _ _ _ h
theorem FX0_oddsAt_b76_ok {X : KC CS} {E : CE} {z : (Int32 × CS)} {z0 l0 z1 l1 : Nat} (T : cOK X E cX0_oddsAt RX0 12 (some .int) z0 l0 z1 l1) {Fr Lr : Nat} (hR : cRoom X (Fr + 2) (Lr + 80)) (e : cE_i X E z0 l0 z1 l1 z.1 z.2) {nf : Nat} {rc : Nat → Nat → Int32 → Int32 → Int32 → Int32 → Int32 → CS → Option (Int32 × CS)} (hrc : ∀ (o : Nat) (a0 : Nat) (a1 : Int32) (a2 : Int32) (a3 : Int32) (a4 : Int32) (a5 : Int32) (s : CS) (v : (Int32 × CS)), rc o a0 a1 a2 a3 a4 a5 s = some v → (isK s o [0] = true ∧ cMet_i X.1.2.1 E yX0_oddsAt (ws_ yX0_oddsAt cX0_oddsAt 12 (some .int)) Fr Lr [.ref o, .ref a0, .int a1, .int a2, .int a3, .int a4, .int a5] s v.1 v.2)) (hN : 603 ≤ Fr) (hM : 29474 ≤ Lr) : ∀ (n : Nat) (x0 : Nat) (x1 : Nat) (x2 : Int32) (x3 : Int32) (x4 : Int32) (x5 : Int32) (x6 : Int32) (x8 : Int32) (x9 : Int64) (x11 : Int32) (s : CS), FX0_oddsAt_b76 nf rc n x0 x1 x2 x3 x4 x5 x6 x8 x9 x11 s = some z → cW X z1 l1 s 76 [(0, .ref x0), (1, .ref x1), (2, .int x2), (3, .int x3), (4, .int x4), (5, .int x5), (6, .int x6), (8, .int x8), (9, .long x9), (11, .int x11)] [] := by
  intro n
  induction n with
  | zero => intro x0 x1 x2 x3 x4 x5 x6 x8 x9 x11 s h; exact (nomatch (show (none : Option (Int32 × CS)) = some z from h))
  | succ n ih =>
    intro x0 x1 x2 x3 x4 x5 x6 x8 x9 x11 s h
    have h : FX0_oddsAt_b76_s nf rc (FX0_oddsAt_b76 nf rc n) x0 x1 x2 x3 x4 x5 x6 x8 x9 x11 s = some z := h
    exact FX0_oddsAt_b76_s_ok T hR e hrc hN hM ih h
theorem met_FX0_oddsAt_s {l : Launch} {E : CE} {nf : Nat} {rc : Nat → Nat → Int32 → Int32 → Int32 → Int32 → Int32 → CS → Option (Int32 × CS)} {Fr Lr : Nat} (hrc : ∀ (o : Nat) (a0 : Nat) (a1 : Int32) (a2 : Int32) (a3 : Int32) (a4 : Int32) (a5 : Int32) (s : CS) (v : (Int32 × CS)), rc o a0 a1 a2 a3 a4 a5 s = some v → (isK s o [0] = true ∧ cMet_i l E yX0_oddsAt (ws_ yX0_oddsAt cX0_oddsAt 12 (some .int)) Fr Lr [.ref o, .ref a0, .int a1, .int a2, .int a3, .int a4, .int a5] s v.1 v.2)) (hN : 603 ≤ Fr) (hM : 29474 ≤ Lr) : ∀ (x0 : Nat) (x1 : Nat) (x2 : Int32) (x3 : Int32) (x4 : Int32) (x5 : Int32) (x6 : Int32) (s : CS) (z : (Int32 × CS)), FX0_oddsAt_s nf rc x0 x1 x2 x3 x4 x5 x6 s = some z → (isK s x0 [0] = true ∧ cMet_i l E yX0_oddsAt (ws_ yX0_oddsAt cX0_oddsAt 12 (some .int)) (Fr + 2) (Lr + 80) [.ref x0, .ref x1, .int x2, .int x3, .int x4, .int x5, .int x6] s z.1 z.2) := by
  intro x0 x1 x2 x3 x4 x5 x6 s z h
  unfold FX0_oddsAt_s at h
  obtain ⟨hm, h⟩ := mz_of h
  obtain ⟨hg, h⟩ := gd_of h
  refine ⟨hg, c_met_i hm (by decide +kernel) rfl (fun X hl hin T hR e => ?_)⟩
  have T : cOK X E cX0_oddsAt RX0 12 (some .int) _ _ _ _ := T
  have hX := T.1
  show cW X _ _ s 0 [(0, .ref x0), (1, .ref x1), (2, .int x2), (3, .int x3), (4, .int x4), (5, .int x5), (6, .int x6)] []
  subst hl
  refine cw (k_iload hX dX0_oddsAt_0 5 rfl) ?_
  refine cw (k_iload hX dX0_oddsAt_2 4 rfl) ?_
  refine cw (k_iadd hX dX0_oddsAt_4) ?_
  refine cw (k_iload hX dX0_oddsAt_5 6 rfl) ?_
  refine c_br h (k_icmp_le (tgt := 12) hX h dX0_oddsAt_7 (by decide)) (fun h => ?_) (fun h => ?_)
  · refine cw (k_aload_n hX dX0_oddsAt_12 rfl 0 rfl) ?_
    refine cw (k_iload_n hX dX0_oddsAt_13 rfl 2 rfl) ?_
    refine cw (k_iload_n hX dX0_oddsAt_14 rfl 3 rfl) ?_
    refine cX_X0_278 T met_FX0_isHome (c_roomo hR (by omega) (by omega)) h rfl dX0_oddsAt_15 (fun v1 h => ?_)
    refine c_br h (k_if_eq (tgt := 24) hX h dX0_oddsAt_18 (by decide)) (fun h => ?_) (fun h => ?_)
    · refine cw (k_iload_n hX dX0_oddsAt_24 rfl 3 rfl) ?_
      refine cw (k_bipush (v := 6) hX dX0_oddsAt_25 (by decide)) ?_
      refine cw (k_imul hX dX0_oddsAt_27) ?_
      refine cw (k_iload_n hX dX0_oddsAt_28 rfl 2 rfl) ?_
      refine cw (k_iadd hX dX0_oddsAt_29) ?_
      refine c_nm h (fun v2 h => ?_)
      refine cw (k_istore [(7, .int v2), (0, .ref x0), (1, .ref x1), (2, .int x2), (3, .int x3), (4, .int x4), (5, .int x5), (6, .int x6)] hX dX0_oddsAt_30 rfl rfl) ?_
      refine cw (k_iload hX dX0_oddsAt_32 0 rfl) ?_
      refine cw (k_sipush (v := 1171) hX dX0_oddsAt_34 (by decide)) ?_
      refine cw (k_imul hX dX0_oddsAt_37) ?_
      refine cw (k_iload hX dX0_oddsAt_38 5 rfl) ?_
      refine cw (k_iadd hX dX0_oddsAt_40) ?_
      refine c_nm h (fun v3 h => ?_)
      refine cw (k_istore [(8, .int v3), (7, .int v2), (0, .ref x0), (1, .ref x1), (2, .int x2), (3, .int x3), (4, .int x4), (5, .int x5), (6, .int x6)] hX dX0_oddsAt_41 rfl rfl) ?_
      refine cw (k_aload_n hX dX0_oddsAt_43 rfl 2 rfl) ?_
      refine cg_X0_70 T h dX0_oddsAt_44 (fun r4 h => ?_)
      refine cw (k_iload hX dX0_oddsAt_47 0 rfl) ?_
      obtain ⟨p5, e_p5, hq_p5⟩ := nn_of h
      subst e_p5
      have h := hq_p5
      show cW X _ _ _ 49 [(8, .int v3), (7, .int v2), (0, .ref x0), (1, .ref x1), (2, .int x2), (3, .int x3), (4, .int x4), (5, .int x5), (6, .int x6)] [.int v3, .ref p5]
      refine ca_ild T h dX0_oddsAt_49 (fun v6 h => ?_)
      refine c_br h (k_if_lt (tgt := 61) hX h dX0_oddsAt_50 (by decide)) (fun h => ?_) (fun h => ?_)
      · refine cw (k_aload_n hX dX0_oddsAt_61 rfl 2 rfl) ?_
        refine cw (k_iload hX dX0_oddsAt_62 1 rfl) ?_
        refine cX_X0_222 T met_FX0_isUnknown (c_roomo hR (by omega) (by omega)) h rfl dX0_oddsAt_64 (fun v7 h => ?_)
        refine c_br h (k_if_eq (tgt := 141) hX h dX0_oddsAt_67 (by decide)) (fun h => ?_) (fun h => ?_)
        · refine cw (k_aload_n hX dX0_oddsAt_141 rfl 2 rfl) ?_
          refine cg_X0_70 T h dX0_oddsAt_142 (fun r8 h => ?_)
          refine cw (k_iload hX dX0_oddsAt_145 0 rfl) ?_
          refine cw (k_aload_n hX dX0_oddsAt_147 rfl 2 rfl) ?_
          refine cw (k_aload_n hX dX0_oddsAt_148 rfl 3 rfl) ?_
          refine cw (k_iload_n hX dX0_oddsAt_149 rfl 4 rfl) ?_
          refine cw (k_iload_n hX dX0_oddsAt_150 rfl 5 rfl) ?_
          refine cw (k_iload hX dX0_oddsAt_151 6 rfl) ?_
          refine cw (k_iload hX dX0_oddsAt_153 7 rfl) ?_
          refine cw (k_iload hX dX0_oddsAt_155 8 rfl) ?_
          refine cw (k_iload hX dX0_oddsAt_157 7 rfl) ?_
          refine cw (k_iload hX dX0_oddsAt_159 6 rfl) ?_
          refine cw (k_iadd hX dX0_oddsAt_161) ?_
          refine cX_X0_341 T (met_FX0_oddsBy hrc (by omega) (by omega)) (c_roomo hR (by omega) (by omega)) h (by cases r8 <;> rfl) dX0_oddsAt_162 (fun v10 s9 h => ?_)
          obtain ⟨p11, e_p11, hq_p11⟩ := nn_of h
          subst e_p11
          have h := hq_p11
          show cW X _ _ _ 165 [(8, .int v3), (7, .int v2), (0, .ref x0), (1, .ref x1), (2, .int x2), (3, .int x3), (4, .int x4), (5, .int x5), (6, .int x6)] [.int v10, .int v3, .ref p11]
          refine ca_ist T h dX0_oddsAt_165 (fun s12 h => ?_)
          refine cw (k_aload_n hX dX0_oddsAt_166 rfl 2 rfl) ?_
          refine cg_X0_70 T h dX0_oddsAt_167 (fun r13 h => ?_)
          refine cw (k_iload hX dX0_oddsAt_170 0 rfl) ?_
          obtain ⟨p14, e_p14, hq_p14⟩ := nn_of h
          subst e_p14
          have h := hq_p14
          show cW X _ _ _ 172 [(8, .int v3), (7, .int v2), (0, .ref x0), (1, .ref x1), (2, .int x2), (3, .int x3), (4, .int x4), (5, .int x5), (6, .int x6)] [.int v3, .ref p14]
          refine ca_ild T h dX0_oddsAt_172 (fun v15 h => ?_)
          exact c_ret_i T e h dX0_oddsAt_173
        · refine cw (k_lconst (v := 0) hX dX0_oddsAt_70 (by decide)) ?_
          refine cw (k_lstore [(9, .long 0), (8, .int v3), (7, .int v2), (0, .ref x0), (1, .ref x1), (2, .int x2), (3, .int x3), (4, .int x4), (5, .int x5), (6, .int x6)] hX dX0_oddsAt_71 rfl rfl) ?_
          refine cw (k_iconst (v := 0) hX dX0_oddsAt_73 (by decide)) ?_
          refine cw (k_istore [(11, .int 0), (9, .long 0), (8, .int v3), (7, .int v2), (0, .ref x0), (1, .ref x1), (2, .int x2), (3, .int x3), (4, .int x4), (5, .int x5), (6, .int x6)] hX dX0_oddsAt_74 rfl rfl) ?_
          refine cw (k_lv (lv' := [(0, .ref x0), (1, .ref x1), (2, .int x2), (3, .int x3), (4, .int x4), (5, .int x5), (6, .int x6), (8, .int v3), (9, .long 0), (11, .int 0)]) [4, 5, 6, 7, 8, 9, 10, 2, 1, 0] rfl) ?_
          exact FX0_oddsAt_b76_ok T hR e hrc hN hM _ _ _ _ _ _ _ _ _ _ _ _ h
      · refine cw (k_aload_n hX dX0_oddsAt_53 rfl 2 rfl) ?_
        refine cg_X0_70 T h dX0_oddsAt_54 (fun r16 h => ?_)
        refine cw (k_iload hX dX0_oddsAt_57 0 rfl) ?_
        obtain ⟨p17, e_p17, hq_p17⟩ := nn_of h
        subst e_p17
        have h := hq_p17
        show cW X _ _ _ 59 [(8, .int v3), (7, .int v2), (0, .ref x0), (1, .ref x1), (2, .int x2), (3, .int x3), (4, .int x4), (5, .int x5), (6, .int x6)] [.int v3, .ref p17]
        refine ca_ild T h dX0_oddsAt_59 (fun v18 h => ?_)
        exact c_ret_i T e h dX0_oddsAt_60
    · refine cw (k_ldc (v := 1000000) hX q1237 dX0_oddsAt_21) ?_
      exact c_ret_i T e h dX0_oddsAt_23
  · refine cw (k_iconst (v := 0) hX dX0_oddsAt_10 (by decide)) ?_
    exact c_ret_i T e h dX0_oddsAt_11
theorem met_FX0_oddsAt {l : Launch} {E : CE} {nf : Nat} : ∀ (dp : Nat) (x0 : Nat) (x1 : Nat) (x2 : Int32) (x3 : Int32) (x4 : Int32) (x5 : Int32) (x6 : Int32) (s : CS) (z : (Int32 × CS)), FX0_oddsAt nf dp x0 x1 x2 x3 x4 x5 x6 s = some z → (isK s x0 [0] = true ∧ cMet_i l E yX0_oddsAt (ws_ yX0_oddsAt cX0_oddsAt 12 (some .int)) (2 * dp + 603) (80 * dp + 29474) [.ref x0, .ref x1, .int x2, .int x3, .int x4, .int x5, .int x6] s z.1 z.2) := by
  intro dp
  induction dp with
  | zero => intro x0 x1 x2 x3 x4 x5 x6 s z h; exact (nomatch (show (none : Option (Int32 × CS)) = some z from h))
  | succ dp ih =>
    intro x0 x1 x2 x3 x4 x5 x6 s z h
    have h : FX0_oddsAt_s nf (FX0_oddsAt nf dp) x0 x1 x2 x3 x4 x5 x6 s = some z := h
    rw [show 2 * (dp + 1) + 603 = (2 * dp + 603) + 2 by omega, show 80 * (dp + 1) + 29474 = (80 * dp + 29474) + 80 by omega]
    exact met_FX0_oddsAt_s ih (Nat.le_add_left _ _) (Nat.le_add_left _ _) _ _ _ _ _ _ _ _ _ h
theorem FX0_odds_b23_s_ok {X : KC CS} {E : CE} {z : (Int32 × CS)} {z0 l0 z1 l1 : Nat} (T : cOK X E cX0_odds RX0 5 (some .int) z0 l0 z1 l1) (hR : cRoom X 644 31105) (e : cE_i X E z0 l0 z1 l1 z.1 z.2) {nf : Nat} {k23 : Nat → Int32 → Int32 → Int32 → Int32 → CS → Option (Int32 × CS)} (hk23 : ∀ (x0 : Nat) (x1 : Int32) (x2 : Int32) (x3 : Int32) (x4 : Int32) (s : CS), k23 x0 x1 x2 x3 x4 s = some z → cW X z1 l1 s 23 [(0, .ref x0), (1, .int x1), (2, .int x2), (3, .int x3), (4, .int x4)] []) {x0 : Nat} {x1 : Int32} {x2 : Int32} {x3 : Int32} {x4 : Int32} {s : CS} (h : FX0_odds_b23_s nf k23 x0 x1 x2 x3 x4 s = some z) : cW X z1 l1 s 23 [(0, .ref x0), (1, .int x1), (2, .int x2), (3, .int x3), (4, .int x4)] [] := by
  unfold FX0_odds_b23_s at h
  have hX := T.1
  refine cw (k_iload hX dX0_odds_23 4 rfl) ?_
  refine cw (k_aload_n hX dX0_odds_25 rfl 0 rfl) ?_
  refine cg_X0_70 T h dX0_odds_26 (fun r1 h => ?_)
  obtain ⟨p2, e_p2, hq_p2⟩ := nn_of h
  subst e_p2
  have h := hq_p2
  show cW X z1 l1 _ 29 [(0, .ref x0), (1, .int x1), (2, .int x2), (3, .int x3), (4, .int x4)] [.ref p2, .int x4]
  refine ca_len T h dX0_odds_29 (fun v3 h => ?_)
  refine c_br h (k_icmp_ge (tgt := 47) hX h dX0_odds_30 (by decide)) (fun h => ?_) (fun h => ?_)
  · refine cw (k_aload_n hX dX0_odds_47 rfl 0 rfl) ?_
    refine cw (k_aload_n hX dX0_odds_48 rfl 0 rfl) ?_
    refine cg_X0_35 T h dX0_odds_49 (fun r4 h => ?_)
    obtain ⟨p5, e_p5, hq_p5⟩ := nn_of h
    subst e_p5
    have h := hq_p5
    show cW X z1 l1 _ 52 [(0, .ref x0), (1, .int x1), (2, .int x2), (3, .int x3), (4, .int x4)] [.ref p5, .ref x0]
    refine cg_X0_291 T h dX0_odds_52 (fun r6 h => ?_)
    refine cw (k_iload_n hX dX0_odds_55 rfl 1 rfl) ?_
    obtain ⟨p7, e_p7, hq_p7⟩ := nn_of h
    subst e_p7
    have h := hq_p7
    show cW X z1 l1 _ 56 [(0, .ref x0), (1, .int x1), (2, .int x2), (3, .int x3), (4, .int x4)] [.int x1, .ref p7, .ref x0]
    refine cX_X0_295 T met_FJ2_get (c_room hR rfl rfl) h rfl dX0_odds_56 (fun r8 h => ?_)
    obtain ⟨p9, e_p9, hq_p9⟩ := nn_of h
    subst e_p9
    have h := hq_p9
    show cW X z1 l1 _ 59 [(0, .ref x0), (1, .int x1), (2, .int x2), (3, .int x3), (4, .int x4)] [.ref p9, .ref x0]
    obtain ⟨hc_59, h⟩ := gd_of h
    refine cw (cc_X0_252 T hc_59 dX0_odds_59) ?_
    refine cw (k_iconst (v := 0) hX dX0_odds_62 (by decide)) ?_
    refine cw (k_iconst (v := 0) hX dX0_odds_63 (by decide)) ?_
    refine cw (k_iconst (v := 0) hX dX0_odds_64 (by decide)) ?_
    refine cw (k_iload_n hX dX0_odds_65 rfl 2 rfl) ?_
    refine cw (k_iload_n hX dX0_odds_66 rfl 3 rfl) ?_
    refine cX_X0_338 T (met_FX0_oddsAt 20) (c_room hR rfl rfl) h rfl dX0_odds_67 (fun v11 s10 h => ?_)
    exact c_ret_i T e h dX0_odds_70
  · refine cw (k_aload_n hX dX0_odds_33 rfl 0 rfl) ?_
    refine cg_X0_70 T h dX0_odds_34 (fun r12 h => ?_)
    refine cw (k_iload hX dX0_odds_37 4 rfl) ?_
    refine cw (k_iconst (v := (-1)) hX dX0_odds_39 (by decide)) ?_
    obtain ⟨p13, e_p13, hq_p13⟩ := nn_of h
    subst e_p13
    have h := hq_p13
    show cW X z1 l1 _ 40 [(0, .ref x0), (1, .int x1), (2, .int x2), (3, .int x3), (4, .int x4)] [.int (-1), .int x4, .ref p13]
    refine ca_ist T h dX0_odds_40 (fun s14 h => ?_)
    refine cw (k_iinc (j := 4) [(4, .int (x4 + 1)), (0, .ref x0), (1, .int x1), (2, .int x2), (3, .int x3)] hX dX0_odds_41 rfl rfl rfl rfl) ?_
    refine cw (k_goto (tgt := 23) hX dX0_odds_44 (by decide)) ?_
    refine cw (k_lv (lv' := [(0, .ref x0), (1, .int x1), (2, .int x2), (3, .int x3), (4, .int (x4 + 1))]) [1, 2, 3, 4, 0] rfl) ?_
    exact hk23 _ _ _ _ _ _ h
theorem FX0_odds_b23_ok {X : KC CS} {E : CE} {z : (Int32 × CS)} {z0 l0 z1 l1 : Nat} (T : cOK X E cX0_odds RX0 5 (some .int) z0 l0 z1 l1) (hR : cRoom X 644 31105) (e : cE_i X E z0 l0 z1 l1 z.1 z.2) {nf : Nat} : ∀ (n : Nat) (x0 : Nat) (x1 : Int32) (x2 : Int32) (x3 : Int32) (x4 : Int32) (s : CS), FX0_odds_b23 nf n x0 x1 x2 x3 x4 s = some z → cW X z1 l1 s 23 [(0, .ref x0), (1, .int x1), (2, .int x2), (3, .int x3), (4, .int x4)] [] := by
  intro n
  induction n with
  | zero => intro x0 x1 x2 x3 x4 s h; exact (nomatch (show (none : Option (Int32 × CS)) = some z from h))
  | succ n ih =>
    intro x0 x1 x2 x3 x4 s h
    have h : FX0_odds_b23_s nf (FX0_odds_b23 nf n) x0 x1 x2 x3 x4 s = some z := h
    exact FX0_odds_b23_s_ok T hR e ih h
theorem met_FX0_odds {l : Launch} {E : CE} {nf : Nat} : ∀ (x0 : Nat) (x1 : Int32) (x2 : Int32) (x3 : Int32) (s : CS) (z : (Int32 × CS)), FX0_odds nf x0 x1 x2 x3 s = some z → (isK s x0 [0] = true ∧ cMet_i l E yX0_odds (ws_ yX0_odds cX0_odds 5 (some .int)) 644 31105 [.ref x0, .int x1, .int x2, .int x3] s z.1 z.2) := by
  intro x0 x1 x2 x3 s z h
  unfold FX0_odds at h
  obtain ⟨hm, h⟩ := mz_of h
  obtain ⟨hg, h⟩ := gd_of h
  refine ⟨hg, c_met_i hm (by decide +kernel) rfl (fun X hl hin T hR e => ?_)⟩
  have T : cOK X E cX0_odds RX0 5 (some .int) _ _ _ _ := T
  have hX := T.1
  show cW X _ _ s 0 [(0, .ref x0), (1, .int x1), (2, .int x2), (3, .int x3)] []
  refine cw (k_iload_n hX dX0_odds_0 rfl 3 rfl) ?_
  refine cX_X0_173 T met_FX0_isSecond (c_room hR rfl rfl) h rfl dX0_odds_1 (fun v1 h => ?_)
  refine c_br h (k_if_eq (tgt := 18) hX h dX0_odds_4 (by decide)) (fun h => ?_) (fun h => ?_)
  · refine cw (k_iconst (v := (-1)) hX dX0_odds_18 (by decide)) ?_
    exact c_ret_i T e h dX0_odds_19
  · refine cw (k_aload_n hX dX0_odds_7 rfl 0 rfl) ?_
    refine cw (k_iload_n hX dX0_odds_8 rfl 1 rfl) ?_
    refine cw (k_iconst (v := 0) hX dX0_odds_9 (by decide)) ?_
    refine cw (k_iconst (v := 0) hX dX0_odds_10 (by decide)) ?_
    refine cw (k_iload_n hX dX0_odds_11 rfl 2 rfl) ?_
    refine cX_X0_332 T met_FX0_mean (c_room hR rfl rfl) h rfl dX0_odds_12 (fun v3 s2 h => ?_)
    refine c_br h (k_if_ge (tgt := 20) hX h dX0_odds_15 (by decide)) (fun h => ?_) (fun h => ?_)
    · refine cw (k_iconst (v := 0) hX dX0_odds_20 (by decide)) ?_
      refine cw (k_istore [(4, .int 0), (0, .ref x0), (1, .int x1), (2, .int x2), (3, .int x3)] hX dX0_odds_21 rfl rfl) ?_
      refine cw (k_lv (lv' := [(0, .ref x0), (1, .int x1), (2, .int x2), (3, .int x3), (4, .int 0)]) [1, 2, 3, 4, 0] rfl) ?_
      exact FX0_odds_b23_ok T hR e _ _ _ _ _ _ _ h
    · refine cw (k_iconst (v := (-1)) hX dX0_odds_18 (by decide)) ?_
      exact c_ret_i T e h dX0_odds_19
theorem met_FX0_paceAt {l : Launch} {E : CE} {s : CS} : ∀ (x0 : Nat) (x1 : Int32) (x2 : Int32) (x3 : Int32) (z : Int32), FX0_paceAt s x0 x1 x2 x3 = some z → (isK s x0 [0] = true ∧ cMet_i l E yX0_paceAt (ws_ yX0_paceAt cX0_paceAt 4 (some .int)) 0 0 [.ref x0, .int x1, .int x2, .int x3] s z s) := by
  intro x0 x1 x2 x3 z h
  unfold FX0_paceAt at h
  obtain ⟨hg, h⟩ := gd_of h
  refine ⟨hg, c_met_i ⟨Nat.le_refl _, Nat.le_refl _⟩ (by decide +kernel) rfl (fun X hl hin T hR e => ?_)⟩
  have T : cOK X E cX0_paceAt RX0 4 (some .int) _ _ _ _ := T
  have hX := T.1
  show cW X _ _ s 0 [(0, .ref x0), (1, .int x1), (2, .int x2), (3, .int x3)] []
  refine cw (k_iload_n hX dX0_paceAt_0 rfl 1 rfl) ?_
  refine cw (k_bipush (v := 10) hX dX0_paceAt_1 (by decide)) ?_
  refine cw (k_imul hX dX0_paceAt_3) ?_
  refine cw (k_iload_n hX dX0_paceAt_4 rfl 2 rfl) ?_
  refine cw (k_iadd hX dX0_paceAt_5) ?_
  refine cw (k_sipush (v := 1171) hX dX0_paceAt_6 (by decide)) ?_
  refine cw (k_imul hX dX0_paceAt_9) ?_
  refine cw (k_iload_n hX dX0_paceAt_10 rfl 3 rfl) ?_
  refine cw (k_iadd hX dX0_paceAt_11) ?_
  exact c_ret_ir T e h dX0_paceAt_12
theorem FX0_onAt_b19_ok {X : KC CS} {E : CE} {z : Int32} {z0 l0 z1 l1 : Nat} {s : CS} (T : cOK X E cX0_onAt RX0 6 (some .int) z0 l0 z1 l1) (hR : cRoom X 1 23) (e : cE_i X E z0 l0 z1 l1 z s) {x0 : Nat} {x1 : Int32} {x3 : Int32} {x4 : Int32} {s_0 : Int32} (h : FX0_onAt_b19 s x0 x1 x3 x4 s_0 = some z) : cW X z1 l1 s 19 [(0, .ref x0), (1, .int x1), (3, .int x3), (4, .int x4)] [.int s_0] := by
  unfold FX0_onAt_b19 at h
  have hX := T.1
  refine cw (k_istore [(5, .int s_0), (0, .ref x0), (1, .int x1), (3, .int x3), (4, .int x4)] hX dX0_onAt_19 rfl rfl) ?_
  refine cw (k_iload hX dX0_onAt_21 0 rfl) ?_
  refine cw (k_aload_n hX dX0_onAt_23 rfl 1 rfl) ?_
  refine cg_X0_35 T h dX0_onAt_24 (fun r1 h => ?_)
  obtain ⟨p2, e_p2, hq_p2⟩ := nn_of h
  subst e_p2
  have h := hq_p2
  show cW X z1 l1 _ 27 [(5, .int s_0), (0, .ref x0), (1, .int x1), (3, .int x3), (4, .int x4)] [.ref p2, .int s_0]
  refine cX_X0_209 T met_FX2_runs (c_room hR rfl rfl) h rfl dX0_onAt_27 (fun v3 h => ?_)
  refine c_br h (k_icmp_le (tgt := 39) hX h dX0_onAt_30 (by decide)) (fun h => ?_) (fun h => ?_)
  · refine cw (k_aload_n hX dX0_onAt_39 rfl 1 rfl) ?_
    refine cg_X0_74 T h dX0_onAt_40 (fun r4 h => ?_)
    refine cw (k_aload_n hX dX0_onAt_43 rfl 1 rfl) ?_
    refine cw (k_iload_n hX dX0_onAt_44 rfl 2 rfl) ?_
    refine cw (k_iconst (v := 1) hX dX0_onAt_45 (by decide)) ?_
    refine cw (k_iadd hX dX0_onAt_46) ?_
    refine cw (k_iload hX dX0_onAt_47 0 rfl) ?_
    refine cw (k_iload_n hX dX0_onAt_49 rfl 3 rfl) ?_
    refine cw (k_iload hX dX0_onAt_50 4 rfl) ?_
    refine cw (k_iadd hX dX0_onAt_52) ?_
    refine cX_X0_352 T met_FX0_paceAt (c_room hR rfl rfl) h (by cases r4 <;> rfl) dX0_onAt_53 (fun v5 h => ?_)
    obtain ⟨p6, e_p6, hq_p6⟩ := nn_of h
    subst e_p6
    have h := hq_p6
    show cW X z1 l1 _ 56 [(5, .int s_0), (0, .ref x0), (1, .int x1), (3, .int x3), (4, .int x4)] [.int v5, .ref p6]
    refine ca_ild T h dX0_onAt_56 (fun v7 h => ?_)
    exact c_ret_ir T e h dX0_onAt_57
  · refine cw (k_ldcw (v := 100000000) hX q1508 dX0_onAt_33) ?_
    refine cw (k_goto (tgt := 57) hX dX0_onAt_36 (by decide)) ?_
    exact c_ret_ir T e h dX0_onAt_57
theorem met_FX0_onAt {l : Launch} {E : CE} {s : CS} : ∀ (x0 : Nat) (x1 : Int32) (x2 : Int32) (x3 : Int32) (x4 : Int32) (z : Int32), FX0_onAt s x0 x1 x2 x3 x4 = some z → (isK s x0 [0] = true ∧ cMet_i l E yX0_onAt (ws_ yX0_onAt cX0_onAt 6 (some .int)) 1 23 [.ref x0, .int x1, .int x2, .int x3, .int x4] s z s) := by
  intro x0 x1 x2 x3 x4 z h
  unfold FX0_onAt at h
  obtain ⟨hg, h⟩ := gd_of h
  refine ⟨hg, c_met_i ⟨Nat.le_refl _, Nat.le_refl _⟩ (by decide +kernel) rfl (fun X hl hin T hR e => ?_)⟩
  have T : cOK X E cX0_onAt RX0 6 (some .int) _ _ _ _ := T
  have hX := T.1
  show cW X _ _ s 0 [(0, .ref x0), (1, .int x1), (2, .int x2), (3, .int x3), (4, .int x4)] []
  refine cw (k_iload hX dX0_onAt_0 4 rfl) ?_
  refine cw (k_aload_n hX dX0_onAt_2 rfl 0 rfl) ?_
  refine cg_X0_35 T h dX0_onAt_3 (fun r1 h => ?_)
  obtain ⟨p2, e_p2, hq_p2⟩ := nn_of h
  subst e_p2
  have h := hq_p2
  show cW X _ _ _ 6 [(0, .ref x0), (1, .int x1), (2, .int x2), (3, .int x3), (4, .int x4)] [.ref p2, .int x4]
  refine cX_X0_217 T met_FX2_walk (c_room hR rfl rfl) h rfl dX0_onAt_6 (fun v3 h => ?_)
  refine c_br h (k_icmp_ge (tgt := 18) hX h dX0_onAt_9 (by decide)) (fun h => ?_) (fun h => ?_)
  · refine cw (k_iload_n hX dX0_onAt_18 rfl 2 rfl) ?_
    refine cw (k_lv (lv' := [(0, .ref x0), (1, .int x1), (3, .int x3), (4, .int x4)]) [0, 1, 3, 4] rfl) ?_
    exact FX0_onAt_b19_ok T hR e h
  · refine cw (k_iload_n hX dX0_onAt_12 rfl 2 rfl) ?_
    refine cw (k_iconst (v := 1) hX dX0_onAt_13 (by decide)) ?_
    refine cw (k_iadd hX dX0_onAt_14) ?_
    refine cw (k_goto (tgt := 19) hX dX0_onAt_15 (by decide)) ?_
    refine cw (k_lv (lv' := [(0, .ref x0), (1, .int x1), (3, .int x3), (4, .int x4)]) [0, 1, 3, 4] rfl) ?_
    exact FX0_onAt_b19_ok T hR e h
theorem met_FX0_slow {l : Launch} {E : CE} {s : CS} : ∀ (x0 : Nat) (z : Int32), FX0_slow s x0 = some z → (isK s x0 [0] = true ∧ cMet_i l E yX0_slow (ws_ yX0_slow cX0_slow 1 (some .int)) 2 40 [.ref x0] s z s) := by
  intro x0 z h
  unfold FX0_slow at h
  obtain ⟨hg, h⟩ := gd_of h
  refine ⟨hg, c_met_i ⟨Nat.le_refl _, Nat.le_refl _⟩ (by decide +kernel) rfl (fun X hl hin T hR e => ?_)⟩
  have T : cOK X E cX0_slow RX0 1 (some .int) _ _ _ _ := T
  have hX := T.1
  show cW X _ _ s 0 [(0, .ref x0)] []
  refine cw (k_aload_n hX dX0_slow_0 rfl 0 rfl) ?_
  refine cg_X0_35 T h dX0_slow_1 (fun r1 h => ?_)
  obtain ⟨p2, e_p2, hq_p2⟩ := nn_of h
  subst e_p2
  have h := hq_p2
  show cW X _ _ _ 4 [(0, .ref x0)] [.ref p2]
  refine cX_X0_214 T met_FX2_run (c_room hR rfl rfl) h rfl dX0_slow_4 (fun v3 h => ?_)
  refine cw (k_aload_n hX dX0_slow_7 rfl 0 rfl) ?_
  refine cg_X0_35 T h dX0_slow_8 (fun r4 h => ?_)
  obtain ⟨p5, e_p5, hq_p5⟩ := nn_of h
  subst e_p5
  have h := hq_p5
  show cW X _ _ _ 11 [(0, .ref x0)] [.ref p5, .int v3]
  refine cX_X0_348 T met_FX2_slow (c_room hR rfl rfl) h rfl dX0_slow_11 (fun v6 h => ?_)
  refine c_br h (k_icmp_le (tgt := 27) hX h dX0_slow_14 (by decide)) (fun h => ?_) (fun h => ?_)
  · refine cw (k_aload_n hX dX0_slow_27 rfl 0 rfl) ?_
    refine cg_X0_35 T h dX0_slow_28 (fun r7 h => ?_)
    obtain ⟨p8, e_p8, hq_p8⟩ := nn_of h
    subst e_p8
    have h := hq_p8
    show cW X _ _ _ 31 [(0, .ref x0)] [.ref p8]
    refine cX_X0_348 T met_FX2_slow (c_room hR rfl rfl) h rfl dX0_slow_31 (fun v9 h => ?_)
    exact c_ret_ir T e h dX0_slow_34
  · refine cw (k_aload_n hX dX0_slow_17 rfl 0 rfl) ?_
    refine cg_X0_35 T h dX0_slow_18 (fun r10 h => ?_)
    obtain ⟨p11, e_p11, hq_p11⟩ := nn_of h
    subst e_p11
    have h := hq_p11
    show cW X _ _ _ 21 [(0, .ref x0)] [.ref p11]
    refine cX_X0_217 T met_FX2_walk (c_room hR rfl rfl) h rfl dX0_slow_21 (fun v12 h => ?_)
    refine cw (k_goto (tgt := 34) hX dX0_slow_24 (by decide)) ?_
    exact c_ret_ir T e h dX0_slow_34
theorem FX0_xOf_b4_s_ok {X : KC CS} {E : CE} {z : Int32} {z0 l0 z1 l1 : Nat} {s : CS} (T : cOK X E cX0_xOf RX0 4 (some .int) z0 l0 z1 l1) (hR : cRoom X 0 0) (e : cE_i X E z0 l0 z1 l1 z s) {nf : Nat} {k4 : Nat → Int32 → Int32 → Int32 → Option Int32} (hk4 : ∀ (x0 : Nat) (x1 : Int32) (x2 : Int32) (x3 : Int32), k4 x0 x1 x2 x3 = some z → cW X z1 l1 s 4 [(0, .ref x0), (1, .int x1), (2, .int x2), (3, .int x3)] []) {x0 : Nat} {x1 : Int32} {x2 : Int32} {x3 : Int32} (h : FX0_xOf_b4_s nf s k4 x0 x1 x2 x3 = some z) : cW X z1 l1 s 4 [(0, .ref x0), (1, .int x1), (2, .int x2), (3, .int x3)] [] := by
  unfold FX0_xOf_b4_s at h
  have hX := T.1
  refine cw (k_iload_n hX dX0_xOf_4 rfl 3 rfl) ?_
  refine cw (k_iload_n hX dX0_xOf_5 rfl 1 rfl) ?_
  refine c_br h (k_icmp_ge (tgt := 30) hX h dX0_xOf_6 (by decide)) (fun h => ?_) (fun h => ?_)
  · refine cw (k_iload_n hX dX0_xOf_30 rfl 2 rfl) ?_
    exact c_ret_ir T e h dX0_xOf_31
  · refine cw (k_aload_n hX dX0_xOf_9 rfl 0 rfl) ?_
    refine cg_X0_42 T h dX0_xOf_10 (fun r1 h => ?_)
    obtain ⟨p2, e_p2, hq_p2⟩ := nn_of h
    subst e_p2
    have h := hq_p2
    show cW X z1 l1 _ 13 [(0, .ref x0), (1, .int x1), (2, .int x2), (3, .int x3)] [.ref p2]
    refine cg_X0_228 T h dX0_xOf_13 (fun r3 h => ?_)
    refine cw (k_iload_n hX dX0_xOf_16 rfl 3 rfl) ?_
    obtain ⟨p4, e_p4, hq_p4⟩ := nn_of h
    subst e_p4
    have h := hq_p4
    show cW X z1 l1 _ 17 [(0, .ref x0), (1, .int x1), (2, .int x2), (3, .int x3)] [.int x3, .ref p4]
    refine ca_ild T h dX0_xOf_17 (fun v5 h => ?_)
    refine c_brn h (k_if_ne (tgt := 24) hX h dX0_xOf_18 (by decide)) (fun h => ?_) (fun h => ?_)
    · refine cw (k_iinc (j := 3) [(3, .int (x3 + 1)), (0, .ref x0), (1, .int x1), (2, .int x2)] hX dX0_xOf_24 rfl rfl rfl rfl) ?_
      refine cw (k_goto (tgt := 4) hX dX0_xOf_27 (by decide)) ?_
      refine cw (k_lv (lv' := [(0, .ref x0), (1, .int x1), (2, .int x2), (3, .int (x3 + 1))]) [1, 2, 3, 0] rfl) ?_
      exact hk4 _ _ _ _ h
    · refine cw (k_iinc (j := 2) [(2, .int (x2 + 1)), (0, .ref x0), (1, .int x1), (3, .int x3)] hX dX0_xOf_21 rfl rfl rfl rfl) ?_
      refine cw (k_iinc (j := 3) [(3, .int (x3 + 1)), (2, .int (x2 + 1)), (0, .ref x0), (1, .int x1)] hX dX0_xOf_24 rfl rfl rfl rfl) ?_
      refine cw (k_goto (tgt := 4) hX dX0_xOf_27 (by decide)) ?_
      refine cw (k_lv (lv' := [(0, .ref x0), (1, .int x1), (2, .int (x2 + 1)), (3, .int (x3 + 1))]) [2, 3, 1, 0] rfl) ?_
      exact hk4 _ _ _ _ h
theorem FX0_xOf_b4_ok {X : KC CS} {E : CE} {z : Int32} {z0 l0 z1 l1 : Nat} {s : CS} (T : cOK X E cX0_xOf RX0 4 (some .int) z0 l0 z1 l1) (hR : cRoom X 0 0) (e : cE_i X E z0 l0 z1 l1 z s) {nf : Nat} : ∀ (n : Nat) (x0 : Nat) (x1 : Int32) (x2 : Int32) (x3 : Int32), FX0_xOf_b4 nf s n x0 x1 x2 x3 = some z → cW X z1 l1 s 4 [(0, .ref x0), (1, .int x1), (2, .int x2), (3, .int x3)] [] := by
  intro n
  induction n with
  | zero => intro x0 x1 x2 x3 h; exact (nomatch (show (none : Option Int32) = some z from h))
  | succ n ih =>
    intro x0 x1 x2 x3 h
    have h : FX0_xOf_b4_s nf s (FX0_xOf_b4 nf s n) x0 x1 x2 x3 = some z := h
    exact FX0_xOf_b4_s_ok T hR e ih h
theorem met_FX0_xOf {l : Launch} {E : CE} {nf : Nat} {s : CS} : ∀ (x0 : Nat) (x1 : Int32) (z : Int32), FX0_xOf nf s x0 x1 = some z → (isK s x0 [0] = true ∧ cMet_i l E yX0_xOf (ws_ yX0_xOf cX0_xOf 4 (some .int)) 0 0 [.ref x0, .int x1] s z s) := by
  intro x0 x1 z h
  unfold FX0_xOf at h
  obtain ⟨hg, h⟩ := gd_of h
  refine ⟨hg, c_met_i ⟨Nat.le_refl _, Nat.le_refl _⟩ (by decide +kernel) rfl (fun X hl hin T hR e => ?_)⟩
  have T : cOK X E cX0_xOf RX0 4 (some .int) _ _ _ _ := T
  have hX := T.1
  show cW X _ _ s 0 [(0, .ref x0), (1, .int x1)] []
  refine cw (k_iconst (v := 0) hX dX0_xOf_0 (by decide)) ?_
  refine cw (k_istore_n [(2, .int 0), (0, .ref x0), (1, .int x1)] hX dX0_xOf_1 rfl rfl rfl) ?_
  refine cw (k_iconst (v := 0) hX dX0_xOf_2 (by decide)) ?_
  refine cw (k_istore_n [(3, .int 0), (2, .int 0), (0, .ref x0), (1, .int x1)] hX dX0_xOf_3 rfl rfl rfl) ?_
  refine cw (k_lv (lv' := [(0, .ref x0), (1, .int x1), (2, .int 0), (3, .int 0)]) [2, 3, 1, 0] rfl) ?_
  exact FX0_xOf_b4_ok T hR e _ _ _ _ _ h
theorem FX0_worked_b52_s_ok {X : KC CS} {E : CE} {z : Int32} {z0 l0 z1 l1 : Nat} {s : CS} (T : cOK X E cX0_worked RX0 9 (some .int) z0 l0 z1 l1) (hR : cRoom X 3 60) (e : cE_i X E z0 l0 z1 l1 z s) {nf : Nat} {k52 : Nat → Int32 → Int32 → Int32 → Int32 → Int32 → Int32 → Option Int32} (hk52 : ∀ (x0 : Nat) (x1 : Int32) (x2 : Int32) (x3 : Int32) (x6 : Int32) (x7 : Int32) (x8 : Int32), k52 x0 x1 x2 x3 x6 x7 x8 = some z → cW X z1 l1 s 52 [(0, .ref x0), (1, .int x1), (2, .int x2), (3, .int x3), (6, .int x6), (7, .int x7), (8, .int x8)] []) {x0 : Nat} {x1 : Int32} {x2 : Int32} {x3 : Int32} {x6 : Int32} {x7 : Int32} {x8 : Int32} (h : FX0_worked_b52_s nf s k52 x0 x1 x2 x3 x6 x7 x8 = some z) : cW X z1 l1 s 52 [(0, .ref x0), (1, .int x1), (2, .int x2), (3, .int x3), (6, .int x6), (7, .int x7), (8, .int x8)] [] := by
  unfold FX0_worked_b52_s at h
  have hX := T.1
  refine cw (k_iload hX dX0_worked_52 6 rfl) ?_
  refine cw (k_aload_n hX dX0_worked_54 rfl 0 rfl) ?_
  refine cX_X0_362 T met_FX0_slow (c_room hR rfl rfl) h rfl dX0_worked_55 (fun v1 h => ?_)
  refine c_br h (k_icmp_gt (tgt := 86) hX h dX0_worked_58 (by decide)) (fun h => ?_) (fun h => ?_)
  · refine cw (k_iload hX dX0_worked_86 5 rfl) ?_
    refine cw (k_ldcw (v := 100000000) hX q1508 dX0_worked_88) ?_
    refine c_brn h (k_icmp_ne (tgt := 100) hX h dX0_worked_91 (by decide)) (fun h => ?_) (fun h => ?_)
    · refine cw (k_iload hX dX0_worked_100 5 rfl) ?_
      refine cw (k_iload hX dX0_worked_102 4 rfl) ?_
      refine c_br h (k_if_le (tgt := 113) hX h dX0_worked_104 (by decide)) (fun h => ?_) (fun h => ?_)
      · refine cw (k_iconst (v := 0) hX dX0_worked_113 (by decide)) ?_
        refine cw (k_iadd hX dX0_worked_114) ?_
        exact c_ret_ir T e h dX0_worked_115
      · refine cw (k_ldcw (v := 100000) hX q1525 dX0_worked_107) ?_
        refine cw (k_goto (tgt := 114) hX dX0_worked_110 (by decide)) ?_
        refine cw (k_iadd hX dX0_worked_114) ?_
        exact c_ret_ir T e h dX0_worked_115
    · refine cw (k_ldcw (v := 100000000) hX q1508 dX0_worked_94) ?_
      refine cw (k_goto (tgt := 115) hX dX0_worked_97 (by decide)) ?_
      exact c_ret_ir T e h dX0_worked_115
  · refine cw (k_iload hX dX0_worked_61 5 rfl) ?_
    refine cw (k_aload_n hX dX0_worked_63 rfl 0 rfl) ?_
    refine cw (k_iload_n hX dX0_worked_64 rfl 1 rfl) ?_
    refine cw (k_iload_n hX dX0_worked_65 rfl 2 rfl) ?_
    refine cw (k_iload_n hX dX0_worked_66 rfl 3 rfl) ?_
    refine cw (k_iload hX dX0_worked_67 4 rfl) ?_
    refine cw (k_iadd hX dX0_worked_69) ?_
    refine cw (k_iload hX dX0_worked_70 6 rfl) ?_
    refine cX_X0_363 T met_FX0_onAt (c_room hR rfl rfl) h rfl dX0_worked_72 (fun v2 h => ?_)
    refine c_mmin T hR q1436 q330 q145 q331 rfl dX0_worked_75 ?_
    refine c_nm h (fun v3 h => ?_)
    refine cw (k_istore [(7, .int v3), (0, .ref x0), (1, .int x1), (2, .int x2), (3, .int x3), (6, .int x6), (8, .int x8)] hX dX0_worked_78 rfl rfl) ?_
    refine cw (k_iinc (j := 6) [(8, .int (x8 + 1)), (7, .int v3), (0, .ref x0), (1, .int x1), (2, .int x2), (3, .int x3), (6, .int x6)] hX dX0_worked_80 rfl rfl rfl rfl) ?_
    refine cw (k_goto (tgt := 52) hX dX0_worked_83 (by decide)) ?_
    refine cw (k_lv (lv' := [(0, .ref x0), (1, .int x1), (2, .int x2), (3, .int x3), (6, .int x6), (7, .int v3), (8, .int (x8 + 1))]) [2, 3, 4, 5, 6, 1, 0] rfl) ?_
    exact hk52 _ _ _ _ _ _ _ h
theorem FX0_worked_b52_ok {X : KC CS} {E : CE} {z : Int32} {z0 l0 z1 l1 : Nat} {s : CS} (T : cOK X E cX0_worked RX0 9 (some .int) z0 l0 z1 l1) (hR : cRoom X 3 60) (e : cE_i X E z0 l0 z1 l1 z s) {nf : Nat} : ∀ (n : Nat) (x0 : Nat) (x1 : Int32) (x2 : Int32) (x3 : Int32) (x6 : Int32) (x7 : Int32) (x8 : Int32), FX0_worked_b52 nf s n x0 x1 x2 x3 x6 x7 x8 = some z → cW X z1 l1 s 52 [(0, .ref x0), (1, .int x1), (2, .int x2), (3, .int x3), (6, .int x6), (7, .int x7), (8, .int x8)] [] := by
  intro n
  induction n with
  | zero => intro x0 x1 x2 x3 x6 x7 x8 h; exact (nomatch (show (none : Option Int32) = some z from h))
  | succ n ih =>
    intro x0 x1 x2 x3 x6 x7 x8 h
    have h : FX0_worked_b52_s nf s (FX0_worked_b52 nf s n) x0 x1 x2 x3 x6 x7 x8 = some z := h
    exact FX0_worked_b52_s_ok T hR e ih h
theorem met_FX0_worked {l : Launch} {E : CE} {nf : Nat} {s : CS} : ∀ (x0 : Nat) (x1 : Int32) (x2 : Int32) (x3 : Int32) (x4 : Int32) (z : Int32), FX0_worked nf s x0 x1 x2 x3 x4 = some z → (isK s x0 [0] = true ∧ cMet_i l E yX0_worked (ws_ yX0_worked cX0_worked 9 (some .int)) 3 60 [.ref x0, .int x1, .int x2, .int x3, .int x4] s z s) := by
  intro x0 x1 x2 x3 x4 z h
  unfold FX0_worked at h
  obtain ⟨hg, h⟩ := gd_of h
  refine ⟨hg, c_met_i ⟨Nat.le_refl _, Nat.le_refl _⟩ (by decide +kernel) rfl (fun X hl hin T hR e => ?_)⟩
  have T : cOK X E cX0_worked RX0 9 (some .int) _ _ _ _ := T
  have hX := T.1
  show cW X _ _ s 0 [(0, .ref x0), (1, .int x1), (2, .int x2), (3, .int x3), (4, .int x4)] []
  refine cw (k_aload_n hX dX0_worked_0 rfl 0 rfl) ?_
  refine cw (k_iload_n hX dX0_worked_1 rfl 1 rfl) ?_
  refine cX_X0_355 T met_FX0_xOf (c_room hR rfl rfl) h rfl dX0_worked_2 (fun v1 h => ?_)
  refine cw (k_istore [(5, .int v1), (0, .ref x0), (1, .int x1), (2, .int x2), (3, .int x3), (4, .int x4)] hX dX0_worked_5 rfl rfl) ?_
  refine cw (k_aload_n hX dX0_worked_7 rfl 1 rfl) ?_
  refine cw (k_iload hX dX0_worked_8 0 rfl) ?_
  refine cw (k_iload_n hX dX0_worked_10 rfl 2 rfl) ?_
  refine cw (k_iload hX dX0_worked_11 0 rfl) ?_
  refine cw (k_isub hX dX0_worked_13) ?_
  refine cw (k_aload_n hX dX0_worked_14 rfl 1 rfl) ?_
  refine cg_X0_42 T h dX0_worked_15 (fun r2 h => ?_)
  obtain ⟨p3, e_p3, hq_p3⟩ := nn_of h
  subst e_p3
  have h := hq_p3
  show cW X _ _ _ 18 [(5, .int v1), (0, .ref x0), (1, .int x1), (2, .int x2), (3, .int x3), (4, .int x4)] [.ref p3, .int (x1 - v1), .int v1, .ref x0]
  refine cg_X0_228 T h dX0_worked_18 (fun r4 h => ?_)
  refine cw (k_iload_n hX dX0_worked_21 rfl 2 rfl) ?_
  obtain ⟨p5, e_p5, hq_p5⟩ := nn_of h
  subst e_p5
  have h := hq_p5
  show cW X _ _ _ 22 [(5, .int v1), (0, .ref x0), (1, .int x1), (2, .int x2), (3, .int x3), (4, .int x4)] [.int x1, .ref p5, .int (x1 - v1), .int v1, .ref x0]
  refine ca_ild T h dX0_worked_22 (fun v6 h => ?_)
  refine cw (k_iload hX dX0_worked_23 5 rfl) ?_
  refine cw (k_iload_n hX dX0_worked_25 rfl 4 rfl) ?_
  refine cw (k_iadd hX dX0_worked_26) ?_
  refine cX_X0_191 T met_FX0_waits (c_room hR rfl rfl) h rfl dX0_worked_27 (fun v7 h => ?_)
  refine cw (k_istore [(6, .int v7), (5, .int v1), (0, .ref x0), (1, .int x1), (2, .int x2), (3, .int x3), (4, .int x4)] hX dX0_worked_30 rfl rfl) ?_
  refine cw (k_iload hX dX0_worked_32 0 rfl) ?_
  refine c_br h (k_if_ge (tgt := 41) hX h dX0_worked_34 (by decide)) (fun h => ?_) (fun h => ?_)
  · refine cw (k_ldcw (v := 100000000) hX q1508 dX0_worked_41) ?_
    refine cw (k_istore [(7, .int 100000000), (6, .int v7), (5, .int v1), (0, .ref x0), (1, .int x1), (2, .int x2), (3, .int x3), (4, .int x4)] hX dX0_worked_44 rfl rfl) ?_
    refine cw (k_aload_n hX dX0_worked_46 rfl 3 rfl) ?_
    refine cX_X0_359 T met_FX0_fast (c_room hR rfl rfl) h rfl dX0_worked_47 (fun v8 h => ?_)
    refine cw (k_istore [(8, .int v8), (7, .int 100000000), (6, .int v7), (5, .int v1), (0, .ref x0), (1, .int x1), (2, .int x2), (3, .int x3), (4, .int x4)] hX dX0_worked_50 rfl rfl) ?_
    refine cw (k_lv (lv' := [(0, .ref x0), (1, .int x1), (2, .int x2), (3, .int x3), (6, .int v7), (7, .int 100000000), (8, .int v8)]) [4, 5, 6, 7, 2, 1, 0] rfl) ?_
    exact FX0_worked_b52_ok T hR e _ _ _ _ _ _ _ _ h
  · refine cw (k_ldcw (v := 100000000) hX q1508 dX0_worked_37) ?_
    exact c_ret_ir T e h dX0_worked_40
theorem FX0_works_b28_s_ok {X : KC CS} {E : CE} {z : CS} {z0 l0 z1 l1 : Nat} (T : cOK X E cX0_works RX0 5 none z0 l0 z1 l1) (hR : cRoom X 4 88) (e : cE_v X E z0 l0 z1 l1 z) {nf : Nat} {k8 : Nat → Int32 → Int32 → CS → Option CS} (hk8 : ∀ (x0 : Nat) (x1 : Int32) (x2 : Int32) (s : CS), k8 x0 x1 x2 s = some z → cW X z1 l1 s 8 [(0, .ref x0), (1, .int x1), (2, .int x2)] []) {k14 : Nat → Int32 → Int32 → Int32 → CS → Option CS} (hk14 : ∀ (x0 : Nat) (x1 : Int32) (x2 : Int32) (x3 : Int32) (s : CS), k14 x0 x1 x2 x3 s = some z → cW X z1 l1 s 14 [(0, .ref x0), (1, .int x1), (2, .int x2), (3, .int x3)] []) {k28 : Nat → Int32 → Int32 → Int32 → Int32 → CS → Option CS} (hk28 : ∀ (x0 : Nat) (x1 : Int32) (x2 : Int32) (x3 : Int32) (x4 : Int32) (s : CS), k28 x0 x1 x2 x3 x4 s = some z → cW X z1 l1 s 28 [(0, .ref x0), (1, .int x1), (2, .int x2), (3, .int x3), (4, .int x4)] []) {x0 : Nat} {x1 : Int32} {x2 : Int32} {x3 : Int32} {x4 : Int32} {s : CS} (h : FX0_works_b28_s nf k8 k14 k28 x0 x1 x2 x3 x4 s = some z) : cW X z1 l1 s 28 [(0, .ref x0), (1, .int x1), (2, .int x2), (3, .int x3), (4, .int x4)] [] := by
  unfold FX0_works_b28_s at h
  have hX := T.1
  refine cw (k_iload hX dX0_works_28 4 rfl) ?_
  refine cw (k_iload_n hX dX0_works_30 rfl 2 rfl) ?_
  refine cw (k_bipush (v := 90) hX dX0_works_31 (by decide)) ?_
  refine cw (k_imul hX dX0_works_33) ?_
  refine c_br h (k_icmp_gt (tgt := 81) hX h dX0_works_34 (by decide)) (fun h => ?_) (fun h => ?_)
  · refine cw (k_iinc (j := 3) [(3, .int (x3 + 1)), (0, .ref x0), (1, .int x1), (2, .int x2), (4, .int x4)] hX dX0_works_81 rfl rfl rfl rfl) ?_
    refine cw (k_goto (tgt := 14) hX dX0_works_84 (by decide)) ?_
    refine cw (k_lv (lv' := [(0, .ref x0), (1, .int x1), (2, .int x2), (3, .int (x3 + 1))]) [1, 2, 3, 0] rfl) ?_
    exact hk14 _ _ _ _ _ h
  · refine cw (k_aload_n hX dX0_works_37 rfl 0 rfl) ?_
    refine cg_X0_74 T h dX0_works_38 (fun r1 h => ?_)
    refine cw (k_aload_n hX dX0_works_41 rfl 0 rfl) ?_
    refine cw (k_iload_n hX dX0_works_42 rfl 2 rfl) ?_
    refine cw (k_iload_n hX dX0_works_43 rfl 3 rfl) ?_
    refine cw (k_iload hX dX0_works_44 4 rfl) ?_
    refine cX_X0_352 T met_FX0_paceAt (c_room hR rfl rfl) h (by cases r1 <;> rfl) dX0_works_46 (fun v2 h => ?_)
    refine cw (k_iload_n hX dX0_works_49 rfl 2 rfl) ?_
    refine cw (k_aload_n hX dX0_works_50 rfl 0 rfl) ?_
    refine cg_X0_42 T h dX0_works_51 (fun r3 h => ?_)
    obtain ⟨p4, e_p4, hq_p4⟩ := nn_of h
    subst e_p4
    have h := hq_p4
    show cW X z1 l1 _ 54 [(0, .ref x0), (1, .int x1), (2, .int x2), (3, .int x3), (4, .int x4)] [.ref p4, .int x2, .int v2, va_rf r1]
    refine cg_X0_225 T h dX0_works_54 (fun v5 h => ?_)
    refine c_brn h (k_icmp_ne (tgt := 65) hX h dX0_works_57 (by decide)) (fun h => ?_) (fun h => ?_)
    · refine cw (k_aload_n hX dX0_works_65 rfl 0 rfl) ?_
      refine cw (k_iload_n hX dX0_works_66 rfl 2 rfl) ?_
      refine cw (k_iload_n hX dX0_works_67 rfl 3 rfl) ?_
      refine cw (k_iload hX dX0_works_68 4 rfl) ?_
      refine cw (k_iload_n hX dX0_works_70 rfl 1 rfl) ?_
      refine cX_X0_367 T met_FX0_worked (c_room hR rfl rfl) h (by cases r1 <;> rfl) dX0_works_71 (fun v6 h => ?_)
      obtain ⟨p7, e_p7, hq_p7⟩ := nn_of h
      subst e_p7
      have h := hq_p7
      show cW X z1 l1 _ 74 [(0, .ref x0), (1, .int x1), (2, .int x2), (3, .int x3), (4, .int x4)] [.int v6, .int v2, .ref p7]
      refine ca_ist T h dX0_works_74 (fun s8 h => ?_)
      refine cw (k_iinc (j := 4) [(4, .int (x4 + 1)), (0, .ref x0), (1, .int x1), (2, .int x2), (3, .int x3)] hX dX0_works_75 rfl rfl rfl rfl) ?_
      refine cw (k_goto (tgt := 28) hX dX0_works_78 (by decide)) ?_
      refine cw (k_lv (lv' := [(0, .ref x0), (1, .int x1), (2, .int x2), (3, .int x3), (4, .int (x4 + 1))]) [1, 2, 3, 4, 0] rfl) ?_
      exact hk28 _ _ _ _ _ _ h
    · refine cw (k_iload hX dX0_works_60 4 rfl) ?_
      refine cw (k_goto (tgt := 74) hX dX0_works_62 (by decide)) ?_
      obtain ⟨p9, e_p9, hq_p9⟩ := nn_of h
      subst e_p9
      have h := hq_p9
      show cW X z1 l1 _ 74 [(0, .ref x0), (1, .int x1), (2, .int x2), (3, .int x3), (4, .int x4)] [.int x4, .int v2, .ref p9]
      refine ca_ist T h dX0_works_74 (fun s10 h => ?_)
      refine cw (k_iinc (j := 4) [(4, .int (x4 + 1)), (0, .ref x0), (1, .int x1), (2, .int x2), (3, .int x3)] hX dX0_works_75 rfl rfl rfl rfl) ?_
      refine cw (k_goto (tgt := 28) hX dX0_works_78 (by decide)) ?_
      refine cw (k_lv (lv' := [(0, .ref x0), (1, .int x1), (2, .int x2), (3, .int x3), (4, .int (x4 + 1))]) [1, 2, 3, 4, 0] rfl) ?_
      exact hk28 _ _ _ _ _ _ h
theorem FX0_works_b28_ok {X : KC CS} {E : CE} {z : CS} {z0 l0 z1 l1 : Nat} (T : cOK X E cX0_works RX0 5 none z0 l0 z1 l1) (hR : cRoom X 4 88) (e : cE_v X E z0 l0 z1 l1 z) {nf : Nat} {k8 : Nat → Int32 → Int32 → CS → Option CS} (hk8 : ∀ (x0 : Nat) (x1 : Int32) (x2 : Int32) (s : CS), k8 x0 x1 x2 s = some z → cW X z1 l1 s 8 [(0, .ref x0), (1, .int x1), (2, .int x2)] []) {k14 : Nat → Int32 → Int32 → Int32 → CS → Option CS} (hk14 : ∀ (x0 : Nat) (x1 : Int32) (x2 : Int32) (x3 : Int32) (s : CS), k14 x0 x1 x2 x3 s = some z → cW X z1 l1 s 14 [(0, .ref x0), (1, .int x1), (2, .int x2), (3, .int x3)] []) : ∀ (n : Nat) (x0 : Nat) (x1 : Int32) (x2 : Int32) (x3 : Int32) (x4 : Int32) (s : CS), FX0_works_b28 nf k8 k14 n x0 x1 x2 x3 x4 s = some z → cW X z1 l1 s 28 [(0, .ref x0), (1, .int x1), (2, .int x2), (3, .int x3), (4, .int x4)] [] := by
  intro n
  induction n with
  | zero => intro x0 x1 x2 x3 x4 s h; exact (nomatch (show (none : Option CS) = some z from h))
  | succ n ih =>
    intro x0 x1 x2 x3 x4 s h
    have h : FX0_works_b28_s nf k8 k14 (FX0_works_b28 nf k8 k14 n) x0 x1 x2 x3 x4 s = some z := h
    exact FX0_works_b28_s_ok T hR e hk8 hk14 ih h
theorem FX0_works_b14_s_ok {X : KC CS} {E : CE} {z : CS} {z0 l0 z1 l1 : Nat} (T : cOK X E cX0_works RX0 5 none z0 l0 z1 l1) (hR : cRoom X 4 88) (e : cE_v X E z0 l0 z1 l1 z) {nf : Nat} {k8 : Nat → Int32 → Int32 → CS → Option CS} (hk8 : ∀ (x0 : Nat) (x1 : Int32) (x2 : Int32) (s : CS), k8 x0 x1 x2 s = some z → cW X z1 l1 s 8 [(0, .ref x0), (1, .int x1), (2, .int x2)] []) {k14 : Nat → Int32 → Int32 → Int32 → CS → Option CS} (hk14 : ∀ (x0 : Nat) (x1 : Int32) (x2 : Int32) (x3 : Int32) (s : CS), k14 x0 x1 x2 x3 s = some z → cW X z1 l1 s 14 [(0, .ref x0), (1, .int x1), (2, .int x2), (3, .int x3)] []) {x0 : Nat} {x1 : Int32} {x2 : Int32} {x3 : Int32} {s : CS} (h : FX0_works_b14_s nf k8 k14 x0 x1 x2 x3 s = some z) : cW X z1 l1 s 14 [(0, .ref x0), (1, .int x1), (2, .int x2), (3, .int x3)] [] := by
  unfold FX0_works_b14_s at h
  have hX := T.1
  refine cw (k_iload_n hX dX0_works_14 rfl 3 rfl) ?_
  refine cw (k_aload_n hX dX0_works_15 rfl 0 rfl) ?_
  refine cg_X0_35 T h dX0_works_16 (fun r1 h => ?_)
  obtain ⟨p2, e_p2, hq_p2⟩ := nn_of h
  subst e_p2
  have h := hq_p2
  show cW X z1 l1 _ 19 [(0, .ref x0), (1, .int x1), (2, .int x2), (3, .int x3)] [.ref p2, .int x3]
  refine cX_X0_209 T met_FX2_runs (c_room hR rfl rfl) h rfl dX0_works_19 (fun v3 h => ?_)
  refine c_br h (k_icmp_gt (tgt := 87) hX h dX0_works_22 (by decide)) (fun h => ?_) (fun h => ?_)
  · refine cw (k_iinc (j := 2) [(2, .int (x2 + (-1))), (0, .ref x0), (1, .int x1), (3, .int x3)] hX dX0_works_87 rfl rfl rfl rfl) ?_
    refine cw (k_goto (tgt := 8) hX dX0_works_90 (by decide)) ?_
    refine cw (k_lv (lv' := [(0, .ref x0), (1, .int x1), (2, .int (x2 + (-1)))]) [1, 2, 0] rfl) ?_
    exact hk8 _ _ _ _ h
  · refine cw (k_iconst (v := 0) hX dX0_works_25 (by decide)) ?_
    refine cw (k_istore [(4, .int 0), (0, .ref x0), (1, .int x1), (2, .int x2), (3, .int x3)] hX dX0_works_26 rfl rfl) ?_
    refine cw (k_lv (lv' := [(0, .ref x0), (1, .int x1), (2, .int x2), (3, .int x3), (4, .int 0)]) [1, 2, 3, 4, 0] rfl) ?_
    exact FX0_works_b28_ok T hR e hk8 hk14 _ _ _ _ _ _ _ h
theorem FX0_works_b14_ok {X : KC CS} {E : CE} {z : CS} {z0 l0 z1 l1 : Nat} (T : cOK X E cX0_works RX0 5 none z0 l0 z1 l1) (hR : cRoom X 4 88) (e : cE_v X E z0 l0 z1 l1 z) {nf : Nat} {k8 : Nat → Int32 → Int32 → CS → Option CS} (hk8 : ∀ (x0 : Nat) (x1 : Int32) (x2 : Int32) (s : CS), k8 x0 x1 x2 s = some z → cW X z1 l1 s 8 [(0, .ref x0), (1, .int x1), (2, .int x2)] []) : ∀ (n : Nat) (x0 : Nat) (x1 : Int32) (x2 : Int32) (x3 : Int32) (s : CS), FX0_works_b14 nf k8 n x0 x1 x2 x3 s = some z → cW X z1 l1 s 14 [(0, .ref x0), (1, .int x1), (2, .int x2), (3, .int x3)] [] := by
  intro n
  induction n with
  | zero => intro x0 x1 x2 x3 s h; exact (nomatch (show (none : Option CS) = some z from h))
  | succ n ih =>
    intro x0 x1 x2 x3 s h
    have h : FX0_works_b14_s nf k8 (FX0_works_b14 nf k8 n) x0 x1 x2 x3 s = some z := h
    exact FX0_works_b14_s_ok T hR e hk8 ih h
theorem FX0_works_b8_s_ok {X : KC CS} {E : CE} {z : CS} {z0 l0 z1 l1 : Nat} (T : cOK X E cX0_works RX0 5 none z0 l0 z1 l1) (hR : cRoom X 4 88) (e : cE_v X E z0 l0 z1 l1 z) {nf : Nat} {k8 : Nat → Int32 → Int32 → CS → Option CS} (hk8 : ∀ (x0 : Nat) (x1 : Int32) (x2 : Int32) (s : CS), k8 x0 x1 x2 s = some z → cW X z1 l1 s 8 [(0, .ref x0), (1, .int x1), (2, .int x2)] []) {x0 : Nat} {x1 : Int32} {x2 : Int32} {s : CS} (h : FX0_works_b8_s nf k8 x0 x1 x2 s = some z) : cW X z1 l1 s 8 [(0, .ref x0), (1, .int x1), (2, .int x2)] [] := by
  unfold FX0_works_b8_s at h
  have hX := T.1
  refine cw (k_iload_n hX dX0_works_8 rfl 2 rfl) ?_
  refine c_br h (k_if_lt (tgt := 93) hX h dX0_works_9 (by decide)) (fun h => ?_) (fun h => ?_)
  · exact c_ret_v T e h dX0_works_93
  · refine cw (k_iconst (v := 0) hX dX0_works_12 (by decide)) ?_
    refine cw (k_istore_n [(3, .int 0), (0, .ref x0), (1, .int x1), (2, .int x2)] hX dX0_works_13 rfl rfl rfl) ?_
    refine cw (k_lv (lv' := [(0, .ref x0), (1, .int x1), (2, .int x2), (3, .int 0)]) [1, 2, 3, 0] rfl) ?_
    exact FX0_works_b14_ok T hR e hk8 _ _ _ _ _ _ h
theorem FX0_works_b8_ok {X : KC CS} {E : CE} {z : CS} {z0 l0 z1 l1 : Nat} (T : cOK X E cX0_works RX0 5 none z0 l0 z1 l1) (hR : cRoom X 4 88) (e : cE_v X E z0 l0 z1 l1 z) {nf : Nat} : ∀ (n : Nat) (x0 : Nat) (x1 : Int32) (x2 : Int32) (s : CS), FX0_works_b8 nf n x0 x1 x2 s = some z → cW X z1 l1 s 8 [(0, .ref x0), (1, .int x1), (2, .int x2)] [] := by
  intro n
  induction n with
  | zero => intro x0 x1 x2 s h; exact (nomatch (show (none : Option CS) = some z from h))
  | succ n ih =>
    intro x0 x1 x2 s h
    have h : FX0_works_b8_s nf (FX0_works_b8 nf n) x0 x1 x2 s = some z := h
    exact FX0_works_b8_s_ok T hR e ih h
theorem met_FX0_works {l : Launch} {E : CE} {nf : Nat} : ∀ (x0 : Nat) (x1 : Int32) (s : CS) (z : CS), FX0_works nf x0 x1 s = some z → (isK s x0 [0] = true ∧ cMet_v l E yX0_works (ws_ yX0_works cX0_works 5 none) 4 88 [.ref x0, .int x1] s z) := by
  intro x0 x1 s z h
  unfold FX0_works at h
  obtain ⟨hm, h⟩ := mz_of h
  obtain ⟨hg, h⟩ := gd_of h
  refine ⟨hg, c_met_v hm (by decide +kernel) rfl (fun X hl hin T hR e => ?_)⟩
  have T : cOK X E cX0_works RX0 5 none _ _ _ _ := T
  have hX := T.1
  show cW X _ _ s 0 [(0, .ref x0), (1, .int x1)] []
  refine cw (k_aload_n hX dX0_works_0 rfl 0 rfl) ?_
  refine cg_X0_42 T h dX0_works_1 (fun r1 h => ?_)
  obtain ⟨p2, e_p2, hq_p2⟩ := nn_of h
  subst e_p2
  have h := hq_p2
  show cW X _ _ _ 4 [(0, .ref x0), (1, .int x1)] [.ref p2]
  refine cg_X0_225 T h dX0_works_4 (fun v3 h => ?_)
  refine cw (k_istore_n [(2, .int v3), (0, .ref x0), (1, .int x1)] hX dX0_works_7 rfl rfl rfl) ?_
  refine cw (k_lv (lv' := [(0, .ref x0), (1, .int x1), (2, .int v3)]) [1, 2, 0] rfl) ?_
  exact FX0_works_b8_ok T hR e _ _ _ _ _ h
theorem FX0_pace_b220_ok {X : KC CS} {E : CE} {z : (Int32 × CS)} {z0 l0 z1 l1 : Nat} (T : cOK X E cX0_pace RX0 11 (some .int) z0 l0 z1 l1) (hR : cRoom X 5 112) (e : cE_i X E z0 l0 z1 l1 z.1 z.2) {nf : Nat} {k100 : Nat → Int32 → Int32 → Int32 → Int32 → Int32 → Int32 → CS → Option (Int32 × CS)} (hk100 : ∀ (x0 : Nat) (x1 : Int32) (x2 : Int32) (x4 : Int32) (x5 : Int32) (x6 : Int32) (x7 : Int32) (s : CS), k100 x0 x1 x2 x4 x5 x6 x7 s = some z → cW X z1 l1 s 100 [(0, .ref x0), (1, .int x1), (2, .int x2), (4, .int x4), (5, .int x5), (6, .int x6), (7, .int x7)] []) {x0 : Nat} {x1 : Int32} {x2 : Int32} {x4 : Int32} {x5 : Int32} {x6 : Int32} {x7 : Int32} {x9 : Int32} {s : CS} (h : FX0_pace_b220 nf k100 x0 x1 x2 x4 x5 x6 x7 x9 s = some z) : cW X z1 l1 s 220 [(0, .ref x0), (1, .int x1), (2, .int x2), (4, .int x4), (5, .int x5), (6, .int x6), (7, .int x7), (9, .int x9)] [] := by
  unfold FX0_pace_b220 at h
  have hX := T.1
  refine cw (k_iload hX dX0_pace_220 4 rfl) ?_
  refine cw (k_iload hX dX0_pace_222 7 rfl) ?_
  refine cw (k_iload hX dX0_pace_224 5 rfl) ?_
  refine cw (k_iadd hX dX0_pace_226) ?_
  refine cw (k_iadd hX dX0_pace_227) ?_
  refine c_nm h (fun v1 h => ?_)
  refine cw (k_istore [(5, .int v1), (0, .ref x0), (1, .int x1), (2, .int x2), (4, .int x4), (6, .int x6), (7, .int x7), (9, .int x9)] hX dX0_pace_228 rfl rfl) ?_
  refine cw (k_iinc (j := 6) [(7, .int (x7 + 1)), (5, .int v1), (0, .ref x0), (1, .int x1), (2, .int x2), (4, .int x4), (6, .int x6), (9, .int x9)] hX dX0_pace_230 rfl rfl rfl rfl) ?_
  refine cw (k_goto (tgt := 100) hX dX0_pace_233 (by decide)) ?_
  refine cw (k_lv (lv' := [(0, .ref x0), (1, .int x1), (2, .int x2), (4, .int x4), (5, .int v1), (6, .int x6), (7, .int (x7 + 1))]) [2, 3, 4, 5, 1, 6, 0] rfl) ?_
  exact hk100 _ _ _ _ _ _ _ _ h
theorem FX0_pace_b179_s_ok {X : KC CS} {E : CE} {z : (Int32 × CS)} {z0 l0 z1 l1 : Nat} (T : cOK X E cX0_pace RX0 11 (some .int) z0 l0 z1 l1) (hR : cRoom X 5 112) (e : cE_i X E z0 l0 z1 l1 z.1 z.2) {nf : Nat} {k100 : Nat → Int32 → Int32 → Int32 → Int32 → Int32 → Int32 → CS → Option (Int32 × CS)} (hk100 : ∀ (x0 : Nat) (x1 : Int32) (x2 : Int32) (x4 : Int32) (x5 : Int32) (x6 : Int32) (x7 : Int32) (s : CS), k100 x0 x1 x2 x4 x5 x6 x7 s = some z → cW X z1 l1 s 100 [(0, .ref x0), (1, .int x1), (2, .int x2), (4, .int x4), (5, .int x5), (6, .int x6), (7, .int x7)] []) {k179 : Nat → Int32 → Int32 → Int32 → Int32 → Int32 → Int32 → Int32 → Int32 → CS → Option (Int32 × CS)} (hk179 : ∀ (x0 : Nat) (x1 : Int32) (x2 : Int32) (x4 : Int32) (x5 : Int32) (x6 : Int32) (x7 : Int32) (x9 : Int32) (x10 : Int32) (s : CS), k179 x0 x1 x2 x4 x5 x6 x7 x9 x10 s = some z → cW X z1 l1 s 179 [(0, .ref x0), (1, .int x1), (2, .int x2), (4, .int x4), (5, .int x5), (6, .int x6), (7, .int x7), (9, .int x9), (10, .int x10)] []) {x0 : Nat} {x1 : Int32} {x2 : Int32} {x4 : Int32} {x5 : Int32} {x6 : Int32} {x7 : Int32} {x9 : Int32} {x10 : Int32} {s : CS} (h : FX0_pace_b179_s nf k100 k179 x0 x1 x2 x4 x5 x6 x7 x9 x10 s = some z) : cW X z1 l1 s 179 [(0, .ref x0), (1, .int x1), (2, .int x2), (4, .int x4), (5, .int x5), (6, .int x6), (7, .int x7), (9, .int x9), (10, .int x10)] [] := by
  unfold FX0_pace_b179_s at h
  have hX := T.1
  refine cw (k_aload_n hX dX0_pace_179 rfl 0 rfl) ?_
  refine cw (k_iload hX dX0_pace_180 6 rfl) ?_
  refine cw (k_iload hX dX0_pace_182 3 rfl) ?_
  refine cw (k_iload hX dX0_pace_184 4 rfl) ?_
  refine cw (k_iload hX dX0_pace_186 7 rfl) ?_
  refine cw (k_iadd hX dX0_pace_188) ?_
  refine cw (k_iload hX dX0_pace_189 5 rfl) ?_
  refine cX_X0_363 T met_FX0_onAt (c_room hR rfl rfl) h rfl dX0_pace_191 (fun v1 h => ?_)
  refine cw (k_iload hX dX0_pace_194 8 rfl) ?_
  refine c_br h (k_icmp_eq (tgt := 205) hX h dX0_pace_196 (by decide)) (fun h => ?_) (fun h => ?_)
  · refine cw (k_iload hX dX0_pace_205 5 rfl) ?_
    refine cw (k_aload_n hX dX0_pace_207 rfl 0 rfl) ?_
    refine cg_X0_35 T h dX0_pace_208 (fun r2 h => ?_)
    obtain ⟨p3, e_p3, hq_p3⟩ := nn_of h
    subst e_p3
    have h := hq_p3
    show cW X z1 l1 _ 211 [(0, .ref x0), (1, .int x1), (2, .int x2), (4, .int x4), (5, .int x5), (6, .int x6), (7, .int x7), (9, .int x9), (10, .int x10)] [.ref p3, .int x6]
    refine cX_X0_217 T met_FX2_walk (c_room hR rfl rfl) h rfl dX0_pace_211 (fun v4 h => ?_)
    refine c_br h (k_icmp_ge (tgt := 220) hX h dX0_pace_214 (by decide)) (fun h => ?_) (fun h => ?_)
    · refine cw (k_lv (lv' := [(0, .ref x0), (1, .int x1), (2, .int x2), (4, .int x4), (5, .int x5), (6, .int x6), (7, .int x7), (9, .int x9)]) [0, 1, 2, 3, 4, 5, 6, 7] rfl) ?_
      exact FX0_pace_b220_ok T hR e hk100 h
    · refine cw (k_iinc (j := 3) [(4, .int (x4 + 1)), (0, .ref x0), (1, .int x1), (2, .int x2), (5, .int x5), (6, .int x6), (7, .int x7), (9, .int x9), (10, .int x10)] hX dX0_pace_217 rfl rfl rfl rfl) ?_
      refine cw (k_lv (lv' := [(0, .ref x0), (1, .int x1), (2, .int x2), (4, .int (x4 + 1)), (5, .int x5), (6, .int x6), (7, .int x7), (9, .int x9)]) [1, 2, 3, 0, 4, 5, 6, 7] rfl) ?_
      exact FX0_pace_b220_ok T hR e hk100 h
  · refine cw (k_iinc (j := 5) [(6, .int (x6 + 1)), (0, .ref x0), (1, .int x1), (2, .int x2), (4, .int x4), (5, .int x5), (7, .int x7), (9, .int x9), (10, .int x10)] hX dX0_pace_199 rfl rfl rfl rfl) ?_
    refine cw (k_goto (tgt := 179) hX dX0_pace_202 (by decide)) ?_
    refine cw (k_lv (lv' := [(0, .ref x0), (1, .int x1), (2, .int x2), (4, .int x4), (5, .int x5), (6, .int (x6 + 1)), (7, .int x7), (9, .int x9), (10, .int x10)]) [1, 2, 3, 4, 5, 0, 6, 7, 8] rfl) ?_
    exact hk179 _ _ _ _ _ _ _ _ _ _ h
theorem FX0_pace_b179_ok {X : KC CS} {E : CE} {z : (Int32 × CS)} {z0 l0 z1 l1 : Nat} (T : cOK X E cX0_pace RX0 11 (some .int) z0 l0 z1 l1) (hR : cRoom X 5 112) (e : cE_i X E z0 l0 z1 l1 z.1 z.2) {nf : Nat} {k100 : Nat → Int32 → Int32 → Int32 → Int32 → Int32 → Int32 → CS → Option (Int32 × CS)} (hk100 : ∀ (x0 : Nat) (x1 : Int32) (x2 : Int32) (x4 : Int32) (x5 : Int32) (x6 : Int32) (x7 : Int32) (s : CS), k100 x0 x1 x2 x4 x5 x6 x7 s = some z → cW X z1 l1 s 100 [(0, .ref x0), (1, .int x1), (2, .int x2), (4, .int x4), (5, .int x5), (6, .int x6), (7, .int x7)] []) : ∀ (n : Nat) (x0 : Nat) (x1 : Int32) (x2 : Int32) (x4 : Int32) (x5 : Int32) (x6 : Int32) (x7 : Int32) (x9 : Int32) (x10 : Int32) (s : CS), FX0_pace_b179 nf k100 n x0 x1 x2 x4 x5 x6 x7 x9 x10 s = some z → cW X z1 l1 s 179 [(0, .ref x0), (1, .int x1), (2, .int x2), (4, .int x4), (5, .int x5), (6, .int x6), (7, .int x7), (9, .int x9), (10, .int x10)] [] := by
  intro n
  induction n with
  | zero => intro x0 x1 x2 x4 x5 x6 x7 x9 x10 s h; exact (nomatch (show (none : Option (Int32 × CS)) = some z from h))
  | succ n ih =>
    intro x0 x1 x2 x4 x5 x6 x7 x9 x10 s h
    have h : FX0_pace_b179_s nf k100 (FX0_pace_b179 nf k100 n) x0 x1 x2 x4 x5 x6 x7 x9 x10 s = some z := h
    exact FX0_pace_b179_s_ok T hR e hk100 ih h
theorem FX0_pace_b170_ok {X : KC CS} {E : CE} {z : (Int32 × CS)} {z0 l0 z1 l1 : Nat} (T : cOK X E cX0_pace RX0 11 (some .int) z0 l0 z1 l1) (hR : cRoom X 5 112) (e : cE_i X E z0 l0 z1 l1 z.1 z.2) {nf : Nat} {k100 : Nat → Int32 → Int32 → Int32 → Int32 → Int32 → Int32 → CS → Option (Int32 × CS)} (hk100 : ∀ (x0 : Nat) (x1 : Int32) (x2 : Int32) (x4 : Int32) (x5 : Int32) (x6 : Int32) (x7 : Int32) (s : CS), k100 x0 x1 x2 x4 x5 x6 x7 s = some z → cW X z1 l1 s 100 [(0, .ref x0), (1, .int x1), (2, .int x2), (4, .int x4), (5, .int x5), (6, .int x6), (7, .int x7)] []) {x0 : Nat} {x1 : Int32} {x2 : Int32} {x4 : Int32} {x5 : Int32} {x7 : Int32} {x9 : Int32} {s_0 : Int32} {s_1 : Int32} {s : CS} (h : FX0_pace_b170 nf k100 x0 x1 x2 x4 x5 x7 x9 s_0 s_1 s = some z) : cW X z1 l1 s 170 [(0, .ref x0), (1, .int x1), (2, .int x2), (4, .int x4), (5, .int x5), (7, .int x7), (9, .int x9)] [.int s_0, .int s_1] := by
  unfold FX0_pace_b170 at h
  have hX := T.1
  refine cw (k_isub hX dX0_pace_170) ?_
  refine c_nm h (fun v1 h => ?_)
  refine cw (k_istore [(10, .int v1), (0, .ref x0), (1, .int x1), (2, .int x2), (4, .int x4), (5, .int x5), (7, .int x7), (9, .int x9)] hX dX0_pace_171 rfl rfl) ?_
  refine cw (k_aload_n hX dX0_pace_173 rfl 1 rfl) ?_
  refine cX_X0_359 T met_FX0_fast (c_room hR rfl rfl) h rfl dX0_pace_174 (fun v2 h => ?_)
  refine cw (k_istore [(6, .int v2), (10, .int v1), (0, .ref x0), (1, .int x1), (2, .int x2), (4, .int x4), (5, .int x5), (7, .int x7), (9, .int x9)] hX dX0_pace_177 rfl rfl) ?_
  refine cw (k_lv (lv' := [(0, .ref x0), (1, .int x1), (2, .int x2), (4, .int x4), (5, .int x5), (6, .int v2), (7, .int x7), (9, .int x9), (10, .int v1)]) [2, 3, 4, 5, 6, 0, 7, 8, 1] rfl) ?_
  exact FX0_pace_b179_ok T hR e hk100 _ _ _ _ _ _ _ _ _ _ _ h
theorem FX0_pace_b100_s_ok {X : KC CS} {E : CE} {z : (Int32 × CS)} {z0 l0 z1 l1 : Nat} (T : cOK X E cX0_pace RX0 11 (some .int) z0 l0 z1 l1) (hR : cRoom X 5 112) (e : cE_i X E z0 l0 z1 l1 z.1 z.2) {nf : Nat} {k100 : Nat → Int32 → Int32 → Int32 → Int32 → Int32 → Int32 → CS → Option (Int32 × CS)} (hk100 : ∀ (x0 : Nat) (x1 : Int32) (x2 : Int32) (x4 : Int32) (x5 : Int32) (x6 : Int32) (x7 : Int32) (s : CS), k100 x0 x1 x2 x4 x5 x6 x7 s = some z → cW X z1 l1 s 100 [(0, .ref x0), (1, .int x1), (2, .int x2), (4, .int x4), (5, .int x5), (6, .int x6), (7, .int x7)] []) {x0 : Nat} {x1 : Int32} {x2 : Int32} {x4 : Int32} {x5 : Int32} {x6 : Int32} {x7 : Int32} {s : CS} (h : FX0_pace_b100_s nf k100 x0 x1 x2 x4 x5 x6 x7 s = some z) : cW X z1 l1 s 100 [(0, .ref x0), (1, .int x1), (2, .int x2), (4, .int x4), (5, .int x5), (6, .int x6), (7, .int x7)] [] := by
  unfold FX0_pace_b100_s at h
  have hX := T.1
  refine cw (k_iload hX dX0_pace_100 6 rfl) ?_
  refine cw (k_iload_n hX dX0_pace_102 rfl 2 rfl) ?_
  refine cw (k_iconst (v := 2) hX dX0_pace_103 (by decide)) ?_
  refine cw (k_isub hX dX0_pace_104) ?_
  refine c_br h (k_icmp_gt (tgt := 236) hX h dX0_pace_105 (by decide)) (fun h => ?_) (fun h => ?_)
  · refine cw (k_iload hX dX0_pace_236 5 rfl) ?_
    exact c_ret_i T e h dX0_pace_238
  · refine cw (k_aload_n hX dX0_pace_108 rfl 0 rfl) ?_
    refine cw (k_iload hX dX0_pace_109 6 rfl) ?_
    refine cX_X0_355 T met_FX0_xOf (c_room hR rfl rfl) h rfl dX0_pace_111 (fun v1 h => ?_)
    refine cw (k_istore [(8, .int v1), (0, .ref x0), (1, .int x1), (2, .int x2), (4, .int x4), (5, .int x5), (6, .int x6), (7, .int x7)] hX dX0_pace_114 rfl rfl) ?_
    refine cw (k_aload_n hX dX0_pace_116 rfl 1 rfl) ?_
    refine cw (k_iload hX dX0_pace_117 0 rfl) ?_
    refine cw (k_iload hX dX0_pace_119 7 rfl) ?_
    refine cw (k_iload hX dX0_pace_121 0 rfl) ?_
    refine cw (k_isub hX dX0_pace_123) ?_
    refine cw (k_aload_n hX dX0_pace_124 rfl 1 rfl) ?_
    refine cg_X0_42 T h dX0_pace_125 (fun r2 h => ?_)
    obtain ⟨p3, e_p3, hq_p3⟩ := nn_of h
    subst e_p3
    have h := hq_p3
    show cW X z1 l1 _ 128 [(8, .int v1), (0, .ref x0), (1, .int x1), (2, .int x2), (4, .int x4), (5, .int x5), (6, .int x6), (7, .int x7)] [.ref p3, .int (x7 - v1), .int v1, .ref x0]
    refine cg_X0_228 T h dX0_pace_128 (fun r4 h => ?_)
    refine cw (k_iload hX dX0_pace_131 7 rfl) ?_
    obtain ⟨p5, e_p5, hq_p5⟩ := nn_of h
    subst e_p5
    have h := hq_p5
    show cW X z1 l1 _ 133 [(8, .int v1), (0, .ref x0), (1, .int x1), (2, .int x2), (4, .int x4), (5, .int x5), (6, .int x6), (7, .int x7)] [.int x7, .ref p5, .int (x7 - v1), .int v1, .ref x0]
    refine ca_ild T h dX0_pace_133 (fun v6 h => ?_)
    refine cw (k_iload_n hX dX0_pace_134 rfl 2 rfl) ?_
    refine cw (k_iload hX dX0_pace_135 5 rfl) ?_
    refine cw (k_iadd hX dX0_pace_137) ?_
    refine cX_X0_191 T met_FX0_waits (c_room hR rfl rfl) h rfl dX0_pace_138 (fun v7 h => ?_)
    refine cw (k_istore [(9, .int v7), (8, .int v1), (0, .ref x0), (1, .int x1), (2, .int x2), (4, .int x4), (5, .int x5), (6, .int x6), (7, .int x7)] hX dX0_pace_141 rfl rfl) ?_
    refine cw (k_aload_n hX dX0_pace_143 rfl 2 rfl) ?_
    refine cg_X0_74 T h dX0_pace_144 (fun r8 h => ?_)
    refine cw (k_aload_n hX dX0_pace_147 rfl 2 rfl) ?_
    refine cw (k_iload hX dX0_pace_148 8 rfl) ?_
    refine cw (k_iload hX dX0_pace_150 5 rfl) ?_
    refine cw (k_iload hX dX0_pace_152 6 rfl) ?_
    refine cX_X0_352 T met_FX0_paceAt (c_room hR rfl rfl) h (by cases r8 <;> rfl) dX0_pace_154 (fun v9 h => ?_)
    obtain ⟨p10, e_p10, hq_p10⟩ := nn_of h
    subst e_p10
    have h := hq_p10
    show cW X z1 l1 _ 157 [(9, .int v7), (8, .int v1), (0, .ref x0), (1, .int x1), (2, .int x2), (4, .int x4), (5, .int x5), (6, .int x6), (7, .int x7)] [.int v9, .ref p10]
    refine ca_ild T h dX0_pace_157 (fun v11 h => ?_)
    refine cw (k_iload hX dX0_pace_158 0 rfl) ?_
    refine c_br h (k_if_le (tgt := 169) hX h dX0_pace_160 (by decide)) (fun h => ?_) (fun h => ?_)
    · refine cw (k_iconst (v := 0) hX dX0_pace_169 (by decide)) ?_
      refine cw (k_lv (lv' := [(0, .ref x0), (1, .int x1), (2, .int x2), (4, .int x4), (5, .int x5), (7, .int x7), (9, .int v7)]) [2, 3, 4, 5, 6, 8, 0] rfl) ?_
      exact FX0_pace_b170_ok T hR e hk100 h
    · refine cw (k_ldcw (v := 100000) hX q1525 dX0_pace_163) ?_
      refine cw (k_goto (tgt := 170) hX dX0_pace_166 (by decide)) ?_
      refine cw (k_lv (lv' := [(0, .ref x0), (1, .int x1), (2, .int x2), (4, .int x4), (5, .int x5), (7, .int x7), (9, .int v7)]) [2, 3, 4, 5, 6, 8, 0] rfl) ?_
      exact FX0_pace_b170_ok T hR e hk100 h
theorem FX0_pace_b100_ok {X : KC CS} {E : CE} {z : (Int32 × CS)} {z0 l0 z1 l1 : Nat} (T : cOK X E cX0_pace RX0 11 (some .int) z0 l0 z1 l1) (hR : cRoom X 5 112) (e : cE_i X E z0 l0 z1 l1 z.1 z.2) {nf : Nat} : ∀ (n : Nat) (x0 : Nat) (x1 : Int32) (x2 : Int32) (x4 : Int32) (x5 : Int32) (x6 : Int32) (x7 : Int32) (s : CS), FX0_pace_b100 nf n x0 x1 x2 x4 x5 x6 x7 s = some z → cW X z1 l1 s 100 [(0, .ref x0), (1, .int x1), (2, .int x2), (4, .int x4), (5, .int x5), (6, .int x6), (7, .int x7)] [] := by
  intro n
  induction n with
  | zero => intro x0 x1 x2 x4 x5 x6 x7 s h; exact (nomatch (show (none : Option (Int32 × CS)) = some z from h))
  | succ n ih =>
    intro x0 x1 x2 x4 x5 x6 x7 s h
    have h : FX0_pace_b100_s nf (FX0_pace_b100 nf n) x0 x1 x2 x4 x5 x6 x7 s = some z := h
    exact FX0_pace_b100_s_ok T hR e ih h
theorem met_FX0_pace {l : Launch} {E : CE} {nf : Nat} : ∀ (x0 : Nat) (x1 : Int32) (x2 : Int32) (s : CS) (z : (Int32 × CS)), FX0_pace nf x0 x1 x2 s = some z → (isK s x0 [0] = true ∧ cMet_i l E yX0_pace (ws_ yX0_pace cX0_pace 11 (some .int)) 5 112 [.ref x0, .int x1, .int x2] s z.1 z.2) := by
  intro x0 x1 x2 s z h
  unfold FX0_pace at h
  obtain ⟨hm, h⟩ := mz_of h
  obtain ⟨hg, h⟩ := gd_of h
  refine ⟨hg, c_met_i hm (by decide +kernel) rfl (fun X hl hin T hR e => ?_)⟩
  have T : cOK X E cX0_pace RX0 11 (some .int) _ _ _ _ := T
  have hX := T.1
  show cW X _ _ s 0 [(0, .ref x0), (1, .int x1), (2, .int x2)] []
  refine cw (k_iload_n hX dX0_pace_0 rfl 1 rfl) ?_
  refine cX_X0_173 T met_FX0_isSecond (c_room hR rfl rfl) h rfl dX0_pace_1 (fun v1 h => ?_)
  refine c_br h (k_if_eq (tgt := 34) hX h dX0_pace_4 (by decide)) (fun h => ?_) (fun h => ?_)
  · refine cw (k_iconst (v := (-1)) hX dX0_pace_34 (by decide)) ?_
    exact c_ret_i T e h dX0_pace_35
  · refine cw (k_aload_n hX dX0_pace_7 rfl 0 rfl) ?_
    refine cg_X0_42 T h dX0_pace_8 (fun r2 h => ?_)
    obtain ⟨p3, e_p3, hq_p3⟩ := nn_of h
    subst e_p3
    have h := hq_p3
    show cW X _ _ _ 11 [(0, .ref x0), (1, .int x1), (2, .int x2)] [.ref p3]
    refine cg_X0_225 T h dX0_pace_11 (fun v4 h => ?_)
    refine c_br h (k_if_eq (tgt := 34) hX h dX0_pace_14 (by decide)) (fun h => ?_) (fun h => ?_)
    · refine cw (k_iconst (v := (-1)) hX dX0_pace_34 (by decide)) ?_
      exact c_ret_i T e h dX0_pace_35
    · refine cw (k_iload_n hX dX0_pace_17 rfl 2 rfl) ?_
      refine cw (k_iconst (v := 0) hX dX0_pace_18 (by decide)) ?_
      refine cw (k_iconst (v := 1) hX dX0_pace_19 (by decide)) ?_
      refine cw (k_aload_n hX dX0_pace_20 rfl 0 rfl) ?_
      refine cg_X0_42 T h dX0_pace_21 (fun r5 h => ?_)
      obtain ⟨p6, e_p6, hq_p6⟩ := nn_of h
      subst e_p6
      have h := hq_p6
      show cW X _ _ _ 24 [(0, .ref x0), (1, .int x1), (2, .int x2)] [.ref p6, .int 1, .int 0, .int x2]
      refine cg_X0_225 T h dX0_pace_24 (fun v7 h => ?_)
      refine cw (k_iadd hX dX0_pace_27) ?_
      refine cX_X0_127 T met_FX0_in (c_room hR rfl rfl) h rfl dX0_pace_28 (fun v8 h => ?_)
      refine c_brn h (k_if_ne (tgt := 36) hX h dX0_pace_31 (by decide)) (fun h => ?_) (fun h => ?_)
      · refine cw (k_aload_n hX dX0_pace_36 rfl 0 rfl) ?_
        refine cw (k_iload_n hX dX0_pace_37 rfl 1 rfl) ?_
        refine cX_X0_370 T met_FX0_works (c_room hR rfl rfl) h rfl dX0_pace_38 (fun s9 h => ?_)
        refine cw (k_aload_n hX dX0_pace_41 rfl 0 rfl) ?_
        refine cg_X0_74 T h dX0_pace_42 (fun r10 h => ?_)
        refine cw (k_aload_n hX dX0_pace_45 rfl 0 rfl) ?_
        refine cw (k_iconst (v := 0) hX dX0_pace_46 (by decide)) ?_
        refine cw (k_iconst (v := 0) hX dX0_pace_47 (by decide)) ?_
        refine cw (k_iconst (v := 0) hX dX0_pace_48 (by decide)) ?_
        refine cX_X0_352 T met_FX0_paceAt (c_room hR rfl rfl) h (by cases r10 <;> rfl) dX0_pace_49 (fun v11 h => ?_)
        obtain ⟨p12, e_p12, hq_p12⟩ := nn_of h
        subst e_p12
        have h := hq_p12
        show cW X _ _ _ 52 [(0, .ref x0), (1, .int x1), (2, .int x2)] [.int v11, .ref p12]
        refine ca_ild T h dX0_pace_52 (fun v13 h => ?_)
        refine cw (k_istore_n [(3, .int v13), (0, .ref x0), (1, .int x1), (2, .int x2)] hX dX0_pace_53 rfl rfl rfl) ?_
        refine cw (k_iload_n hX dX0_pace_54 rfl 0 rfl) ?_
        refine cw (k_ldcw (v := 100000000) hX q1508 dX0_pace_55) ?_
        refine c_brn h (k_icmp_ne (tgt := 63) hX h dX0_pace_58 (by decide)) (fun h => ?_) (fun h => ?_)
        · refine cw (k_iload_n hX dX0_pace_63 rfl 3 rfl) ?_
          refine cw (k_iconst (v := 2) hX dX0_pace_64 (by decide)) ?_
          refine c_br h (k_icmp_ge (tgt := 88) hX h dX0_pace_65 (by decide)) (fun h => ?_) (fun h => ?_)
          · refine cw (k_iconst (v := 0) hX dX0_pace_88 (by decide)) ?_
            refine cw (k_istore [(4, .int 0), (3, .int v13), (0, .ref x0), (1, .int x1), (2, .int x2)] hX dX0_pace_89 rfl rfl) ?_
            refine cw (k_iconst (v := 0) hX dX0_pace_91 (by decide)) ?_
            refine cw (k_istore [(5, .int 0), (4, .int 0), (3, .int v13), (0, .ref x0), (1, .int x1), (2, .int x2)] hX dX0_pace_92 rfl rfl) ?_
            refine cw (k_iconst (v := 0) hX dX0_pace_94 (by decide)) ?_
            refine cw (k_istore [(6, .int 0), (5, .int 0), (4, .int 0), (3, .int v13), (0, .ref x0), (1, .int x1), (2, .int x2)] hX dX0_pace_95 rfl rfl) ?_
            refine cw (k_iconst (v := 0) hX dX0_pace_97 (by decide)) ?_
            refine cw (k_istore [(7, .int 0), (6, .int 0), (5, .int 0), (4, .int 0), (3, .int v13), (0, .ref x0), (1, .int x1), (2, .int x2)] hX dX0_pace_98 rfl rfl) ?_
            refine cw (k_lv (lv' := [(0, .ref x0), (1, .int x1), (2, .int x2), (4, .int 0), (5, .int 0), (6, .int 0), (7, .int 0)]) [5, 6, 7, 3, 2, 1, 0] rfl) ?_
            exact FX0_pace_b100_ok T hR e _ _ _ _ _ _ _ _ _ h
          · refine cw (k_iload_n hX dX0_pace_68 rfl 3 rfl) ?_
            refine c_brn h (k_if_ne (tgt := 80) hX h dX0_pace_69 (by decide)) (fun h => ?_) (fun h => ?_)
            · refine cw (k_iload_n hX dX0_pace_80 rfl 2 rfl) ?_
              refine cw (k_iload_n hX dX0_pace_81 rfl 0 rfl) ?_
              refine cw (k_ldcw (v := 100000) hX q1525 dX0_pace_82) ?_
              refine cw (k_iremc hX (by decide) dX0_pace_85) ?_
              refine cw (k_iadd hX dX0_pace_86) ?_
              exact c_ret_i T e h dX0_pace_87
            · refine cw (k_iload_n hX dX0_pace_72 rfl 0 rfl) ?_
              refine cw (k_ldcw (v := 100000) hX q1525 dX0_pace_73) ?_
              refine cw (k_idivc hX (by decide) dX0_pace_76) ?_
              refine cw (k_goto (tgt := 87) hX dX0_pace_77 (by decide)) ?_
              exact c_ret_i T e h dX0_pace_87
        · refine cw (k_iconst (v := (-1)) hX dX0_pace_61 (by decide)) ?_
          exact c_ret_i T e h dX0_pace_62
      · refine cw (k_iconst (v := (-1)) hX dX0_pace_34 (by decide)) ?_
        exact c_ret_i T e h dX0_pace_35
theorem met_FX0_reads {l : Launch} {E : CE} {nf : Nat} : ∀ (x0 : Nat) (s : CS) (z : CS), FX0_reads E.2.2.2 nf x0 s = some z → (isK s x0 [0] = true ∧ cMet_v l E yX0_reads (ws_ yX0_reads cX0_reads 1 none) 6 148 [.ref x0] s z) := by
  intro x0 s z h
  unfold FX0_reads at h
  obtain ⟨hm, h⟩ := mz_of h
  obtain ⟨hg, h⟩ := gd_of h
  refine ⟨hg, c_met_v hm (by decide +kernel) rfl (fun X hl hin T hR e => ?_)⟩
  have T : cOK X E cX0_reads RX0 1 none _ _ _ _ := T
  have hX := T.1
  show cW X _ _ s 0 [(0, .ref x0)] []
  refine cw (k_aload_n hX dX0_reads_0 rfl 0 rfl) ?_
  refine cg_X0_28 T h dX0_reads_1 (fun r1 h => ?_)
  refine cw (k_aload_n hX dX0_reads_4 rfl 0 rfl) ?_
  refine cg_X0_21 T h dX0_reads_5 (fun r2 h => ?_)
  refine cw (k_aload_n hX dX0_reads_8 rfl 0 rfl) ?_
  refine cg_X0_96 T h dX0_reads_9 (fun v3 h => ?_)
  obtain ⟨p4, e_p4, hq_p4⟩ := nn_of h
  subst e_p4
  have h := hq_p4
  show cW X _ _ _ 12 [(0, .ref x0)] [.int v3, va_rf r2, .ref p4]
  obtain ⟨p5, e_p5, hq_p5⟩ := nn_of h
  subst e_p5
  have h := hq_p5
  show cW X _ _ _ 12 [(0, .ref x0)] [.int v3, .ref p5, .ref p4]
  refine cX_X0_99 T met_FX1_begin (c_room hR rfl rfl) h rfl dX0_reads_12 (fun s6 h => ?_)
  refine cw (k_aload_n hX dX0_reads_15 rfl 0 rfl) ?_
  refine cw (k_iconst (v := 0) hX dX0_reads_16 (by decide)) ?_
  refine cp_X0_96 T h dX0_reads_17 (fun s7 h => ?_)
  exact c_ret_v T e h dX0_reads_20
theorem FX0_rules_b6_s_ok {X : KC CS} {E : CE} {z : (Int32 × CS)} {z0 l0 z1 l1 : Nat} (T : cOK X E cX0_rules RX0 5 (some .int) z0 l0 z1 l1) (hR : cRoom X 608 29607) (e : cE_i X E z0 l0 z1 l1 z.1 z.2) {nf : Nat} {k6 : Nat → Int32 → Int32 → Int32 → CS → Option (Int32 × CS)} (hk6 : ∀ (x0 : Nat) (x1 : Int32) (x2 : Int32) (x3 : Int32) (s : CS), k6 x0 x1 x2 x3 s = some z → cW X z1 l1 s 6 [(0, .ref x0), (1, .int x1), (2, .int x2), (3, .int x3)] []) {x0 : Nat} {x1 : Int32} {x2 : Int32} {x3 : Int32} {s : CS} (h : FX0_rules_b6_s nf k6 x0 x1 x2 x3 s = some z) : cW X z1 l1 s 6 [(0, .ref x0), (1, .int x1), (2, .int x2), (3, .int x3)] [] := by
  unfold FX0_rules_b6_s at h
  have hX := T.1
  refine cw (k_iload_n hX dX0_rules_6 rfl 3 rfl) ?_
  refine cw (k_aload_n hX dX0_rules_7 rfl 0 rfl) ?_
  refine cg_X0_35 T h dX0_rules_8 (fun r1 h => ?_)
  obtain ⟨p2, e_p2, hq_p2⟩ := nn_of h
  subst e_p2
  have h := hq_p2
  show cW X z1 l1 _ 11 [(0, .ref x0), (1, .int x1), (2, .int x2), (3, .int x3)] [.ref p2, .int x3]
  refine cg_X0_345 T h dX0_rules_11 (fun r3 h => ?_)
  obtain ⟨p4, e_p4, hq_p4⟩ := nn_of h
  subst e_p4
  have h := hq_p4
  show cW X z1 l1 _ 14 [(0, .ref x0), (1, .int x1), (2, .int x2), (3, .int x3)] [.ref p4, .int x3]
  refine cX_X0_326 T met_FJ2_size (c_room hR rfl rfl) h rfl dX0_rules_14 (fun v5 h => ?_)
  refine c_br h (k_icmp_ge (tgt := 61) hX h dX0_rules_17 (by decide)) (fun h => ?_) (fun h => ?_)
  · refine cw (k_iload_n hX dX0_rules_61 rfl 1 rfl) ?_
    exact c_ret_i T e h dX0_rules_62
  · refine cw (k_aload_n hX dX0_rules_20 rfl 0 rfl) ?_
    refine cw (k_iconst (v := 4) hX dX0_rules_21 (by decide)) ?_
    refine cw (k_iload_n hX dX0_rules_22 rfl 3 rfl) ?_
    refine cw (k_iadd hX dX0_rules_23) ?_
    refine cw (k_iconst (v := 0) hX dX0_rules_24 (by decide)) ?_
    refine cw (k_iconst (v := 0) hX dX0_rules_25 (by decide)) ?_
    refine cw (k_iconst (v := 0) hX dX0_rules_26 (by decide)) ?_
    refine cX_X0_332 T met_FX0_mean (c_room hR rfl rfl) h rfl dX0_rules_27 (fun v7 s6 h => ?_)
    refine cw (k_istore [(4, .int v7), (0, .ref x0), (1, .int x1), (2, .int x2), (3, .int x3)] hX dX0_rules_30 rfl rfl) ?_
    refine cw (k_iload hX dX0_rules_32 0 rfl) ?_
    refine c_br h (k_if_lt (tgt := 55) hX h dX0_rules_34 (by decide)) (fun h => ?_) (fun h => ?_)
    · refine cw (k_iinc (j := 4) [(3, .int (x3 + 1)), (4, .int v7), (0, .ref x0), (1, .int x1), (2, .int x2)] hX dX0_rules_55 rfl rfl rfl rfl) ?_
      refine cw (k_goto (tgt := 6) hX dX0_rules_58 (by decide)) ?_
      refine cw (k_lv (lv' := [(0, .ref x0), (1, .int x1), (2, .int x2), (3, .int (x3 + 1))]) [2, 3, 4, 0] rfl) ?_
      exact hk6 _ _ _ _ _ h
    · refine cw (k_iload_n hX dX0_rules_37 rfl 2 rfl) ?_
      refine c_br h (k_if_lt (tgt := 50) hX h dX0_rules_38 (by decide)) (fun h => ?_) (fun h => ?_)
      · refine cw (k_iload_n hX dX0_rules_50 rfl 4 rfl) ?_
        refine cw (k_istore_n [(1, .int x3), (4, .int v7), (0, .ref x0), (2, .int x2), (3, .int x3)] hX dX0_rules_51 rfl rfl rfl) ?_
        refine cw (k_iload hX dX0_rules_52 1 rfl) ?_
        refine cw (k_istore_n [(2, .int v7), (1, .int x3), (4, .int v7), (0, .ref x0), (3, .int x3)] hX dX0_rules_54 rfl rfl rfl) ?_
        refine cw (k_iinc (j := 4) [(3, .int (x3 + 1)), (2, .int v7), (1, .int x3), (4, .int v7), (0, .ref x0)] hX dX0_rules_55 rfl rfl rfl rfl) ?_
        refine cw (k_goto (tgt := 6) hX dX0_rules_58 (by decide)) ?_
        refine cw (k_lv (lv' := [(0, .ref x0), (1, .int x3), (2, .int v7), (3, .int (x3 + 1))]) [4, 2, 1, 0] rfl) ?_
        exact hk6 _ _ _ _ _ h
      · refine cw (k_iload hX dX0_rules_41 0 rfl) ?_
        refine cw (k_iload_n hX dX0_rules_43 rfl 3 rfl) ?_
        refine c_br h (k_icmp_lt (tgt := 50) hX h dX0_rules_44 (by decide)) (fun h => ?_) (fun h => ?_)
        · refine cw (k_iload_n hX dX0_rules_50 rfl 4 rfl) ?_
          refine cw (k_istore_n [(1, .int x3), (4, .int v7), (0, .ref x0), (2, .int x2), (3, .int x3)] hX dX0_rules_51 rfl rfl rfl) ?_
          refine cw (k_iload hX dX0_rules_52 1 rfl) ?_
          refine cw (k_istore_n [(2, .int v7), (1, .int x3), (4, .int v7), (0, .ref x0), (3, .int x3)] hX dX0_rules_54 rfl rfl rfl) ?_
          refine cw (k_iinc (j := 4) [(3, .int (x3 + 1)), (2, .int v7), (1, .int x3), (4, .int v7), (0, .ref x0)] hX dX0_rules_55 rfl rfl rfl rfl) ?_
          refine cw (k_goto (tgt := 6) hX dX0_rules_58 (by decide)) ?_
          refine cw (k_lv (lv' := [(0, .ref x0), (1, .int x3), (2, .int v7), (3, .int (x3 + 1))]) [4, 2, 1, 0] rfl) ?_
          exact hk6 _ _ _ _ _ h
        · refine cw (k_goto (tgt := 55) hX dX0_rules_47 (by decide)) ?_
          refine cw (k_iinc (j := 4) [(3, .int (x3 + 1)), (4, .int v7), (0, .ref x0), (1, .int x1), (2, .int x2)] hX dX0_rules_55 rfl rfl rfl rfl) ?_
          refine cw (k_goto (tgt := 6) hX dX0_rules_58 (by decide)) ?_
          refine cw (k_lv (lv' := [(0, .ref x0), (1, .int x1), (2, .int x2), (3, .int (x3 + 1))]) [2, 3, 4, 0] rfl) ?_
          exact hk6 _ _ _ _ _ h
theorem FX0_rules_b6_ok {X : KC CS} {E : CE} {z : (Int32 × CS)} {z0 l0 z1 l1 : Nat} (T : cOK X E cX0_rules RX0 5 (some .int) z0 l0 z1 l1) (hR : cRoom X 608 29607) (e : cE_i X E z0 l0 z1 l1 z.1 z.2) {nf : Nat} : ∀ (n : Nat) (x0 : Nat) (x1 : Int32) (x2 : Int32) (x3 : Int32) (s : CS), FX0_rules_b6 nf n x0 x1 x2 x3 s = some z → cW X z1 l1 s 6 [(0, .ref x0), (1, .int x1), (2, .int x2), (3, .int x3)] [] := by
  intro n
  induction n with
  | zero => intro x0 x1 x2 x3 s h; exact (nomatch (show (none : Option (Int32 × CS)) = some z from h))
  | succ n ih =>
    intro x0 x1 x2 x3 s h
    have h : FX0_rules_b6_s nf (FX0_rules_b6 nf n) x0 x1 x2 x3 s = some z := h
    exact FX0_rules_b6_s_ok T hR e ih h
theorem met_FX0_rules {l : Launch} {E : CE} {nf : Nat} : ∀ (x0 : Nat) (s : CS) (z : (Int32 × CS)), FX0_rules nf x0 s = some z → (isK s x0 [0] = true ∧ cMet_i l E yX0_rules (ws_ yX0_rules cX0_rules 5 (some .int)) 608 29607 [.ref x0] s z.1 z.2) := by
  intro x0 s z h
  unfold FX0_rules at h
  obtain ⟨hm, h⟩ := mz_of h
  obtain ⟨hg, h⟩ := gd_of h
  refine ⟨hg, c_met_i hm (by decide +kernel) rfl (fun X hl hin T hR e => ?_)⟩
  have T : cOK X E cX0_rules RX0 5 (some .int) _ _ _ _ := T
  have hX := T.1
  show cW X _ _ s 0 [(0, .ref x0)] []
  refine cw (k_iconst (v := (-1)) hX dX0_rules_0 (by decide)) ?_
  refine cw (k_istore_n [(1, .int (-1)), (0, .ref x0)] hX dX0_rules_1 rfl rfl rfl) ?_
  refine cw (k_iconst (v := 0) hX dX0_rules_2 (by decide)) ?_
  refine cw (k_istore_n [(2, .int 0), (1, .int (-1)), (0, .ref x0)] hX dX0_rules_3 rfl rfl rfl) ?_
  refine cw (k_iconst (v := 0) hX dX0_rules_4 (by decide)) ?_
  refine cw (k_istore_n [(3, .int 0), (2, .int 0), (1, .int (-1)), (0, .ref x0)] hX dX0_rules_5 rfl rfl rfl) ?_
  refine cw (k_lv (lv' := [(0, .ref x0), (1, .int (-1)), (2, .int 0), (3, .int 0)]) [3, 2, 1, 0] rfl) ?_
  exact FX0_rules_b6_ok T hR e _ _ _ _ _ _ h
theorem met_FX0_stay {l : Launch} {E : CE} {nf : Nat} : ∀ (x0 : Nat) (x1 : Int32) (s : CS) (z : (Int32 × CS)), FX0_stay nf x0 x1 s = some z → (isK s x0 [0] = true ∧ cMet_i l E yX0_stay (ws_ yX0_stay cX0_stay 2 (some .int)) 3 82 [.ref x0, .int x1] s z.1 z.2) := by
  intro x0 x1 s z h
  unfold FX0_stay at h
  obtain ⟨hm, h⟩ := mz_of h
  obtain ⟨hg, h⟩ := gd_of h
  refine ⟨hg, c_met_i hm (by decide +kernel) rfl (fun X hl hin T hR e => ?_)⟩
  have T : cOK X E cX0_stay RX0 2 (some .int) _ _ _ _ := T
  have hX := T.1
  show cW X _ _ s 0 [(0, .ref x0), (1, .int x1)] []
  refine cw (k_iload_n hX dX0_stay_0 rfl 1 rfl) ?_
  refine cw (k_iconst (v := 1) hX dX0_stay_1 (by decide)) ?_
  refine cw (k_sipush (v := 1000) hX dX0_stay_2 (by decide)) ?_
  refine cX_X0_127 T met_FX0_in (c_room hR rfl rfl) h rfl dX0_stay_5 (fun v1 h => ?_)
  refine c_brn h (k_if_ne (tgt := 13) hX h dX0_stay_8 (by decide)) (fun h => ?_) (fun h => ?_)
  · refine cw (k_aload_n hX dX0_stay_13 rfl 0 rfl) ?_
    refine cX_X0_211 T met_FX0_keeps (c_room hR rfl rfl) h rfl dX0_stay_14 (fun s2 h => ?_)
    refine cw (k_aload_n hX dX0_stay_17 rfl 0 rfl) ?_
    refine cg_X0_49 T h dX0_stay_18 (fun r3 h => ?_)
    refine cw (k_dup hX dX0_stay_21 (rf_cat _)) ?_
    obtain ⟨p4, e_p4, hq_p4⟩ := nn_of h
    subst e_p4
    have h := hq_p4
    show cW X _ _ _ 22 [(0, .ref x0), (1, .int x1)] [.ref p4, .ref p4]
    refine cg_X0_203 T h dX0_stay_22 (fun v5 h => ?_)
    refine cw (k_iload_n hX dX0_stay_25 rfl 1 rfl) ?_
    refine cw (k_iadd hX dX0_stay_26) ?_
    refine cp_X0_203 T h dX0_stay_27 (fun s6 h => ?_)
    refine cw (k_aload_n hX dX0_stay_30 rfl 0 rfl) ?_
    refine cg_X0_49 T h dX0_stay_31 (fun r7 h => ?_)
    obtain ⟨p8, e_p8, hq_p8⟩ := nn_of h
    subst e_p8
    have h := hq_p8
    show cW X _ _ _ 34 [(0, .ref x0), (1, .int x1)] [.ref p8]
    refine cg_X0_203 T h dX0_stay_34 (fun v9 h => ?_)
    exact c_ret_i T e h dX0_stay_37
  · refine cw (k_iconst (v := (-1)) hX dX0_stay_11 (by decide)) ?_
    exact c_ret_i T e h dX0_stay_12
theorem FX0_town_b49_s_ok {X : KC CS} {E : CE} {z : (Int32 × CS)} {z0 l0 z1 l1 : Nat} (T : cOK X E cX0_town RX0 2 (some .int) z0 l0 z1 l1) (hR : cRoom X 114 3076) (e : xH X E z0 l0 z1 l1 (xQ_i E (.inr z.1) z.2) z.2 [(4, 15, 18, 109)]) {nf : Nat} {k49 : Nat → Int32 → CS → Option (Int32 × CS)} (hk49 : ∀ (x0 : Nat) (x1 : Int32) (s : CS), k49 x0 x1 s = some z → cW X z1 l1 s 49 [(0, .ref x0), (1, .int x1)] []) {x0 : Nat} {x1 : Int32} {s : CS} (h : FX0_town_b49_s E.2.2.2 nf k49 x0 x1 s = some z) : cW X z1 l1 s 49 [(0, .ref x0), (1, .int x1)] [] := by
  unfold FX0_town_b49_s at h
  have hX := T.1
  refine cw (k_iload_n hX dX0_town_49 rfl 1 rfl) ?_
  refine cw (k_iconst (v := 4) hX dX0_town_50 (by decide)) ?_
  refine c_br h (k_icmp_ge (tgt := 67) hX h dX0_town_51 (by decide)) (fun h => ?_) (fun h => ?_)
  · refine cw (k_iconst (v := 0) hX dX0_town_67 (by decide)) ?_
    exact x_hret_i T e h dX0_town_68
  · refine cw (k_aload_n hX dX0_town_54 rfl 0 rfl) ?_
    refine cg_X0_93 T h dX0_town_55 (fun r1 h => ?_)
    refine cw (k_iload_n hX dX0_town_58 rfl 1 rfl) ?_
    refine cw (k_null hX dX0_town_59) ?_
    obtain ⟨p2, e_p2, hq_p2⟩ := nn_of h
    subst e_p2
    have h := hq_p2
    show cW X z1 l1 _ 60 [(0, .ref x0), (1, .int x1)] [.null, .int x1, .ref p2]
    refine ca_nst105 T h dX0_town_60 (fun s3 h => ?_)
    refine cw (k_iinc (j := 1) [(1, .int (x1 + 1)), (0, .ref x0)] hX dX0_town_61 rfl rfl rfl rfl) ?_
    refine cw (k_goto (tgt := 49) hX dX0_town_64 (by decide)) ?_
    refine cw (k_lv (lv' := [(0, .ref x0), (1, .int (x1 + 1))]) [1, 0] rfl) ?_
    exact hk49 _ _ _ h
theorem FX0_town_b49_ok {X : KC CS} {E : CE} {z : (Int32 × CS)} {z0 l0 z1 l1 : Nat} (T : cOK X E cX0_town RX0 2 (some .int) z0 l0 z1 l1) (hR : cRoom X 114 3076) (e : xH X E z0 l0 z1 l1 (xQ_i E (.inr z.1) z.2) z.2 [(4, 15, 18, 109)]) {nf : Nat} : ∀ (n : Nat) (x0 : Nat) (x1 : Int32) (s : CS), FX0_town_b49 E.2.2.2 nf n x0 x1 s = some z → cW X z1 l1 s 49 [(0, .ref x0), (1, .int x1)] [] := by
  intro n
  induction n with
  | zero => intro x0 x1 s h; exact (nomatch (show (none : Option (Int32 × CS)) = some z from h))
  | succ n ih =>
    intro x0 x1 s h
    have h : FX0_town_b49_s E.2.2.2 nf (FX0_town_b49 E.2.2.2 nf n) x0 x1 s = some z := h
    exact FX0_town_b49_s_ok T hR e ih h
theorem met_FX0_town {l : Launch} {E : CE} {nf : Nat} : ∀ (x0 : Nat) (s : CS) (z : (Int32 × CS)), FX0_town E.2.2.2 nf x0 s = some z → (isK s x0 [0] = true ∧ xMet_i l E yX0_town (wsW_ yX0_town cX0_town 2 (some .int) [(4, 15, 18, 109)]) 114 3076 [.ref x0] s (.inr z.1) z.2) := by
  intro x0 s z h
  unfold FX0_town at h
  obtain ⟨hm, h⟩ := mz_of h
  obtain ⟨hg, h⟩ := gd_of h
  refine ⟨hg, x_hmet_i hm (by decide +kernel) rfl (fun X hl hin T hR e => ?_)⟩
  have T : cOK X E cX0_town RX0 2 (some .int) _ _ _ _ := T
  have hX := T.1
  show cW X _ _ s 0 [(0, .ref x0)] []
  refine cw (k_aload_n hX dX0_town_0 rfl 0 rfl) ?_
  refine cX_X0_103 T met_FX0_reads (c_room hR rfl rfl) h rfl dX0_town_1 (fun s1 h => ?_)
  refine cw (k_aload_n hX dX0_town_4 rfl 0 rfl) ?_
  refine cw (k_aload_n hX dX0_town_5 rfl 0 rfl) ?_
  refine cg_X0_28 T h dX0_town_6 (fun r2 h => ?_)
  obtain ⟨p3, e_p3, hq_p3⟩ := nn_of h
  subst e_p3
  have h := hq_p3
  show cW X _ _ _ 9 [(0, .ref x0)] [.ref p3, .ref x0]
  refine cX_X0_106 T met_FX1_town (c_room hR rfl rfl) e rfl h rfl dX0_town_9 (fun q6 s7 h => ?_) (fun r5 s4 h => ?_)
  · refine cw (k_astore_n [(1, .ref q6), (0, .ref x0)] hX dX0_town_18 rfl rfl rfl) ?_
    refine cw (k_aload_n hX dX0_town_19 rfl 0 rfl) ?_
    refine cg_X0_111 T h dX0_town_20 (fun v8 h => ?_)
    exact x_hret_i T e h dX0_town_23
  · refine cp_X0_35o T h dX0_town_12 (fun s9 h => ?_)
    refine cw (k_goto (tgt := 24) hX dX0_town_15 (by decide)) ?_
    refine cw (k_aload_n hX dX0_town_24 rfl 0 rfl) ?_
    refine c_newO kX7 q409 q410 q150 (nd7 _) T h dX0_town_25 (fun o10 s11 h => ?_)
    refine cw (k_dup hX dX0_town_28 rfl) ?_
    refine cX_X0_41 T met_FX7_init (c_room hR rfl rfl) h rfl dX0_town_29 (fun s12 h => ?_)
    refine cp_X0_42 T h dX0_town_32 (fun s13 h => ?_)
    refine cw (k_aload_n hX dX0_town_35 rfl 0 rfl) ?_
    refine cg_X0_49 T h dX0_town_36 (fun r14 h => ?_)
    obtain ⟨p15, e_p15, hq_p15⟩ := nn_of h
    subst e_p15
    have h := hq_p15
    show cW X _ _ _ 39 [(0, .ref x0)] [.ref p15]
    refine cX_X0_114 T met_FX8_begin (c_room hR rfl rfl) h rfl dX0_town_39 (fun s16 h => ?_)
    refine cw (k_aload_n hX dX0_town_42 rfl 0 rfl) ?_
    refine cw (k_iconst (v := 0) hX dX0_town_43 (by decide)) ?_
    refine cp_X0_116 T h dX0_town_44 (fun s17 h => ?_)
    refine cw (k_iconst (v := 0) hX dX0_town_47 (by decide)) ?_
    refine cw (k_istore_n [(1, .int 0), (0, .ref x0)] hX dX0_town_48 rfl rfl rfl) ?_
    refine cw (k_lv (lv' := [(0, .ref x0), (1, .int 0)]) [1, 0] rfl) ?_
    exact FX0_town_b49_ok T hR e _ _ _ _ h
theorem met_FX0_tried {l : Launch} {E : CE} : ∀ (x0 : Nat) (x1 : Int32) (x2 : Int32) (x3 : Int32) (x4 : Int32) (s : CS) (z : (Int32 × CS)), FX0_tried x0 x1 x2 x3 x4 s = some z → (isK s x0 [0] = true ∧ cMet_i l E yX0_tried (ws_ yX0_tried cX0_tried 5 (some .boolean)) 3 66 [.ref x0, .int x1, .int x2, .int x3, .int x4] s z.1 z.2) := by
  intro x0 x1 x2 x3 x4 s z h
  unfold FX0_tried at h
  obtain ⟨hm, h⟩ := mz_of h
  obtain ⟨hg, h⟩ := gd_of h
  refine ⟨hg, c_met_i hm (by decide +kernel) rfl (fun X hl hin T hR e => ?_)⟩
  have T : cOK X E cX0_tried RX0 5 (some .boolean) _ _ _ _ := T
  have hX := T.1
  show cW X _ _ s 0 [(0, .ref x0), (1, .int x1), (2, .int x2), (3, .int x3), (4, .int x4)] []
  refine cw (k_aload_n hX dX0_tried_0 rfl 0 rfl) ?_
  refine cw (k_iload_n hX dX0_tried_1 rfl 1 rfl) ?_
  refine cw (k_iload_n hX dX0_tried_2 rfl 2 rfl) ?_
  refine cX_X0_374 T met_FX0_isButton (c_room hR rfl rfl) h rfl dX0_tried_3 (fun v1 h => ?_)
  refine c_br h (k_if_eq (tgt := 32) hX h dX0_tried_6 (by decide)) (fun h => ?_) (fun h => ?_)
  · refine cw (k_iconst (v := 0) hX dX0_tried_32 (by decide)) ?_
    exact c_ret_zc T e rfl h dX0_tried_33
  · refine cw (k_iload hX dX0_tried_9 4 rfl) ?_
    refine cw (k_iconst (v := 0) hX dX0_tried_11 (by decide)) ?_
    refine cw (k_bipush (v := 59) hX dX0_tried_12 (by decide)) ?_
    refine cX_X0_127 T met_FX0_in (c_room hR rfl rfl) h rfl dX0_tried_14 (fun v2 h => ?_)
    refine c_br h (k_if_eq (tgt := 32) hX h dX0_tried_17 (by decide)) (fun h => ?_) (fun h => ?_)
    · refine cw (k_iconst (v := 0) hX dX0_tried_32 (by decide)) ?_
      exact c_ret_zc T e rfl h dX0_tried_33
    · refine cw (k_aload_n hX dX0_tried_20 rfl 0 rfl) ?_
      refine cg_X0_49 T h dX0_tried_21 (fun r3 h => ?_)
      obtain ⟨p4, e_p4, hq_p4⟩ := nn_of h
      subst e_p4
      have h := hq_p4
      show cW X _ _ _ 24 [(0, .ref x0), (1, .int x1), (2, .int x2), (3, .int x3), (4, .int x4)] [.ref p4]
      refine cg_X0_376 T h dX0_tried_24 (fun v5 h => ?_)
      refine cw (k_bipush (v := 10) hX dX0_tried_27 (by decide)) ?_
      refine c_brn h (k_icmp_ne (tgt := 34) hX h dX0_tried_29 (by decide)) (fun h => ?_) (fun h => ?_)
      · refine cw (k_aload_n hX dX0_tried_34 rfl 0 rfl) ?_
        refine cg_X0_49 T h dX0_tried_35 (fun r6 h => ?_)
        obtain ⟨p7, e_p7, hq_p7⟩ := nn_of h
        subst e_p7
        have h := hq_p7
        show cW X _ _ _ 38 [(0, .ref x0), (1, .int x1), (2, .int x2), (3, .int x3), (4, .int x4)] [.ref p7]
        refine cg_X0_379 T h dX0_tried_38 (fun r8 h => ?_)
        refine cw (k_aload_n hX dX0_tried_41 rfl 0 rfl) ?_
        refine cg_X0_49 T h dX0_tried_42 (fun r9 h => ?_)
        obtain ⟨p10, e_p10, hq_p10⟩ := nn_of h
        subst e_p10
        have h := hq_p10
        show cW X _ _ _ 45 [(0, .ref x0), (1, .int x1), (2, .int x2), (3, .int x3), (4, .int x4)] [.ref p10, va_rf r8]
        refine cg_X0_376 T h dX0_tried_45 (fun v11 h => ?_)
        refine cw (k_iload_n hX dX0_tried_48 rfl 2 rfl) ?_
        refine cw (k_bipush (v := 6) hX dX0_tried_49 (by decide)) ?_
        refine cw (k_imul hX dX0_tried_51) ?_
        refine cw (k_iload_n hX dX0_tried_52 rfl 1 rfl) ?_
        refine cw (k_iadd hX dX0_tried_53) ?_
        obtain ⟨p12, e_p12, hq_p12⟩ := nn_of h
        subst e_p12
        have h := hq_p12
        show cW X _ _ _ 54 [(0, .ref x0), (1, .int x1), (2, .int x2), (3, .int x3), (4, .int x4)] [.int ((x2 * 6) + x1), .int v11, .ref p12]
        refine ca_ist T h dX0_tried_54 (fun s13 h => ?_)
        refine cw (k_aload_n hX dX0_tried_55 rfl 0 rfl) ?_
        refine cg_X0_49 T h dX0_tried_56 (fun r14 h => ?_)
        obtain ⟨p15, e_p15, hq_p15⟩ := nn_of h
        subst e_p15
        have h := hq_p15
        show cW X _ _ _ 59 [(0, .ref x0), (1, .int x1), (2, .int x2), (3, .int x3), (4, .int x4)] [.ref p15]
        refine cg_X0_382 T h dX0_tried_59 (fun r16 h => ?_)
        refine cw (k_aload_n hX dX0_tried_62 rfl 0 rfl) ?_
        refine cg_X0_49 T h dX0_tried_63 (fun r17 h => ?_)
        obtain ⟨p18, e_p18, hq_p18⟩ := nn_of h
        subst e_p18
        have h := hq_p18
        show cW X _ _ _ 66 [(0, .ref x0), (1, .int x1), (2, .int x2), (3, .int x3), (4, .int x4)] [.ref p18, va_rf r16]
        refine cg_X0_376 T h dX0_tried_66 (fun v19 h => ?_)
        refine cw (k_iload_n hX dX0_tried_69 rfl 3 rfl) ?_
        obtain ⟨p20, e_p20, hq_p20⟩ := nn_of h
        subst e_p20
        have h := hq_p20
        show cW X _ _ _ 70 [(0, .ref x0), (1, .int x1), (2, .int x2), (3, .int x3), (4, .int x4)] [.int x3, .int v19, .ref p20]
        refine ca_zst T h dX0_tried_70 (fun s21 h => ?_)
        refine cw (k_aload_n hX dX0_tried_71 rfl 0 rfl) ?_
        refine cg_X0_49 T h dX0_tried_72 (fun r22 h => ?_)
        obtain ⟨p23, e_p23, hq_p23⟩ := nn_of h
        subst e_p23
        have h := hq_p23
        show cW X _ _ _ 75 [(0, .ref x0), (1, .int x1), (2, .int x2), (3, .int x3), (4, .int x4)] [.ref p23]
        refine cg_X0_385 T h dX0_tried_75 (fun r24 h => ?_)
        refine cw (k_aload_n hX dX0_tried_78 rfl 0 rfl) ?_
        refine cg_X0_49 T h dX0_tried_79 (fun r25 h => ?_)
        refine cw (k_dup hX dX0_tried_82 (rf_cat _)) ?_
        obtain ⟨p26, e_p26, hq_p26⟩ := nn_of h
        subst e_p26
        have h := hq_p26
        show cW X _ _ _ 83 [(0, .ref x0), (1, .int x1), (2, .int x2), (3, .int x3), (4, .int x4)] [.ref p26, .ref p26, va_rf r24]
        refine cg_X0_376 T h dX0_tried_83 (fun v27 h => ?_)
        refine cw (k_dup_x1 hX dX0_tried_86 (by first | rfl | exact rf_cat _) (by first | rfl | exact rf_cat _)) ?_
        refine cw (k_iconst (v := 1) hX dX0_tried_87 (by decide)) ?_
        refine cw (k_iadd hX dX0_tried_88) ?_
        refine cp_X0_376 T h dX0_tried_89 (fun s28 h => ?_)
        refine cw (k_iload hX dX0_tried_92 4 rfl) ?_
        obtain ⟨p29, e_p29, hq_p29⟩ := nn_of h
        subst e_p29
        have h := hq_p29
        show cW X _ _ _ 94 [(0, .ref x0), (1, .int x1), (2, .int x2), (3, .int x3), (4, .int x4)] [.int x4, .int v27, .ref p29]
        refine ca_ist T h dX0_tried_94 (fun s30 h => ?_)
        refine cw (k_iconst (v := 1) hX dX0_tried_95 (by decide)) ?_
        exact c_ret_zc T e rfl h dX0_tried_96
      · refine cw (k_iconst (v := 0) hX dX0_tried_32 (by decide)) ?_
        exact c_ret_zc T e rfl h dX0_tried_33
theorem FX0_turnsOn_b40_ok {X : KC CS} {E : CE} {z : CS} {z0 l0 z1 l1 : Nat} (T : cOK X E cX0_turnsOn RX0 8 none z0 l0 z1 l1) (hR : cRoom X 2 48) (e : cE_v X E z0 l0 z1 l1 z) {x0 : Nat} {x3 : Int32} {x4 : Int32} {x5 : Int32} {x6 : Int32} {s_0 : Int32} {s_1 : Int32} {s_2 : Nat} {s : CS} (h : FX0_turnsOn_b40 x0 x3 x4 x5 x6 s_0 s_1 s_2 s = some z) : cW X z1 l1 s 40 [(0, .ref x0), (3, .int x3), (4, .int x4), (5, .int x5), (6, .int x6)] [.int s_0, .int s_1, .ref s_2] := by
  unfold FX0_turnsOn_b40 at h
  have hX := T.1
  refine cw (k_iload_n hX dX0_turnsOn_40 rfl 1 rfl) ?_
  refine cw (k_iload hX dX0_turnsOn_41 3 rfl) ?_
  refine cX_X0_311 T met_FX0_comesAt (c_room hR rfl rfl) h rfl dX0_turnsOn_43 (fun v1 h => ?_)
  refine cw (k_istore [(7, .int v1), (0, .ref x0), (3, .int x3), (4, .int x4), (5, .int x5), (6, .int x6)] hX dX0_turnsOn_46 rfl rfl) ?_
  refine cw (k_aload_n hX dX0_turnsOn_48 rfl 1 rfl) ?_
  refine cg_X0_66 T h dX0_turnsOn_49 (fun r2 h => ?_)
  refine cw (k_iload hX dX0_turnsOn_52 0 rfl) ?_
  refine cw (k_aload_n hX dX0_turnsOn_54 rfl 1 rfl) ?_
  refine cg_X0_66 T h dX0_turnsOn_55 (fun r3 h => ?_)
  refine cw (k_iload hX dX0_turnsOn_58 0 rfl) ?_
  obtain ⟨p4, e_p4, hq_p4⟩ := nn_of h
  subst e_p4
  have h := hq_p4
  show cW X z1 l1 _ 60 [(7, .int v1), (0, .ref x0), (3, .int x3), (4, .int x4), (5, .int x5), (6, .int x6)] [.int v1, .ref p4, .int v1, va_rf r2]
  refine ca_ild T h dX0_turnsOn_60 (fun v5 h => ?_)
  refine cw (k_iload hX dX0_turnsOn_61 3 rfl) ?_
  refine cw (k_iload hX dX0_turnsOn_63 5 rfl) ?_
  refine cw (k_iadd hX dX0_turnsOn_65) ?_
  refine cw (k_aload_n hX dX0_turnsOn_66 rfl 1 rfl) ?_
  refine cg_X0_35 T h dX0_turnsOn_67 (fun r6 h => ?_)
  obtain ⟨p7, e_p7, hq_p7⟩ := nn_of h
  subst e_p7
  have h := hq_p7
  show cW X z1 l1 _ 70 [(7, .int v1), (0, .ref x0), (3, .int x3), (4, .int x4), (5, .int x5), (6, .int x6)] [.ref p7, .int (x4 + x6), .int v5, .int v1, va_rf r2]
  refine cX_X0_217 T met_FX2_walk (c_room hR rfl rfl) h (by cases r2 <;> rfl) dX0_turnsOn_70 (fun v8 h => ?_)
  refine cw (k_iadd hX dX0_turnsOn_73) ?_
  refine c_mmin T hR q1436 q330 q145 q331 (by cases r2 <;> rfl) dX0_turnsOn_74 ?_
  obtain ⟨p9, e_p9, hq_p9⟩ := nn_of h
  subst e_p9
  have h := hq_p9
  show cW X z1 l1 _ 77 [(7, .int v1), (0, .ref x0), (3, .int x3), (4, .int x4), (5, .int x5), (6, .int x6)] [.int (mn32 v5 ((x4 + x6) + v8)), .int v1, .ref p9]
  refine ca_ist T h dX0_turnsOn_77 (fun s10 h => ?_)
  exact c_ret_v T e h dX0_turnsOn_78
theorem FX0_turnsOn_b29_ok {X : KC CS} {E : CE} {z : CS} {z0 l0 z1 l1 : Nat} (T : cOK X E cX0_turnsOn RX0 8 none z0 l0 z1 l1) (hR : cRoom X 2 48) (e : cE_v X E z0 l0 z1 l1 z) {x0 : Nat} {x2 : Int32} {x3 : Int32} {x4 : Int32} {x5 : Int32} {x6 : Int32} {s_0 : Int32} {s_1 : Nat} {s : CS} (h : FX0_turnsOn_b29 x0 x2 x3 x4 x5 x6 s_0 s_1 s = some z) : cW X z1 l1 s 29 [(0, .ref x0), (2, .int x2), (3, .int x3), (4, .int x4), (5, .int x5), (6, .int x6)] [.int s_0, .ref s_1] := by
  unfold FX0_turnsOn_b29 at h
  have hX := T.1
  refine cw (k_iload_n hX dX0_turnsOn_29 rfl 2 rfl) ?_
  refine c_brn h (k_if_ne (tgt := 37) hX h dX0_turnsOn_30 (by decide)) (fun h => ?_) (fun h => ?_)
  · refine cw (k_iload_n hX dX0_turnsOn_37 rfl 1 rfl) ?_
    refine cw (k_iconst (v := 1) hX dX0_turnsOn_38 (by decide)) ?_
    refine cw (k_iadd hX dX0_turnsOn_39) ?_
    refine cw (k_lv (lv' := [(0, .ref x0), (3, .int x3), (4, .int x4), (5, .int x5), (6, .int x6)]) [0, 2, 3, 4, 5] rfl) ?_
    exact FX0_turnsOn_b40_ok T hR e h
  · refine cw (k_iload_n hX dX0_turnsOn_33 rfl 1 rfl) ?_
    refine cw (k_goto (tgt := 40) hX dX0_turnsOn_34 (by decide)) ?_
    refine cw (k_lv (lv' := [(0, .ref x0), (3, .int x3), (4, .int x4), (5, .int x5), (6, .int x6)]) [0, 2, 3, 4, 5] rfl) ?_
    exact FX0_turnsOn_b40_ok T hR e h
theorem met_FX0_turnsOn {l : Launch} {E : CE} : ∀ (x0 : Nat) (x1 : Int32) (x2 : Int32) (x3 : Int32) (x4 : Int32) (x5 : Int32) (s : CS) (z : CS), FX0_turnsOn x0 x1 x2 x3 x4 x5 s = some z → (isK s x0 [0] = true ∧ cMet_v l E yX0_turnsOn (ws_ yX0_turnsOn cX0_turnsOn 8 none) 2 48 [.ref x0, .int x1, .int x2, .int x3, .int x4, .int x5] s z) := by
  intro x0 x1 x2 x3 x4 x5 s z h
  unfold FX0_turnsOn at h
  obtain ⟨hm, h⟩ := mz_of h
  obtain ⟨hg, h⟩ := gd_of h
  refine ⟨hg, c_met_v hm (by decide +kernel) rfl (fun X hl hin T hR e => ?_)⟩
  have T : cOK X E cX0_turnsOn RX0 8 none _ _ _ _ := T
  have hX := T.1
  show cW X _ _ s 0 [(0, .ref x0), (1, .int x1), (2, .int x2), (3, .int x3), (4, .int x4), (5, .int x5)] []
  refine cw (k_aload_n hX dX0_turnsOn_0 rfl 0 rfl) ?_
  refine cw (k_iload_n hX dX0_turnsOn_1 rfl 1 rfl) ?_
  refine cw (k_iload_n hX dX0_turnsOn_2 rfl 2 rfl) ?_
  refine cw (k_iload_n hX dX0_turnsOn_3 rfl 3 rfl) ?_
  refine cw (k_iload hX dX0_turnsOn_4 4 rfl) ?_
  refine cX_X0_191 T met_FX0_waits (c_room hR rfl rfl) h rfl dX0_turnsOn_6 (fun v1 h => ?_)
  refine cw (k_istore [(6, .int v1), (0, .ref x0), (1, .int x1), (2, .int x2), (3, .int x3), (4, .int x4), (5, .int x5)] hX dX0_turnsOn_9 rfl rfl) ?_
  refine cw (k_iload hX dX0_turnsOn_11 0 rfl) ?_
  refine c_br h (k_if_ge (tgt := 17) hX h dX0_turnsOn_13 (by decide)) (fun h => ?_) (fun h => ?_)
  · refine cw (k_aload_n hX dX0_turnsOn_17 rfl 1 rfl) ?_
    refine cw (k_iload_n hX dX0_turnsOn_18 rfl 4 rfl) ?_
    refine c_brn h (k_if_ne (tgt := 28) hX h dX0_turnsOn_19 (by decide)) (fun h => ?_) (fun h => ?_)
    · refine cw (k_iload_n hX dX0_turnsOn_28 rfl 2 rfl) ?_
      refine cw (k_lv (lv' := [(0, .ref x0), (2, .int x2), (3, .int x3), (4, .int x4), (5, .int x5), (6, .int v1)]) [1, 3, 4, 5, 6, 0] rfl) ?_
      exact FX0_turnsOn_b29_ok T hR e h
    · refine cw (k_iload_n hX dX0_turnsOn_22 rfl 2 rfl) ?_
      refine cw (k_iconst (v := 1) hX dX0_turnsOn_23 (by decide)) ?_
      refine cw (k_iadd hX dX0_turnsOn_24) ?_
      refine cw (k_goto (tgt := 29) hX dX0_turnsOn_25 (by decide)) ?_
      refine cw (k_lv (lv' := [(0, .ref x0), (2, .int x2), (3, .int x3), (4, .int x4), (5, .int x5), (6, .int v1)]) [1, 3, 4, 5, 6, 0] rfl) ?_
      exact FX0_turnsOn_b29_ok T hR e h
  · exact c_ret_v T e h dX0_turnsOn_16
theorem FX0_turnsFrom_b12_s_ok {X : KC CS} {E : CE} {z : CS} {z0 l0 z1 l1 : Nat} (T : cOK X E cX0_turnsFrom RX0 7 none z0 l0 z1 l1) (hR : cRoom X 3 75) (e : cE_v X E z0 l0 z1 l1 z) {nf : Nat} {k3 : Nat → Int32 → Int32 → Int32 → Int32 → CS → Option CS} (hk3 : ∀ (x0 : Nat) (x1 : Int32) (x2 : Int32) (x3 : Int32) (x4 : Int32) (s : CS), k3 x0 x1 x2 x3 x4 s = some z → cW X z1 l1 s 3 [(0, .ref x0), (1, .int x1), (2, .int x2), (3, .int x3), (4, .int x4)] []) {k12 : Nat → Int32 → Int32 → Int32 → Int32 → Int32 → CS → Option CS} (hk12 : ∀ (x0 : Nat) (x1 : Int32) (x2 : Int32) (x3 : Int32) (x4 : Int32) (x5 : Int32) (s : CS), k12 x0 x1 x2 x3 x4 x5 s = some z → cW X z1 l1 s 12 [(0, .ref x0), (1, .int x1), (2, .int x2), (3, .int x3), (4, .int x4), (5, .int x5)] []) {x0 : Nat} {x1 : Int32} {x2 : Int32} {x3 : Int32} {x4 : Int32} {x5 : Int32} {s : CS} (h : FX0_turnsFrom_b12_s nf k3 k12 x0 x1 x2 x3 x4 x5 s = some z) : cW X z1 l1 s 12 [(0, .ref x0), (1, .int x1), (2, .int x2), (3, .int x3), (4, .int x4), (5, .int x5)] [] := by
  unfold FX0_turnsFrom_b12_s at h
  have hX := T.1
  refine cw (k_iload hX dX0_turnsFrom_12 5 rfl) ?_
  refine cw (k_iload_n hX dX0_turnsFrom_14 rfl 3 rfl) ?_
  refine c_br h (k_icmp_gt (tgt := 86) hX h dX0_turnsFrom_15 (by decide)) (fun h => ?_) (fun h => ?_)
  · refine cw (k_iinc (j := 4) [(4, .int (x4 + 1)), (0, .ref x0), (1, .int x1), (2, .int x2), (3, .int x3), (5, .int x5)] hX dX0_turnsFrom_86 rfl rfl rfl rfl) ?_
    refine cw (k_goto (tgt := 3) hX dX0_turnsFrom_89 (by decide)) ?_
    refine cw (k_lv (lv' := [(0, .ref x0), (1, .int x1), (2, .int x2), (3, .int x3), (4, .int (x4 + 1))]) [1, 2, 3, 4, 0] rfl) ?_
    exact hk3 _ _ _ _ _ _ h
  · refine cw (k_aload_n hX dX0_turnsFrom_18 rfl 0 rfl) ?_
    refine cg_X0_66 T h dX0_turnsFrom_19 (fun r1 h => ?_)
    refine cw (k_aload_n hX dX0_turnsFrom_22 rfl 0 rfl) ?_
    refine cw (k_iload_n hX dX0_turnsFrom_23 rfl 1 rfl) ?_
    refine cw (k_iload_n hX dX0_turnsFrom_24 rfl 2 rfl) ?_
    refine cw (k_iload hX dX0_turnsFrom_25 4 rfl) ?_
    refine cw (k_iload hX dX0_turnsFrom_27 5 rfl) ?_
    refine cX_X0_311 T met_FX0_comesAt (c_room hR rfl rfl) h (by cases r1 <;> rfl) dX0_turnsFrom_29 (fun v2 h => ?_)
    obtain ⟨p3, e_p3, hq_p3⟩ := nn_of h
    subst e_p3
    have h := hq_p3
    show cW X z1 l1 _ 32 [(0, .ref x0), (1, .int x1), (2, .int x2), (3, .int x3), (4, .int x4), (5, .int x5)] [.int v2, .ref p3]
    refine ca_ild T h dX0_turnsFrom_32 (fun v4 h => ?_)
    refine cw (k_istore [(6, .int v4), (0, .ref x0), (1, .int x1), (2, .int x2), (3, .int x3), (4, .int x4), (5, .int x5)] hX dX0_turnsFrom_33 rfl rfl) ?_
    refine cw (k_iload hX dX0_turnsFrom_35 0 rfl) ?_
    refine cw (k_ldcw (v := 2147483647) hX q1427 dX0_turnsFrom_37) ?_
    refine c_brn h (k_icmp_ne (tgt := 46) hX h dX0_turnsFrom_40 (by decide)) (fun h => ?_) (fun h => ?_)
    · refine cw (k_aload_n hX dX0_turnsFrom_46 rfl 1 rfl) ?_
      refine cw (k_iload_n hX dX0_turnsFrom_47 rfl 2 rfl) ?_
      refine cw (k_iload_n hX dX0_turnsFrom_48 rfl 3 rfl) ?_
      refine cw (k_iload hX dX0_turnsFrom_49 5 rfl) ?_
      refine cw (k_iload hX dX0_turnsFrom_51 0 rfl) ?_
      refine cw (k_iload hX dX0_turnsFrom_53 6 rfl) ?_
      refine cX_X0_318 T met_FX0_turnsOn (c_room hR rfl rfl) h rfl dX0_turnsFrom_55 (fun s5 h => ?_)
      refine cw (k_iload hX dX0_turnsFrom_58 6 rfl) ?_
      refine cw (k_iload_n hX dX0_turnsFrom_60 rfl 4 rfl) ?_
      refine c_br h (k_icmp_ge (tgt := 80) hX h dX0_turnsFrom_61 (by decide)) (fun h => ?_) (fun h => ?_)
      · refine cw (k_iinc (j := 6) [(5, .int (x5 + 1)), (6, .int v4), (0, .ref x0), (1, .int x1), (2, .int x2), (3, .int x3), (4, .int x4)] hX dX0_turnsFrom_80 rfl rfl rfl rfl) ?_
        refine cw (k_goto (tgt := 12) hX dX0_turnsFrom_83 (by decide)) ?_
        refine cw (k_lv (lv' := [(0, .ref x0), (1, .int x1), (2, .int x2), (3, .int x3), (4, .int x4), (5, .int (x5 + 1))]) [2, 3, 4, 5, 6, 0] rfl) ?_
        exact hk12 _ _ _ _ _ _ _ h
      · refine cw (k_aload_n hX dX0_turnsFrom_64 rfl 1 rfl) ?_
        refine cw (k_iload_n hX dX0_turnsFrom_65 rfl 2 rfl) ?_
        refine cw (k_iload_n hX dX0_turnsFrom_66 rfl 3 rfl) ?_
        refine cw (k_iconst (v := 1) hX dX0_turnsFrom_67 (by decide)) ?_
        refine cw (k_iload hX dX0_turnsFrom_68 5 rfl) ?_
        refine cw (k_isub hX dX0_turnsFrom_70) ?_
        refine cw (k_iload hX dX0_turnsFrom_71 0 rfl) ?_
        refine cw (k_iload hX dX0_turnsFrom_73 6 rfl) ?_
        refine cw (k_iconst (v := 1) hX dX0_turnsFrom_75 (by decide)) ?_
        refine cw (k_iadd hX dX0_turnsFrom_76) ?_
        refine cX_X0_318 T met_FX0_turnsOn (c_room hR rfl rfl) h rfl dX0_turnsFrom_77 (fun s6 h => ?_)
        refine cw (k_iinc (j := 6) [(5, .int (x5 + 1)), (6, .int v4), (0, .ref x0), (1, .int x1), (2, .int x2), (3, .int x3), (4, .int x4)] hX dX0_turnsFrom_80 rfl rfl rfl rfl) ?_
        refine cw (k_goto (tgt := 12) hX dX0_turnsFrom_83 (by decide)) ?_
        refine cw (k_lv (lv' := [(0, .ref x0), (1, .int x1), (2, .int x2), (3, .int x3), (4, .int x4), (5, .int (x5 + 1))]) [2, 3, 4, 5, 6, 0] rfl) ?_
        exact hk12 _ _ _ _ _ _ _ h
    · refine cw (k_goto (tgt := 80) hX dX0_turnsFrom_43 (by decide)) ?_
      refine cw (k_iinc (j := 6) [(5, .int (x5 + 1)), (6, .int v4), (0, .ref x0), (1, .int x1), (2, .int x2), (3, .int x3), (4, .int x4)] hX dX0_turnsFrom_80 rfl rfl rfl rfl) ?_
      refine cw (k_goto (tgt := 12) hX dX0_turnsFrom_83 (by decide)) ?_
      refine cw (k_lv (lv' := [(0, .ref x0), (1, .int x1), (2, .int x2), (3, .int x3), (4, .int x4), (5, .int (x5 + 1))]) [2, 3, 4, 5, 6, 0] rfl) ?_
      exact hk12 _ _ _ _ _ _ _ h
theorem FX0_turnsFrom_b12_ok {X : KC CS} {E : CE} {z : CS} {z0 l0 z1 l1 : Nat} (T : cOK X E cX0_turnsFrom RX0 7 none z0 l0 z1 l1) (hR : cRoom X 3 75) (e : cE_v X E z0 l0 z1 l1 z) {nf : Nat} {k3 : Nat → Int32 → Int32 → Int32 → Int32 → CS → Option CS} (hk3 : ∀ (x0 : Nat) (x1 : Int32) (x2 : Int32) (x3 : Int32) (x4 : Int32) (s : CS), k3 x0 x1 x2 x3 x4 s = some z → cW X z1 l1 s 3 [(0, .ref x0), (1, .int x1), (2, .int x2), (3, .int x3), (4, .int x4)] []) : ∀ (n : Nat) (x0 : Nat) (x1 : Int32) (x2 : Int32) (x3 : Int32) (x4 : Int32) (x5 : Int32) (s : CS), FX0_turnsFrom_b12 nf k3 n x0 x1 x2 x3 x4 x5 s = some z → cW X z1 l1 s 12 [(0, .ref x0), (1, .int x1), (2, .int x2), (3, .int x3), (4, .int x4), (5, .int x5)] [] := by
  intro n
  induction n with
  | zero => intro x0 x1 x2 x3 x4 x5 s h; exact (nomatch (show (none : Option CS) = some z from h))
  | succ n ih =>
    intro x0 x1 x2 x3 x4 x5 s h
    have h : FX0_turnsFrom_b12_s nf k3 (FX0_turnsFrom_b12 nf k3 n) x0 x1 x2 x3 x4 x5 s = some z := h
    exact FX0_turnsFrom_b12_s_ok T hR e hk3 ih h
theorem FX0_turnsFrom_b3_s_ok {X : KC CS} {E : CE} {z : CS} {z0 l0 z1 l1 : Nat} (T : cOK X E cX0_turnsFrom RX0 7 none z0 l0 z1 l1) (hR : cRoom X 3 75) (e : cE_v X E z0 l0 z1 l1 z) {nf : Nat} {k3 : Nat → Int32 → Int32 → Int32 → Int32 → CS → Option CS} (hk3 : ∀ (x0 : Nat) (x1 : Int32) (x2 : Int32) (x3 : Int32) (x4 : Int32) (s : CS), k3 x0 x1 x2 x3 x4 s = some z → cW X z1 l1 s 3 [(0, .ref x0), (1, .int x1), (2, .int x2), (3, .int x3), (4, .int x4)] []) {x0 : Nat} {x1 : Int32} {x2 : Int32} {x3 : Int32} {x4 : Int32} {s : CS} (h : FX0_turnsFrom_b3_s nf k3 x0 x1 x2 x3 x4 s = some z) : cW X z1 l1 s 3 [(0, .ref x0), (1, .int x1), (2, .int x2), (3, .int x3), (4, .int x4)] [] := by
  unfold FX0_turnsFrom_b3_s at h
  have hX := T.1
  refine cw (k_iload hX dX0_turnsFrom_3 4 rfl) ?_
  refine cw (k_iconst (v := 1) hX dX0_turnsFrom_5 (by decide)) ?_
  refine c_br h (k_icmp_gt (tgt := 92) hX h dX0_turnsFrom_6 (by decide)) (fun h => ?_) (fun h => ?_)
  · exact c_ret_v T e h dX0_turnsFrom_92
  · refine cw (k_iconst (v := 0) hX dX0_turnsFrom_9 (by decide)) ?_
    refine cw (k_istore [(5, .int 0), (0, .ref x0), (1, .int x1), (2, .int x2), (3, .int x3), (4, .int x4)] hX dX0_turnsFrom_10 rfl rfl) ?_
    refine cw (k_lv (lv' := [(0, .ref x0), (1, .int x1), (2, .int x2), (3, .int x3), (4, .int x4), (5, .int 0)]) [1, 2, 3, 4, 5, 0] rfl) ?_
    exact FX0_turnsFrom_b12_ok T hR e hk3 _ _ _ _ _ _ _ _ h
theorem FX0_turnsFrom_b3_ok {X : KC CS} {E : CE} {z : CS} {z0 l0 z1 l1 : Nat} (T : cOK X E cX0_turnsFrom RX0 7 none z0 l0 z1 l1) (hR : cRoom X 3 75) (e : cE_v X E z0 l0 z1 l1 z) {nf : Nat} : ∀ (n : Nat) (x0 : Nat) (x1 : Int32) (x2 : Int32) (x3 : Int32) (x4 : Int32) (s : CS), FX0_turnsFrom_b3 nf n x0 x1 x2 x3 x4 s = some z → cW X z1 l1 s 3 [(0, .ref x0), (1, .int x1), (2, .int x2), (3, .int x3), (4, .int x4)] [] := by
  intro n
  induction n with
  | zero => intro x0 x1 x2 x3 x4 s h; exact (nomatch (show (none : Option CS) = some z from h))
  | succ n ih =>
    intro x0 x1 x2 x3 x4 s h
    have h : FX0_turnsFrom_b3_s nf (FX0_turnsFrom_b3 nf n) x0 x1 x2 x3 x4 s = some z := h
    exact FX0_turnsFrom_b3_s_ok T hR e ih h
theorem met_FX0_turnsFrom {l : Launch} {E : CE} {nf : Nat} : ∀ (x0 : Nat) (x1 : Int32) (x2 : Int32) (x3 : Int32) (s : CS) (z : CS), FX0_turnsFrom nf x0 x1 x2 x3 s = some z → (isK s x0 [0] = true ∧ cMet_v l E yX0_turnsFrom (ws_ yX0_turnsFrom cX0_turnsFrom 7 none) 3 75 [.ref x0, .int x1, .int x2, .int x3] s z) := by
  intro x0 x1 x2 x3 s z h
  unfold FX0_turnsFrom at h
  obtain ⟨hm, h⟩ := mz_of h
  obtain ⟨hg, h⟩ := gd_of h
  refine ⟨hg, c_met_v hm (by decide +kernel) rfl (fun X hl hin T hR e => ?_)⟩
  have T : cOK X E cX0_turnsFrom RX0 7 none _ _ _ _ := T
  have hX := T.1
  show cW X _ _ s 0 [(0, .ref x0), (1, .int x1), (2, .int x2), (3, .int x3)] []
  refine cw (k_iconst (v := 0) hX dX0_turnsFrom_0 (by decide)) ?_
  refine cw (k_istore [(4, .int 0), (0, .ref x0), (1, .int x1), (2, .int x2), (3, .int x3)] hX dX0_turnsFrom_1 rfl rfl) ?_
  refine cw (k_lv (lv' := [(0, .ref x0), (1, .int x1), (2, .int x2), (3, .int x3), (4, .int 0)]) [1, 2, 3, 4, 0] rfl) ?_
  exact FX0_turnsFrom_b3_ok T hR e _ _ _ _ _ _ _ h
