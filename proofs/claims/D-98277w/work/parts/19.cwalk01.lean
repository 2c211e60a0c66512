/-! THE COMPONENT's walks and contracts (printed by gen/gen_c.py) -/
set_option maxRecDepth 100000
theorem FJ6_init_2_b79_ok {X : KC CS} {E : CE} {z : CS} {z0 l0 z1 l1 : Nat} (T : cOK X E cJ6_init_2 RJ6 5 none z0 l0 z1 l1) (hR : cRoom X 3 106) (e : cE_v X E z0 l0 z1 l1 z) (hin : X.2.1.2.2.2.1.name = "<init>") {x0 : Nat} {x3 : (Option Nat)} {x4 : Int32} {s : CS} (h : FJ6_init_2_b79 x0 x3 x4 s = some z) : cW X z1 l1 s 79 [(0, .ref x0), (3, va_rf x3), (4, .int x4)] [] := by
  unfold FJ6_init_2_b79 at h
  have hX := T.1
  refine cw (k_aload_n hX dJ6_init_2_79 rfl 0 rfl) ?_
  refine cw (k_iconst (v := 1) hX dJ6_init_2_80 (by decide)) ?_
  refine cp_J6_15 T hin h dJ6_init_2_81 (fun s1 h => ?_)
  refine cw (k_aload_n hX dJ6_init_2_84 rfl 0 rfl) ?_
  refine cw (k_aload_nO hX dJ6_init_2_85 rfl 1 rfl) ?_
  refine cw (k_iconst (v := 0) hX dJ6_init_2_86 (by decide)) ?_
  refine cw (k_iload hX dJ6_init_2_87 2 rfl) ?_
  refine cw (k_iconst (v := 1) hX dJ6_init_2_89 (by decide)) ?_
  refine cw (k_ishl hX dJ6_init_2_90) ?_
  obtain ⟨p2, e_p2, hq_p2⟩ := nn_of h
  subst e_p2
  have h := hq_p2
  show cW X z1 l1 _ 91 [(0, .ref x0), (3, .ref p2), (4, .int x4)] [.int (shl32 x4 1), .int 0, .ref p2, .ref x0]
  refine cX_J6_54 T met_FJ5_copyOfRange (c_room hR rfl rfl) h rfl dJ6_init_2_91 (fun r4 s3 h => ?_)
  refine cp_J6_9o T hin h dJ6_init_2_94 (fun s5 h => ?_)
  exact c_ret_v T e h dJ6_init_2_97
theorem met_FJ6_init_2 {l : Launch} {E : CE} : ∀ (x0 : Nat) (x1 : Nat) (x2 : (Option Nat)) (s : CS) (z : CS), FJ6_init_2 x0 x1 x2 s = some z → cMet_v l E yJ6_init_2 (ws_ yJ6_init_2 cJ6_init_2 5 none) 3 106 [.ref x0, .ref x1, va_rf x2] s z := by
  intro x0 x1 x2 s z h
  unfold FJ6_init_2 at h
  obtain ⟨hm, h⟩ := mz_of h
  refine c_met_v hm (by decide +kernel) (by cases x2 <;> rfl) (fun X hl hin T hR e => ?_)
  have T : cOK X E cJ6_init_2 RJ6 5 none _ _ _ _ := T
  have hX := T.1
  show cW X _ _ s 0 [(0, .ref x0), (1, .ref x1), (2, va_rf x2)] []
  refine cw (k_aload_n hX dJ6_init_2_0 rfl 0 rfl) ?_
  refine cw (k_objInit hX hR q1023 q183 q184 rfl dJ6_init_2_1) ?_
  refine cw (k_aload_n hX dJ6_init_2_4 rfl 1 rfl) ?_
  refine cX_J6_552 T met_FJ14_getValue (fun k hk => c_room hR rfl (Nat.ble_eq.mpr (by omega))) h rfl dJ6_init_2_5 (fun r1 h => ?_)
  refine cw (k_astore_nO [(3, va_rf r1), (0, .ref x0), (1, .ref x1), (2, va_rf x2)] hX dJ6_init_2_8 rfl rfl (by cases x2 <;> rfl)) ?_
  refine cw (k_aload_n hX dJ6_init_2_9 rfl 2 rfl) ?_
  refine cX_J6_549 T met_FJ15_length (fun k hk => c_room hR rfl (Nat.ble_eq.mpr (by omega))) h rfl dJ6_init_2_10 (fun v2 h => ?_)
  refine cw (k_istore [(4, .int v2), (3, va_rf r1), (0, .ref x0), (1, .ref x1), (2, va_rf x2)] hX dJ6_init_2_13 rfl (by cases r1 <;> rfl)) ?_
  refine cw (k_aload_n hX dJ6_init_2_15 rfl 3 rfl) ?_
  refine cX_J6_1047 T met_FJ14_isLatin1 (fun k hk => c_room hR rfl (Nat.ble_eq.mpr (by omega))) h rfl dJ6_init_2_16 (fun v3 h => ?_)
  refine c_br h (k_if_eq (tgt := 41) hX h dJ6_init_2_19 (by decide)) (fun h => ?_) (fun h => ?_)
  · refine cw (k_gets T.2.1 hX T.2.2.2.2.2.2.2.2.2.2.1 q620 (fun _ h9 => h9) dJ6_init_2_41) ?_
    refine c_br h (k_if_eq (tgt := 79) hX h dJ6_init_2_44 (by decide)) (fun h => ?_) (fun h => ?_)
    · refine cw (k_lv (lv' := [(0, .ref x0), (3, va_rf r1), (4, .int v2)]) [2, 1, 0] rfl) ?_
      exact FJ6_init_2_b79_ok T hR e hin h
    · refine cw (k_aload_n hX dJ6_init_2_47 rfl 3 rfl) ?_
      refine cg_J6_1048 T h dJ6_init_2_48 (fun v4 h => ?_)
      refine c_br h (k_if_eq (tgt := 79) hX h dJ6_init_2_51 (by decide)) (fun h => ?_) (fun h => ?_)
      · refine cw (k_lv (lv' := [(0, .ref x0), (3, va_rf r1), (4, .int v2)]) [2, 1, 0] rfl) ?_
        exact FJ6_init_2_b79_ok T hR e hin h
      · refine cw (k_aload_n hX dJ6_init_2_54 rfl 2 rfl) ?_
        refine cw (k_aload_nO hX dJ6_init_2_55 rfl 1 rfl) ?_
        refine cw (k_iconst (v := 0) hX dJ6_init_2_56 (by decide)) ?_
        refine cw (k_iload hX dJ6_init_2_57 0 rfl) ?_
        cases h
  · refine cw (k_aload_n hX dJ6_init_2_22 rfl 2 rfl) ?_
    refine cw (k_iconst (v := 0) hX dJ6_init_2_23 (by decide)) ?_
    refine cp_J6_15 T hin h dJ6_init_2_24 (fun s5 h => ?_)
    refine cw (k_aload_n hX dJ6_init_2_27 rfl 2 rfl) ?_
    refine cw (k_aload_nO hX dJ6_init_2_28 rfl 1 rfl) ?_
    refine cw (k_iconst (v := 0) hX dJ6_init_2_29 (by decide)) ?_
    refine cw (k_iload hX dJ6_init_2_30 0 rfl) ?_
    obtain ⟨p6, e_p6, hq_p6⟩ := nn_of h
    subst e_p6
    have h := hq_p6
    show cW X _ _ _ 32 [(4, .int v2), (3, .ref p6), (0, .ref x0), (1, .ref x1), (2, va_rf x2)] [.int v2, .int 0, .ref p6, .ref x0]
    refine cX_J6_54 T met_FJ5_copyOfRange (c_room hR rfl rfl) h rfl dJ6_init_2_32 (fun r8 s7 h => ?_)
    refine cp_J6_9o T hin h dJ6_init_2_35 (fun s9 h => ?_)
    refine cw (k_goto (tgt := 97) hX dJ6_init_2_38 (by decide)) ?_
    exact c_ret_v T e h dJ6_init_2_97
theorem met_FJ6_init {l : Launch} {E : CE} : ∀ (x0 : Nat) (x1 : Nat) (s : CS) (z : CS), FJ6_init x0 x1 s = some z → cMet_v l E yJ6_init (ws_ yJ6_init cJ6_init 2 none) 4 130 [.ref x0, .ref x1] s z := by
  intro x0 x1 s z h
  unfold FJ6_init at h
  obtain ⟨hm, h⟩ := mz_of h
  refine c_met_v hm (by decide +kernel) rfl (fun X hl hin T hR e => ?_)
  have T : cOK X E cJ6_init RJ6 2 none _ _ _ _ := T
  have hX := T.1
  show cW X _ _ s 0 [(0, .ref x0), (1, .ref x1)] []
  refine cw (k_aload_n hX dJ6_init_0 rfl 0 rfl) ?_
  refine cw (k_aload_n hX dJ6_init_1 rfl 1 rfl) ?_
  refine cw (k_null hX dJ6_init_2) ?_
  refine cX_J6_489 T met_FJ6_init_2 (c_room hR rfl rfl) h rfl dJ6_init_3 (fun s1 h => ?_)
  exact c_ret_v T e h dJ6_init_6
theorem met_FJ15_toString {l : Launch} {E : CE} : ∀ (x0 : Nat) (s : CS) (z : ((Option Nat) × CS)), FJ15_toString x0 s = some z → (isK s x0 [24] = true ∧ cMet_q l E yJ15_toString (ws_ yJ15_toString cJ15_toString 1 (some (.object "java/lang/String"))) 5 151 [.ref x0] s z.1 z.2) := by
  intro x0 s z h
  unfold FJ15_toString at h
  obtain ⟨hm, h⟩ := mz_of h
  obtain ⟨hg, h⟩ := gd_of h
  refine ⟨hg, c_met_q hm (by decide +kernel) rfl (fun X hl hin T hR e => ?_)⟩
  have T : cOK X E cJ15_toString RJ15 1 (some (.object "java/lang/String")) _ _ _ _ := T
  have hX := T.1
  show cW X _ _ s 0 [(0, .ref x0)] []
  refine c_newO kJ6 q1015 q1016 q153 (nd23 _) T h dJ15_toString_0 (fun o1 s2 h => ?_)
  refine cw (k_dup hX dJ15_toString_3 rfl) ?_
  refine cw (k_aload_n hX dJ15_toString_4 rfl 0 rfl) ?_
  refine cX_J15_137 T met_FJ6_init (c_room hR rfl rfl) h rfl dJ15_toString_5 (fun s3 h => ?_)
  exact c_ret_q (v := (some o1)) T (Or.inl ⟨_, rfl⟩) e h dJ15_toString_8
theorem met_FJ2_elementData {l : Launch} {E : CE} {s : CS} : ∀ (x0 : Nat) (x1 : Int32) (z : (Option Nat)), FJ2_elementData s x0 x1 = some z → (isK s x0 [22] = true ∧ cMet_q l E yJ2_elementData (ws_ yJ2_elementData cJ2_elementData 2 (some (.object "java/lang/Object"))) 0 0 [.ref x0, .int x1] s z s) := by
  intro x0 x1 z h
  unfold FJ2_elementData at h
  obtain ⟨hg, h⟩ := gd_of h
  refine ⟨hg, c_met_q ⟨Nat.le_refl _, Nat.le_refl _⟩ (by decide +kernel) rfl (fun X hl hin T hR e => ?_)⟩
  have T : cOK X E cJ2_elementData RJ2 2 (some (.object "java/lang/Object")) _ _ _ _ := T
  have hX := T.1
  show cW X _ _ s 0 [(0, .ref x0), (1, .int x1)] []
  refine cw (k_aload_n hX dJ2_elementData_0 rfl 0 rfl) ?_
  refine cg_J2_9 T h dJ2_elementData_1 (fun r1 h => ?_)
  refine cw (k_iload_n hX dJ2_elementData_4 rfl 1 rfl) ?_
  obtain ⟨p2, e_p2, hq_p2⟩ := nn_of h
  subst e_p2
  have h := hq_p2
  show cW X _ _ _ 5 [(0, .ref x0), (1, .int x1)] [.int x1, .ref p2]
  refine ca_qld106 T h dJ2_elementData_5 (fun r3 h => ?_)
  exact c_ret_qr (v := r3) T (Or.inl ⟨_, rfl⟩) e h dJ2_elementData_6
theorem met_FJ16_checkIndex {l : Launch} {E : CE} {s : CS} : ∀ (x0 : Int32) (x1 : Int32) (z : Int32), FJ16_checkIndex s x0 x1 = some z → cMet_i l E yJ16_checkIndex (ws_ yJ16_checkIndex cJ16_checkIndex 2 (some .int)) 1 22 [.int x0, .int x1] s z s := by
  intro x0 x1 z h
  unfold FJ16_checkIndex at h
  refine c_met_i ⟨Nat.le_refl _, Nat.le_refl _⟩ (by decide +kernel) rfl (fun X hl hin T hR e => ?_)
  have T : cOK X E cJ16_checkIndex RJ16 2 (some .int) _ _ _ _ := T
  have hX := T.1
  show cW X _ _ s 0 [(0, .int x0), (1, .int x1)] []
  refine cw (k_iload_n hX dJ16_checkIndex_0 rfl 0 rfl) ?_
  refine cw (k_iload_n hX dJ16_checkIndex_1 rfl 1 rfl) ?_
  refine cw (k_null hX dJ16_checkIndex_2) ?_
  refine cX_J16_105 T met_FJ9_checkIndex (c_room hR rfl rfl) h rfl dJ16_checkIndex_3 (fun v1 h => ?_)
  exact c_ret_ir T e h dJ16_checkIndex_6
theorem met_FJ2_get {l : Launch} {E : CE} {s : CS} : ∀ (x0 : Nat) (x1 : Int32) (z : (Option Nat)), FJ2_get s x0 x1 = some z → (isK s x0 [22] = true ∧ cMet_q l E yJ2_get (ws_ yJ2_get cJ2_get 2 (some (.object "java/lang/Object"))) 2 43 [.ref x0, .int x1] s z s) := by
  intro x0 x1 z h
  unfold FJ2_get at h
  obtain ⟨hg, h⟩ := gd_of h
  refine ⟨hg, c_met_q ⟨Nat.le_refl _, Nat.le_refl _⟩ (by decide +kernel) rfl (fun X hl hin T hR e => ?_)⟩
  have T : cOK X E cJ2_get RJ2 2 (some (.object "java/lang/Object")) _ _ _ _ := T
  have hX := T.1
  show cW X _ _ s 0 [(0, .ref x0), (1, .int x1)] []
  refine cw (k_iload_n hX dJ2_get_0 rfl 1 rfl) ?_
  refine cw (k_aload_n hX dJ2_get_1 rfl 0 rfl) ?_
  refine cg_J2_48 T h dJ2_get_2 (fun v1 h => ?_)
  refine cX_J2_118 T met_FJ16_checkIndex (c_room hR rfl rfl) h rfl dJ2_get_5 (fun v2 h => ?_)
  refine cw (k_pop hX dJ2_get_8 rfl) ?_
  refine cw (k_aload_n hX dJ2_get_9 rfl 0 rfl) ?_
  refine cw (k_iload_n hX dJ2_get_10 rfl 1 rfl) ?_
  refine cX_J2_123 T met_FJ2_elementData (c_room hR rfl rfl) h rfl dJ2_get_11 (fun r3 h => ?_)
  exact c_ret_qr (v := r3) T (Or.inl ⟨_, rfl⟩) e h dJ2_get_14
theorem met_FJ2_size {l : Launch} {E : CE} {s : CS} : ∀ (x0 : Nat) (z : Int32), FJ2_size s x0 = some z → (isK s x0 [22] = true ∧ cMet_i l E yJ2_size (ws_ yJ2_size cJ2_size 1 (some .int)) 0 0 [.ref x0] s z s) := by
  intro x0 z h
  unfold FJ2_size at h
  obtain ⟨hg, h⟩ := gd_of h
  refine ⟨hg, c_met_i ⟨Nat.le_refl _, Nat.le_refl _⟩ (by decide +kernel) rfl (fun X hl hin T hR e => ?_)⟩
  have T : cOK X E cJ2_size RJ2 1 (some .int) _ _ _ _ := T
  have hX := T.1
  show cW X _ _ s 0 [(0, .ref x0)] []
  refine cw (k_aload_n hX dJ2_size_0 rfl 0 rfl) ?_
  refine cg_J2_48 T h dJ2_size_1 (fun v1 h => ?_)
  exact c_ret_ir T e h dJ2_size_4
theorem FX1_fresh_b71_s_ok {X : KC CS} {E : CE} {z : ((Nat ⊕ (Option Nat)) × CS)} {z0 l0 z1 l1 : Nat} (T : cOK X E cX1_fresh RX1 4 (some (.object "java/lang/String")) z0 l0 z1 l1) (hR : cRoom X 6 171) (e : xE X E z0 l0 z1 l1 (xQ_q E z.1 z.2) (xgl z.1) z.2) {nf : Nat} {k71 : Nat → (Option Nat) → Int32 → CS → Option ((Nat ⊕ (Option Nat)) × CS)} (hk71 : ∀ (x0 : Nat) (x2 : (Option Nat)) (x3 : Int32) (s : CS), k71 x0 x2 x3 s = some z → cW X z1 l1 s 71 [(0, .ref x0), (2, va_rf x2), (3, .int x3)] []) {x0 : Nat} {x2 : (Option Nat)} {x3 : Int32} {s : CS} (h : FX1_fresh_b71_s E.2.2.2 nf k71 x0 x2 x3 s = some z) : cW X z1 l1 s 71 [(0, .ref x0), (2, va_rf x2), (3, .int x3)] [] := by
  unfold FX1_fresh_b71_s at h
  have hX := T.1
  refine cw (k_iload_n hX dX1_fresh_71 rfl 2 rfl) ?_
  refine cw (k_aload_n hX dX1_fresh_72 rfl 0 rfl) ?_
  refine cg_X1_98 T h dX1_fresh_73 (fun r1 h => ?_)
  obtain ⟨p2, e_p2, hq_p2⟩ := nn_of h
  subst e_p2
  have h := hq_p2
  show cW X z1 l1 _ 76 [(0, .ref x0), (2, va_rf x2), (3, .int x3)] [.ref p2, .int x3]
  refine cg_X1_102 T h dX1_fresh_76 (fun r3 h => ?_)
  obtain ⟨p4, e_p4, hq_p4⟩ := nn_of h
  subst e_p4
  have h := hq_p4
  show cW X z1 l1 _ 79 [(0, .ref x0), (2, va_rf x2), (3, .int x3)] [.ref p4, .int x3]
  refine cX_X1_108 T met_FJ2_size (c_room hR rfl rfl) h rfl dX1_fresh_79 (fun v5 h => ?_)
  refine c_br h (k_icmp_ge (tgt := 118) hX h dX1_fresh_82 (by decide)) (fun h => ?_) (fun h => ?_)
  · refine cw (k_aload_n hX dX1_fresh_118 rfl 0 rfl) ?_
    refine cX_X1_25 T met_FX1_next (c_room hR rfl rfl) h rfl dX1_fresh_119 (fun s6 h => ?_)
    refine cw (k_aload_nO hX dX1_fresh_122 rfl 1 rfl) ?_
    exact x_ret_q (v := x2) T (Or.inl ⟨_, rfl⟩) e h dX1_fresh_123
  · refine cw (k_aload_n hX dX1_fresh_85 rfl 0 rfl) ?_
    refine cg_X1_98 T h dX1_fresh_86 (fun r7 h => ?_)
    obtain ⟨p8, e_p8, hq_p8⟩ := nn_of h
    subst e_p8
    have h := hq_p8
    show cW X z1 l1 _ 89 [(0, .ref x0), (2, va_rf x2), (3, .int x3)] [.ref p8]
    refine cg_X1_102 T h dX1_fresh_89 (fun r9 h => ?_)
    refine cw (k_iload_n hX dX1_fresh_92 rfl 2 rfl) ?_
    obtain ⟨p10, e_p10, hq_p10⟩ := nn_of h
    subst e_p10
    have h := hq_p10
    show cW X z1 l1 _ 93 [(0, .ref x0), (2, va_rf x2), (3, .int x3)] [.int x3, .ref p10]
    refine cX_X1_112 T met_FJ2_get (c_room hR rfl rfl) h rfl dX1_fresh_93 (fun r11 h => ?_)
    obtain ⟨p12, e_p12, hq_p12⟩ := nn_of h
    subst e_p12
    have h := hq_p12
    show cW X z1 l1 _ 96 [(0, .ref x0), (2, va_rf x2), (3, .int x3)] [.ref p12]
    obtain ⟨hc_96, h⟩ := gd_of h
    refine cw (cc_X1_51 T hc_96 dX1_fresh_96) ?_
    refine cw (k_aload_nO hX dX1_fresh_99 rfl 1 rfl) ?_
    obtain ⟨p13, e_p13, hq_p13⟩ := nn_of h
    subst e_p13
    have h := hq_p13
    show cW X z1 l1 _ 100 [(0, .ref x0), (2, .ref p13), (3, .int x3)] [.ref p13, .ref p12]
    refine cX_X1_116 T met_FJ6_equals (c_room hR rfl rfl) h rfl dX1_fresh_100 (fun v14 h => ?_)
    refine c_br h (k_if_eq (tgt := 112) hX h dX1_fresh_103 (by decide)) (fun h => ?_) (fun h => ?_)
    · refine cw (k_iinc (j := 2) [(3, .int (x3 + 1)), (0, .ref x0), (2, .ref p13)] hX dX1_fresh_112 rfl rfl rfl rfl) ?_
      refine cw (k_goto (tgt := 71) hX dX1_fresh_115 (by decide)) ?_
      refine cw (k_lv (lv' := [(0, .ref x0), (2, va_rf (some p13)), (3, .int (x3 + 1))]) [1, 2, 0] rfl) ?_
      exact hk71 _ _ _ _ h
    · refine cw (k_aload_n hX dX1_fresh_106 rfl 0 rfl) ?_
      refine cw (k_iconst (v := 3) hX dX1_fresh_107 (by decide)) ?_
      refine cX_X1_75 T met_FX1_wrong (c_room hR rfl rfl) h rfl dX1_fresh_108 (fun r16 s15 h => ?_)
      obtain ⟨p17, e_p17, hq_p17⟩ := nn_of h
      subst e_p17
      have h := hq_p17
      show cW X z1 l1 _ 111 [(0, .ref x0), (2, .ref p13), (3, .int x3)] [.ref p17]
      exact x_throw T e h dX1_fresh_111
theorem FX1_fresh_b71_ok {X : KC CS} {E : CE} {z : ((Nat ⊕ (Option Nat)) × CS)} {z0 l0 z1 l1 : Nat} (T : cOK X E cX1_fresh RX1 4 (some (.object "java/lang/String")) z0 l0 z1 l1) (hR : cRoom X 6 171) (e : xE X E z0 l0 z1 l1 (xQ_q E z.1 z.2) (xgl z.1) z.2) {nf : Nat} : ∀ (n : Nat) (x0 : Nat) (x2 : (Option Nat)) (x3 : Int32) (s : CS), FX1_fresh_b71 E.2.2.2 nf n x0 x2 x3 s = some z → cW X z1 l1 s 71 [(0, .ref x0), (2, va_rf x2), (3, .int x3)] [] := by
  intro n
  induction n with
  | zero => intro x0 x2 x3 s h; exact (nomatch (show (none : Option ((Nat ⊕ (Option Nat)) × CS)) = some z from h))
  | succ n ih =>
    intro x0 x2 x3 s h
    have h : FX1_fresh_b71_s E.2.2.2 nf (FX1_fresh_b71 E.2.2.2 nf n) x0 x2 x3 s = some z := h
    exact FX1_fresh_b71_s_ok T hR e ih h
theorem FX1_fresh_b38_s_ok {X : KC CS} {E : CE} {z : ((Nat ⊕ (Option Nat)) × CS)} {z0 l0 z1 l1 : Nat} (T : cOK X E cX1_fresh RX1 4 (some (.object "java/lang/String")) z0 l0 z1 l1) (hR : cRoom X 6 171) (e : xE X E z0 l0 z1 l1 (xQ_q E z.1 z.2) (xgl z.1) z.2) {nf : Nat} {k38 : Nat → Nat → Int32 → CS → Option ((Nat ⊕ (Option Nat)) × CS)} (hk38 : ∀ (x0 : Nat) (x1 : Nat) (x2 : Int32) (s : CS), k38 x0 x1 x2 s = some z → cW X z1 l1 s 38 [(0, .ref x0), (1, .ref x1), (2, .int x2)] []) {x0 : Nat} {x1 : Nat} {x2 : Int32} {s : CS} (h : FX1_fresh_b38_s E.2.2.2 nf k38 x0 x1 x2 s = some z) : cW X z1 l1 s 38 [(0, .ref x0), (1, .ref x1), (2, .int x2)] [] := by
  unfold FX1_fresh_b38_s at h
  have hX := T.1
  refine cw (k_iload_n hX dX1_fresh_38 rfl 2 rfl) ?_
  refine cw (k_aload_n hX dX1_fresh_39 rfl 0 rfl) ?_
  refine cg_X1_19 T h dX1_fresh_40 (fun v1 h => ?_)
  refine c_br h (k_icmp_ge (tgt := 64) hX h dX1_fresh_43 (by decide)) (fun h => ?_) (fun h => ?_)
  · refine cw (k_aload_n hX dX1_fresh_64 rfl 1 rfl) ?_
    refine cX_X1_94 T met_FJ15_toString (c_room hR rfl rfl) h rfl dX1_fresh_65 (fun r3 s2 h => ?_)
    refine cw (k_astore_nO [(2, va_rf r3), (0, .ref x0), (1, .ref x1)] hX dX1_fresh_68 rfl rfl rfl) ?_
    refine cw (k_iconst (v := 0) hX dX1_fresh_69 (by decide)) ?_
    refine cw (k_istore_n [(3, .int 0), (2, va_rf r3), (0, .ref x0), (1, .ref x1)] hX dX1_fresh_70 rfl rfl (by cases r3 <;> rfl)) ?_
    refine cw (k_lv (lv' := [(0, .ref x0), (2, va_rf r3), (3, .int 0)]) [2, 1, 0] rfl) ?_
    exact FX1_fresh_b71_ok T hR e _ _ _ _ _ h
  · refine cw (k_aload_n hX dX1_fresh_46 rfl 1 rfl) ?_
    refine cw (k_aload_n hX dX1_fresh_47 rfl 0 rfl) ?_
    refine cg_X1_9 T h dX1_fresh_48 (fun r4 h => ?_)
    refine cw (k_iload_n hX dX1_fresh_51 rfl 2 rfl) ?_
    obtain ⟨p5, e_p5, hq_p5⟩ := nn_of h
    subst e_p5
    have h := hq_p5
    show cW X z1 l1 _ 52 [(0, .ref x0), (1, .ref x1), (2, .int x2)] [.int x2, .ref p5, .ref x1]
    refine ca_bld T h dX1_fresh_52 (fun v6 h => ?_)
    refine cw (k_i2c hX dX1_fresh_53) ?_
    refine cX_X1_90 T met_FJ15_append (c_room hR rfl rfl) h rfl dX1_fresh_54 (fun r8 s7 h => ?_)
    refine cw (k_pop hX dX1_fresh_57 (rf_cat _)) ?_
    refine cw (k_iinc (j := 2) [(2, .int (x2 + 1)), (0, .ref x0), (1, .ref x1)] hX dX1_fresh_58 rfl rfl rfl rfl) ?_
    refine cw (k_goto (tgt := 38) hX dX1_fresh_61 (by decide)) ?_
    refine cw (k_lv (lv' := [(0, .ref x0), (1, .ref x1), (2, .int (x2 + 1))]) [1, 2, 0] rfl) ?_
    exact hk38 _ _ _ _ h
theorem FX1_fresh_b38_ok {X : KC CS} {E : CE} {z : ((Nat ⊕ (Option Nat)) × CS)} {z0 l0 z1 l1 : Nat} (T : cOK X E cX1_fresh RX1 4 (some (.object "java/lang/String")) z0 l0 z1 l1) (hR : cRoom X 6 171) (e : xE X E z0 l0 z1 l1 (xQ_q E z.1 z.2) (xgl z.1) z.2) {nf : Nat} : ∀ (n : Nat) (x0 : Nat) (x1 : Nat) (x2 : Int32) (s : CS), FX1_fresh_b38 E.2.2.2 nf n x0 x1 x2 s = some z → cW X z1 l1 s 38 [(0, .ref x0), (1, .ref x1), (2, .int x2)] [] := by
  intro n
  induction n with
  | zero => intro x0 x1 x2 s h; exact (nomatch (show (none : Option ((Nat ⊕ (Option Nat)) × CS)) = some z from h))
  | succ n ih =>
    intro x0 x1 x2 s h
    have h : FX1_fresh_b38_s E.2.2.2 nf (FX1_fresh_b38 E.2.2.2 nf n) x0 x1 x2 s = some z := h
    exact FX1_fresh_b38_s_ok T hR e ih h
theorem met_FX1_fresh {l : Launch} {E : CE} {nf : Nat} : ∀ (x0 : Nat) (s : CS) (z : ((Nat ⊕ (Option Nat)) × CS)), FX1_fresh E.2.2.2 nf x0 s = some z → (isK s x0 [1] = true ∧ xMet_q l E yX1_fresh (ws_ yX1_fresh cX1_fresh 4 (some (.object "java/lang/String"))) 6 171 [.ref x0] s z.1 z.2) := by
  intro x0 s z h
  unfold FX1_fresh at h
  obtain ⟨hm, h⟩ := mz_of h
  obtain ⟨hg, h⟩ := gd_of h
  refine ⟨hg, x_met_q hm (by decide +kernel) rfl (fun X hl hin T hR e => ?_)⟩
  have T : cOK X E cX1_fresh RX1 4 (some (.object "java/lang/String")) _ _ _ _ := T
  have hX := T.1
  show cW X _ _ s 0 [(0, .ref x0)] []
  refine cw (k_aload_n hX dX1_fresh_0 rfl 0 rfl) ?_
  refine cg_X1_31 T h dX1_fresh_1 (fun v1 h => ?_)
  refine cw (k_iconst (v := 1) hX dX1_fresh_4 (by decide)) ?_
  refine c_brn h (k_icmp_ne (tgt := 17) hX h dX1_fresh_5 (by decide)) (fun h => ?_) (fun h => ?_)
  · refine cw (k_aload_n hX dX1_fresh_17 rfl 0 rfl) ?_
    refine cw (k_iconst (v := 1) hX dX1_fresh_18 (by decide)) ?_
    refine cX_X1_75 T met_FX1_wrong (c_room hR rfl rfl) h rfl dX1_fresh_19 (fun r3 s2 h => ?_)
    obtain ⟨p4, e_p4, hq_p4⟩ := nn_of h
    subst e_p4
    have h := hq_p4
    show cW X _ _ _ 22 [(0, .ref x0)] [.ref p4]
    exact x_throw T e h dX1_fresh_22
  · refine cw (k_aload_n hX dX1_fresh_8 rfl 0 rfl) ?_
    obtain ⟨p5, e_p5, hq_p5⟩ := nn_of h
    have h := hq_p5
    refine cw (k_ldcS (k := 8) T e_p5 rfl dX1_fresh_9) ?_
    refine cX_X1_71 T met_FX1_which (c_room hR rfl rfl) h rfl dX1_fresh_11 (fun v6 h => ?_)
    refine c_br h (k_if_lt (tgt := 23) hX h dX1_fresh_14 (by decide)) (fun h => ?_) (fun h => ?_)
    · refine c_newO kJ15 q921 q922 q168 (nd24 _) T h dX1_fresh_23 (fun o7 s8 h => ?_)
      refine cw (k_dup hX dX1_fresh_26 rfl) ?_
      refine cw (k_bipush (v := 8) hX dX1_fresh_27 (by decide)) ?_
      refine cX_X1_87 T met_FJ15_init (c_room hR rfl rfl) h rfl dX1_fresh_29 (fun s9 h => ?_)
      refine cw (k_astore_n [(1, .ref o7), (0, .ref x0)] hX dX1_fresh_32 rfl rfl rfl) ?_
      refine cw (k_aload_n hX dX1_fresh_33 rfl 1 rfl) ?_
      refine cg_X1_28 T h dX1_fresh_34 (fun v10 h => ?_)
      refine cw (k_istore_n [(2, .int v10), (1, .ref o7), (0, .ref x0)] hX dX1_fresh_37 rfl rfl rfl) ?_
      refine cw (k_lv (lv' := [(0, .ref x0), (1, .ref o7), (2, .int v10)]) [2, 1, 0] rfl) ?_
      exact FX1_fresh_b38_ok T hR e _ _ _ _ _ h
    · refine cw (k_aload_n hX dX1_fresh_17 rfl 0 rfl) ?_
      refine cw (k_iconst (v := 1) hX dX1_fresh_18 (by decide)) ?_
      refine cX_X1_75 T met_FX1_wrong (c_room hR rfl rfl) h rfl dX1_fresh_19 (fun r12 s11 h => ?_)
      obtain ⟨p13, e_p13, hq_p13⟩ := nn_of h
      subst e_p13
      have h := hq_p13
      show cW X _ _ _ 22 [(0, .ref x0)] [.ref p13]
      exact x_throw T e h dX1_fresh_22
theorem FX1_value_b7_s_ok {X : KC CS} {E : CE} {z : Int32} {z0 l0 z1 l1 : Nat} {s : CS} (T : cOK X E cX1_value RX1 3 (some .int) z0 l0 z1 l1) (hR : cRoom X 0 0) (e : cE_i X E z0 l0 z1 l1 z s) {nf : Nat} {k7 : Nat → Int32 → Int32 → Option Int32} (hk7 : ∀ (x0 : Nat) (x1 : Int32) (x2 : Int32), k7 x0 x1 x2 = some z → cW X z1 l1 s 7 [(0, .ref x0), (1, .int x1), (2, .int x2)] []) {x0 : Nat} {x1 : Int32} {x2 : Int32} (h : FX1_value_b7_s nf s k7 x0 x1 x2 = some z) : cW X z1 l1 s 7 [(0, .ref x0), (1, .int x1), (2, .int x2)] [] := by
  unfold FX1_value_b7_s at h
  have hX := T.1
  refine cw (k_iload_n hX dX1_value_7 rfl 2 rfl) ?_
  refine cw (k_aload_n hX dX1_value_8 rfl 0 rfl) ?_
  refine cg_X1_19 T h dX1_value_9 (fun v1 h => ?_)
  refine c_br h (k_icmp_ge (tgt := 36) hX h dX1_value_12 (by decide)) (fun h => ?_) (fun h => ?_)
  · refine cw (k_iload_n hX dX1_value_36 rfl 1 rfl) ?_
    exact c_ret_ir T e h dX1_value_37
  · refine cw (k_iload_n hX dX1_value_15 rfl 1 rfl) ?_
    refine cw (k_bipush (v := 10) hX dX1_value_16 (by decide)) ?_
    refine cw (k_imul hX dX1_value_18) ?_
    refine cw (k_aload_n hX dX1_value_19 rfl 0 rfl) ?_
    refine cg_X1_9 T h dX1_value_20 (fun r2 h => ?_)
    refine cw (k_iload_n hX dX1_value_23 rfl 2 rfl) ?_
    obtain ⟨p3, e_p3, hq_p3⟩ := nn_of h
    subst e_p3
    have h := hq_p3
    show cW X z1 l1 _ 24 [(0, .ref x0), (1, .int x1), (2, .int x2)] [.int x2, .ref p3, .int (x1 * 10)]
    refine ca_bld T h dX1_value_24 (fun v4 h => ?_)
    refine cw (k_iadd hX dX1_value_25) ?_
    refine cw (k_bipush (v := 48) hX dX1_value_26 (by decide)) ?_
    refine cw (k_isub hX dX1_value_28) ?_
    refine c_nm h (fun v5 h => ?_)
    refine cw (k_istore_n [(1, .int v5), (0, .ref x0), (2, .int x2)] hX dX1_value_29 rfl rfl rfl) ?_
    refine cw (k_iinc (j := 2) [(2, .int (x2 + 1)), (1, .int v5), (0, .ref x0)] hX dX1_value_30 rfl rfl rfl rfl) ?_
    refine cw (k_goto (tgt := 7) hX dX1_value_33 (by decide)) ?_
    refine cw (k_lv (lv' := [(0, .ref x0), (1, .int v5), (2, .int (x2 + 1))]) [2, 1, 0] rfl) ?_
    exact hk7 _ _ _ h
theorem FX1_value_b7_ok {X : KC CS} {E : CE} {z : Int32} {z0 l0 z1 l1 : Nat} {s : CS} (T : cOK X E cX1_value RX1 3 (some .int) z0 l0 z1 l1) (hR : cRoom X 0 0) (e : cE_i X E z0 l0 z1 l1 z s) {nf : Nat} : ∀ (n : Nat) (x0 : Nat) (x1 : Int32) (x2 : Int32), FX1_value_b7 nf s n x0 x1 x2 = some z → cW X z1 l1 s 7 [(0, .ref x0), (1, .int x1), (2, .int x2)] [] := by
  intro n
  induction n with
  | zero => intro x0 x1 x2 h; exact (nomatch (show (none : Option Int32) = some z from h))
  | succ n ih =>
    intro x0 x1 x2 h
    have h : FX1_value_b7_s nf s (FX1_value_b7 nf s n) x0 x1 x2 = some z := h
    exact FX1_value_b7_s_ok T hR e ih h
theorem met_FX1_value {l : Launch} {E : CE} {nf : Nat} {s : CS} : ∀ (x0 : Nat) (z : Int32), FX1_value nf s x0 = some z → (isK s x0 [1] = true ∧ cMet_i l E yX1_value (ws_ yX1_value cX1_value 3 (some .int)) 0 0 [.ref x0] s z s) := by
  intro x0 z h
  unfold FX1_value at h
  obtain ⟨hg, h⟩ := gd_of h
  refine ⟨hg, c_met_i ⟨Nat.le_refl _, Nat.le_refl _⟩ (by decide +kernel) rfl (fun X hl hin T hR e => ?_)⟩
  have T : cOK X E cX1_value RX1 3 (some .int) _ _ _ _ := T
  have hX := T.1
  show cW X _ _ s 0 [(0, .ref x0)] []
  refine cw (k_iconst (v := 0) hX dX1_value_0 (by decide)) ?_
  refine cw (k_istore_n [(1, .int 0), (0, .ref x0)] hX dX1_value_1 rfl rfl rfl) ?_
  refine cw (k_aload_n hX dX1_value_2 rfl 1 rfl) ?_
  refine cg_X1_28 T h dX1_value_3 (fun v1 h => ?_)
  refine cw (k_istore_n [(2, .int v1), (1, .int 0), (0, .ref x0)] hX dX1_value_6 rfl rfl rfl) ?_
  refine cw (k_lv (lv' := [(0, .ref x0), (1, .int 0), (2, .int v1)]) [2, 1, 0] rfl) ?_
  exact FX1_value_b7_ok T hR e _ _ _ _ h
theorem met_FX0_in {l : Launch} {E : CE} {s : CS} : ∀ (x0 : Int32) (x1 : Int32) (x2 : Int32) (z : Int32), FX0_in s x0 x1 x2 = some z → cMet_i l E yX0_in (ws_ yX0_in cX0_in 3 (some .boolean)) 0 0 [.int x0, .int x1, .int x2] s z s := by
  intro x0 x1 x2 z h
  unfold FX0_in at h
  refine c_met_i ⟨Nat.le_refl _, Nat.le_refl _⟩ (by decide +kernel) rfl (fun X hl hin T hR e => ?_)
  have T : cOK X E cX0_in RX0 3 (some .boolean) _ _ _ _ := T
  have hX := T.1
  show cW X _ _ s 0 [(0, .int x0), (1, .int x1), (2, .int x2)] []
  refine cw (k_iload_n hX dX0_in_0 rfl 0 rfl) ?_
  refine cw (k_iload_n hX dX0_in_1 rfl 1 rfl) ?_
  refine c_br h (k_icmp_lt (tgt := 14) hX h dX0_in_2 (by decide)) (fun h => ?_) (fun h => ?_)
  · refine cw (k_iconst (v := 0) hX dX0_in_14 (by decide)) ?_
    exact c_ret_zrc T e rfl h dX0_in_15
  · refine cw (k_iload_n hX dX0_in_5 rfl 0 rfl) ?_
    refine cw (k_iload_n hX dX0_in_6 rfl 2 rfl) ?_
    refine c_br h (k_icmp_gt (tgt := 14) hX h dX0_in_7 (by decide)) (fun h => ?_) (fun h => ?_)
    · refine cw (k_iconst (v := 0) hX dX0_in_14 (by decide)) ?_
      exact c_ret_zrc T e rfl h dX0_in_15
    · refine cw (k_iconst (v := 1) hX dX0_in_10 (by decide)) ?_
      refine cw (k_goto (tgt := 15) hX dX0_in_11 (by decide)) ?_
      exact c_ret_zrc T e rfl h dX0_in_15
theorem met_FX1_isLit {l : Launch} {E : CE} {nf : Nat} {s : CS} : ∀ (x0 : Nat) (x1 : Int32) (z : Int32), FX1_isLit nf s x0 x1 = some z → (isK s x0 [1] = true ∧ cMet_i l E yX1_isLit (ws_ yX1_isLit cX1_isLit 2 (some .boolean)) 1 22 [.ref x0, .int x1] s z s) := by
  intro x0 x1 z h
  unfold FX1_isLit at h
  obtain ⟨hg, h⟩ := gd_of h
  refine ⟨hg, c_met_i ⟨Nat.le_refl _, Nat.le_refl _⟩ (by decide +kernel) rfl (fun X hl hin T hR e => ?_)⟩
  have T : cOK X E cX1_isLit RX1 2 (some .boolean) _ _ _ _ := T
  have hX := T.1
  show cW X _ _ s 0 [(0, .ref x0), (1, .int x1)] []
  refine cw (k_aload_n hX dX1_isLit_0 rfl 0 rfl) ?_
  refine cX_X1_179 T met_FX1_value (c_room hR rfl rfl) h rfl dX1_isLit_1 (fun v1 h => ?_)
  refine cw (k_iconst (v := 0) hX dX1_isLit_4 (by decide)) ?_
  refine cw (k_aload_n hX dX1_isLit_5 rfl 0 rfl) ?_
  refine cg_X1_98 T h dX1_isLit_6 (fun r2 h => ?_)
  obtain ⟨p3, e_p3, hq_p3⟩ := nn_of h
  subst e_p3
  have h := hq_p3
  show cW X _ _ _ 9 [(0, .ref x0), (1, .int x1)] [.ref p3, .int 0, .int v1]
  refine cg_X1_152 T h dX1_isLit_9 (fun v4 h => ?_)
  refine cw (k_iconst (v := 1) hX dX1_isLit_12 (by decide)) ?_
  refine cw (k_isub hX dX1_isLit_13) ?_
  refine cX_X1_181 T met_FX0_in (c_room hR rfl rfl) h rfl dX1_isLit_14 (fun v5 h => ?_)
  refine c_br h (k_if_eq (tgt := 44) hX h dX1_isLit_17 (by decide)) (fun h => ?_) (fun h => ?_)
  · refine cw (k_iconst (v := 0) hX dX1_isLit_44 (by decide)) ?_
    exact c_ret_zrc T e rfl h dX1_isLit_45
  · refine cw (k_aload_n hX dX1_isLit_20 rfl 0 rfl) ?_
    refine cg_X1_98 T h dX1_isLit_21 (fun r6 h => ?_)
    obtain ⟨p7, e_p7, hq_p7⟩ := nn_of h
    subst e_p7
    have h := hq_p7
    show cW X _ _ _ 24 [(0, .ref x0), (1, .int x1)] [.ref p7]
    refine cg_X1_198 T h dX1_isLit_24 (fun r8 h => ?_)
    refine cw (k_aload_n hX dX1_isLit_27 rfl 0 rfl) ?_
    refine cX_X1_179 T met_FX1_value (c_room hR rfl rfl) h (by cases r8 <;> rfl) dX1_isLit_28 (fun v9 h => ?_)
    refine cw (k_bipush (v := 6) hX dX1_isLit_31 (by decide)) ?_
    refine cw (k_imul hX dX1_isLit_33) ?_
    refine cw (k_iload_n hX dX1_isLit_34 rfl 1 rfl) ?_
    refine cw (k_iadd hX dX1_isLit_35) ?_
    obtain ⟨p10, e_p10, hq_p10⟩ := nn_of h
    subst e_p10
    have h := hq_p10
    show cW X _ _ _ 36 [(0, .ref x0), (1, .int x1)] [.int ((v9 * 6) + x1), .ref p10]
    refine ca_qld104 T h dX1_isLit_36 (fun r11 h => ?_)
    rcases r11 with _ | p12
    · replace h := nul_n h
      show cW X _ _ _ 37 [(0, .ref x0), (1, .int x1)] [.null]
      refine cw (k_ifnullN (tgt := 44) hX dX1_isLit_37 (by decide)) ?_
      refine cw (k_iconst (v := 0) hX dX1_isLit_44 (by decide)) ?_
      exact c_ret_zrc T e rfl h dX1_isLit_45
    · replace h := nul_s h
      show cW X _ _ _ 37 [(0, .ref x0), (1, .int x1)] [.ref p12]
      refine cw (k_ifnullS hX dX1_isLit_37) ?_
      refine cw (k_iconst (v := 1) hX dX1_isLit_40 (by decide)) ?_
      refine cw (k_goto (tgt := 45) hX dX1_isLit_41 (by decide)) ?_
      exact c_ret_zrc T e rfl h dX1_isLit_45
theorem met_FX1_isTold {l : Launch} {E : CE} {s : CS} : ∀ (x0 : Nat) (x1 : Int32) (z : Int32), FX1_isTold s x0 x1 = some z → (isK s x0 [1] = true ∧ cMet_i l E yX1_isTold (ws_ yX1_isTold cX1_isTold 2 (some .boolean)) 0 0 [.ref x0, .int x1] s z s) := by
  intro x0 x1 z h
  unfold FX1_isTold at h
  obtain ⟨hg, h⟩ := gd_of h
  refine ⟨hg, c_met_i ⟨Nat.le_refl _, Nat.le_refl _⟩ (by decide +kernel) rfl (fun X hl hin T hR e => ?_)⟩
  have T : cOK X E cX1_isTold RX1 2 (some .boolean) _ _ _ _ := T
  have hX := T.1
  show cW X _ _ s 0 [(0, .ref x0), (1, .int x1)] []
  refine cw (k_iload_n hX dX1_isTold_0 rfl 1 rfl) ?_
  refine c_brn h (k_if_ne (tgt := 22) hX h dX1_isTold_1 (by decide)) (fun h => ?_) (fun h => ?_)
  · refine cw (k_iload_n hX dX1_isTold_22 rfl 1 rfl) ?_
    refine cw (k_iconst (v := 1) hX dX1_isTold_23 (by decide)) ?_
    refine c_brn h (k_icmp_ne (tgt := 45) hX h dX1_isTold_24 (by decide)) (fun h => ?_) (fun h => ?_)
    · refine cw (k_iload_n hX dX1_isTold_45 rfl 1 rfl) ?_
      refine cw (k_iconst (v := 2) hX dX1_isTold_46 (by decide)) ?_
      refine c_brn h (k_icmp_ne (tgt := 68) hX h dX1_isTold_47 (by decide)) (fun h => ?_) (fun h => ?_)
      · refine cw (k_iload_n hX dX1_isTold_68 rfl 1 rfl) ?_
        refine cw (k_iconst (v := 3) hX dX1_isTold_69 (by decide)) ?_
        refine c_brn h (k_icmp_ne (tgt := 91) hX h dX1_isTold_70 (by decide)) (fun h => ?_) (fun h => ?_)
        · refine cw (k_iload_n hX dX1_isTold_91 rfl 1 rfl) ?_
          refine cw (k_iconst (v := 4) hX dX1_isTold_92 (by decide)) ?_
          refine c_brn h (k_icmp_ne (tgt := 110) hX h dX1_isTold_93 (by decide)) (fun h => ?_) (fun h => ?_)
          · refine cw (k_iconst (v := 0) hX dX1_isTold_110 (by decide)) ?_
            exact c_ret_zrc T e rfl h dX1_isTold_111
          · refine cw (k_aload_n hX dX1_isTold_96 rfl 0 rfl) ?_
            refine cg_X1_98 T h dX1_isTold_97 (fun r1 h => ?_)
            obtain ⟨p2, e_p2, hq_p2⟩ := nn_of h
            subst e_p2
            have h := hq_p2
            show cW X _ _ _ 100 [(0, .ref x0), (1, .int x1)] [.ref p2]
            refine cg_X1_139 T h dX1_isTold_100 (fun v3 h => ?_)
            refine c_br h (k_if_eq (tgt := 110) hX h dX1_isTold_103 (by decide)) (fun h => ?_) (fun h => ?_)
            · refine cw (k_iconst (v := 0) hX dX1_isTold_110 (by decide)) ?_
              exact c_ret_zrc T e rfl h dX1_isTold_111
            · refine cw (k_iconst (v := 1) hX dX1_isTold_106 (by decide)) ?_
              refine cw (k_goto (tgt := 111) hX dX1_isTold_107 (by decide)) ?_
              exact c_ret_zrc T e rfl h dX1_isTold_111
        · refine cw (k_aload_n hX dX1_isTold_73 rfl 0 rfl) ?_
          refine cg_X1_98 T h dX1_isTold_74 (fun r4 h => ?_)
          obtain ⟨p5, e_p5, hq_p5⟩ := nn_of h
          subst e_p5
          have h := hq_p5
          show cW X _ _ _ 77 [(0, .ref x0), (1, .int x1)] [.ref p5]
          refine cg_X1_136 T h dX1_isTold_77 (fun v6 h => ?_)
          refine c_br h (k_if_lt (tgt := 87) hX h dX1_isTold_80 (by decide)) (fun h => ?_) (fun h => ?_)
          · refine cw (k_iconst (v := 0) hX dX1_isTold_87 (by decide)) ?_
            refine cw (k_goto (tgt := 111) hX dX1_isTold_88 (by decide)) ?_
            exact c_ret_zrc T e rfl h dX1_isTold_111
          · refine cw (k_iconst (v := 1) hX dX1_isTold_83 (by decide)) ?_
            refine cw (k_goto (tgt := 111) hX dX1_isTold_84 (by decide)) ?_
            exact c_ret_zrc T e rfl h dX1_isTold_111
      · refine cw (k_aload_n hX dX1_isTold_50 rfl 0 rfl) ?_
        refine cg_X1_98 T h dX1_isTold_51 (fun r7 h => ?_)
        obtain ⟨p8, e_p8, hq_p8⟩ := nn_of h
        subst e_p8
        have h := hq_p8
        show cW X _ _ _ 54 [(0, .ref x0), (1, .int x1)] [.ref p8]
        refine cg_X1_133 T h dX1_isTold_54 (fun v9 h => ?_)
        refine c_br h (k_if_lt (tgt := 64) hX h dX1_isTold_57 (by decide)) (fun h => ?_) (fun h => ?_)
        · refine cw (k_iconst (v := 0) hX dX1_isTold_64 (by decide)) ?_
          refine cw (k_goto (tgt := 111) hX dX1_isTold_65 (by decide)) ?_
          exact c_ret_zrc T e rfl h dX1_isTold_111
        · refine cw (k_iconst (v := 1) hX dX1_isTold_60 (by decide)) ?_
          refine cw (k_goto (tgt := 111) hX dX1_isTold_61 (by decide)) ?_
          exact c_ret_zrc T e rfl h dX1_isTold_111
    · refine cw (k_aload_n hX dX1_isTold_27 rfl 0 rfl) ?_
      refine cg_X1_98 T h dX1_isTold_28 (fun r10 h => ?_)
      obtain ⟨p11, e_p11, hq_p11⟩ := nn_of h
      subst e_p11
      have h := hq_p11
      show cW X _ _ _ 31 [(0, .ref x0), (1, .int x1)] [.ref p11]
      refine cg_X1_130 T h dX1_isTold_31 (fun v12 h => ?_)
      refine c_br h (k_if_lt (tgt := 41) hX h dX1_isTold_34 (by decide)) (fun h => ?_) (fun h => ?_)
      · refine cw (k_iconst (v := 0) hX dX1_isTold_41 (by decide)) ?_
        refine cw (k_goto (tgt := 111) hX dX1_isTold_42 (by decide)) ?_
        exact c_ret_zrc T e rfl h dX1_isTold_111
      · refine cw (k_iconst (v := 1) hX dX1_isTold_37 (by decide)) ?_
        refine cw (k_goto (tgt := 111) hX dX1_isTold_38 (by decide)) ?_
        exact c_ret_zrc T e rfl h dX1_isTold_111
  · refine cw (k_aload_n hX dX1_isTold_4 rfl 0 rfl) ?_
    refine cg_X1_98 T h dX1_isTold_5 (fun r13 h => ?_)
    obtain ⟨p14, e_p14, hq_p14⟩ := nn_of h
    subst e_p14
    have h := hq_p14
    show cW X _ _ _ 8 [(0, .ref x0), (1, .int x1)] [.ref p14]
    refine cg_X1_127 T h dX1_isTold_8 (fun v15 h => ?_)
    refine c_br h (k_if_lt (tgt := 18) hX h dX1_isTold_11 (by decide)) (fun h => ?_) (fun h => ?_)
    · refine cw (k_iconst (v := 0) hX dX1_isTold_18 (by decide)) ?_
      refine cw (k_goto (tgt := 111) hX dX1_isTold_19 (by decide)) ?_
      exact c_ret_zrc T e rfl h dX1_isTold_111
    · refine cw (k_iconst (v := 1) hX dX1_isTold_14 (by decide)) ?_
      refine cw (k_goto (tgt := 111) hX dX1_isTold_15 (by decide)) ?_
      exact c_ret_zrc T e rfl h dX1_isTold_111
theorem met_FX1_need {l : Launch} {E : CE} {nf : Nat} : ∀ (x0 : Nat) (x1 : Nat) (s : CS) (z : ((Nat ⊕ Unit) × CS)), FX1_need E.2.2.2 nf x0 x1 s = some z → (isK s x0 [1] = true ∧ xMet_v l E yX1_need (ws_ yX1_need cX1_need 2 none) 6 155 [.ref x0, .ref x1] s z.1 z.2) := by
  intro x0 x1 s z h
  unfold FX1_need at h
  obtain ⟨hm, h⟩ := mz_of h
  obtain ⟨hg, h⟩ := gd_of h
  refine ⟨hg, x_met_v hm (by decide +kernel) rfl (fun X hl hin T hR e => ?_)⟩
  have T : cOK X E cX1_need RX1 2 none _ _ _ _ := T
  have hX := T.1
  show cW X _ _ s 0 [(0, .ref x0), (1, .ref x1)] []
  refine cw (k_aload_n hX dX1_need_0 rfl 0 rfl) ?_
  refine cw (k_aload_n hX dX1_need_1 rfl 1 rfl) ?_
  refine cX_X1_71 T met_FX1_which (c_room hR rfl rfl) h rfl dX1_need_2 (fun v1 h => ?_)
  refine c_br h (k_if_ge (tgt := 14) hX h dX1_need_5 (by decide)) (fun h => ?_) (fun h => ?_)
  · refine cw (k_aload_n hX dX1_need_14 rfl 0 rfl) ?_
    refine cX_X1_25 T met_FX1_next (c_room hR rfl rfl) h rfl dX1_need_15 (fun s2 h => ?_)
    exact x_ret_v T e h dX1_need_18
  · refine cw (k_aload_n hX dX1_need_8 rfl 0 rfl) ?_
    refine cw (k_iconst (v := 1) hX dX1_need_9 (by decide)) ?_
    refine cX_X1_75 T met_FX1_wrong (c_room hR rfl rfl) h rfl dX1_need_10 (fun r4 s3 h => ?_)
    obtain ⟨p5, e_p5, hq_p5⟩ := nn_of h
    subst e_p5
    have h := hq_p5
    show cW X _ _ _ 13 [(0, .ref x0), (1, .ref x1)] [.ref p5]
    exact x_throw T e h dX1_need_13
theorem met_FX1_number {l : Launch} {E : CE} {nf : Nat} : ∀ (x0 : Nat) (x1 : Nat) (x2 : Int32) (x3 : Int32) (s : CS) (z : ((Nat ⊕ Int32) × CS)), FX1_number E.2.2.2 nf x0 x1 x2 x3 s = some z → (isK s x0 [1] = true ∧ xMet_i l E yX1_number (ws_ yX1_number cX1_number 4 (some .int)) 7 178 [.ref x0, .ref x1, .int x2, .int x3] s z.1 z.2) := by
  intro x0 x1 x2 x3 s z h
  unfold FX1_number at h
  obtain ⟨hm, h⟩ := mz_of h
  obtain ⟨hg, h⟩ := gd_of h
  refine ⟨hg, x_met_i hm (by decide +kernel) rfl (fun X hl hin T hR e => ?_)⟩
  have T : cOK X E cX1_number RX1 4 (some .int) _ _ _ _ := T
  have hX := T.1
  show cW X _ _ s 0 [(0, .ref x0), (1, .ref x1), (2, .int x2), (3, .int x3)] []
  refine cw (k_aload_n hX dX1_number_0 rfl 0 rfl) ?_
  refine cw (k_aload_n hX dX1_number_1 rfl 1 rfl) ?_
  refine cX_X1_120 T met_FX1_need (c_room hR rfl rfl) e h rfl dX1_number_2 (fun s1 h => ?_)
  refine cw (k_aload_n hX dX1_number_5 rfl 0 rfl) ?_
  refine cw (k_iload_n hX dX1_number_6 rfl 2 rfl) ?_
  refine cw (k_iload_n hX dX1_number_7 rfl 3 rfl) ?_
  refine cX_X1_124 T met_FX1_number_2 (c_room hR rfl rfl) e h rfl dX1_number_8 (fun v3 s2 h => ?_)
  exact x_ret_i T e h dX1_number_11
theorem met_FX0_gcd_s {l : Launch} {E : CE} {rc : Int32 → Int32 → Option Int32} {Fr Lr : Nat} {s : CS} (hrc : ∀ (a0 : Int32) (a1 : Int32) (v : Int32), rc a0 a1 = some v → cMet_i l E yX0_gcd (ws_ yX0_gcd cX0_gcd 2 (some .int)) Fr Lr [.int a0, .int a1] s v s) (hN : 0 ≤ Fr) (hM : 0 ≤ Lr) : ∀ (x0 : Int32) (x1 : Int32) (z : Int32), FX0_gcd_s rc s x0 x1 = some z → cMet_i l E yX0_gcd (ws_ yX0_gcd cX0_gcd 2 (some .int)) (Fr + 1) (Lr + 49) [.int x0, .int x1] s z s := by
  intro x0 x1 z h
  unfold FX0_gcd_s at h
  refine c_met_i ⟨Nat.le_refl _, Nat.le_refl _⟩ (by decide +kernel) rfl (fun X hl hin T hR e => ?_)
  have T : cOK X E cX0_gcd RX0 2 (some .int) _ _ _ _ := T
  have hX := T.1
  show cW X _ _ s 0 [(0, .int x0), (1, .int x1)] []
  subst hl
  refine cw (k_iload_n hX dX0_gcd_0 rfl 1 rfl) ?_
  refine c_brn h (k_if_ne (tgt := 8) hX h dX0_gcd_1 (by decide)) (fun h => ?_) (fun h => ?_)
  · refine cw (k_iload_n hX dX0_gcd_8 rfl 1 rfl) ?_
    refine cw (k_iload_n hX dX0_gcd_9 rfl 0 rfl) ?_
    refine cw (k_iload_n hX dX0_gcd_10 rfl 1 rfl) ?_
    refine c_d32 h (k_irem hX h dX0_gcd_11) (fun h => ?_)
    refine cX_X0_5 T hrc (c_roomo hR (by omega) (by omega)) h rfl dX0_gcd_12 (fun v1 h => ?_)
    exact c_ret_ir T e h dX0_gcd_15
  · refine cw (k_iload_n hX dX0_gcd_4 rfl 0 rfl) ?_
    refine cw (k_goto (tgt := 15) hX dX0_gcd_5 (by decide)) ?_
    exact c_ret_ir T e h dX0_gcd_15
theorem met_FX0_gcd {l : Launch} {E : CE} {s : CS} : ∀ (dp : Nat) (x0 : Int32) (x1 : Int32) (z : Int32), FX0_gcd s dp x0 x1 = some z → cMet_i l E yX0_gcd (ws_ yX0_gcd cX0_gcd 2 (some .int)) (1 * dp + 0) (49 * dp + 0) [.int x0, .int x1] s z s := by
  intro dp
  induction dp with
  | zero => intro x0 x1 z h; exact (nomatch (show (none : Option Int32) = some z from h))
  | succ dp ih =>
    intro x0 x1 z h
    have h : FX0_gcd_s (FX0_gcd s dp) s x0 x1 = some z := h
    rw [show 1 * (dp + 1) + 0 = (1 * dp + 0) + 1 by omega, show 49 * (dp + 1) + 0 = (49 * dp + 0) + 49 by omega]
    exact met_FX0_gcd_s ih (Nat.le_add_left _ _) (Nat.le_add_left _ _) _ _ _ h
theorem FX1_light_b230_ok {X : KC CS} {E : CE} {z : ((Nat ⊕ Unit) × CS)} {z0 l0 z1 l1 : Nat} (T : cOK X E cX1_light RX1 7 none z0 l0 z1 l1) (hR : cRoom X 51 2471) (e : xE X E z0 l0 z1 l1 (xQ_v E z.1 z.2) (xgl z.1) z.2) {nf : Nat} {x0 : Nat} {x1 : Int32} {x2 : Int32} {x3 : Int32} {x4 : Int32} {x5 : Int32} {x6 : Int32} {s : CS} (h : FX1_light_b230 E.2.2.2 nf x0 x1 x2 x3 x4 x5 x6 s = some z) : cW X z1 l1 s 230 [(0, .ref x0), (1, .int x1), (2, .int x2), (3, .int x3), (4, .int x4), (5, .int x5), (6, .int x6)] [] := by
  unfold FX1_light_b230 at h
  have hX := T.1
  refine cw (k_aload_n hX dX1_light_230 rfl 0 rfl) ?_
  refine cg_X1_98 T h dX1_light_231 (fun r1 h => ?_)
  obtain ⟨p2, e_p2, hq_p2⟩ := nn_of h
  subst e_p2
  have h := hq_p2
  show cW X z1 l1 _ 234 [(0, .ref x0), (1, .int x1), (2, .int x2), (3, .int x3), (4, .int x4), (5, .int x5), (6, .int x6)] [.ref p2]
  refine cg_X1_198 T h dX1_light_234 (fun r3 h => ?_)
  refine cw (k_iload_n hX dX1_light_237 rfl 2 rfl) ?_
  refine cw (k_bipush (v := 6) hX dX1_light_238 (by decide)) ?_
  refine cw (k_imul hX dX1_light_240) ?_
  refine cw (k_iload_n hX dX1_light_241 rfl 1 rfl) ?_
  refine cw (k_iadd hX dX1_light_242) ?_
  refine cw (k_iload_n hX dX1_light_243 rfl 3 rfl) ?_
  refine c_brn h (k_if_ne (tgt := 263) hX h dX1_light_244 (by decide)) (fun h => ?_) (fun h => ?_)
  · refine cw (k_iload_n hX dX1_light_263 rfl 3 rfl) ?_
    refine cw (k_iconst (v := 1) hX dX1_light_264 (by decide)) ?_
    refine c_brn h (k_icmp_ne (tgt := 284) hX h dX1_light_265 (by decide)) (fun h => ?_) (fun h => ?_)
    · refine cw (k_iload_n hX dX1_light_284 rfl 3 rfl) ?_
      refine cw (k_iconst (v := 2) hX dX1_light_285 (by decide)) ?_
      refine c_brn h (k_icmp_ne (tgt := 305) hX h dX1_light_286 (by decide)) (fun h => ?_) (fun h => ?_)
      · refine c_newO kX15 q897 q898 q166 (nd15 _) T h dX1_light_305 (fun o4 s5 h => ?_)
        refine cw (k_dup hX dX1_light_308 rfl) ?_
        refine cw (k_iload hX dX1_light_309 4 rfl) ?_
        refine cw (k_iload hX dX1_light_311 5 rfl) ?_
        refine cw (k_iload hX dX1_light_313 6 rfl) ?_
        refine cX_X1_214 T met_FX15_init (c_room hR rfl rfl) h (by cases r3 <;> rfl) dX1_light_315 (fun s6 h => ?_)
        obtain ⟨p7, e_p7, hq_p7⟩ := nn_of h
        subst e_p7
        have h := hq_p7
        show cW X z1 l1 _ 318 [(0, .ref x0), (1, .int x1), (2, .int x2), (3, .int x3), (4, .int x4), (5, .int x5), (6, .int x6)] [.ref o4, .int ((x2 * 6) + x1), .ref p7]
        refine ca_ast104 T h dX1_light_318 (fun s8 h => ?_)
        exact x_ret_v T e h dX1_light_319
      · refine c_newO kX14 q887 q888 q165 (nd14 _) T h dX1_light_289 (fun o9 s10 h => ?_)
        refine cw (k_dup hX dX1_light_292 rfl) ?_
        refine cw (k_iload hX dX1_light_293 4 rfl) ?_
        refine cw (k_iload hX dX1_light_295 5 rfl) ?_
        refine cw (k_iload hX dX1_light_297 6 rfl) ?_
        refine cX_X1_211 T met_FX14_init (c_room hR rfl rfl) h (by cases r3 <;> rfl) dX1_light_299 (fun s11 h => ?_)
        refine cw (k_goto (tgt := 318) hX dX1_light_302 (by decide)) ?_
        obtain ⟨p12, e_p12, hq_p12⟩ := nn_of h
        subst e_p12
        have h := hq_p12
        show cW X z1 l1 _ 318 [(0, .ref x0), (1, .int x1), (2, .int x2), (3, .int x3), (4, .int x4), (5, .int x5), (6, .int x6)] [.ref o9, .int ((x2 * 6) + x1), .ref p12]
        refine ca_ast104 T h dX1_light_318 (fun s13 h => ?_)
        exact x_ret_v T e h dX1_light_319
    · refine c_newO kX13 q877 q878 q164 (nd13 _) T h dX1_light_268 (fun o14 s15 h => ?_)
      refine cw (k_dup hX dX1_light_271 rfl) ?_
      refine cw (k_iload hX dX1_light_272 4 rfl) ?_
      refine cw (k_iload hX dX1_light_274 5 rfl) ?_
      refine cw (k_iload hX dX1_light_276 6 rfl) ?_
      refine cX_X1_208 T met_FX13_init (c_room hR rfl rfl) h (by cases r3 <;> rfl) dX1_light_278 (fun s16 h => ?_)
      refine cw (k_goto (tgt := 318) hX dX1_light_281 (by decide)) ?_
      obtain ⟨p17, e_p17, hq_p17⟩ := nn_of h
      subst e_p17
      have h := hq_p17
      show cW X z1 l1 _ 318 [(0, .ref x0), (1, .int x1), (2, .int x2), (3, .int x3), (4, .int x4), (5, .int x5), (6, .int x6)] [.ref o14, .int ((x2 * 6) + x1), .ref p17]
      refine ca_ast104 T h dX1_light_318 (fun s18 h => ?_)
      exact x_ret_v T e h dX1_light_319
  · refine c_newO kX12 q847 q848 q163 (nd12 _) T h dX1_light_247 (fun o19 s20 h => ?_)
    refine cw (k_dup hX dX1_light_250 rfl) ?_
    refine cw (k_iload hX dX1_light_251 4 rfl) ?_
    refine cw (k_iload hX dX1_light_253 5 rfl) ?_
    refine cw (k_iload hX dX1_light_255 6 rfl) ?_
    refine cX_X1_203 T met_FX12_init (c_room hR rfl rfl) h (by cases r3 <;> rfl) dX1_light_257 (fun s21 h => ?_)
    refine cw (k_goto (tgt := 318) hX dX1_light_260 (by decide)) ?_
    obtain ⟨p22, e_p22, hq_p22⟩ := nn_of h
    subst e_p22
    have h := hq_p22
    show cW X z1 l1 _ 318 [(0, .ref x0), (1, .int x1), (2, .int x2), (3, .int x3), (4, .int x4), (5, .int x5), (6, .int x6)] [.ref o19, .int ((x2 * 6) + x1), .ref p22]
    refine ca_ast104 T h dX1_light_318 (fun s23 h => ?_)
    exact x_ret_v T e h dX1_light_319
theorem FX1_light_b212_ok {X : KC CS} {E : CE} {z : ((Nat ⊕ Unit) × CS)} {z0 l0 z1 l1 : Nat} (T : cOK X E cX1_light RX1 7 none z0 l0 z1 l1) (hR : cRoom X 51 2471) (e : xE X E z0 l0 z1 l1 (xQ_v E z.1 z.2) (xgl z.1) z.2) {nf : Nat} {x0 : Nat} {x1 : Int32} {x2 : Int32} {x3 : Int32} {x4 : Int32} {x5 : Int32} {x6 : Int32} {s : CS} (h : FX1_light_b212 E.2.2.2 nf x0 x1 x2 x3 x4 x5 x6 s = some z) : cW X z1 l1 s 212 [(0, .ref x0), (1, .int x1), (2, .int x2), (3, .int x3), (4, .int x4), (5, .int x5), (6, .int x6)] [] := by
  unfold FX1_light_b212 at h
  have hX := T.1
  refine cw (k_iload_n hX dX1_light_212 rfl 3 rfl) ?_
  refine cw (k_iconst (v := 1) hX dX1_light_213 (by decide)) ?_
  refine c_brn h (k_icmp_ne (tgt := 230) hX h dX1_light_214 (by decide)) (fun h => ?_) (fun h => ?_)
  · refine cw (k_lv (lv' := [(0, .ref x0), (1, .int x1), (2, .int x2), (3, .int x3), (4, .int x4), (5, .int x5), (6, .int x6)]) [0, 1, 2, 3, 4, 5, 6] rfl) ?_
    exact FX1_light_b230_ok T hR e h
  · refine cw (k_aload_n hX dX1_light_217 rfl 0 rfl) ?_
    refine cg_X1_98 T h dX1_light_218 (fun r1 h => ?_)
    refine cw (k_dup hX dX1_light_221 (rf_cat _)) ?_
    obtain ⟨p2, e_p2, hq_p2⟩ := nn_of h
    subst e_p2
    have h := hq_p2
    show cW X z1 l1 _ 222 [(0, .ref x0), (1, .int x1), (2, .int x2), (3, .int x3), (4, .int x4), (5, .int x5), (6, .int x6)] [.ref p2, .ref p2]
    refine cg_X1_195 T h dX1_light_222 (fun v3 h => ?_)
    refine cw (k_iconst (v := 1) hX dX1_light_225 (by decide)) ?_
    refine cw (k_iadd hX dX1_light_226) ?_
    refine cp_X1_195 T h dX1_light_227 (fun s4 h => ?_)
    refine cw (k_lv (lv' := [(0, .ref x0), (1, .int x1), (2, .int x2), (3, .int x3), (4, .int x4), (5, .int x5), (6, .int x6)]) [0, 1, 2, 3, 4, 5, 6] rfl) ?_
    exact FX1_light_b230_ok T hR e h
theorem FX1_light_b144_ok {X : KC CS} {E : CE} {z : ((Nat ⊕ Unit) × CS)} {z0 l0 z1 l1 : Nat} (T : cOK X E cX1_light RX1 7 none z0 l0 z1 l1) (hR : cRoom X 51 2471) (e : xE X E z0 l0 z1 l1 (xQ_v E z.1 z.2) (xgl z.1) z.2) {nf : Nat} {x0 : Nat} {x1 : Int32} {x2 : Int32} {x3 : Int32} {s : CS} (h : FX1_light_b144 E.2.2.2 nf x0 x1 x2 x3 s = some z) : cW X z1 l1 s 144 [(0, .ref x0), (1, .int x1), (2, .int x2), (3, .int x3)] [] := by
  unfold FX1_light_b144 at h
  have hX := T.1
  refine cw (k_aload_n hX dX1_light_144 rfl 0 rfl) ?_
  refine cw (k_iconst (v := 1) hX dX1_light_145 (by decide)) ?_
  refine cw (k_bipush (v := 60) hX dX1_light_146 (by decide)) ?_
  refine cX_X1_124 T met_FX1_number_2 (c_room hR rfl rfl) e h rfl dX1_light_148 (fun v2 s1 h => ?_)
  refine cw (k_istore [(4, .int v2), (0, .ref x0), (1, .int x1), (2, .int x2), (3, .int x3)] hX dX1_light_151 rfl rfl) ?_
  refine cw (k_aload_n hX dX1_light_153 rfl 1 rfl) ?_
  obtain ⟨p3, e_p3, hq_p3⟩ := nn_of h
  have h := hq_p3
  refine cw (k_ldcS (k := 5) T e_p3 rfl dX1_light_154) ?_
  refine cw (k_iconst (v := 0) hX dX1_light_156 (by decide)) ?_
  refine cw (k_iload hX dX1_light_157 0 rfl) ?_
  refine cw (k_iconst (v := 1) hX dX1_light_159 (by decide)) ?_
  refine cw (k_isub hX dX1_light_160) ?_
  refine cX_X1_146 T met_FX1_number (c_room hR rfl rfl) e h rfl dX1_light_161 (fun v5 s4 h => ?_)
  refine cw (k_istore [(5, .int v5), (4, .int v2), (0, .ref x0), (1, .int x1), (2, .int x2), (3, .int x3)] hX dX1_light_164 rfl rfl) ?_
  refine cw (k_aload_n hX dX1_light_166 rfl 2 rfl) ?_
  obtain ⟨p6, e_p6, hq_p6⟩ := nn_of h
  have h := hq_p6
  refine cw (k_ldcS (k := 6) T e_p6 rfl dX1_light_167) ?_
  refine cw (k_iconst (v := 0) hX dX1_light_169 (by decide)) ?_
  refine cw (k_iload hX dX1_light_170 1 rfl) ?_
  refine cX_X1_146 T met_FX1_number (c_room hR rfl rfl) e h rfl dX1_light_172 (fun v8 s7 h => ?_)
  refine cw (k_istore [(6, .int v8), (5, .int v5), (4, .int v2), (0, .ref x0), (1, .int x1), (2, .int x2), (3, .int x3)] hX dX1_light_175 rfl rfl) ?_
  refine cw (k_iload_n hX dX1_light_177 rfl 6 rfl) ?_
  refine cw (k_iconst (v := 2) hX dX1_light_178 (by decide)) ?_
  refine c_br h (k_icmp_ge (tgt := 212) hX h dX1_light_179 (by decide)) (fun h => ?_) (fun h => ?_)
  · refine cw (k_lv (lv' := [(0, .ref x0), (1, .int x1), (2, .int x2), (3, .int x3), (4, .int v2), (5, .int v5), (6, .int v8)]) [3, 4, 5, 6, 2, 1, 0] rfl) ?_
    exact FX1_light_b212_ok T hR e h
  · refine cw (k_aload_n hX dX1_light_182 rfl 3 rfl) ?_
    refine cg_X1_98 T h dX1_light_183 (fun r9 h => ?_)
    refine cw (k_aload_n hX dX1_light_186 rfl 3 rfl) ?_
    refine cg_X1_98 T h dX1_light_187 (fun r10 h => ?_)
    obtain ⟨p11, e_p11, hq_p11⟩ := nn_of h
    subst e_p11
    have h := hq_p11
    show cW X z1 l1 _ 190 [(6, .int v8), (5, .int v5), (4, .int v2), (0, .ref x0), (1, .int x1), (2, .int x2), (3, .int x3)] [.ref p11, va_rf r9]
    refine cg_X1_185 T h dX1_light_190 (fun v12 h => ?_)
    refine cw (k_aload_n hX dX1_light_193 rfl 3 rfl) ?_
    refine cg_X1_98 T h dX1_light_194 (fun r13 h => ?_)
    obtain ⟨p14, e_p14, hq_p14⟩ := nn_of h
    subst e_p14
    have h := hq_p14
    show cW X z1 l1 _ 197 [(6, .int v8), (5, .int v5), (4, .int v2), (0, .ref x0), (1, .int x1), (2, .int x2), (3, .int x3)] [.ref p14, .int v12, va_rf r9]
    refine cg_X1_185 T h dX1_light_197 (fun v15 h => ?_)
    refine cw (k_iload hX dX1_light_200 2 rfl) ?_
    refine cX_X1_188 T (met_FX0_gcd 50) (c_room hR rfl rfl) h (by cases r9 <;> rfl) dX1_light_202 (fun v16 h => ?_)
    refine c_d32 h (k_idiv hX h dX1_light_205) (fun h => ?_)
    refine cw (k_iload hX dX1_light_206 2 rfl) ?_
    refine cw (k_imul hX dX1_light_208) ?_
    obtain ⟨p17, e_p17, hq_p17⟩ := nn_of h
    subst e_p17
    have h := hq_p17
    show cW X z1 l1 _ 209 [(6, .int v8), (5, .int v5), (4, .int v2), (0, .ref x0), (1, .int x1), (2, .int x2), (3, .int x3)] [.int ((v12 / v16) * v2), .ref p17]
    refine cp_X1_185 T h dX1_light_209 (fun s18 h => ?_)
    refine cw (k_lv (lv' := [(0, .ref x0), (1, .int x1), (2, .int x2), (3, .int x3), (4, .int v2), (5, .int v5), (6, .int v8)]) [3, 4, 5, 6, 2, 1, 0] rfl) ?_
    exact FX1_light_b212_ok T hR e h
theorem FX1_light_b37_ok {X : KC CS} {E : CE} {z : ((Nat ⊕ Unit) × CS)} {z0 l0 z1 l1 : Nat} (T : cOK X E cX1_light RX1 7 none z0 l0 z1 l1) (hR : cRoom X 51 2471) (e : xE X E z0 l0 z1 l1 (xQ_v E z.1 z.2) (xgl z.1) z.2) {nf : Nat} {x0 : Nat} {x1 : Int32} {s : CS} (h : FX1_light_b37 E.2.2.2 nf x0 x1 s = some z) : cW X z1 l1 s 37 [(0, .ref x0), (1, .int x1)] [] := by
  unfold FX1_light_b37 at h
  have hX := T.1
  refine cw (k_aload_n hX dX1_light_37 rfl 0 rfl) ?_
  refine cw (k_iconst (v := 0) hX dX1_light_38 (by decide)) ?_
  refine cw (k_aload_n hX dX1_light_39 rfl 0 rfl) ?_
  refine cg_X1_98 T h dX1_light_40 (fun r1 h => ?_)
  obtain ⟨p2, e_p2, hq_p2⟩ := nn_of h
  subst e_p2
  have h := hq_p2
  show cW X z1 l1 _ 43 [(0, .ref x0), (1, .int x1)] [.ref p2, .int 0, .ref x0]
  refine cg_X1_152 T h dX1_light_43 (fun v3 h => ?_)
  refine cw (k_iconst (v := 1) hX dX1_light_46 (by decide)) ?_
  refine cw (k_isub hX dX1_light_47) ?_
  refine cX_X1_124 T met_FX1_number_2 (c_room hR rfl rfl) e h rfl dX1_light_48 (fun v5 s4 h => ?_)
  refine cw (k_istore_n [(2, .int v5), (0, .ref x0), (1, .int x1)] hX dX1_light_51 rfl rfl rfl) ?_
  refine cw (k_aload_n hX dX1_light_52 rfl 1 rfl) ?_
  obtain ⟨p6, e_p6, hq_p6⟩ := nn_of h
  have h := hq_p6
  refine cw (k_ldcS (k := 3) T e_p6 rfl dX1_light_53) ?_
  refine cX_X1_71 T met_FX1_which (c_room hR rfl rfl) h rfl dX1_light_55 (fun v7 h => ?_)
  refine cw (k_istore_n [(3, .int v7), (2, .int v5), (0, .ref x0), (1, .int x1)] hX dX1_light_58 rfl rfl rfl) ?_
  refine cw (k_iload_n hX dX1_light_59 rfl 0 rfl) ?_
  refine c_br h (k_if_ge (tgt := 69) hX h dX1_light_60 (by decide)) (fun h => ?_) (fun h => ?_)
  · refine cw (k_aload_n hX dX1_light_69 rfl 2 rfl) ?_
    refine cX_X1_25 T met_FX1_next (c_room hR rfl rfl) h rfl dX1_light_70 (fun s8 h => ?_)
    refine cw (k_aload_n hX dX1_light_73 rfl 2 rfl) ?_
    obtain ⟨p9, e_p9, hq_p9⟩ := nn_of h
    have h := hq_p9
    refine cw (k_ldcS (k := 4) T e_p9 rfl dX1_light_74) ?_
    refine cX_X1_120 T met_FX1_need (c_room hR rfl rfl) e h rfl dX1_light_76 (fun s10 h => ?_)
    refine cw (k_aload_n hX dX1_light_79 rfl 2 rfl) ?_
    refine cg_X1_31 T h dX1_light_80 (fun v11 h => ?_)
    refine cw (k_iconst (v := 2) hX dX1_light_83 (by decide)) ?_
    refine c_brn h (k_icmp_ne (tgt := 144) hX h dX1_light_84 (by decide)) (fun h => ?_) (fun h => ?_)
    · refine cw (k_lv (lv' := [(0, .ref x0), (1, .int x1), (2, .int v5), (3, .int v7)]) [2, 3, 1, 0] rfl) ?_
      exact FX1_light_b144_ok T hR e h
    · refine cw (k_iload_n hX dX1_light_87 rfl 0 rfl) ?_
      refine cw (k_iconst (v := 2) hX dX1_light_88 (by decide)) ?_
      refine c_br h (k_icmp_ge (tgt := 144) hX h dX1_light_89 (by decide)) (fun h => ?_) (fun h => ?_)
      · refine cw (k_lv (lv' := [(0, .ref x0), (1, .int x1), (2, .int v5), (3, .int v7)]) [2, 3, 1, 0] rfl) ?_
        exact FX1_light_b144_ok T hR e h
      · refine cw (k_aload_n hX dX1_light_92 rfl 2 rfl) ?_
        refine cX_X1_179 T met_FX1_value (c_room hR rfl rfl) h rfl dX1_light_93 (fun v12 h => ?_)
        refine cw (k_iconst (v := 1) hX dX1_light_96 (by decide)) ?_
        refine cw (k_bipush (v := 60) hX dX1_light_97 (by decide)) ?_
        refine cX_X1_181 T met_FX0_in (c_room hR rfl rfl) h rfl dX1_light_99 (fun v13 h => ?_)
        refine c_br h (k_if_eq (tgt := 144) hX h dX1_light_102 (by decide)) (fun h => ?_) (fun h => ?_)
        · refine cw (k_lv (lv' := [(0, .ref x0), (1, .int x1), (2, .int v5), (3, .int v7)]) [2, 3, 1, 0] rfl) ?_
          exact FX1_light_b144_ok T hR e h
        · refine cw (k_aload_n hX dX1_light_105 rfl 2 rfl) ?_
          refine cg_X1_98 T h dX1_light_106 (fun r14 h => ?_)
          obtain ⟨p15, e_p15, hq_p15⟩ := nn_of h
          subst e_p15
          have h := hq_p15
          show cW X z1 l1 _ 109 [(3, .int v7), (2, .int v5), (0, .ref x0), (1, .int x1)] [.ref p15]
          refine cg_X1_185 T h dX1_light_109 (fun v16 h => ?_)
          refine cw (k_aload_n hX dX1_light_112 rfl 2 rfl) ?_
          refine cg_X1_98 T h dX1_light_113 (fun r17 h => ?_)
          obtain ⟨p18, e_p18, hq_p18⟩ := nn_of h
          subst e_p18
          have h := hq_p18
          show cW X z1 l1 _ 116 [(3, .int v7), (2, .int v5), (0, .ref x0), (1, .int x1)] [.ref p18, .int v16]
          refine cg_X1_185 T h dX1_light_116 (fun v19 h => ?_)
          refine cw (k_aload_n hX dX1_light_119 rfl 2 rfl) ?_
          refine cX_X1_179 T met_FX1_value (c_room hR rfl rfl) h rfl dX1_light_120 (fun v20 h => ?_)
          refine cX_X1_188 T (met_FX0_gcd 50) (c_room hR rfl rfl) h rfl dX1_light_123 (fun v21 h => ?_)
          refine c_d32 h (k_idiv hX h dX1_light_126) (fun h => ?_)
          refine cw (k_aload_n hX dX1_light_127 rfl 2 rfl) ?_
          refine cX_X1_179 T met_FX1_value (c_room hR rfl rfl) h rfl dX1_light_128 (fun v22 h => ?_)
          refine cw (k_imul hX dX1_light_131) ?_
          refine cw (k_sipush (v := 1200) hX dX1_light_132 (by decide)) ?_
          refine c_br h (k_icmp_le (tgt := 144) hX h dX1_light_135 (by decide)) (fun h => ?_) (fun h => ?_)
          · refine cw (k_lv (lv' := [(0, .ref x0), (1, .int x1), (2, .int v5), (3, .int v7)]) [2, 3, 1, 0] rfl) ?_
            exact FX1_light_b144_ok T hR e h
          · refine cw (k_aload_n hX dX1_light_138 rfl 2 rfl) ?_
            refine cw (k_iconst (v := 4) hX dX1_light_139 (by decide)) ?_
            refine cX_X1_75 T met_FX1_wrong (c_room hR rfl rfl) h rfl dX1_light_140 (fun r24 s23 h => ?_)
            obtain ⟨p25, e_p25, hq_p25⟩ := nn_of h
            subst e_p25
            have h := hq_p25
            show cW X z1 l1 _ 143 [(3, .int v7), (2, .int v5), (0, .ref x0), (1, .int x1)] [.ref p25]
            exact x_throw T e h dX1_light_143
  · refine cw (k_aload_n hX dX1_light_63 rfl 2 rfl) ?_
    refine cw (k_iconst (v := 1) hX dX1_light_64 (by decide)) ?_
    refine cX_X1_75 T met_FX1_wrong (c_room hR rfl rfl) h rfl dX1_light_65 (fun r27 s26 h => ?_)
    obtain ⟨p28, e_p28, hq_p28⟩ := nn_of h
    subst e_p28
    have h := hq_p28
    show cW X z1 l1 _ 68 [(3, .int v7), (2, .int v5), (0, .ref x0), (1, .int x1)] [.ref p28]
    exact x_throw T e h dX1_light_68
theorem met_FX1_light {l : Launch} {E : CE} {nf : Nat} : ∀ (x0 : Nat) (s : CS) (z : ((Nat ⊕ Unit) × CS)), FX1_light E.2.2.2 nf x0 s = some z → (isK s x0 [1] = true ∧ xMet_v l E yX1_light (ws_ yX1_light cX1_light 7 none) 51 2471 [.ref x0] s z.1 z.2) := by
  intro x0 s z h
  unfold FX1_light at h
  obtain ⟨hm, h⟩ := mz_of h
  obtain ⟨hg, h⟩ := gd_of h
  refine ⟨hg, x_met_v hm (by decide +kernel) rfl (fun X hl hin T hR e => ?_)⟩
  have T : cOK X E cX1_light RX1 7 none _ _ _ _ := T
  have hX := T.1
  show cW X _ _ s 0 [(0, .ref x0)] []
  refine cw (k_aload_n hX dX1_light_0 rfl 0 rfl) ?_
  refine cw (k_iconst (v := 0) hX dX1_light_1 (by decide)) ?_
  refine cw (k_aload_n hX dX1_light_2 rfl 0 rfl) ?_
  refine cg_X1_98 T h dX1_light_3 (fun r1 h => ?_)
  obtain ⟨p2, e_p2, hq_p2⟩ := nn_of h
  subst e_p2
  have h := hq_p2
  show cW X _ _ _ 6 [(0, .ref x0)] [.ref p2, .int 0, .ref x0]
  refine cg_X1_149 T h dX1_light_6 (fun v3 h => ?_)
  refine cw (k_iconst (v := 1) hX dX1_light_9 (by decide)) ?_
  refine cw (k_isub hX dX1_light_10) ?_
  refine cX_X1_124 T met_FX1_number_2 (c_room hR rfl rfl) e h rfl dX1_light_11 (fun v5 s4 h => ?_)
  refine cw (k_istore_n [(1, .int v5), (0, .ref x0)] hX dX1_light_14 rfl rfl rfl) ?_
  refine cw (k_aload_n hX dX1_light_15 rfl 1 rfl) ?_
  refine cg_X1_31 T h dX1_light_16 (fun v6 h => ?_)
  refine cw (k_iconst (v := 2) hX dX1_light_19 (by decide)) ?_
  refine c_brn h (k_icmp_ne (tgt := 37) hX h dX1_light_20 (by decide)) (fun h => ?_) (fun h => ?_)
  · refine cw (k_lv (lv' := [(0, .ref x0), (1, .int v5)]) [1, 0] rfl) ?_
    exact FX1_light_b37_ok T hR e h
  · refine cw (k_aload_n hX dX1_light_23 rfl 1 rfl) ?_
    refine cw (k_iload_n hX dX1_light_24 rfl 0 rfl) ?_
    refine cX_X1_172 T met_FX1_isLit (c_room hR rfl rfl) h rfl dX1_light_25 (fun v7 h => ?_)
    refine c_br h (k_if_eq (tgt := 37) hX h dX1_light_28 (by decide)) (fun h => ?_) (fun h => ?_)
    · refine cw (k_lv (lv' := [(0, .ref x0), (1, .int v5)]) [1, 0] rfl) ?_
      exact FX1_light_b37_ok T hR e h
    · refine cw (k_aload_n hX dX1_light_31 rfl 1 rfl) ?_
      refine cw (k_iconst (v := 3) hX dX1_light_32 (by decide)) ?_
      refine cX_X1_75 T met_FX1_wrong (c_room hR rfl rfl) h rfl dX1_light_33 (fun r9 s8 h => ?_)
      obtain ⟨p10, e_p10, hq_p10⟩ := nn_of h
      subst e_p10
      have h := hq_p10
      show cW X _ _ _ 36 [(1, .int v5), (0, .ref x0)] [.ref p10]
      exact x_throw T e h dX1_light_36
theorem met_FX16_init {l : Launch} {E : CE} : ∀ (x0 : Nat) (x1 : Nat) (s : CS) (z : CS), FX16_init x0 x1 s = some z → cMet_v l E yX16_init (ws_ yX16_init cX16_init 2 none) 2 60 [.ref x0, .ref x1] s z := by
  intro x0 x1 s z h
  unfold FX16_init at h
  obtain ⟨hm, h⟩ := mz_of h
  refine c_met_v hm (by decide +kernel) rfl (fun X hl hin T hR e => ?_)
  have T : cOK X E cX16_init RX16 2 none _ _ _ _ := T
  have hX := T.1
  show cW X _ _ s 0 [(0, .ref x0), (1, .ref x1)] []
  refine cw (k_aload_n hX dX16_init_0 rfl 0 rfl) ?_
  refine cX_X16_3 T met_FX3_init (c_room hR rfl rfl) h rfl dX16_init_1 (fun h => ?_)
  refine cw (k_aload_n hX dX16_init_4 rfl 0 rfl) ?_
  refine cw (k_iconst (v := 4) hX dX16_init_5 (by decide)) ?_
  refine c_newAi T h dX16_init_6 (fun o2 s3 h => ?_)
  refine cp_X16_9 T hin h dX16_init_8 (fun s4 h => ?_)
  refine cw (k_aload_n hX dX16_init_11 rfl 0 rfl) ?_
  refine cw (k_aload_n hX dX16_init_12 rfl 1 rfl) ?_
  refine cp_X16_15 T hin h dX16_init_13 (fun s5 h => ?_)
  exact c_ret_v T e h dX16_init_16
theorem FJ5_copyOf_2_b24_ok {X : KC CS} {E : CE} {z : ((Option Nat) × CS)} {z0 l0 z1 l1 : Nat} (T : cOK X E cJ5_copyOf_2 RJ5 4 (some (.array (.object "java/lang/Object"))) z0 l0 z1 l1) (hR : cRoom X 1 60) (e : cE_q X E z0 l0 z1 l1 z.1 z.2) {x0 : Nat} {x1 : Int32} {s_0 : Nat} {s : CS} (h : FJ5_copyOf_2_b24 E.2.2.2 x0 x1 s_0 s = some z) : cW X z1 l1 s 24 [(0, .ref x0), (1, .int x1)] [.ref s_0] := by
  unfold FJ5_copyOf_2_b24 at h
  have hX := T.1
  refine cw (k_astore_n [(3, .ref s_0), (0, .ref x0), (1, .int x1)] hX dJ5_copyOf_2_24 rfl rfl rfl) ?_
  refine cw (k_aload_n hX dJ5_copyOf_2_25 rfl 1 rfl) ?_
  refine cw (k_iconst (v := 0) hX dJ5_copyOf_2_26 (by decide)) ?_
  refine cw (k_aload_n hX dJ5_copyOf_2_27 rfl 0 rfl) ?_
  refine cw (k_iconst (v := 0) hX dJ5_copyOf_2_28 (by decide)) ?_
  refine cw (k_aload_n hX dJ5_copyOf_2_29 rfl 1 rfl) ?_
  refine ca_len T h dJ5_copyOf_2_30 (fun v1 h => ?_)
  refine cw (k_iload_n hX dJ5_copyOf_2_31 rfl 2 rfl) ?_
  refine c_mmin T hR q329 q330 q145 q331 rfl dJ5_copyOf_2_32 ?_
  refine c_cpQ q332 hR rfl T h dJ5_copyOf_2_35 (fun s2 h => ?_)
  refine cw (k_aload_n hX dJ5_copyOf_2_38 rfl 0 rfl) ?_
  exact c_ret_q (v := (some s_0)) T (Or.inr ⟨_, rfl⟩) e h dJ5_copyOf_2_39
theorem met_FJ5_copyOf_2 {l : Launch} {E : CE} : ∀ (x0 : Nat) (x1 : Int32) (x2 : Nat) (s : CS) (z : ((Option Nat) × CS)), FJ5_copyOf_2 E.2.2.2 x0 x1 x2 s = some z → cMet_q l E yJ5_copyOf_2 (ws_ yJ5_copyOf_2 cJ5_copyOf_2 4 (some (.array (.object "java/lang/Object")))) 1 60 [.ref x0, .int x1, .ref x2] s z.1 z.2 := by
  intro x0 x1 x2 s z h
  unfold FJ5_copyOf_2 at h
  obtain ⟨hm, h⟩ := mz_of h
  refine c_met_q hm (by decide +kernel) rfl (fun X hl hin T hR e => ?_)
  have T : cOK X E cJ5_copyOf_2 RJ5 4 (some (.array (.object "java/lang/Object"))) _ _ _ _ := T
  have hX := T.1
  show cW X _ _ s 0 [(0, .ref x0), (1, .int x1), (2, .ref x2)] []
  refine cw (k_aload_n hX dJ5_copyOf_2_0 rfl 2 rfl) ?_
  obtain ⟨p1, e_p1, hq_p1⟩ := nn_of h
  have h := hq_p1
  refine cw (k_ldcM T e_p1 q327 dJ5_copyOf_2_1) ?_
  refine c_brn h (k_acmp_ne (rx := (some x2)) (ry := (some p1)) (tgt := 13) hX h dJ5_copyOf_2_3 (by decide)) (fun h => ?_) (fun h => ?_)
  · refine cw (k_aload_n hX dJ5_copyOf_2_13 rfl 2 rfl) ?_
    cases h
  · refine cw (k_iload_n hX dJ5_copyOf_2_6 rfl 1 rfl) ?_
    refine c_newQ106 q328 T h dJ5_copyOf_2_7 (fun o2 s3 h => ?_)
    refine cw (k_goto (tgt := 24) hX dJ5_copyOf_2_10 (by decide)) ?_
    refine cw (k_lv (lv' := [(0, .ref x0), (1, .int x1)]) [0, 1] rfl) ?_
    exact FJ5_copyOf_2_b24_ok T hR e h
theorem met_FJ5_copyOf {l : Launch} {E : CE} : ∀ (x0 : Nat) (x1 : Int32) (s : CS) (z : ((Option Nat) × CS)), FJ5_copyOf E.2.2.2 x0 x1 s = some z → cMet_q l E yJ5_copyOf (ws_ yJ5_copyOf cJ5_copyOf 2 (some (.array (.object "java/lang/Object")))) 2 83 [.ref x0, .int x1] s z.1 z.2 := by
  intro x0 x1 s z h
  unfold FJ5_copyOf at h
  obtain ⟨hm, h⟩ := mz_of h
  refine c_met_q hm (by decide +kernel) rfl (fun X hl hin T hR e => ?_)
  have T : cOK X E cJ5_copyOf RJ5 2 (some (.array (.object "java/lang/Object"))) _ _ _ _ := T
  have hX := T.1
  show cW X _ _ s 0 [(0, .ref x0), (1, .int x1)] []
  refine cw (k_aload_n hX dJ5_copyOf_0 rfl 0 rfl) ?_
  refine cw (k_iload_n hX dJ5_copyOf_1 rfl 1 rfl) ?_
  refine cw (k_aload_n hX dJ5_copyOf_2 rfl 0 rfl) ?_
  obtain ⟨hc_3, h⟩ := gd_of h
  obtain ⟨p1, e_p1, hq_p1⟩ := nn_of h
  have h := hq_p1
  refine cw (c_getC q298 hR rfl T e_p1 hc_3 dJ5_copyOf_3) ?_
  refine cX_J5_300 T met_FJ5_copyOf_2 (c_room hR rfl rfl) h rfl dJ5_copyOf_6 (fun r3 s2 h => ?_)
  exact c_ret_q (v := r3) T (Or.inr ⟨_, rfl⟩) e h dJ5_copyOf_9
theorem FJ2_grow_2_b20_ok {X : KC CS} {E : CE} {z : ((Option Nat) × CS)} {z0 l0 z1 l1 : Nat} (T : cOK X E cJ2_grow_2 RJ2 4 (some (.array (.object "java/lang/Object"))) z0 l0 z1 l1) (hR : cRoom X 3 104) (e : cE_q X E z0 l0 z1 l1 z.1 z.2) {x0 : Nat} {x1 : Int32} {x2 : Int32} {s : CS} (h : FJ2_grow_2_b20 E.2.2.2 x0 x1 x2 s = some z) : cW X z1 l1 s 20 [(0, .ref x0), (1, .int x1), (2, .int x2)] [] := by
  unfold FJ2_grow_2_b20 at h
  have hX := T.1
  refine cw (k_iload_n hX dJ2_grow_2_20 rfl 2 rfl) ?_
  refine cw (k_iload_n hX dJ2_grow_2_21 rfl 1 rfl) ?_
  refine cw (k_iload_n hX dJ2_grow_2_22 rfl 2 rfl) ?_
  refine cw (k_isub hX dJ2_grow_2_23) ?_
  refine cw (k_iload_n hX dJ2_grow_2_24 rfl 2 rfl) ?_
  refine cw (k_iconst (v := 1) hX dJ2_grow_2_25 (by decide)) ?_
  refine cw (k_ishr hX dJ2_grow_2_26) ?_
  refine cX_J2_73 T met_FJ3_newLength (c_room hR rfl rfl) h rfl dJ2_grow_2_27 (fun v2 s1 h => ?_)
  refine cw (k_istore_n [(3, .int v2), (0, .ref x0), (1, .int x1), (2, .int x2)] hX dJ2_grow_2_30 rfl rfl rfl) ?_
  refine cw (k_aload_n hX dJ2_grow_2_31 rfl 1 rfl) ?_
  refine cw (k_aload_n hX dJ2_grow_2_32 rfl 1 rfl) ?_
  refine cg_J2_9 T h dJ2_grow_2_33 (fun r3 h => ?_)
  refine cw (k_iload_n hX dJ2_grow_2_36 rfl 0 rfl) ?_
  obtain ⟨p4, e_p4, hq_p4⟩ := nn_of h
  subst e_p4
  have h := hq_p4
  show cW X z1 l1 _ 37 [(3, .int v2), (0, .ref x0), (1, .int x1), (2, .int x2)] [.int v2, .ref p4, .ref x0]
  refine cX_J2_66 T met_FJ5_copyOf (c_room hR rfl rfl) h rfl dJ2_grow_2_37 (fun r6 s5 h => ?_)
  refine cw (k_dup_x1 hX dJ2_grow_2_40 (by first | rfl | exact rf_cat _) (by first | rfl | exact rf_cat _)) ?_
  refine cp_J2_9o T h dJ2_grow_2_41 (fun s7 h => ?_)
  exact c_ret_q (v := r6) T (Or.inr ⟨_, rfl⟩) e h dJ2_grow_2_44
theorem met_FJ2_grow_2 {l : Launch} {E : CE} : ∀ (x0 : Nat) (x1 : Int32) (s : CS) (z : ((Option Nat) × CS)), FJ2_grow_2 E.2.2.2 x0 x1 s = some z → (isK s x0 [22] = true ∧ cMet_q l E yJ2_grow_2 (ws_ yJ2_grow_2 cJ2_grow_2 4 (some (.array (.object "java/lang/Object")))) 3 104 [.ref x0, .int x1] s z.1 z.2) := by
  intro x0 x1 s z h
  unfold FJ2_grow_2 at h
  obtain ⟨hm, h⟩ := mz_of h
  obtain ⟨hg, h⟩ := gd_of h
  refine ⟨hg, c_met_q hm (by decide +kernel) rfl (fun X hl hin T hR e => ?_)⟩
  have T : cOK X E cJ2_grow_2 RJ2 4 (some (.array (.object "java/lang/Object"))) _ _ _ _ := T
  have hX := T.1
  show cW X _ _ s 0 [(0, .ref x0), (1, .int x1)] []
  refine cw (k_aload_n hX dJ2_grow_2_0 rfl 0 rfl) ?_
  refine cg_J2_9 T h dJ2_grow_2_1 (fun r1 h => ?_)
  obtain ⟨p2, e_p2, hq_p2⟩ := nn_of h
  subst e_p2
  have h := hq_p2
  show cW X _ _ _ 4 [(0, .ref x0), (1, .int x1)] [.ref p2]
  refine ca_len T h dJ2_grow_2_4 (fun v3 h => ?_)
  refine cw (k_istore_n [(2, .int v3), (0, .ref x0), (1, .int x1)] hX dJ2_grow_2_5 rfl rfl rfl) ?_
  refine cw (k_iload_n hX dJ2_grow_2_6 rfl 0 rfl) ?_
  refine c_br h (k_if_gt (tgt := 20) hX h dJ2_grow_2_7 (by decide)) (fun h => ?_) (fun h => ?_)
  · refine cw (k_lv (lv' := [(0, .ref x0), (1, .int x1), (2, .int v3)]) [1, 2, 0] rfl) ?_
    exact FJ2_grow_2_b20_ok T hR e h
  · refine cw (k_aload_n hX dJ2_grow_2_10 rfl 1 rfl) ?_
    refine cg_J2_9 T h dJ2_grow_2_11 (fun r4 h => ?_)
    cases h
theorem met_FJ2_grow {l : Launch} {E : CE} : ∀ (x0 : Nat) (s : CS) (z : ((Option Nat) × CS)), FJ2_grow E.2.2.2 x0 s = some z → (isK s x0 [22] = true ∧ cMet_q l E yJ2_grow (ws_ yJ2_grow cJ2_grow 1 (some (.array (.object "java/lang/Object")))) 4 127 [.ref x0] s z.1 z.2) := by
  intro x0 s z h
  unfold FJ2_grow at h
  obtain ⟨hm, h⟩ := mz_of h
  obtain ⟨hg, h⟩ := gd_of h
  refine ⟨hg, c_met_q hm (by decide +kernel) rfl (fun X hl hin T hR e => ?_)⟩
  have T : cOK X E cJ2_grow RJ2 1 (some (.array (.object "java/lang/Object"))) _ _ _ _ := T
  have hX := T.1
  show cW X _ _ s 0 [(0, .ref x0)] []
  refine cw (k_aload_n hX dJ2_grow_0 rfl 0 rfl) ?_
  refine cw (k_aload_n hX dJ2_grow_1 rfl 0 rfl) ?_
  refine cg_J2_48 T h dJ2_grow_2 (fun v1 h => ?_)
  refine cw (k_iconst (v := 1) hX dJ2_grow_5 (by decide)) ?_
  refine cw (k_iadd hX dJ2_grow_6) ?_
  refine cX_J2_69 T met_FJ2_grow_2 (c_room hR rfl rfl) h rfl dJ2_grow_7 (fun r3 s2 h => ?_)
  exact c_ret_q (v := r3) T (Or.inr ⟨_, rfl⟩) e h dJ2_grow_10
theorem FJ2_add_2_b11_ok {X : KC CS} {E : CE} {z : CS} {z0 l0 z1 l1 : Nat} (T : cOK X E cJ2_add_2 RJ2 4 none z0 l0 z1 l1) (hR : cRoom X 5 147) (e : cE_v X E z0 l0 z1 l1 z) {x0 : Nat} {x1 : Nat} {x2 : (Option Nat)} {x3 : Int32} {s : CS} (h : FJ2_add_2_b11 E.2.2.2 x0 x1 x2 x3 s = some z) : cW X z1 l1 s 11 [(0, .ref x0), (1, .ref x1), (2, va_rf x2), (3, .int x3)] [] := by
  unfold FJ2_add_2_b11 at h
  have hX := T.1
  refine cw (k_aload_nO hX dJ2_add_2_11 rfl 2 rfl) ?_
  refine cw (k_iload_n hX dJ2_add_2_12 rfl 3 rfl) ?_
  refine cw (k_aload_n hX dJ2_add_2_13 rfl 1 rfl) ?_
  obtain ⟨p1, e_p1, hq_p1⟩ := nn_of h
  subst e_p1
  have h := hq_p1
  show cW X z1 l1 _ 14 [(0, .ref x0), (1, .ref x1), (2, .ref p1), (3, .int x3)] [.ref x1, .int x3, .ref p1]
  refine ca_ast106 T h dJ2_add_2_14 (fun s2 h => ?_)
  refine cw (k_aload_n hX dJ2_add_2_15 rfl 0 rfl) ?_
  refine cw (k_iload_n hX dJ2_add_2_16 rfl 3 rfl) ?_
  refine cw (k_iconst (v := 1) hX dJ2_add_2_17 (by decide)) ?_
  refine cw (k_iadd hX dJ2_add_2_18) ?_
  refine cp_J2_48 T h dJ2_add_2_19 (fun s3 h => ?_)
  exact c_ret_v T e h dJ2_add_2_22
theorem met_FJ2_add_2 {l : Launch} {E : CE} : ∀ (x0 : Nat) (x1 : Nat) (x2 : Nat) (x3 : Int32) (s : CS) (z : CS), FJ2_add_2 E.2.2.2 x0 x1 x2 x3 s = some z → (isK s x0 [22] = true ∧ cMet_v l E yJ2_add_2 (ws_ yJ2_add_2 cJ2_add_2 4 none) 5 147 [.ref x0, .ref x1, .ref x2, .int x3] s z) := by
  intro x0 x1 x2 x3 s z h
  unfold FJ2_add_2 at h
  obtain ⟨hm, h⟩ := mz_of h
  obtain ⟨hg, h⟩ := gd_of h
  refine ⟨hg, c_met_v hm (by decide +kernel) rfl (fun X hl hin T hR e => ?_)⟩
  have T : cOK X E cJ2_add_2 RJ2 4 none _ _ _ _ := T
  have hX := T.1
  show cW X _ _ s 0 [(0, .ref x0), (1, .ref x1), (2, .ref x2), (3, .int x3)] []
  refine cw (k_iload_n hX dJ2_add_2_0 rfl 3 rfl) ?_
  refine cw (k_aload_n hX dJ2_add_2_1 rfl 2 rfl) ?_
  refine ca_len T h dJ2_add_2_2 (fun v1 h => ?_)
  refine c_brn h (k_icmp_ne (tgt := 11) hX h dJ2_add_2_3 (by decide)) (fun h => ?_) (fun h => ?_)
  · refine cw (k_lv (lv' := [(0, .ref x0), (1, .ref x1), (2, va_rf (some x2)), (3, .int x3)]) [0, 1, 2, 3] rfl) ?_
    exact FJ2_add_2_b11_ok T hR e h
  · refine cw (k_aload_n hX dJ2_add_2_6 rfl 0 rfl) ?_
    refine cX_J2_129 T met_FJ2_grow (c_room hR rfl rfl) h rfl dJ2_add_2_7 (fun r3 s2 h => ?_)
    refine cw (k_astore_nO [(2, va_rf r3), (0, .ref x0), (1, .ref x1), (3, .int x3)] hX dJ2_add_2_10 rfl rfl rfl) ?_
    refine cw (k_lv (lv' := [(0, .ref x0), (1, .ref x1), (2, va_rf r3), (3, .int x3)]) [1, 2, 0, 3] rfl) ?_
    exact FJ2_add_2_b11_ok T hR e h
theorem met_FJ2_add {l : Launch} {E : CE} : ∀ (x0 : Nat) (x1 : Nat) (s : CS) (z : (Int32 × CS)), FJ2_add E.2.2.2 x0 x1 s = some z → (isK s x0 [22] = true ∧ cMet_i l E yJ2_add (ws_ yJ2_add cJ2_add 2 (some .boolean)) 6 170 [.ref x0, .ref x1] s z.1 z.2) := by
  intro x0 x1 s z h
  unfold FJ2_add at h
  obtain ⟨hm, h⟩ := mz_of h
  obtain ⟨hg, h⟩ := gd_of h
  refine ⟨hg, c_met_i hm (by decide +kernel) rfl (fun X hl hin T hR e => ?_)⟩
  have T : cOK X E cJ2_add RJ2 2 (some .boolean) _ _ _ _ := T
  have hX := T.1
  show cW X _ _ s 0 [(0, .ref x0), (1, .ref x1)] []
  refine cw (k_aload_n hX dJ2_add_0 rfl 0 rfl) ?_
  refine cw (k_dup hX dJ2_add_1 rfl) ?_
  refine cg_J2_63 T h dJ2_add_2 (fun v1 h => ?_)
  refine cw (k_iconst (v := 1) hX dJ2_add_5 (by decide)) ?_
  refine cw (k_iadd hX dJ2_add_6) ?_
  refine cp_J2_63 T h dJ2_add_7 (fun s2 h => ?_)
  refine cw (k_aload_n hX dJ2_add_10 rfl 0 rfl) ?_
  refine cw (k_aload_n hX dJ2_add_11 rfl 1 rfl) ?_
  refine cw (k_aload_n hX dJ2_add_12 rfl 0 rfl) ?_
  refine cg_J2_9 T h dJ2_add_13 (fun r3 h => ?_)
  refine cw (k_aload_n hX dJ2_add_16 rfl 0 rfl) ?_
  refine cg_J2_48 T h dJ2_add_17 (fun v4 h => ?_)
  obtain ⟨p5, e_p5, hq_p5⟩ := nn_of h
  subst e_p5
  have h := hq_p5
  show cW X _ _ _ 20 [(0, .ref x0), (1, .ref x1)] [.int v4, .ref p5, .ref x1, .ref x0]
  refine cX_J2_131 T met_FJ2_add_2 (c_room hR rfl rfl) h rfl dJ2_add_20 (fun s6 h => ?_)
  refine cw (k_iconst (v := 1) hX dJ2_add_23 (by decide)) ?_
  exact c_ret_zc T e rfl h dJ2_add_24
theorem met_FX1_rule {l : Launch} {E : CE} {nf : Nat} : ∀ (x0 : Nat) (s : CS) (z : ((Nat ⊕ Unit) × CS)), FX1_rule E.2.2.2 nf x0 s = some z → (isK s x0 [1] = true ∧ xMet_v l E yX1_rule (ws_ yX1_rule cX1_rule 2 none) 112 3034 [.ref x0] s z.1 z.2) := by
  intro x0 s z h
  unfold FX1_rule at h
  obtain ⟨hm, h⟩ := mz_of h
  obtain ⟨hg, h⟩ := gd_of h
  refine ⟨hg, x_met_v hm (by decide +kernel) rfl (fun X hl hin T hR e => ?_)⟩
  have T : cOK X E cX1_rule RX1 2 none _ _ _ _ := T
  have hX := T.1
  show cW X _ _ s 0 [(0, .ref x0)] []
  refine cw (k_aload_n hX dX1_rule_0 rfl 0 rfl) ?_
  refine cX_X1_220 T met_FX1_fresh (c_room hR rfl rfl) e h rfl dX1_rule_1 (fun r2 s1 h => ?_)
  refine cw (k_astore_nO [(1, va_rf r2), (0, .ref x0)] hX dX1_rule_4 rfl rfl rfl) ?_
  refine cw (k_aload_n hX dX1_rule_5 rfl 1 rfl) ?_
  refine cg_X1_98 T h dX1_rule_6 (fun r3 h => ?_)
  obtain ⟨p4, e_p4, hq_p4⟩ := nn_of h
  subst e_p4
  have h := hq_p4
  show cW X _ _ _ 9 [(1, va_rf r2), (0, .ref x0)] [.ref p4]
  refine cg_X1_223 T h dX1_rule_9 (fun r5 h => ?_)
  refine c_newO kX16 q1089 q1090 q170 (nd16 _) T h dX1_rule_12 (fun o6 s7 h => ?_)
  refine cw (k_dup hX dX1_rule_15 rfl) ?_
  refine cw (k_aload_n hX dX1_rule_16 rfl 1 rfl) ?_
  refine cX_X1_228 T (met_FX1_expression (met_FX1_part 20) (by omega) (by omega)) (c_room hR rfl rfl) e h (by cases r5 <;> rfl) dX1_rule_17 (fun r9 s8 h => ?_)
  obtain ⟨p10, e_p10, hq_p10⟩ := nn_of h
  subst e_p10
  have h := hq_p10
  show cW X _ _ _ 20 [(1, va_rf r2), (0, .ref x0)] [.ref p10, .ref o6, .ref o6, va_rf r5]
  refine cX_X1_232 T met_FX16_init (c_room hR rfl rfl) h (by cases r5 <;> rfl) dX1_rule_20 (fun s11 h => ?_)
  obtain ⟨p12, e_p12, hq_p12⟩ := nn_of h
  subst e_p12
  have h := hq_p12
  show cW X _ _ _ 23 [(1, va_rf r2), (0, .ref x0)] [.ref o6, .ref p12]
  refine cX_X1_235 T met_FJ2_add (c_room hR rfl rfl) h rfl dX1_rule_23 (fun v14 s13 h => ?_)
  refine cw (k_pop hX dX1_rule_26 rfl) ?_
  refine cw (k_aload_n hX dX1_rule_27 rfl 1 rfl) ?_
  refine cg_X1_98 T h dX1_rule_28 (fun r15 h => ?_)
  obtain ⟨p16, e_p16, hq_p16⟩ := nn_of h
  subst e_p16
  have h := hq_p16
  show cW X _ _ _ 31 [(1, va_rf r2), (0, .ref x0)] [.ref p16]
  refine cg_X1_102 T h dX1_rule_31 (fun r17 h => ?_)
  refine cw (k_aload_nO hX dX1_rule_34 rfl 0 rfl) ?_
  obtain ⟨p18, e_p18, hq_p18⟩ := nn_of h
  subst e_p18
  have h := hq_p18
  show cW X _ _ _ 35 [(1, va_rf r2), (0, .ref x0)] [va_rf r2, .ref p18]
  obtain ⟨p19, e_p19, hq_p19⟩ := nn_of h
  subst e_p19
  have h := hq_p19
  show cW X _ _ _ 35 [(1, .ref p19), (0, .ref x0)] [.ref p19, .ref p18]
  refine cX_X1_235 T met_FJ2_add (c_room hR rfl rfl) h rfl dX1_rule_35 (fun v21 s20 h => ?_)
  refine cw (k_pop hX dX1_rule_38 rfl) ?_
  exact x_ret_v T e h dX1_rule_39
theorem met_FJ0_init {l : Launch} {E : CE} {s : CS} : ∀ (x0 : Nat) (z : Unit), FJ0_init s x0 = some z → cMet_v l E yJ0_init (ws_ yJ0_init cJ0_init 1 none) 1 40 [.ref x0] s s := by
  intro x0 z h
  unfold FJ0_init at h
  refine c_met_v ⟨Nat.le_refl _, Nat.le_refl _⟩ (by decide +kernel) rfl (fun X hl hin T hR e => ?_)
  have T : cOK X E cJ0_init RJ0 1 none _ _ _ _ := T
  have hX := T.1
  show cW X _ _ s 0 [(0, .ref x0)] []
  refine cw (k_aload_n hX dJ0_init_0 rfl 0 rfl) ?_
  refine cw (k_objInit hX hR q236 q183 q184 rfl dJ0_init_1) ?_
  exact c_ret_vr (z := ()) T e dJ0_init_4
theorem met_FJ1_init {l : Launch} {E : CE} : ∀ (x0 : Nat) (s : CS) (z : CS), FJ1_init x0 s = some z → cMet_v l E yJ1_init (ws_ yJ1_init cJ1_init 1 none) 2 60 [.ref x0] s z := by
  intro x0 s z h
  unfold FJ1_init at h
  obtain ⟨hm, h⟩ := mz_of h
  refine c_met_v hm (by decide +kernel) rfl (fun X hl hin T hR e => ?_)
  have T : cOK X E cJ1_init RJ1 1 none _ _ _ _ := T
  have hX := T.1
  show cW X _ _ s 0 [(0, .ref x0)] []
  refine cw (k_aload_n hX dJ1_init_0 rfl 0 rfl) ?_
  refine cX_J1_1 T met_FJ0_init (c_room hR rfl rfl) h rfl dJ1_init_1 (fun h => ?_)
  refine cw (k_aload_n hX dJ1_init_4 rfl 0 rfl) ?_
  refine cw (k_iconst (v := 0) hX dJ1_init_5 (by decide)) ?_
  refine cp_J1_7 T h dJ1_init_6 (fun s2 h => ?_)
  exact c_ret_v T e h dJ1_init_9
theorem met_FJ2_init {l : Launch} {E : CE} : ∀ (x0 : Nat) (x1 : Int32) (s : CS) (z : CS), FJ2_init x0 x1 s = some z → cMet_v l E yJ2_init (ws_ yJ2_init cJ2_init 2 none) 3 80 [.ref x0, .int x1] s z := by
  intro x0 x1 s z h
  unfold FJ2_init at h
  obtain ⟨hm, h⟩ := mz_of h
  refine c_met_v hm (by decide +kernel) rfl (fun X hl hin T hR e => ?_)
  have T : cOK X E cJ2_init RJ2 2 none _ _ _ _ := T
  have hX := T.1
  show cW X _ _ s 0 [(0, .ref x0), (1, .int x1)] []
  refine cw (k_aload_n hX dJ2_init_0 rfl 0 rfl) ?_
  refine cX_J2_1 T met_FJ1_init (c_room hR rfl rfl) h rfl dJ2_init_1 (fun s1 h => ?_)
  refine cw (k_iload_n hX dJ2_init_4 rfl 1 rfl) ?_
  refine c_br h (k_if_le (tgt := 19) hX h dJ2_init_5 (by decide)) (fun h => ?_) (fun h => ?_)
  · refine cw (k_iload_n hX dJ2_init_19 rfl 1 rfl) ?_
    refine c_brn h (k_if_ne (tgt := 33) hX h dJ2_init_20 (by decide)) (fun h => ?_) (fun h => ?_)
    · cases h
    · refine cw (k_aload_n hX dJ2_init_23 rfl 0 rfl) ?_
      cases h
  · refine cw (k_aload_n hX dJ2_init_8 rfl 0 rfl) ?_
    refine cw (k_iload_n hX dJ2_init_9 rfl 1 rfl) ?_
    refine c_newQ106 q237 T h dJ2_init_10 (fun o2 s3 h => ?_)
    refine cp_J2_9 T h dJ2_init_13 (fun s4 h => ?_)
    refine cw (k_goto (tgt := 60) hX dJ2_init_16 (by decide)) ?_
    exact c_ret_v T e h dJ2_init_60
theorem met_FX2_init {l : Launch} {E : CE} : ∀ (x0 : Nat) (s : CS) (z : CS), FX2_init E.2.2.2 x0 s = some z → cMet_v l E yX2_init (ws_ yX2_init cX2_init 1 none) 7 191 [.ref x0] s z := by
  intro x0 s z h
  unfold FX2_init at h
  obtain ⟨hm, h⟩ := mz_of h
  refine c_met_v hm (by decide +kernel) rfl (fun X hl hin T hR e => ?_)
  have T : cOK X E cX2_init RX2 1 none _ _ _ _ := T
  have hX := T.1
  show cW X _ _ s 0 [(0, .ref x0)] []
  refine cw (k_aload_n hX dX2_init_0 rfl 0 rfl) ?_
  refine cw (k_objInit hX hR q222 q183 q184 rfl dX2_init_1) ?_
  refine cw (k_aload_n hX dX2_init_4 rfl 0 rfl) ?_
  refine cw (k_iconst (v := 1) hX dX2_init_5 (by decide)) ?_
  refine cp_X2_9 T h dX2_init_6 (fun s1 h => ?_)
  refine cw (k_aload_n hX dX2_init_9 rfl 0 rfl) ?_
  refine cw (k_iconst (v := 1) hX dX2_init_10 (by decide)) ?_
  refine cp_X2_15 T h dX2_init_11 (fun s2 h => ?_)
  refine cw (k_aload_n hX dX2_init_14 rfl 0 rfl) ?_
  refine cw (k_iconst (v := (-1)) hX dX2_init_15 (by decide)) ?_
  refine cp_X2_18 T h dX2_init_16 (fun s3 h => ?_)
  refine cw (k_aload_n hX dX2_init_19 rfl 0 rfl) ?_
  refine cw (k_iconst (v := (-1)) hX dX2_init_20 (by decide)) ?_
  refine cp_X2_21 T h dX2_init_21 (fun s4 h => ?_)
  refine cw (k_aload_n hX dX2_init_24 rfl 0 rfl) ?_
  refine cw (k_iconst (v := (-1)) hX dX2_init_25 (by decide)) ?_
  refine cp_X2_24 T h dX2_init_26 (fun s5 h => ?_)
  refine cw (k_aload_n hX dX2_init_29 rfl 0 rfl) ?_
  refine cw (k_iconst (v := (-1)) hX dX2_init_30 (by decide)) ?_
  refine cp_X2_27 T h dX2_init_31 (fun s6 h => ?_)
  refine cw (k_aload_n hX dX2_init_34 rfl 0 rfl) ?_
  refine cw (k_iconst (v := 1) hX dX2_init_35 (by decide)) ?_
  refine cp_X2_30 T h dX2_init_36 (fun s7 h => ?_)
  refine cw (k_aload_n hX dX2_init_39 rfl 0 rfl) ?_
  refine cw (k_bipush (v := 54) hX dX2_init_40 (by decide)) ?_
  refine c_newQ104 q223 T h dX2_init_42 (fun o8 s9 h => ?_)
  refine cp_X2_35 T hin h dX2_init_45 (fun s10 h => ?_)
  refine cw (k_aload_n hX dX2_init_48 rfl 0 rfl) ?_
  refine cw (k_bipush (v := 54) hX dX2_init_49 (by decide)) ?_
  refine c_newAi T h dX2_init_51 (fun o11 s12 h => ?_)
  refine cp_X2_39 T hin h dX2_init_53 (fun s13 h => ?_)
  refine cw (k_aload_n hX dX2_init_56 rfl 0 rfl) ?_
  refine c_newO kJ2 q225 q226 q141 (nd22 _) T h dX2_init_57 (fun o14 s15 h => ?_)
  refine cw (k_dup hX dX2_init_60 rfl) ?_
  refine cw (k_iconst (v := 2) hX dX2_init_61 (by decide)) ?_
  refine cX_X2_45 T met_FJ2_init (c_room hR rfl rfl) h rfl dX2_init_62 (fun s16 h => ?_)
  refine cp_X2_48 T hin h dX2_init_65 (fun s17 h => ?_)
  refine cw (k_aload_n hX dX2_init_68 rfl 0 rfl) ?_
  refine c_newO kJ2 q225 q226 q141 (nd22 _) T h dX2_init_69 (fun o18 s19 h => ?_)
  refine cw (k_dup hX dX2_init_72 rfl) ?_
  refine cw (k_iconst (v := 4) hX dX2_init_73 (by decide)) ?_
  refine cX_X2_45 T met_FJ2_init (c_room hR rfl rfl) h rfl dX2_init_74 (fun s20 h => ?_)
  refine cp_X2_52 T hin h dX2_init_77 (fun s21 h => ?_)
  refine cw (k_aload_n hX dX2_init_80 rfl 0 rfl) ?_
  refine cg_X2_52 T h dX2_init_81 (fun r22 h => ?_)
  refine c_newO kX4 q254 q255 q143 (nd4 _) T h dX2_init_84 (fun o23 s24 h => ?_)
  refine cw (k_dup hX dX2_init_87 rfl) ?_
  refine cw (k_iconst (v := 0) hX dX2_init_88 (by decide)) ?_
  refine cX_X2_57 T met_FX4_init (c_room hR rfl rfl) h (by cases r22 <;> rfl) dX2_init_89 (fun s25 h => ?_)
  obtain ⟨p26, e_p26, hq_p26⟩ := nn_of h
  subst e_p26
  have h := hq_p26
  show cW X _ _ _ 92 [(0, .ref x0)] [.ref o23, .ref p26]
  refine cX_X2_58 T met_FJ2_add (c_room hR rfl rfl) h rfl dX2_init_92 (fun v28 s27 h => ?_)
  refine cw (k_pop hX dX2_init_95 rfl) ?_
  refine cw (k_aload_n hX dX2_init_96 rfl 0 rfl) ?_
  refine cg_X2_52 T h dX2_init_97 (fun r29 h => ?_)
  refine c_newO kX4 q254 q255 q143 (nd4 _) T h dX2_init_100 (fun o30 s31 h => ?_)
  refine cw (k_dup hX dX2_init_103 rfl) ?_
  refine cw (k_iconst (v := 1) hX dX2_init_104 (by decide)) ?_
  refine cX_X2_57 T met_FX4_init (c_room hR rfl rfl) h (by cases r29 <;> rfl) dX2_init_105 (fun s32 h => ?_)
  obtain ⟨p33, e_p33, hq_p33⟩ := nn_of h
  subst e_p33
  have h := hq_p33
  show cW X _ _ _ 108 [(0, .ref x0)] [.ref o30, .ref p33]
  refine cX_X2_58 T met_FJ2_add (c_room hR rfl rfl) h rfl dX2_init_108 (fun v35 s34 h => ?_)
  refine cw (k_pop hX dX2_init_111 rfl) ?_
  refine cw (k_aload_n hX dX2_init_112 rfl 0 rfl) ?_
  refine cg_X2_52 T h dX2_init_113 (fun r36 h => ?_)
  refine c_newO kX5 q336 q337 q148 (nd5 _) T h dX2_init_116 (fun o37 s38 h => ?_)
  refine cw (k_dup hX dX2_init_119 rfl) ?_
  refine cX_X2_64 T met_FX5_init (c_room hR rfl rfl) h (by cases r36 <;> rfl) dX2_init_120 (fun h => ?_)
  obtain ⟨p40, e_p40, hq_p40⟩ := nn_of h
  subst e_p40
  have h := hq_p40
  show cW X _ _ _ 123 [(0, .ref x0)] [.ref o37, .ref p40]
  refine cX_X2_58 T met_FJ2_add (c_room hR rfl rfl) h rfl dX2_init_123 (fun v42 s41 h => ?_)
  refine cw (k_pop hX dX2_init_126 rfl) ?_
  refine cw (k_aload_n hX dX2_init_127 rfl 0 rfl) ?_
  refine cg_X2_52 T h dX2_init_128 (fun r43 h => ?_)
  refine c_newO kX6 q343 q344 q149 (nd6 _) T h dX2_init_131 (fun o44 s45 h => ?_)
  refine cw (k_dup hX dX2_init_134 rfl) ?_
  refine cX_X2_67 T met_FX6_init (c_room hR rfl rfl) h (by cases r43 <;> rfl) dX2_init_135 (fun h => ?_)
  obtain ⟨p47, e_p47, hq_p47⟩ := nn_of h
  subst e_p47
  have h := hq_p47
  show cW X _ _ _ 138 [(0, .ref x0)] [.ref o44, .ref p47]
  refine cX_X2_58 T met_FJ2_add (c_room hR rfl rfl) h rfl dX2_init_138 (fun v49 s48 h => ?_)
  refine cw (k_pop hX dX2_init_141 rfl) ?_
  exact c_ret_v T e h dX2_init_142
theorem FX1_town_b247_ok {X : KC CS} {E : CE} {z : ((Nat ⊕ (Option Nat)) × CS)} {z0 l0 z1 l1 : Nat} (T : cOK X E cX1_town RX1 2 (some (.object "OverFirst$Town")) z0 l0 z1 l1) (hR : cRoom X 113 3055) (e : xE X E z0 l0 z1 l1 (xQ_q E z.1 z.2) (xgl z.1) z.2) {nf : Nat} {k47 : Nat → CS → Option ((Nat ⊕ (Option Nat)) × CS)} (hk47 : ∀ (x0 : Nat) (s : CS), k47 x0 s = some z → cW X z1 l1 s 47 [(0, .ref x0)] []) {x0 : Nat} {s : CS} (h : FX1_town_b247 E.2.2.2 nf k47 x0 s = some z) : cW X z1 l1 s 247 [(0, .ref x0)] [] := by
  unfold FX1_town_b247 at h
  have hX := T.1
  refine cw (k_aload_n hX dX1_town_247 rfl 0 rfl) ?_
  refine cw (k_bipush (v := 59) hX dX1_town_248 (by decide)) ?_
  refine cX_X1_155 T met_FX1_need_2 (c_room hR rfl rfl) e h rfl dX1_town_250 (fun s1 h => ?_)
  refine cw (k_goto (tgt := 47) hX dX1_town_253 (by decide)) ?_
  refine cw (k_lv (lv' := [(0, .ref x0)]) [0] rfl) ?_
  exact hk47 _ _ h
theorem FX1_town_b111_ok {X : KC CS} {E : CE} {z : ((Nat ⊕ (Option Nat)) × CS)} {z0 l0 z1 l1 : Nat} (T : cOK X E cX1_town RX1 2 (some (.object "OverFirst$Town")) z0 l0 z1 l1) (hR : cRoom X 113 3055) (e : xE X E z0 l0 z1 l1 (xQ_q E z.1 z.2) (xgl z.1) z.2) {nf : Nat} {k47 : Nat → CS → Option ((Nat ⊕ (Option Nat)) × CS)} (hk47 : ∀ (x0 : Nat) (s : CS), k47 x0 s = some z → cW X z1 l1 s 47 [(0, .ref x0)] []) {x0 : Nat} {x1 : Int32} {s : CS} (h : FX1_town_b111 E.2.2.2 nf k47 x0 x1 s = some z) : cW X z1 l1 s 111 [(0, .ref x0), (1, .int x1)] [] := by
  unfold FX1_town_b111 at h
  have hX := T.1
  refine cw (k_aload_n hX dX1_town_111 rfl 0 rfl) ?_
  refine cX_X1_25 T met_FX1_next (c_room hR rfl rfl) h rfl dX1_town_112 (fun s1 h => ?_)
  refine cw (k_iload_n hX dX1_town_115 rfl 1 rfl) ?_
  refine c_brn h (k_if_ne (tgt := 136) hX h dX1_town_116 (by decide)) (fun h => ?_) (fun h => ?_)
  · refine cw (k_iload_n hX dX1_town_136 rfl 1 rfl) ?_
    refine cw (k_iconst (v := 1) hX dX1_town_137 (by decide)) ?_
    refine c_brn h (k_icmp_ne (tgt := 158) hX h dX1_town_138 (by decide)) (fun h => ?_) (fun h => ?_)
    · refine cw (k_iload_n hX dX1_town_158 rfl 1 rfl) ?_
      refine cw (k_iconst (v := 2) hX dX1_town_159 (by decide)) ?_
      refine c_brn h (k_icmp_ne (tgt := 180) hX h dX1_town_160 (by decide)) (fun h => ?_) (fun h => ?_)
      · refine cw (k_iload_n hX dX1_town_180 rfl 1 rfl) ?_
        refine cw (k_iconst (v := 3) hX dX1_town_181 (by decide)) ?_
        refine c_brn h (k_icmp_ne (tgt := 202) hX h dX1_town_182 (by decide)) (fun h => ?_) (fun h => ?_)
        · refine cw (k_iload_n hX dX1_town_202 rfl 1 rfl) ?_
          refine cw (k_iconst (v := 4) hX dX1_town_203 (by decide)) ?_
          refine c_brn h (k_icmp_ne (tgt := 218) hX h dX1_town_204 (by decide)) (fun h => ?_) (fun h => ?_)
          · refine cw (k_iload_n hX dX1_town_218 rfl 1 rfl) ?_
            refine cw (k_iconst (v := 5) hX dX1_town_219 (by decide)) ?_
            refine c_brn h (k_icmp_ne (tgt := 230) hX h dX1_town_220 (by decide)) (fun h => ?_) (fun h => ?_)
            · refine cw (k_iload_n hX dX1_town_230 rfl 1 rfl) ?_
              refine cw (k_bipush (v := 6) hX dX1_town_231 (by decide)) ?_
              refine c_brn h (k_icmp_ne (tgt := 243) hX h dX1_town_233 (by decide)) (fun h => ?_) (fun h => ?_)
              · refine cw (k_aload_n hX dX1_town_243 rfl 0 rfl) ?_
                refine cX_X1_169 T met_FX1_rule (c_room hR rfl rfl) e h rfl dX1_town_244 (fun s2 h => ?_)
                refine cw (k_lv (lv' := [(0, .ref x0)]) [0] rfl) ?_
                exact FX1_town_b247_ok T hR e hk47 h
              · refine cw (k_aload_n hX dX1_town_236 rfl 0 rfl) ?_
                refine cX_X1_166 T met_FX1_bar (c_room hR rfl rfl) e h rfl dX1_town_237 (fun s3 h => ?_)
                refine cw (k_goto (tgt := 247) hX dX1_town_240 (by decide)) ?_
                refine cw (k_lv (lv' := [(0, .ref x0)]) [0] rfl) ?_
                exact FX1_town_b247_ok T hR e hk47 h
            · refine cw (k_aload_n hX dX1_town_223 rfl 0 rfl) ?_
              refine cX_X1_163 T met_FX1_light (c_room hR rfl rfl) e h rfl dX1_town_224 (fun s4 h => ?_)
              refine cw (k_goto (tgt := 247) hX dX1_town_227 (by decide)) ?_
              refine cw (k_lv (lv' := [(0, .ref x0)]) [0] rfl) ?_
              exact FX1_town_b247_ok T hR e hk47 h
          · refine cw (k_aload_n hX dX1_town_207 rfl 0 rfl) ?_
            refine cg_X1_98 T h dX1_town_208 (fun r5 h => ?_)
            refine cw (k_iconst (v := 1) hX dX1_town_211 (by decide)) ?_
            obtain ⟨p6, e_p6, hq_p6⟩ := nn_of h
            subst e_p6
            have h := hq_p6
            show cW X z1 l1 _ 212 [(0, .ref x0), (1, .int x1)] [.int 1, .ref p6]
            refine cp_X1_139 T h dX1_town_212 (fun s7 h => ?_)
            refine cw (k_goto (tgt := 247) hX dX1_town_215 (by decide)) ?_
            refine cw (k_lv (lv' := [(0, .ref x0)]) [0] rfl) ?_
            exact FX1_town_b247_ok T hR e hk47 h
        · refine cw (k_aload_n hX dX1_town_185 rfl 0 rfl) ?_
          refine cg_X1_98 T h dX1_town_186 (fun r8 h => ?_)
          refine cw (k_aload_n hX dX1_town_189 rfl 0 rfl) ?_
          refine cw (k_iconst (v := 0) hX dX1_town_190 (by decide)) ?_
          refine cw (k_bipush (v := 9) hX dX1_town_191 (by decide)) ?_
          refine cX_X1_124 T met_FX1_number_2 (c_room hR rfl rfl) e h (by cases r8 <;> rfl) dX1_town_193 (fun v10 s9 h => ?_)
          obtain ⟨p11, e_p11, hq_p11⟩ := nn_of h
          subst e_p11
          have h := hq_p11
          show cW X z1 l1 _ 196 [(0, .ref x0), (1, .int x1)] [.int v10, .ref p11]
          refine cp_X1_136 T h dX1_town_196 (fun s12 h => ?_)
          refine cw (k_goto (tgt := 247) hX dX1_town_199 (by decide)) ?_
          refine cw (k_lv (lv' := [(0, .ref x0)]) [0] rfl) ?_
          exact FX1_town_b247_ok T hR e hk47 h
      · refine cw (k_aload_n hX dX1_town_163 rfl 0 rfl) ?_
        refine cg_X1_98 T h dX1_town_164 (fun r13 h => ?_)
        refine cw (k_aload_n hX dX1_town_167 rfl 0 rfl) ?_
        refine cw (k_iconst (v := 1) hX dX1_town_168 (by decide)) ?_
        refine cw (k_bipush (v := 30) hX dX1_town_169 (by decide)) ?_
        refine cX_X1_124 T met_FX1_number_2 (c_room hR rfl rfl) e h (by cases r13 <;> rfl) dX1_town_171 (fun v15 s14 h => ?_)
        obtain ⟨p16, e_p16, hq_p16⟩ := nn_of h
        subst e_p16
        have h := hq_p16
        show cW X z1 l1 _ 174 [(0, .ref x0), (1, .int x1)] [.int v15, .ref p16]
        refine cp_X1_133 T h dX1_town_174 (fun s17 h => ?_)
        refine cw (k_goto (tgt := 247) hX dX1_town_177 (by decide)) ?_
        refine cw (k_lv (lv' := [(0, .ref x0)]) [0] rfl) ?_
        exact FX1_town_b247_ok T hR e hk47 h
    · refine cw (k_aload_n hX dX1_town_141 rfl 0 rfl) ?_
      refine cg_X1_98 T h dX1_town_142 (fun r18 h => ?_)
      refine cw (k_aload_n hX dX1_town_145 rfl 0 rfl) ?_
      refine cw (k_iconst (v := 1) hX dX1_town_146 (by decide)) ?_
      refine cw (k_bipush (v := 30) hX dX1_town_147 (by decide)) ?_
      refine cX_X1_124 T met_FX1_number_2 (c_room hR rfl rfl) e h (by cases r18 <;> rfl) dX1_town_149 (fun v20 s19 h => ?_)
      obtain ⟨p21, e_p21, hq_p21⟩ := nn_of h
      subst e_p21
      have h := hq_p21
      show cW X z1 l1 _ 152 [(0, .ref x0), (1, .int x1)] [.int v20, .ref p21]
      refine cp_X1_130 T h dX1_town_152 (fun s22 h => ?_)
      refine cw (k_goto (tgt := 247) hX dX1_town_155 (by decide)) ?_
      refine cw (k_lv (lv' := [(0, .ref x0)]) [0] rfl) ?_
      exact FX1_town_b247_ok T hR e hk47 h
  · refine cw (k_aload_n hX dX1_town_119 rfl 0 rfl) ?_
    refine cg_X1_98 T h dX1_town_120 (fun r23 h => ?_)
    refine cw (k_aload_n hX dX1_town_123 rfl 0 rfl) ?_
    refine cw (k_iconst (v := 1) hX dX1_town_124 (by decide)) ?_
    refine cw (k_bipush (v := 30) hX dX1_town_125 (by decide)) ?_
    refine cX_X1_124 T met_FX1_number_2 (c_room hR rfl rfl) e h (by cases r23 <;> rfl) dX1_town_127 (fun v25 s24 h => ?_)
    obtain ⟨p26, e_p26, hq_p26⟩ := nn_of h
    subst e_p26
    have h := hq_p26
    show cW X z1 l1 _ 130 [(0, .ref x0), (1, .int x1)] [.int v25, .ref p26]
    refine cp_X1_127 T h dX1_town_130 (fun s27 h => ?_)
    refine cw (k_goto (tgt := 247) hX dX1_town_133 (by decide)) ?_
    refine cw (k_lv (lv' := [(0, .ref x0)]) [0] rfl) ?_
    exact FX1_town_b247_ok T hR e hk47 h
theorem FX1_town_b47_s_ok {X : KC CS} {E : CE} {z : ((Nat ⊕ (Option Nat)) × CS)} {z0 l0 z1 l1 : Nat} (T : cOK X E cX1_town RX1 2 (some (.object "OverFirst$Town")) z0 l0 z1 l1) (hR : cRoom X 113 3055) (e : xE X E z0 l0 z1 l1 (xQ_q E z.1 z.2) (xgl z.1) z.2) {nf : Nat} {k47 : Nat → CS → Option ((Nat ⊕ (Option Nat)) × CS)} (hk47 : ∀ (x0 : Nat) (s : CS), k47 x0 s = some z → cW X z1 l1 s 47 [(0, .ref x0)] []) {x0 : Nat} {s : CS} (h : FX1_town_b47_s E.2.2.2 nf k47 x0 s = some z) : cW X z1 l1 s 47 [(0, .ref x0)] [] := by
  unfold FX1_town_b47_s at h
  have hX := T.1
  refine cw (k_aload_n hX dX1_town_47 rfl 0 rfl) ?_
  refine cg_X1_31 T h dX1_town_48 (fun v1 h => ?_)
  refine c_br h (k_if_eq (tgt := 256) hX h dX1_town_51 (by decide)) (fun h => ?_) (fun h => ?_)
  · refine cw (k_aload_n hX dX1_town_256 rfl 0 rfl) ?_
    refine cg_X1_98 T h dX1_town_257 (fun r2 h => ?_)
    exact x_ret_q (v := r2) T (Or.inl ⟨_, rfl⟩) e h dX1_town_260
  · refine cw (k_aload_n hX dX1_town_54 rfl 0 rfl) ?_
    obtain ⟨p3, e_p3, hq_p3⟩ := nn_of h
    have h := hq_p3
    refine cw (k_ldcS (k := 2) T e_p3 rfl dX1_town_55) ?_
    refine cX_X1_71 T met_FX1_which (c_room hR rfl rfl) h rfl dX1_town_57 (fun v4 h => ?_)
    refine cw (k_istore_n [(1, .int v4), (0, .ref x0)] hX dX1_town_60 rfl rfl rfl) ?_
    refine cw (k_iload_n hX dX1_town_61 rfl 0 rfl) ?_
    refine c_br h (k_if_ge (tgt := 71) hX h dX1_town_62 (by decide)) (fun h => ?_) (fun h => ?_)
    · refine cw (k_aload_n hX dX1_town_71 rfl 1 rfl) ?_
      refine cw (k_iload_n hX dX1_town_72 rfl 0 rfl) ?_
      refine cX_X1_160 T met_FX1_isTold (c_room hR rfl rfl) h rfl dX1_town_73 (fun v5 h => ?_)
      refine c_br h (k_if_eq (tgt := 85) hX h dX1_town_76 (by decide)) (fun h => ?_) (fun h => ?_)
      · refine cw (k_iload_n hX dX1_town_85 rfl 0 rfl) ?_
        refine cw (k_bipush (v := 7) hX dX1_town_86 (by decide)) ?_
        refine c_brn h (k_icmp_ne (tgt := 111) hX h dX1_town_88 (by decide)) (fun h => ?_) (fun h => ?_)
        · refine cw (k_lv (lv' := [(0, .ref x0), (1, .int v4)]) [1, 0] rfl) ?_
          exact FX1_town_b111_ok T hR e hk47 h
        · refine cw (k_aload_n hX dX1_town_91 rfl 1 rfl) ?_
          refine cg_X1_98 T h dX1_town_92 (fun r6 h => ?_)
          obtain ⟨p7, e_p7, hq_p7⟩ := nn_of h
          subst e_p7
          have h := hq_p7
          show cW X z1 l1 _ 95 [(1, .int v4), (0, .ref x0)] [.ref p7]
          refine cg_X1_102 T h dX1_town_95 (fun r8 h => ?_)
          obtain ⟨p9, e_p9, hq_p9⟩ := nn_of h
          subst e_p9
          have h := hq_p9
          show cW X z1 l1 _ 98 [(1, .int v4), (0, .ref x0)] [.ref p9]
          refine cX_X1_108 T met_FJ2_size (c_room hR rfl rfl) h rfl dX1_town_98 (fun v10 h => ?_)
          refine cw (k_iconst (v := 4) hX dX1_town_101 (by decide)) ?_
          refine c_brn h (k_icmp_ne (tgt := 111) hX h dX1_town_102 (by decide)) (fun h => ?_) (fun h => ?_)
          · refine cw (k_lv (lv' := [(0, .ref x0), (1, .int v4)]) [1, 0] rfl) ?_
            exact FX1_town_b111_ok T hR e hk47 h
          · refine cw (k_aload_n hX dX1_town_105 rfl 1 rfl) ?_
            refine cw (k_iconst (v := 5) hX dX1_town_106 (by decide)) ?_
            refine cX_X1_75 T met_FX1_wrong (c_room hR rfl rfl) h rfl dX1_town_107 (fun r12 s11 h => ?_)
            obtain ⟨p13, e_p13, hq_p13⟩ := nn_of h
            subst e_p13
            have h := hq_p13
            show cW X z1 l1 _ 110 [(1, .int v4), (0, .ref x0)] [.ref p13]
            exact x_throw T e h dX1_town_110
      · refine cw (k_aload_n hX dX1_town_79 rfl 1 rfl) ?_
        refine cw (k_iconst (v := 3) hX dX1_town_80 (by decide)) ?_
        refine cX_X1_75 T met_FX1_wrong (c_room hR rfl rfl) h rfl dX1_town_81 (fun r15 s14 h => ?_)
        obtain ⟨p16, e_p16, hq_p16⟩ := nn_of h
        subst e_p16
        have h := hq_p16
        show cW X z1 l1 _ 84 [(1, .int v4), (0, .ref x0)] [.ref p16]
        exact x_throw T e h dX1_town_84
    · refine cw (k_aload_n hX dX1_town_65 rfl 1 rfl) ?_
      refine cw (k_iconst (v := 1) hX dX1_town_66 (by decide)) ?_
      refine cX_X1_75 T met_FX1_wrong (c_room hR rfl rfl) h rfl dX1_town_67 (fun r18 s17 h => ?_)
      obtain ⟨p19, e_p19, hq_p19⟩ := nn_of h
      subst e_p19
      have h := hq_p19
      show cW X z1 l1 _ 70 [(1, .int v4), (0, .ref x0)] [.ref p19]
      exact x_throw T e h dX1_town_70
theorem FX1_town_b47_ok {X : KC CS} {E : CE} {z : ((Nat ⊕ (Option Nat)) × CS)} {z0 l0 z1 l1 : Nat} (T : cOK X E cX1_town RX1 2 (some (.object "OverFirst$Town")) z0 l0 z1 l1) (hR : cRoom X 113 3055) (e : xE X E z0 l0 z1 l1 (xQ_q E z.1 z.2) (xgl z.1) z.2) {nf : Nat} : ∀ (n : Nat) (x0 : Nat) (s : CS), FX1_town_b47 E.2.2.2 nf n x0 s = some z → cW X z1 l1 s 47 [(0, .ref x0)] [] := by
  intro n
  induction n with
  | zero => intro x0 s h; exact (nomatch (show (none : Option ((Nat ⊕ (Option Nat)) × CS)) = some z from h))
  | succ n ih =>
    intro x0 s h
    have h : FX1_town_b47_s E.2.2.2 nf (FX1_town_b47 E.2.2.2 nf n) x0 s = some z := h
    exact FX1_town_b47_s_ok T hR e ih h
theorem met_FX1_town {l : Launch} {E : CE} {nf : Nat} : ∀ (x0 : Nat) (s : CS) (z : ((Nat ⊕ (Option Nat)) × CS)), FX1_town E.2.2.2 nf x0 s = some z → (isK s x0 [1] = true ∧ xMet_q l E yX1_town (ws_ yX1_town cX1_town 2 (some (.object "OverFirst$Town"))) 113 3055 [.ref x0] s z.1 z.2) := by
  intro x0 s z h
  unfold FX1_town at h
  obtain ⟨hm, h⟩ := mz_of h
  obtain ⟨hg, h⟩ := gd_of h
  refine ⟨hg, x_met_q hm (by decide +kernel) rfl (fun X hl hin T hR e => ?_)⟩
  have T : cOK X E cX1_town RX1 2 (some (.object "OverFirst$Town")) _ _ _ _ := T
  have hX := T.1
  show cW X _ _ s 0 [(0, .ref x0)] []
  refine cw (k_aload_n hX dX1_town_0 rfl 0 rfl) ?_
  refine c_newO kX2 q694 q218 q138 (nd2 _) T h dX1_town_1 (fun o1 s2 h => ?_)
  refine cw (k_dup hX dX1_town_4 rfl) ?_
  refine cX_X1_143 T met_FX2_init (c_room hR rfl rfl) h rfl dX1_town_5 (fun s3 h => ?_)
  refine cp_X1_98 T h dX1_town_8 (fun s4 h => ?_)
  refine cw (k_aload_n hX dX1_town_11 rfl 0 rfl) ?_
  refine cg_X1_98 T h dX1_town_12 (fun r5 h => ?_)
  refine cw (k_aload_n hX dX1_town_15 rfl 0 rfl) ?_
  obtain ⟨p6, e_p6, hq_p6⟩ := nn_of h
  have h := hq_p6
  refine cw (k_ldcS (k := 1) T e_p6 rfl dX1_town_16) ?_
  refine cw (k_iconst (v := 1) hX dX1_town_18 (by decide)) ?_
  refine cw (k_bipush (v := 6) hX dX1_town_19 (by decide)) ?_
  refine cX_X1_146 T met_FX1_number (c_room hR rfl rfl) e h (by cases r5 <;> rfl) dX1_town_21 (fun v8 s7 h => ?_)
  obtain ⟨p9, e_p9, hq_p9⟩ := nn_of h
  subst e_p9
  have h := hq_p9
  show cW X _ _ _ 24 [(0, .ref x0)] [.int v8, .ref p9]
  refine cp_X1_149 T h dX1_town_24 (fun s10 h => ?_)
  refine cw (k_aload_n hX dX1_town_27 rfl 0 rfl) ?_
  refine cg_X1_98 T h dX1_town_28 (fun r11 h => ?_)
  refine cw (k_aload_n hX dX1_town_31 rfl 0 rfl) ?_
  refine cw (k_iconst (v := 1) hX dX1_town_32 (by decide)) ?_
  refine cw (k_bipush (v := 9) hX dX1_town_33 (by decide)) ?_
  refine cX_X1_124 T met_FX1_number_2 (c_room hR rfl rfl) e h (by cases r11 <;> rfl) dX1_town_35 (fun v13 s12 h => ?_)
  obtain ⟨p14, e_p14, hq_p14⟩ := nn_of h
  subst e_p14
  have h := hq_p14
  show cW X _ _ _ 38 [(0, .ref x0)] [.int v13, .ref p14]
  refine cp_X1_152 T h dX1_town_38 (fun s15 h => ?_)
  refine cw (k_aload_n hX dX1_town_41 rfl 0 rfl) ?_
  refine cw (k_bipush (v := 59) hX dX1_town_42 (by decide)) ?_
  refine cX_X1_155 T met_FX1_need_2 (c_room hR rfl rfl) e h rfl dX1_town_44 (fun s16 h => ?_)
  refine cw (k_lv (lv' := [(0, .ref x0)]) [0] rfl) ?_
  exact FX1_town_b47_ok T hR e _ _ _ h
theorem FX2_leads_b27_ok {X : KC CS} {E : CE} {z : Int32} {z0 l0 z1 l1 : Nat} {s : CS} (T : cOK X E cX2_leads RX2 4 (some .boolean) z0 l0 z1 l1) (hR : cRoom X 0 0) (e : cE_i X E z0 l0 z1 l1 z s) {x0 : Nat} {x1 : Int32} {x2 : Int32} {x3 : Int32} (h : FX2_leads_b27 s x0 x1 x2 x3 = some z) : cW X z1 l1 s 27 [(0, .ref x0), (1, .int x1), (2, .int x2), (3, .int x3)] [] := by
  unfold FX2_leads_b27 at h
  have hX := T.1
  refine cw (k_aload_n hX dX2_leads_27 rfl 0 rfl) ?_
  refine cg_X2_39 T h dX2_leads_28 (fun r1 h => ?_)
  refine cw (k_iload_n hX dX2_leads_31 rfl 2 rfl) ?_
  refine cw (k_bipush (v := 6) hX dX2_leads_32 (by decide)) ?_
  refine cw (k_imul hX dX2_leads_34) ?_
  refine cw (k_iload_n hX dX2_leads_35 rfl 1 rfl) ?_
  refine cw (k_iadd hX dX2_leads_36) ?_
  obtain ⟨p2, e_p2, hq_p2⟩ := nn_of h
  subst e_p2
  have h := hq_p2
  show cW X z1 l1 _ 37 [(0, .ref x0), (1, .int x1), (2, .int x2), (3, .int x3)] [.int ((x2 * 6) + x1), .ref p2]
  refine ca_ild T h dX2_leads_37 (fun v3 h => ?_)
  refine cw (k_iload_n hX dX2_leads_38 rfl 3 rfl) ?_
  refine cw (k_ishr hX dX2_leads_39) ?_
  refine cw (k_iconst (v := 1) hX dX2_leads_40 (by decide)) ?_
  refine cw (k_iand hX dX2_leads_41) ?_
  refine c_brn h (k_if_ne (tgt := 49) hX h dX2_leads_42 (by decide)) (fun h => ?_) (fun h => ?_)
  · refine cw (k_iconst (v := 0) hX dX2_leads_49 (by decide)) ?_
    exact c_ret_zrc T e rfl h dX2_leads_50
  · refine cw (k_iconst (v := 1) hX dX2_leads_45 (by decide)) ?_
    refine cw (k_goto (tgt := 50) hX dX2_leads_46 (by decide)) ?_
    exact c_ret_zrc T e rfl h dX2_leads_50
theorem met_FX2_leads {l : Launch} {E : CE} {s : CS} : ∀ (x0 : Nat) (x1 : Int32) (x2 : Int32) (x3 : Int32) (z : Int32), FX2_leads s x0 x1 x2 x3 = some z → (isK s x0 [2] = true ∧ cMet_i l E yX2_leads (ws_ yX2_leads cX2_leads 4 (some .boolean)) 0 0 [.ref x0, .int x1, .int x2, .int x3] s z s) := by
  intro x0 x1 x2 x3 z h
  unfold FX2_leads at h
  obtain ⟨hg, h⟩ := gd_of h
  refine ⟨hg, c_met_i ⟨Nat.le_refl _, Nat.le_refl _⟩ (by decide +kernel) rfl (fun X hl hin T hR e => ?_)⟩
  have T : cOK X E cX2_leads RX2 4 (some .boolean) _ _ _ _ := T
  have hX := T.1
  show cW X _ _ s 0 [(0, .ref x0), (1, .int x1), (2, .int x2), (3, .int x3)] []
  refine cw (k_iload_n hX dX2_leads_0 rfl 3 rfl) ?_
  refine c_brn h (k_if_ne (tgt := 17) hX h dX2_leads_1 (by decide)) (fun h => ?_) (fun h => ?_)
  · refine cw (k_iload_n hX dX2_leads_17 rfl 2 rfl) ?_
    refine cw (k_iconst (v := 1) hX dX2_leads_18 (by decide)) ?_
    refine cw (k_iadd hX dX2_leads_19) ?_
    refine cw (k_aload_n hX dX2_leads_20 rfl 0 rfl) ?_
    refine cg_X2_15 T h dX2_leads_21 (fun v1 h => ?_)
    refine c_br h (k_icmp_ge (tgt := 49) hX h dX2_leads_24 (by decide)) (fun h => ?_) (fun h => ?_)
    · refine cw (k_iconst (v := 0) hX dX2_leads_49 (by decide)) ?_
      exact c_ret_zrc T e rfl h dX2_leads_50
    · refine cw (k_lv (lv' := [(0, .ref x0), (1, .int x1), (2, .int x2), (3, .int x3)]) [0, 1, 2, 3] rfl) ?_
      exact FX2_leads_b27_ok T hR e h
  · refine cw (k_iload_n hX dX2_leads_4 rfl 1 rfl) ?_
    refine cw (k_iconst (v := 1) hX dX2_leads_5 (by decide)) ?_
    refine cw (k_iadd hX dX2_leads_6) ?_
    refine cw (k_aload_n hX dX2_leads_7 rfl 0 rfl) ?_
    refine cg_X2_9 T h dX2_leads_8 (fun v2 h => ?_)
    refine c_br h (k_icmp_ge (tgt := 49) hX h dX2_leads_11 (by decide)) (fun h => ?_) (fun h => ?_)
    · refine cw (k_iconst (v := 0) hX dX2_leads_49 (by decide)) ?_
      exact c_ret_zrc T e rfl h dX2_leads_50
    · refine cw (k_goto (tgt := 27) hX dX2_leads_14 (by decide)) ?_
      refine cw (k_lv (lv' := [(0, .ref x0), (1, .int x1), (2, .int x2), (3, .int x3)]) [0, 1, 2, 3] rfl) ?_
      exact FX2_leads_b27_ok T hR e h
theorem met_FX7_init {l : Launch} {E : CE} : ∀ (x0 : Nat) (s : CS) (z : CS), FX7_init x0 s = some z → cMet_v l E yX7_init (ws_ yX7_init cX7_init 1 none) 1 40 [.ref x0] s z := by
  intro x0 s z h
  unfold FX7_init at h
  obtain ⟨hm, h⟩ := mz_of h
  refine c_met_v hm (by decide +kernel) rfl (fun X hl hin T hR e => ?_)
  have T : cOK X E cX7_init RX7 1 none _ _ _ _ := T
  have hX := T.1
  show cW X _ _ s 0 [(0, .ref x0)] []
  refine cw (k_aload_n hX dX7_init_0 rfl 0 rfl) ?_
  refine cw (k_objInit hX hR q414 q183 q184 rfl dX7_init_1) ?_
  refine cw (k_aload_n hX dX7_init_4 rfl 0 rfl) ?_
  refine cw (k_bipush (v := 13) hX dX7_init_5 (by decide)) ?_
  refine c_newAi T h dX7_init_7 (fun o1 s2 h => ?_)
  refine cp_X7_9 T hin h dX7_init_9 (fun s3 h => ?_)
  refine cw (k_aload_n hX dX7_init_12 rfl 0 rfl) ?_
  refine cw (k_bipush (v := 13) hX dX7_init_13 (by decide)) ?_
  refine c_newAi T h dX7_init_15 (fun o4 s5 h => ?_)
  refine cp_X7_15 T hin h dX7_init_17 (fun s6 h => ?_)
  exact c_ret_v T e h dX7_init_20
theorem FX1_walk_b125_ok {X : KC CS} {E : CE} {z : ((Nat ⊕ (Option Nat)) × CS)} {z0 l0 z1 l1 : Nat} (T : cOK X E cX1_walk RX1 6 (some (.object "OverFirst$Walk")) z0 l0 z1 l1) (hR : cRoom X 7 178) (e : xE X E z0 l0 z1 l1 (xQ_q E z.1 z.2) (xgl z.1) z.2) {nf : Nat} {k13 : Nat → Nat → Nat → Int32 → Int32 → CS → Option ((Nat ⊕ (Option Nat)) × CS)} (hk13 : ∀ (x0 : Nat) (x1 : Nat) (x2 : Nat) (x3 : Int32) (x4 : Int32) (s : CS), k13 x0 x1 x2 x3 x4 s = some z → cW X z1 l1 s 13 [(0, .ref x0), (1, .ref x1), (2, .ref x2), (3, .int x3), (4, .int x4)] []) {x0 : Nat} {x1 : Nat} {x2 : Nat} {x3 : Int32} {x4 : Int32} {s : CS} (h : FX1_walk_b125 E.2.2.2 nf k13 x0 x1 x2 x3 x4 s = some z) : cW X z1 l1 s 125 [(0, .ref x0), (1, .ref x1), (2, .ref x2), (3, .int x3), (4, .int x4)] [] := by
  unfold FX1_walk_b125 at h
  have hX := T.1
  refine cw (k_aload_n hX dX1_walk_125 rfl 0 rfl) ?_
  refine cw (k_bipush (v := 59) hX dX1_walk_126 (by decide)) ?_
  refine cX_X1_155 T met_FX1_need_2 (c_room hR rfl rfl) e h rfl dX1_walk_128 (fun s1 h => ?_)
  refine cw (k_goto (tgt := 13) hX dX1_walk_131 (by decide)) ?_
  refine cw (k_lv (lv' := [(0, .ref x0), (1, .ref x1), (2, .ref x2), (3, .int x3), (4, .int x4)]) [0, 1, 2, 3, 4] rfl) ?_
  exact hk13 _ _ _ _ _ _ h
theorem FX1_walk_b13_s_ok {X : KC CS} {E : CE} {z : ((Nat ⊕ (Option Nat)) × CS)} {z0 l0 z1 l1 : Nat} (T : cOK X E cX1_walk RX1 6 (some (.object "OverFirst$Walk")) z0 l0 z1 l1) (hR : cRoom X 7 178) (e : xE X E z0 l0 z1 l1 (xQ_q E z.1 z.2) (xgl z.1) z.2) {nf : Nat} {k13 : Nat → Nat → Nat → Int32 → Int32 → CS → Option ((Nat ⊕ (Option Nat)) × CS)} (hk13 : ∀ (x0 : Nat) (x1 : Nat) (x2 : Nat) (x3 : Int32) (x4 : Int32) (s : CS), k13 x0 x1 x2 x3 x4 s = some z → cW X z1 l1 s 13 [(0, .ref x0), (1, .ref x1), (2, .ref x2), (3, .int x3), (4, .int x4)] []) {x0 : Nat} {x1 : Nat} {x2 : Nat} {x3 : Int32} {x4 : Int32} {s : CS} (h : FX1_walk_b13_s E.2.2.2 nf k13 x0 x1 x2 x3 x4 s = some z) : cW X z1 l1 s 13 [(0, .ref x0), (1, .ref x1), (2, .ref x2), (3, .int x3), (4, .int x4)] [] := by
  unfold FX1_walk_b13_s at h
  have hX := T.1
  refine cw (k_aload_n hX dX1_walk_13 rfl 0 rfl) ?_
  refine cg_X1_31 T h dX1_walk_14 (fun v1 h => ?_)
  refine c_br h (k_if_eq (tgt := 134) hX h dX1_walk_17 (by decide)) (fun h => ?_) (fun h => ?_)
  · refine cw (k_aload_n hX dX1_walk_134 rfl 2 rfl) ?_
    exact x_ret_q (v := (some x2)) T (Or.inl ⟨_, rfl⟩) e h dX1_walk_135
  · refine cw (k_aload_n hX dX1_walk_20 rfl 0 rfl) ?_
    obtain ⟨p2, e_p2, hq_p2⟩ := nn_of h
    have h := hq_p2
    refine cw (k_ldcS (k := 7) T e_p2 rfl dX1_walk_21) ?_
    refine cX_X1_71 T met_FX1_which (c_room hR rfl rfl) h rfl dX1_walk_23 (fun v3 h => ?_)
    refine cw (k_istore [(5, .int v3), (0, .ref x0), (1, .ref x1), (2, .ref x2), (3, .int x3), (4, .int x4)] hX dX1_walk_26 rfl rfl) ?_
    refine cw (k_iload hX dX1_walk_28 0 rfl) ?_
    refine c_br h (k_if_ge (tgt := 39) hX h dX1_walk_30 (by decide)) (fun h => ?_) (fun h => ?_)
    · refine cw (k_aload_n hX dX1_walk_39 rfl 2 rfl) ?_
      refine cw (k_iload_n hX dX1_walk_40 rfl 4 rfl) ?_
      refine cw (k_iload hX dX1_walk_41 5 rfl) ?_
      refine cw (k_iload hX dX1_walk_43 0 rfl) ?_
      refine cX_X1_241 T met_FX2_leads (c_room hR rfl rfl) h rfl dX1_walk_45 (fun v4 h => ?_)
      refine c_brn h (k_if_ne (tgt := 57) hX h dX1_walk_48 (by decide)) (fun h => ?_) (fun h => ?_)
      · refine cw (k_aload_n hX dX1_walk_57 rfl 3 rfl) ?_
        refine cg_X1_244 T h dX1_walk_58 (fun v5 h => ?_)
        refine cw (k_bipush (v := 13) hX dX1_walk_61 (by decide)) ?_
        refine c_brn h (k_icmp_ne (tgt := 72) hX h dX1_walk_63 (by decide)) (fun h => ?_) (fun h => ?_)
        · refine cw (k_aload_n hX dX1_walk_72 rfl 1 rfl) ?_
          refine cX_X1_25 T met_FX1_next (c_room hR rfl rfl) h rfl dX1_walk_73 (fun s6 h => ?_)
          refine cw (k_aload_n hX dX1_walk_76 rfl 3 rfl) ?_
          refine cg_X1_247 T h dX1_walk_77 (fun r7 h => ?_)
          refine cw (k_aload_n hX dX1_walk_80 rfl 3 rfl) ?_
          refine cg_X1_244 T h dX1_walk_81 (fun v8 h => ?_)
          refine cw (k_iload hX dX1_walk_84 0 rfl) ?_
          obtain ⟨p9, e_p9, hq_p9⟩ := nn_of h
          subst e_p9
          have h := hq_p9
          show cW X z1 l1 _ 86 [(5, .int v3), (0, .ref x0), (1, .ref x1), (2, .ref x2), (3, .int x3), (4, .int x4)] [.int v3, .int v8, .ref p9]
          refine ca_ist T h dX1_walk_86 (fun s10 h => ?_)
          refine cw (k_aload_n hX dX1_walk_87 rfl 3 rfl) ?_
          refine cg_X1_250 T h dX1_walk_88 (fun r11 h => ?_)
          refine cw (k_aload_n hX dX1_walk_91 rfl 3 rfl) ?_
          refine cw (k_dup hX dX1_walk_92 rfl) ?_
          refine cg_X1_244 T h dX1_walk_93 (fun v12 h => ?_)
          refine cw (k_dup_x1 hX dX1_walk_96 (by first | rfl | exact rf_cat _) (by first | rfl | exact rf_cat _)) ?_
          refine cw (k_iconst (v := 1) hX dX1_walk_97 (by decide)) ?_
          refine cw (k_iadd hX dX1_walk_98) ?_
          refine cp_X1_244 T h dX1_walk_99 (fun s13 h => ?_)
          refine cw (k_aload_n hX dX1_walk_102 rfl 1 rfl) ?_
          refine cw (k_iconst (v := 0) hX dX1_walk_103 (by decide)) ?_
          refine cw (k_sipush (v := 9999) hX dX1_walk_104 (by decide)) ?_
          refine cX_X1_124 T met_FX1_number_2 (c_room hR rfl rfl) e h (by cases r11 <;> rfl) dX1_walk_107 (fun v15 s14 h => ?_)
          obtain ⟨p16, e_p16, hq_p16⟩ := nn_of h
          subst e_p16
          have h := hq_p16
          show cW X z1 l1 _ 110 [(5, .int v3), (0, .ref x0), (1, .ref x1), (2, .ref x2), (3, .int x3), (4, .int x4)] [.int v15, .int v12, .ref p16]
          refine ca_ist T h dX1_walk_110 (fun s17 h => ?_)
          refine cw (k_iload hX dX1_walk_111 0 rfl) ?_
          refine c_brn h (k_if_ne (tgt := 122) hX h dX1_walk_113 (by decide)) (fun h => ?_) (fun h => ?_)
          · refine cw (k_iinc (j := 5) [(4, .int (x4 + 1)), (5, .int v3), (0, .ref x0), (1, .ref x1), (2, .ref x2), (3, .int x3)] hX dX1_walk_122 rfl rfl rfl rfl) ?_
            refine cw (k_lv (lv' := [(0, .ref x0), (1, .ref x1), (2, .ref x2), (3, .int x3), (4, .int (x4 + 1))]) [2, 3, 4, 5, 0] rfl) ?_
            exact FX1_walk_b125_ok T hR e hk13 h
          · refine cw (k_iinc (j := 4) [(3, .int (x3 + 1)), (5, .int v3), (0, .ref x0), (1, .ref x1), (2, .ref x2), (4, .int x4)] hX dX1_walk_116 rfl rfl rfl rfl) ?_
            refine cw (k_goto (tgt := 125) hX dX1_walk_119 (by decide)) ?_
            refine cw (k_lv (lv' := [(0, .ref x0), (1, .ref x1), (2, .ref x2), (3, .int (x3 + 1)), (4, .int x4)]) [2, 3, 4, 0, 5] rfl) ?_
            exact FX1_walk_b125_ok T hR e hk13 h
        · refine cw (k_aload_n hX dX1_walk_66 rfl 1 rfl) ?_
          refine cw (k_iconst (v := 5) hX dX1_walk_67 (by decide)) ?_
          refine cX_X1_75 T met_FX1_wrong (c_room hR rfl rfl) h rfl dX1_walk_68 (fun r19 s18 h => ?_)
          obtain ⟨p20, e_p20, hq_p20⟩ := nn_of h
          subst e_p20
          have h := hq_p20
          show cW X z1 l1 _ 71 [(5, .int v3), (0, .ref x0), (1, .ref x1), (2, .ref x2), (3, .int x3), (4, .int x4)] [.ref p20]
          exact x_throw T e h dX1_walk_71
      · refine cw (k_aload_n hX dX1_walk_51 rfl 1 rfl) ?_
        refine cw (k_iconst (v := 2) hX dX1_walk_52 (by decide)) ?_
        refine cX_X1_75 T met_FX1_wrong (c_room hR rfl rfl) h rfl dX1_walk_53 (fun r22 s21 h => ?_)
        obtain ⟨p23, e_p23, hq_p23⟩ := nn_of h
        subst e_p23
        have h := hq_p23
        show cW X z1 l1 _ 56 [(5, .int v3), (0, .ref x0), (1, .ref x1), (2, .ref x2), (3, .int x3), (4, .int x4)] [.ref p23]
        exact x_throw T e h dX1_walk_56
    · refine cw (k_aload_n hX dX1_walk_33 rfl 1 rfl) ?_
      refine cw (k_iconst (v := 1) hX dX1_walk_34 (by decide)) ?_
      refine cX_X1_75 T met_FX1_wrong (c_room hR rfl rfl) h rfl dX1_walk_35 (fun r25 s24 h => ?_)
      obtain ⟨p26, e_p26, hq_p26⟩ := nn_of h
      subst e_p26
      have h := hq_p26
      show cW X z1 l1 _ 38 [(5, .int v3), (0, .ref x0), (1, .ref x1), (2, .ref x2), (3, .int x3), (4, .int x4)] [.ref p26]
      exact x_throw T e h dX1_walk_38
theorem FX1_walk_b13_ok {X : KC CS} {E : CE} {z : ((Nat ⊕ (Option Nat)) × CS)} {z0 l0 z1 l1 : Nat} (T : cOK X E cX1_walk RX1 6 (some (.object "OverFirst$Walk")) z0 l0 z1 l1) (hR : cRoom X 7 178) (e : xE X E z0 l0 z1 l1 (xQ_q E z.1 z.2) (xgl z.1) z.2) {nf : Nat} : ∀ (n : Nat) (x0 : Nat) (x1 : Nat) (x2 : Nat) (x3 : Int32) (x4 : Int32) (s : CS), FX1_walk_b13 E.2.2.2 nf n x0 x1 x2 x3 x4 s = some z → cW X z1 l1 s 13 [(0, .ref x0), (1, .ref x1), (2, .ref x2), (3, .int x3), (4, .int x4)] [] := by
  intro n
  induction n with
  | zero => intro x0 x1 x2 x3 x4 s h; exact (nomatch (show (none : Option ((Nat ⊕ (Option Nat)) × CS)) = some z from h))
  | succ n ih =>
    intro x0 x1 x2 x3 x4 s h
    have h : FX1_walk_b13_s E.2.2.2 nf (FX1_walk_b13 E.2.2.2 nf n) x0 x1 x2 x3 x4 s = some z := h
    exact FX1_walk_b13_s_ok T hR e ih h
theorem met_FX1_walk {l : Launch} {E : CE} {nf : Nat} : ∀ (x0 : Nat) (x1 : Nat) (s : CS) (z : ((Nat ⊕ (Option Nat)) × CS)), FX1_walk E.2.2.2 nf x0 x1 s = some z → (isK s x0 [1] = true ∧ xMet_q l E yX1_walk (ws_ yX1_walk cX1_walk 6 (some (.object "OverFirst$Walk"))) 7 178 [.ref x0, .ref x1] s z.1 z.2) := by
  intro x0 x1 s z h
  unfold FX1_walk at h
  obtain ⟨hm, h⟩ := mz_of h
  obtain ⟨hg, h⟩ := gd_of h
  refine ⟨hg, x_met_q hm (by decide +kernel) rfl (fun X hl hin T hR e => ?_)⟩
  have T : cOK X E cX1_walk RX1 6 (some (.object "OverFirst$Walk")) _ _ _ _ := T
  have hX := T.1
  show cW X _ _ s 0 [(0, .ref x0), (1, .ref x1)] []
  refine c_newO kX7 q1187 q410 q150 (nd7 _) T h dX1_walk_0 (fun o1 s2 h => ?_)
  refine cw (k_dup hX dX1_walk_3 rfl) ?_
  refine cX_X1_240 T met_FX7_init (c_room hR rfl rfl) h rfl dX1_walk_4 (fun s3 h => ?_)
  refine cw (k_astore_n [(2, .ref o1), (0, .ref x0), (1, .ref x1)] hX dX1_walk_7 rfl rfl rfl) ?_
  refine cw (k_iconst (v := 0) hX dX1_walk_8 (by decide)) ?_
  refine cw (k_istore_n [(3, .int 0), (2, .ref o1), (0, .ref x0), (1, .ref x1)] hX dX1_walk_9 rfl rfl rfl) ?_
  refine cw (k_iconst (v := 0) hX dX1_walk_10 (by decide)) ?_
  refine cw (k_istore [(4, .int 0), (3, .int 0), (2, .ref o1), (0, .ref x0), (1, .ref x1)] hX dX1_walk_11 rfl rfl) ?_
  refine cw (k_lv (lv' := [(0, .ref x0), (1, .ref x1), (2, .ref o1), (3, .int 0), (4, .int 0)]) [3, 4, 2, 1, 0] rfl) ?_
  exact FX1_walk_b13_ok T hR e _ _ _ _ _ _ _ h
theorem FX16_way_b80_ok {X : KC CS} {E : CE} {z : (Int32 × CS)} {z0 l0 z1 l1 : Nat} (T : cOK X E cX16_way RX16 6 (some .int) z0 l0 z1 l1) (hR : cRoom X 601 29423) (e : cE_i X E z0 l0 z1 l1 z.1 z.2) {x5 : Int32} {s_0 : Int32} {s : CS} (h : FX16_way_b80 x5 s_0 s = some z) : cW X z1 l1 s 80 [(5, .int x5)] [.int s_0] := by
  unfold FX16_way_b80 at h
  have hX := T.1
  refine c_br h (k_if_lt (tgt := 88) hX h dX16_way_80 (by decide)) (fun h => ?_) (fun h => ?_)
  · refine cw (k_iconst (v := 1) hX dX16_way_88 (by decide)) ?_
    refine cw (k_iload hX dX16_way_89 0 rfl) ?_
    refine cw (k_isub hX dX16_way_91) ?_
    exact c_ret_i T e h dX16_way_92
  · refine cw (k_iload hX dX16_way_83 0 rfl) ?_
    refine cw (k_goto (tgt := 92) hX dX16_way_85 (by decide)) ?_
    exact c_ret_i T e h dX16_way_92
theorem FX16_way_b68_ok {X : KC CS} {E : CE} {z : (Int32 × CS)} {z0 l0 z1 l1 : Nat} (T : cOK X E cX16_way RX16 6 (some .int) z0 l0 z1 l1) (hR : cRoom X 601 29423) (e : cE_i X E z0 l0 z1 l1 z.1 z.2) {x1 : Int32} {x2 : Int32} {s_0 : Int32} {s : CS} (h : FX16_way_b68 x1 x2 s_0 s = some z) : cW X z1 l1 s 68 [(1, .int x1), (2, .int x2)] [.int s_0] := by
  unfold FX16_way_b68 at h
  have hX := T.1
  refine cw (k_istore [(5, .int s_0), (1, .int x1), (2, .int x2)] hX dX16_way_68 rfl rfl) ?_
  refine cw (k_iload hX dX16_way_70 0 rfl) ?_
  refine c_brn h (k_if_ne (tgt := 79) hX h dX16_way_72 (by decide)) (fun h => ?_) (fun h => ?_)
  · refine cw (k_iload_n hX dX16_way_79 rfl 2 rfl) ?_
    refine cw (k_lv (lv' := [(5, .int s_0)]) [0] rfl) ?_
    exact FX16_way_b80_ok T hR e h
  · refine cw (k_iload_n hX dX16_way_75 rfl 1 rfl) ?_
    refine cw (k_goto (tgt := 80) hX dX16_way_76 (by decide)) ?_
    refine cw (k_lv (lv' := [(5, .int s_0)]) [0] rfl) ?_
    exact FX16_way_b80_ok T hR e h
theorem FX16_way_b33_ok {X : KC CS} {E : CE} {z : (Int32 × CS)} {z0 l0 z1 l1 : Nat} (T : cOK X E cX16_way RX16 6 (some .int) z0 l0 z1 l1) (hR : cRoom X 601 29423) (e : cE_i X E z0 l0 z1 l1 z.1 z.2) {x0 : Nat} {x1 : Int32} {x2 : Int32} {x3 : Int32} {x4 : Int32} {s_0 : Int32} {s_1 : Int32} {s_2 : (Option Nat)} {s : CS} (h : FX16_way_b33 x0 x1 x2 x3 x4 s_0 s_1 s_2 s = some z) : cW X z1 l1 s 33 [(0, .ref x0), (1, .int x1), (2, .int x2), (3, .int x3), (4, .int x4)] [.int s_0, .int s_1, va_rf s_2] := by
  unfold FX16_way_b33 at h
  have hX := T.1
  obtain ⟨p1, e_p1, hq_p1⟩ := nn_of h
  subst e_p1
  have h := hq_p1
  show cW X z1 l1 _ 33 [(0, .ref x0), (1, .int x1), (2, .int x2), (3, .int x3), (4, .int x4)] [.int s_0, .int s_1, .ref p1]
  refine ca_ist T h dX16_way_33 (fun s2 h => ?_)
  refine cw (k_aload_n hX dX16_way_34 rfl 0 rfl) ?_
  refine cg_X16_9 T h dX16_way_35 (fun r3 h => ?_)
  refine cw (k_iconst (v := 2) hX dX16_way_38 (by decide)) ?_
  refine cw (k_iload_n hX dX16_way_39 rfl 3 rfl) ?_
  obtain ⟨p4, e_p4, hq_p4⟩ := nn_of h
  subst e_p4
  have h := hq_p4
  show cW X z1 l1 _ 40 [(0, .ref x0), (1, .int x1), (2, .int x2), (3, .int x3), (4, .int x4)] [.int x3, .int 2, .ref p4]
  refine ca_ist T h dX16_way_40 (fun s5 h => ?_)
  refine cw (k_aload_n hX dX16_way_41 rfl 0 rfl) ?_
  refine cg_X16_9 T h dX16_way_42 (fun r6 h => ?_)
  refine cw (k_iconst (v := 3) hX dX16_way_45 (by decide)) ?_
  refine cw (k_iload hX dX16_way_46 4 rfl) ?_
  obtain ⟨p7, e_p7, hq_p7⟩ := nn_of h
  subst e_p7
  have h := hq_p7
  show cW X z1 l1 _ 48 [(0, .ref x0), (1, .int x1), (2, .int x2), (3, .int x3), (4, .int x4)] [.int x4, .int 3, .ref p7]
  refine ca_ist T h dX16_way_48 (fun s8 h => ?_)
  refine cw (k_aload_n hX dX16_way_49 rfl 0 rfl) ?_
  refine cg_X16_15 T h dX16_way_50 (fun r9 h => ?_)
  refine cw (k_aload_n hX dX16_way_53 rfl 0 rfl) ?_
  refine cg_X16_9 T h dX16_way_54 (fun r10 h => ?_)
  obtain ⟨p11, e_p11, hq_p11⟩ := nn_of h
  subst e_p11
  have h := hq_p11
  show cW X z1 l1 _ 57 [(0, .ref x0), (1, .int x1), (2, .int x2), (3, .int x3), (4, .int x4)] [va_rf r10, .ref p11]
  obtain ⟨p12, e_p12, hq_p12⟩ := nn_of h
  subst e_p12
  have h := hq_p12
  show cW X z1 l1 _ 57 [(0, .ref x0), (1, .int x1), (2, .int x2), (3, .int x3), (4, .int x4)] [.ref p12, .ref p11]
  refine cX_X16_19 T (met_V17_worked 600) (fun k hk => c_room hR rfl (Nat.ble_eq.mpr (by omega))) h rfl dX16_way_57 (fun v13 h => ?_)
  refine c_br h (k_if_eq (tgt := 67) hX h dX16_way_60 (by decide)) (fun h => ?_) (fun h => ?_)
  · refine cw (k_iconst (v := 1) hX dX16_way_67 (by decide)) ?_
    refine cw (k_lv (lv' := [(1, .int x1), (2, .int x2)]) [1, 2] rfl) ?_
    exact FX16_way_b68_ok T hR e h
  · refine cw (k_iconst (v := 0) hX dX16_way_63 (by decide)) ?_
    refine cw (k_goto (tgt := 68) hX dX16_way_64 (by decide)) ?_
    refine cw (k_lv (lv' := [(1, .int x1), (2, .int x2)]) [1, 2] rfl) ?_
    exact FX16_way_b68_ok T hR e h
theorem FX16_way_b16_ok {X : KC CS} {E : CE} {z : (Int32 × CS)} {z0 l0 z1 l1 : Nat} (T : cOK X E cX16_way RX16 6 (some .int) z0 l0 z1 l1) (hR : cRoom X 601 29423) (e : cE_i X E z0 l0 z1 l1 z.1 z.2) {x0 : Nat} {x1 : Int32} {x2 : Int32} {x3 : Int32} {x4 : Int32} {s_0 : Int32} {s_1 : Int32} {s_2 : (Option Nat)} {s : CS} (h : FX16_way_b16 x0 x1 x2 x3 x4 s_0 s_1 s_2 s = some z) : cW X z1 l1 s 16 [(0, .ref x0), (1, .int x1), (2, .int x2), (3, .int x3), (4, .int x4)] [.int s_0, .int s_1, va_rf s_2] := by
  unfold FX16_way_b16 at h
  have hX := T.1
  obtain ⟨p1, e_p1, hq_p1⟩ := nn_of h
  subst e_p1
  have h := hq_p1
  show cW X z1 l1 _ 16 [(0, .ref x0), (1, .int x1), (2, .int x2), (3, .int x3), (4, .int x4)] [.int s_0, .int s_1, .ref p1]
  refine ca_ist T h dX16_way_16 (fun s2 h => ?_)
  refine cw (k_aload_n hX dX16_way_17 rfl 0 rfl) ?_
  refine cg_X16_9 T h dX16_way_18 (fun r3 h => ?_)
  refine cw (k_iconst (v := 1) hX dX16_way_21 (by decide)) ?_
  refine cw (k_iload_n hX dX16_way_22 rfl 2 rfl) ?_
  refine c_br h (k_if_ge (tgt := 32) hX h dX16_way_23 (by decide)) (fun h => ?_) (fun h => ?_)
  · refine cw (k_iload_n hX dX16_way_32 rfl 2 rfl) ?_
    refine cw (k_lv (lv' := [(0, .ref x0), (1, .int x1), (2, .int x2), (3, .int x3), (4, .int x4)]) [0, 1, 2, 3, 4] rfl) ?_
    exact FX16_way_b33_ok T hR e h
  · refine cw (k_sipush (v := 999) hX dX16_way_26 (by decide)) ?_
    refine cw (k_goto (tgt := 33) hX dX16_way_29 (by decide)) ?_
    refine cw (k_lv (lv' := [(0, .ref x0), (1, .int x1), (2, .int x2), (3, .int x3), (4, .int x4)]) [0, 1, 2, 3, 4] rfl) ?_
    exact FX16_way_b33_ok T hR e h
theorem met_FX16_way {l : Launch} {E : CE} : ∀ (x0 : Nat) (x1 : Int32) (x2 : Int32) (x3 : Int32) (x4 : Int32) (s : CS) (z : (Int32 × CS)), FX16_way x0 x1 x2 x3 x4 s = some z → (isK s x0 [16] = true ∧ cMet_i l E yX16_way (ws_ yX16_way cX16_way 6 (some .int)) 601 29423 [.ref x0, .int x1, .int x2, .int x3, .int x4] s z.1 z.2) := by
  intro x0 x1 x2 x3 x4 s z h
  unfold FX16_way at h
  obtain ⟨hm, h⟩ := mz_of h
  obtain ⟨hg, h⟩ := gd_of h
  refine ⟨hg, c_met_i hm (by decide +kernel) rfl (fun X hl hin T hR e => ?_)⟩
  have T : cOK X E cX16_way RX16 6 (some .int) _ _ _ _ := T
  have hX := T.1
  show cW X _ _ s 0 [(0, .ref x0), (1, .int x1), (2, .int x2), (3, .int x3), (4, .int x4)] []
  refine cw (k_aload_n hX dX16_way_0 rfl 0 rfl) ?_
  refine cg_X16_9 T h dX16_way_1 (fun r1 h => ?_)
  refine cw (k_iconst (v := 0) hX dX16_way_4 (by decide)) ?_
  refine cw (k_iload_n hX dX16_way_5 rfl 1 rfl) ?_
  refine c_br h (k_if_ge (tgt := 15) hX h dX16_way_6 (by decide)) (fun h => ?_) (fun h => ?_)
  · refine cw (k_iload_n hX dX16_way_15 rfl 1 rfl) ?_
    refine cw (k_lv (lv' := [(0, .ref x0), (1, .int x1), (2, .int x2), (3, .int x3), (4, .int x4)]) [0, 1, 2, 3, 4] rfl) ?_
    exact FX16_way_b16_ok T hR e h
  · refine cw (k_sipush (v := 999) hX dX16_way_9 (by decide)) ?_
    refine cw (k_goto (tgt := 16) hX dX16_way_12 (by decide)) ?_
    refine cw (k_lv (lv' := [(0, .ref x0), (1, .int x1), (2, .int x2), (3, .int x3), (4, .int x4)]) [0, 1, 2, 3, 4] rfl) ?_
    exact FX16_way_b16_ok T hR e h
theorem met_FX8_init {l : Launch} {E : CE} : ∀ (x0 : Nat) (s : CS) (z : CS), FX8_init x0 s = some z → cMet_v l E yX8_init (ws_ yX8_init cX8_init 1 none) 1 40 [.ref x0] s z := by
  intro x0 s z h
  unfold FX8_init at h
  obtain ⟨hm, h⟩ := mz_of h
  refine c_met_v hm (by decide +kernel) rfl (fun X hl hin T hR e => ?_)
  have T : cOK X E cX8_init RX8 1 none _ _ _ _ := T
  have hX := T.1
  show cW X _ _ s 0 [(0, .ref x0)] []
  refine cw (k_aload_n hX dX8_init_0 rfl 0 rfl) ?_
  refine cw (k_objInit hX hR q435 q183 q184 rfl dX8_init_1) ?_
  refine cw (k_aload_n hX dX8_init_4 rfl 0 rfl) ?_
  refine cw (k_bipush (v := 54) hX dX8_init_5 (by decide)) ?_
  refine c_newAz T h dX8_init_7 (fun o1 s2 h => ?_)
  refine cp_X8_9 T hin h dX8_init_9 (fun s3 h => ?_)
  refine cw (k_aload_n hX dX8_init_12 rfl 0 rfl) ?_
  refine cw (k_bipush (v := 10) hX dX8_init_13 (by decide)) ?_
  refine c_newAz T h dX8_init_15 (fun o4 s5 h => ?_)
  refine cp_X8_15 T hin h dX8_init_17 (fun s6 h => ?_)
  refine cw (k_aload_n hX dX8_init_20 rfl 0 rfl) ?_
  refine cw (k_bipush (v := 10) hX dX8_init_21 (by decide)) ?_
  refine c_newAi T h dX8_init_23 (fun o7 s8 h => ?_)
  refine cp_X8_18 T hin h dX8_init_25 (fun s9 h => ?_)
  refine cw (k_aload_n hX dX8_init_28 rfl 0 rfl) ?_
  refine cw (k_bipush (v := 10) hX dX8_init_29 (by decide)) ?_
  refine c_newAi T h dX8_init_31 (fun o10 s11 h => ?_)
  refine cp_X8_22 T hin h dX8_init_33 (fun s12 h => ?_)
  refine cw (k_aload_n hX dX8_init_36 rfl 0 rfl) ?_
  refine cw (k_bipush (v := 8) hX dX8_init_37 (by decide)) ?_
  refine c_newAi T h dX8_init_39 (fun o13 s14 h => ?_)
  refine cp_X8_25 T hin h dX8_init_41 (fun s15 h => ?_)
  refine cw (k_aload_n hX dX8_init_44 rfl 0 rfl) ?_
  refine cw (k_bipush (v := 8) hX dX8_init_45 (by decide)) ?_
  refine c_newAi T h dX8_init_47 (fun o16 s17 h => ?_)
  refine cp_X8_28 T hin h dX8_init_49 (fun s18 h => ?_)
  exact c_ret_v T e h dX8_init_52
theorem FX8_go_b34_s_ok {X : KC CS} {E : CE} {z : CS} {z0 l0 z1 l1 : Nat} (T : cOK X E cX8_go RX8 3 none z0 l0 z1 l1) (hR : cRoom X 0 0) (e : cE_v X E z0 l0 z1 l1 z) {nf : Nat} {k34 : Nat → Nat → Int32 → CS → Option CS} (hk34 : ∀ (x0 : Nat) (x1 : Nat) (x2 : Int32) (s : CS), k34 x0 x1 x2 s = some z → cW X z1 l1 s 34 [(0, .ref x0), (1, .ref x1), (2, .int x2)] []) {x0 : Nat} {x1 : Nat} {x2 : Int32} {s : CS} (h : FX8_go_b34_s nf k34 x0 x1 x2 s = some z) : cW X z1 l1 s 34 [(0, .ref x0), (1, .ref x1), (2, .int x2)] [] := by
  unfold FX8_go_b34_s at h
  have hX := T.1
  refine cw (k_iload_n hX dX8_go_34 rfl 2 rfl) ?_
  refine cw (k_bipush (v := 54) hX dX8_go_35 (by decide)) ?_
  refine c_br h (k_icmp_ge (tgt := 58) hX h dX8_go_37 (by decide)) (fun h => ?_) (fun h => ?_)
  · exact c_ret_v T e h dX8_go_58
  · refine cw (k_aload_n hX dX8_go_40 rfl 0 rfl) ?_
    refine cg_X8_9 T h dX8_go_41 (fun r1 h => ?_)
    refine cw (k_iload_n hX dX8_go_44 rfl 2 rfl) ?_
    refine cw (k_aload_n hX dX8_go_45 rfl 1 rfl) ?_
    refine cg_X8_9 T h dX8_go_46 (fun r2 h => ?_)
    refine cw (k_iload_n hX dX8_go_49 rfl 2 rfl) ?_
    obtain ⟨p3, e_p3, hq_p3⟩ := nn_of h
    subst e_p3
    have h := hq_p3
    show cW X z1 l1 _ 50 [(0, .ref x0), (1, .ref x1), (2, .int x2)] [.int x2, .ref p3, .int x2, va_rf r1]
    refine ca_zld T h dX8_go_50 (fun v4 h => ?_)
    obtain ⟨p5, e_p5, hq_p5⟩ := nn_of h
    subst e_p5
    have h := hq_p5
    show cW X z1 l1 _ 51 [(0, .ref x0), (1, .ref x1), (2, .int x2)] [.int v4, .int x2, .ref p5]
    refine ca_zst T h dX8_go_51 (fun s6 h => ?_)
    refine cw (k_iinc (j := 2) [(2, .int (x2 + 1)), (0, .ref x0), (1, .ref x1)] hX dX8_go_52 rfl rfl rfl rfl) ?_
    refine cw (k_goto (tgt := 34) hX dX8_go_55 (by decide)) ?_
    refine cw (k_lv (lv' := [(0, .ref x0), (1, .ref x1), (2, .int (x2 + 1))]) [1, 2, 0] rfl) ?_
    exact hk34 _ _ _ _ h
theorem FX8_go_b34_ok {X : KC CS} {E : CE} {z : CS} {z0 l0 z1 l1 : Nat} (T : cOK X E cX8_go RX8 3 none z0 l0 z1 l1) (hR : cRoom X 0 0) (e : cE_v X E z0 l0 z1 l1 z) {nf : Nat} : ∀ (n : Nat) (x0 : Nat) (x1 : Nat) (x2 : Int32) (s : CS), FX8_go_b34 nf n x0 x1 x2 s = some z → cW X z1 l1 s 34 [(0, .ref x0), (1, .ref x1), (2, .int x2)] [] := by
  intro n
  induction n with
  | zero => intro x0 x1 x2 s h; exact (nomatch (show (none : Option CS) = some z from h))
  | succ n ih =>
    intro x0 x1 x2 s h
    have h : FX8_go_b34_s nf (FX8_go_b34 nf n) x0 x1 x2 s = some z := h
    exact FX8_go_b34_s_ok T hR e ih h
theorem met_FX8_go {l : Launch} {E : CE} {nf : Nat} : ∀ (x0 : Nat) (x1 : Nat) (s : CS) (z : CS), FX8_go nf x0 x1 s = some z → (isK s x0 [8] = true ∧ cMet_v l E yX8_go (ws_ yX8_go cX8_go 3 none) 0 0 [.ref x0, .ref x1] s z) := by
  intro x0 x1 s z h
  unfold FX8_go at h
  obtain ⟨hm, h⟩ := mz_of h
  obtain ⟨hg, h⟩ := gd_of h
  refine ⟨hg, c_met_v hm (by decide +kernel) rfl (fun X hl hin T hR e => ?_)⟩
  have T : cOK X E cX8_go RX8 3 none _ _ _ _ := T
  have hX := T.1
  show cW X _ _ s 0 [(0, .ref x0), (1, .ref x1)] []
  refine cw (k_aload_n hX dX8_go_0 rfl 0 rfl) ?_
  refine cw (k_aload_n hX dX8_go_1 rfl 1 rfl) ?_
  refine cg_X8_31 T h dX8_go_2 (fun v1 h => ?_)
  refine cp_X8_31 T h dX8_go_5 (fun s2 h => ?_)
  refine cw (k_aload_n hX dX8_go_8 rfl 0 rfl) ?_
  refine cw (k_aload_n hX dX8_go_9 rfl 1 rfl) ?_
  refine cg_X8_35 T h dX8_go_10 (fun v3 h => ?_)
  refine cp_X8_35 T h dX8_go_13 (fun s4 h => ?_)
  refine cw (k_aload_n hX dX8_go_16 rfl 0 rfl) ?_
  refine cw (k_aload_n hX dX8_go_17 rfl 1 rfl) ?_
  refine cg_X8_38 T h dX8_go_18 (fun v5 h => ?_)
  refine cp_X8_38 T h dX8_go_21 (fun s6 h => ?_)
  refine cw (k_aload_n hX dX8_go_24 rfl 0 rfl) ?_
  refine cw (k_aload_n hX dX8_go_25 rfl 1 rfl) ?_
  refine cg_X8_41 T h dX8_go_26 (fun v7 h => ?_)
  refine cp_X8_41 T h dX8_go_29 (fun s8 h => ?_)
  refine cw (k_iconst (v := 0) hX dX8_go_32 (by decide)) ?_
  refine cw (k_istore_n [(2, .int 0), (0, .ref x0), (1, .ref x1)] hX dX8_go_33 rfl rfl rfl) ?_
  refine cw (k_lv (lv' := [(0, .ref x0), (1, .ref x1), (2, .int 0)]) [1, 2, 0] rfl) ?_
  exact FX8_go_b34_ok T hR e _ _ _ _ _ h
theorem FX8_be_b73_s_ok {X : KC CS} {E : CE} {z : CS} {z0 l0 z1 l1 : Nat} (T : cOK X E cX8_be RX8 3 none z0 l0 z1 l1) (hR : cRoom X 1 22) (e : cE_v X E z0 l0 z1 l1 z) {nf : Nat} {k73 : Nat → Nat → Int32 → CS → Option CS} (hk73 : ∀ (x0 : Nat) (x1 : Nat) (x2 : Int32) (s : CS), k73 x0 x1 x2 s = some z → cW X z1 l1 s 73 [(0, .ref x0), (1, .ref x1), (2, .int x2)] []) {x0 : Nat} {x1 : Nat} {x2 : Int32} {s : CS} (h : FX8_be_b73_s nf k73 x0 x1 x2 s = some z) : cW X z1 l1 s 73 [(0, .ref x0), (1, .ref x1), (2, .int x2)] [] := by
  unfold FX8_be_b73_s at h
  have hX := T.1
  refine cw (k_iload_n hX dX8_be_73 rfl 2 rfl) ?_
  refine cw (k_bipush (v := 8) hX dX8_be_74 (by decide)) ?_
  refine c_br h (k_icmp_ge (tgt := 109) hX h dX8_be_76 (by decide)) (fun h => ?_) (fun h => ?_)
  · exact c_ret_v T e h dX8_be_109
  · refine cw (k_aload_n hX dX8_be_79 rfl 0 rfl) ?_
    refine cg_X8_25 T h dX8_be_80 (fun r1 h => ?_)
    refine cw (k_iload_n hX dX8_be_83 rfl 2 rfl) ?_
    refine cw (k_aload_n hX dX8_be_84 rfl 1 rfl) ?_
    refine cg_X8_25 T h dX8_be_85 (fun r2 h => ?_)
    refine cw (k_iload_n hX dX8_be_88 rfl 2 rfl) ?_
    obtain ⟨p3, e_p3, hq_p3⟩ := nn_of h
    subst e_p3
    have h := hq_p3
    show cW X z1 l1 _ 89 [(0, .ref x0), (1, .ref x1), (2, .int x2)] [.int x2, .ref p3, .int x2, va_rf r1]
    refine ca_ild T h dX8_be_89 (fun v4 h => ?_)
    obtain ⟨p5, e_p5, hq_p5⟩ := nn_of h
    subst e_p5
    have h := hq_p5
    show cW X z1 l1 _ 90 [(0, .ref x0), (1, .ref x1), (2, .int x2)] [.int v4, .int x2, .ref p5]
    refine ca_ist T h dX8_be_90 (fun s6 h => ?_)
    refine cw (k_aload_n hX dX8_be_91 rfl 0 rfl) ?_
    refine cg_X8_28 T h dX8_be_92 (fun r7 h => ?_)
    refine cw (k_iload_n hX dX8_be_95 rfl 2 rfl) ?_
    refine cw (k_aload_n hX dX8_be_96 rfl 1 rfl) ?_
    refine cg_X8_28 T h dX8_be_97 (fun r8 h => ?_)
    refine cw (k_iload_n hX dX8_be_100 rfl 2 rfl) ?_
    obtain ⟨p9, e_p9, hq_p9⟩ := nn_of h
    subst e_p9
    have h := hq_p9
    show cW X z1 l1 _ 101 [(0, .ref x0), (1, .ref x1), (2, .int x2)] [.int x2, .ref p9, .int x2, va_rf r7]
    refine ca_ild T h dX8_be_101 (fun v10 h => ?_)
    obtain ⟨p11, e_p11, hq_p11⟩ := nn_of h
    subst e_p11
    have h := hq_p11
    show cW X z1 l1 _ 102 [(0, .ref x0), (1, .ref x1), (2, .int x2)] [.int v10, .int x2, .ref p11]
    refine ca_ist T h dX8_be_102 (fun s12 h => ?_)
    refine cw (k_iinc (j := 2) [(2, .int (x2 + 1)), (0, .ref x0), (1, .ref x1)] hX dX8_be_103 rfl rfl rfl rfl) ?_
    refine cw (k_goto (tgt := 73) hX dX8_be_106 (by decide)) ?_
    refine cw (k_lv (lv' := [(0, .ref x0), (1, .ref x1), (2, .int (x2 + 1))]) [1, 2, 0] rfl) ?_
    exact hk73 _ _ _ _ h
theorem FX8_be_b73_ok {X : KC CS} {E : CE} {z : CS} {z0 l0 z1 l1 : Nat} (T : cOK X E cX8_be RX8 3 none z0 l0 z1 l1) (hR : cRoom X 1 22) (e : cE_v X E z0 l0 z1 l1 z) {nf : Nat} : ∀ (n : Nat) (x0 : Nat) (x1 : Nat) (x2 : Int32) (s : CS), FX8_be_b73 nf n x0 x1 x2 s = some z → cW X z1 l1 s 73 [(0, .ref x0), (1, .ref x1), (2, .int x2)] [] := by
  intro n
  induction n with
  | zero => intro x0 x1 x2 s h; exact (nomatch (show (none : Option CS) = some z from h))
  | succ n ih =>
    intro x0 x1 x2 s h
    have h : FX8_be_b73_s nf (FX8_be_b73 nf n) x0 x1 x2 s = some z := h
    exact FX8_be_b73_s_ok T hR e ih h
theorem FX8_be_b23_s_ok {X : KC CS} {E : CE} {z : CS} {z0 l0 z1 l1 : Nat} (T : cOK X E cX8_be RX8 3 none z0 l0 z1 l1) (hR : cRoom X 1 22) (e : cE_v X E z0 l0 z1 l1 z) {nf : Nat} {k23 : Nat → Nat → Int32 → CS → Option CS} (hk23 : ∀ (x0 : Nat) (x1 : Nat) (x2 : Int32) (s : CS), k23 x0 x1 x2 s = some z → cW X z1 l1 s 23 [(0, .ref x0), (1, .ref x1), (2, .int x2)] []) {x0 : Nat} {x1 : Nat} {x2 : Int32} {s : CS} (h : FX8_be_b23_s nf k23 x0 x1 x2 s = some z) : cW X z1 l1 s 23 [(0, .ref x0), (1, .ref x1), (2, .int x2)] [] := by
  unfold FX8_be_b23_s at h
  have hX := T.1
  refine cw (k_iload_n hX dX8_be_23 rfl 2 rfl) ?_
  refine cw (k_bipush (v := 10) hX dX8_be_24 (by decide)) ?_
  refine c_br h (k_icmp_ge (tgt := 71) hX h dX8_be_26 (by decide)) (fun h => ?_) (fun h => ?_)
  · refine cw (k_iconst (v := 0) hX dX8_be_71 (by decide)) ?_
    refine cw (k_istore_n [(2, .int 0), (0, .ref x0), (1, .ref x1)] hX dX8_be_72 rfl rfl rfl) ?_
    refine cw (k_lv (lv' := [(0, .ref x0), (1, .ref x1), (2, .int 0)]) [1, 2, 0] rfl) ?_
    exact FX8_be_b73_ok T hR e _ _ _ _ _ h
  · refine cw (k_aload_n hX dX8_be_29 rfl 0 rfl) ?_
    refine cg_X8_15 T h dX8_be_30 (fun r1 h => ?_)
    refine cw (k_iload_n hX dX8_be_33 rfl 2 rfl) ?_
    refine cw (k_aload_n hX dX8_be_34 rfl 1 rfl) ?_
    refine cg_X8_15 T h dX8_be_35 (fun r2 h => ?_)
    refine cw (k_iload_n hX dX8_be_38 rfl 2 rfl) ?_
    obtain ⟨p3, e_p3, hq_p3⟩ := nn_of h
    subst e_p3
    have h := hq_p3
    show cW X z1 l1 _ 39 [(0, .ref x0), (1, .ref x1), (2, .int x2)] [.int x2, .ref p3, .int x2, va_rf r1]
    refine ca_zld T h dX8_be_39 (fun v4 h => ?_)
    obtain ⟨p5, e_p5, hq_p5⟩ := nn_of h
    subst e_p5
    have h := hq_p5
    show cW X z1 l1 _ 40 [(0, .ref x0), (1, .ref x1), (2, .int x2)] [.int v4, .int x2, .ref p5]
    refine ca_zst T h dX8_be_40 (fun s6 h => ?_)
    refine cw (k_aload_n hX dX8_be_41 rfl 0 rfl) ?_
    refine cg_X8_18 T h dX8_be_42 (fun r7 h => ?_)
    refine cw (k_iload_n hX dX8_be_45 rfl 2 rfl) ?_
    refine cw (k_aload_n hX dX8_be_46 rfl 1 rfl) ?_
    refine cg_X8_18 T h dX8_be_47 (fun r8 h => ?_)
    refine cw (k_iload_n hX dX8_be_50 rfl 2 rfl) ?_
    obtain ⟨p9, e_p9, hq_p9⟩ := nn_of h
    subst e_p9
    have h := hq_p9
    show cW X z1 l1 _ 51 [(0, .ref x0), (1, .ref x1), (2, .int x2)] [.int x2, .ref p9, .int x2, va_rf r7]
    refine ca_ild T h dX8_be_51 (fun v10 h => ?_)
    obtain ⟨p11, e_p11, hq_p11⟩ := nn_of h
    subst e_p11
    have h := hq_p11
    show cW X z1 l1 _ 52 [(0, .ref x0), (1, .ref x1), (2, .int x2)] [.int v10, .int x2, .ref p11]
    refine ca_ist T h dX8_be_52 (fun s12 h => ?_)
    refine cw (k_aload_n hX dX8_be_53 rfl 0 rfl) ?_
    refine cg_X8_22 T h dX8_be_54 (fun r13 h => ?_)
    refine cw (k_iload_n hX dX8_be_57 rfl 2 rfl) ?_
    refine cw (k_aload_n hX dX8_be_58 rfl 1 rfl) ?_
    refine cg_X8_22 T h dX8_be_59 (fun r14 h => ?_)
    refine cw (k_iload_n hX dX8_be_62 rfl 2 rfl) ?_
    obtain ⟨p15, e_p15, hq_p15⟩ := nn_of h
    subst e_p15
    have h := hq_p15
    show cW X z1 l1 _ 63 [(0, .ref x0), (1, .ref x1), (2, .int x2)] [.int x2, .ref p15, .int x2, va_rf r13]
    refine ca_ild T h dX8_be_63 (fun v16 h => ?_)
    obtain ⟨p17, e_p17, hq_p17⟩ := nn_of h
    subst e_p17
    have h := hq_p17
    show cW X z1 l1 _ 64 [(0, .ref x0), (1, .ref x1), (2, .int x2)] [.int v16, .int x2, .ref p17]
    refine ca_ist T h dX8_be_64 (fun s18 h => ?_)
    refine cw (k_iinc (j := 2) [(2, .int (x2 + 1)), (0, .ref x0), (1, .ref x1)] hX dX8_be_65 rfl rfl rfl rfl) ?_
    refine cw (k_goto (tgt := 23) hX dX8_be_68 (by decide)) ?_
    refine cw (k_lv (lv' := [(0, .ref x0), (1, .ref x1), (2, .int (x2 + 1))]) [1, 2, 0] rfl) ?_
    exact hk23 _ _ _ _ h
theorem FX8_be_b23_ok {X : KC CS} {E : CE} {z : CS} {z0 l0 z1 l1 : Nat} (T : cOK X E cX8_be RX8 3 none z0 l0 z1 l1) (hR : cRoom X 1 22) (e : cE_v X E z0 l0 z1 l1 z) {nf : Nat} : ∀ (n : Nat) (x0 : Nat) (x1 : Nat) (x2 : Int32) (s : CS), FX8_be_b23 nf n x0 x1 x2 s = some z → cW X z1 l1 s 23 [(0, .ref x0), (1, .ref x1), (2, .int x2)] [] := by
  intro n
  induction n with
  | zero => intro x0 x1 x2 s h; exact (nomatch (show (none : Option CS) = some z from h))
  | succ n ih =>
    intro x0 x1 x2 s h
    have h : FX8_be_b23_s nf (FX8_be_b23 nf n) x0 x1 x2 s = some z := h
    exact FX8_be_b23_s_ok T hR e ih h
theorem met_FX8_be {l : Launch} {E : CE} {nf : Nat} : ∀ (x0 : Nat) (x1 : Nat) (s : CS) (z : CS), FX8_be nf x0 x1 s = some z → (isK s x0 [8] = true ∧ cMet_v l E yX8_be (ws_ yX8_be cX8_be 3 none) 1 22 [.ref x0, .ref x1] s z) := by
  intro x0 x1 s z h
  unfold FX8_be at h
  obtain ⟨hm, h⟩ := mz_of h
  obtain ⟨hg, h⟩ := gd_of h
  refine ⟨hg, c_met_v hm (by decide +kernel) rfl (fun X hl hin T hR e => ?_)⟩
  have T : cOK X E cX8_be RX8 3 none _ _ _ _ := T
  have hX := T.1
  show cW X _ _ s 0 [(0, .ref x0), (1, .ref x1)] []
  refine cw (k_aload_n hX dX8_be_0 rfl 0 rfl) ?_
  refine cw (k_aload_n hX dX8_be_1 rfl 1 rfl) ?_
  refine cX_X8_44 T met_FX8_go (c_room hR rfl rfl) h rfl dX8_be_2 (fun s1 h => ?_)
  refine cw (k_aload_n hX dX8_be_5 rfl 0 rfl) ?_
  refine cw (k_aload_n hX dX8_be_6 rfl 1 rfl) ?_
  refine cg_X8_48 T h dX8_be_7 (fun v2 h => ?_)
  refine cp_X8_48 T h dX8_be_10 (fun s3 h => ?_)
  refine cw (k_aload_n hX dX8_be_13 rfl 0 rfl) ?_
  refine cw (k_aload_n hX dX8_be_14 rfl 1 rfl) ?_
  refine cg_X8_51 T h dX8_be_15 (fun v4 h => ?_)
  refine cp_X8_51 T h dX8_be_18 (fun s5 h => ?_)
  refine cw (k_iconst (v := 0) hX dX8_be_21 (by decide)) ?_
  refine cw (k_istore_n [(2, .int 0), (0, .ref x0), (1, .ref x1)] hX dX8_be_22 rfl rfl rfl) ?_
  refine cw (k_lv (lv' := [(0, .ref x0), (1, .ref x1), (2, .int 0)]) [1, 2, 0] rfl) ?_
  exact FX8_be_b23_ok T hR e _ _ _ _ _ h
theorem FX8_begin_b32_s_ok {X : KC CS} {E : CE} {z : CS} {z0 l0 z1 l1 : Nat} (T : cOK X E cX8_begin RX8 2 none z0 l0 z1 l1) (hR : cRoom X 0 0) (e : cE_v X E z0 l0 z1 l1 z) {nf : Nat} {k32 : Nat → Int32 → CS → Option CS} (hk32 : ∀ (x0 : Nat) (x1 : Int32) (s : CS), k32 x0 x1 s = some z → cW X z1 l1 s 32 [(0, .ref x0), (1, .int x1)] []) {x0 : Nat} {x1 : Int32} {s : CS} (h : FX8_begin_b32_s nf k32 x0 x1 s = some z) : cW X z1 l1 s 32 [(0, .ref x0), (1, .int x1)] [] := by
  unfold FX8_begin_b32_s at h
  have hX := T.1
  refine cw (k_iload_n hX dX8_begin_32 rfl 1 rfl) ?_
  refine cw (k_bipush (v := 54) hX dX8_begin_33 (by decide)) ?_
  refine c_br h (k_icmp_ge (tgt := 51) hX h dX8_begin_35 (by decide)) (fun h => ?_) (fun h => ?_)
  · exact c_ret_v T e h dX8_begin_51
  · refine cw (k_aload_n hX dX8_begin_38 rfl 0 rfl) ?_
    refine cg_X8_9 T h dX8_begin_39 (fun r1 h => ?_)
    refine cw (k_iload_n hX dX8_begin_42 rfl 1 rfl) ?_
    refine cw (k_iconst (v := 0) hX dX8_begin_43 (by decide)) ?_
    obtain ⟨p2, e_p2, hq_p2⟩ := nn_of h
    subst e_p2
    have h := hq_p2
    show cW X z1 l1 _ 44 [(0, .ref x0), (1, .int x1)] [.int 0, .int x1, .ref p2]
    refine ca_zst T h dX8_begin_44 (fun s3 h => ?_)
    refine cw (k_iinc (j := 1) [(1, .int (x1 + 1)), (0, .ref x0)] hX dX8_begin_45 rfl rfl rfl rfl) ?_
    refine cw (k_goto (tgt := 32) hX dX8_begin_48 (by decide)) ?_
    refine cw (k_lv (lv' := [(0, .ref x0), (1, .int (x1 + 1))]) [1, 0] rfl) ?_
    exact hk32 _ _ _ h
theorem FX8_begin_b32_ok {X : KC CS} {E : CE} {z : CS} {z0 l0 z1 l1 : Nat} (T : cOK X E cX8_begin RX8 2 none z0 l0 z1 l1) (hR : cRoom X 0 0) (e : cE_v X E z0 l0 z1 l1 z) {nf : Nat} : ∀ (n : Nat) (x0 : Nat) (x1 : Int32) (s : CS), FX8_begin_b32 nf n x0 x1 s = some z → cW X z1 l1 s 32 [(0, .ref x0), (1, .int x1)] [] := by
  intro n
  induction n with
  | zero => intro x0 x1 s h; exact (nomatch (show (none : Option CS) = some z from h))
  | succ n ih =>
    intro x0 x1 s h
    have h : FX8_begin_b32_s nf (FX8_begin_b32 nf n) x0 x1 s = some z := h
    exact FX8_begin_b32_s_ok T hR e ih h
theorem met_FX8_begin {l : Launch} {E : CE} {nf : Nat} : ∀ (x0 : Nat) (s : CS) (z : CS), FX8_begin nf x0 s = some z → (isK s x0 [8] = true ∧ cMet_v l E yX8_begin (ws_ yX8_begin cX8_begin 2 none) 0 0 [.ref x0] s z) := by
  intro x0 s z h
  unfold FX8_begin at h
  obtain ⟨hm, h⟩ := mz_of h
  obtain ⟨hg, h⟩ := gd_of h
  refine ⟨hg, c_met_v hm (by decide +kernel) rfl (fun X hl hin T hR e => ?_)⟩
  have T : cOK X E cX8_begin RX8 2 none _ _ _ _ := T
  have hX := T.1
  show cW X _ _ s 0 [(0, .ref x0)] []
  refine cw (k_aload_n hX dX8_begin_0 rfl 0 rfl) ?_
  refine cw (k_iconst (v := 0) hX dX8_begin_1 (by decide)) ?_
  refine cp_X8_31 T h dX8_begin_2 (fun s1 h => ?_)
  refine cw (k_aload_n hX dX8_begin_5 rfl 0 rfl) ?_
  refine cw (k_iconst (v := 0) hX dX8_begin_6 (by decide)) ?_
  refine cp_X8_35 T h dX8_begin_7 (fun s2 h => ?_)
  refine cw (k_aload_n hX dX8_begin_10 rfl 0 rfl) ?_
  refine cw (k_iconst (v := 0) hX dX8_begin_11 (by decide)) ?_
  refine cp_X8_38 T h dX8_begin_12 (fun s3 h => ?_)
  refine cw (k_aload_n hX dX8_begin_15 rfl 0 rfl) ?_
  refine cw (k_iconst (v := 0) hX dX8_begin_16 (by decide)) ?_
  refine cp_X8_41 T h dX8_begin_17 (fun s4 h => ?_)
  refine cw (k_aload_n hX dX8_begin_20 rfl 0 rfl) ?_
  refine cw (k_iconst (v := 0) hX dX8_begin_21 (by decide)) ?_
  refine cp_X8_48 T h dX8_begin_22 (fun s5 h => ?_)
  refine cw (k_aload_n hX dX8_begin_25 rfl 0 rfl) ?_
  refine cw (k_iconst (v := 0) hX dX8_begin_26 (by decide)) ?_
  refine cp_X8_51 T h dX8_begin_27 (fun s6 h => ?_)
  refine cw (k_iconst (v := 0) hX dX8_begin_30 (by decide)) ?_
  refine cw (k_istore_n [(1, .int 0), (0, .ref x0)] hX dX8_begin_31 rfl rfl rfl) ?_
  refine cw (k_lv (lv' := [(0, .ref x0), (1, .int 0)]) [1, 0] rfl) ?_
  exact FX8_begin_b32_ok T hR e _ _ _ _ h
theorem met_FX12_isClock {l : Launch} {E : CE} {s : CS} : ∀ (x0 : Nat) (z : Int32), FX12_isClock s x0 = some z → (isK s x0 [12, 13] = true ∧ cMet_i l E yX12_isClock (ws_ yX12_isClock cX12_isClock 1 (some .boolean)) 0 0 [.ref x0] s z s) := by
  intro x0 z h
  unfold FX12_isClock at h
  obtain ⟨hg, h⟩ := gd_of h
  refine ⟨hg, c_met_i ⟨Nat.le_refl _, Nat.le_refl _⟩ (by decide +kernel) rfl (fun X hl hin T hR e => ?_)⟩
  have T : cOK X E cX12_isClock RX12 1 (some .boolean) _ _ _ _ := T
  have hX := T.1
  show cW X _ _ s 0 [(0, .ref x0)] []
  refine cw (k_iconst (v := 1) hX dX12_isClock_0 (by decide)) ?_
  exact c_ret_zrc T e rfl h dX12_isClock_1
theorem met_FX12_kind {l : Launch} {E : CE} {s : CS} : ∀ (x0 : Nat) (z : Int32), FX12_kind s x0 = some z → (isK s x0 [12, 13] = true ∧ cMet_i l E yX12_kind (ws_ yX12_kind cX12_kind 1 (some .int)) 0 0 [.ref x0] s z s) := by
  intro x0 z h
  unfold FX12_kind at h
  obtain ⟨hg, h⟩ := gd_of h
  refine ⟨hg, c_met_i ⟨Nat.le_refl _, Nat.le_refl _⟩ (by decide +kernel) rfl (fun X hl hin T hR e => ?_)⟩
  have T : cOK X E cX12_kind RX12 1 (some .int) _ _ _ _ := T
  have hX := T.1
  show cW X _ _ s 0 [(0, .ref x0)] []
  refine cw (k_iconst (v := 0) hX dX12_kind_0 (by decide)) ?_
  exact c_ret_ir T e h dX12_kind_1
theorem FX12_waits_b66_ok {X : KC CS} {E : CE} {z : Int32} {z0 l0 z1 l1 : Nat} {s : CS} (T : cOK X E cX12_waits RX12 4 (some .int) z0 l0 z1 l1) (hR : cRoom X 0 0) (e : cE_i X E z0 l0 z1 l1 z s) {x0 : Nat} {x1 : Int32} {x3 : Int32} {s_0 : Int32} {s_1 : Int32} (h : FX12_waits_b66 s x0 x1 x3 s_0 s_1 = some z) : cW X z1 l1 s 66 [(0, .ref x0), (1, .int x1), (3, .int x3)] [.int s_0, .int s_1] := by
  unfold FX12_waits_b66 at h
  have hX := T.1
  refine c_brn h (k_icmp_ne (tgt := 73) hX h dX12_waits_66 (by decide)) (fun h => ?_) (fun h => ?_)
  · refine cw (k_iload_n hX dX12_waits_73 rfl 1 rfl) ?_
    refine c_brn h (k_if_ne (tgt := 86) hX h dX12_waits_74 (by decide)) (fun h => ?_) (fun h => ?_)
    · refine cw (k_aload_n hX dX12_waits_86 rfl 0 rfl) ?_
      refine cg_X12_9 T h dX12_waits_87 (fun v1 h => ?_)
      refine cw (k_iload_n hX dX12_waits_90 rfl 2 rfl) ?_
      refine cw (k_isub hX dX12_waits_91) ?_
      exact c_ret_ir T e h dX12_waits_92
    · refine cw (k_aload_n hX dX12_waits_77 rfl 0 rfl) ?_
      refine cg_X12_15 T h dX12_waits_78 (fun v2 h => ?_)
      refine cw (k_iload_n hX dX12_waits_81 rfl 2 rfl) ?_
      refine cw (k_isub hX dX12_waits_82) ?_
      refine cw (k_goto (tgt := 92) hX dX12_waits_83 (by decide)) ?_
      exact c_ret_ir T e h dX12_waits_92
  · refine cw (k_iconst (v := 0) hX dX12_waits_69 (by decide)) ?_
    refine cw (k_goto (tgt := 92) hX dX12_waits_70 (by decide)) ?_
    exact c_ret_ir T e h dX12_waits_92
theorem FX12_waits_b44_ok {X : KC CS} {E : CE} {z : Int32} {z0 l0 z1 l1 : Nat} {s : CS} (T : cOK X E cX12_waits RX12 4 (some .int) z0 l0 z1 l1) (hR : cRoom X 0 0) (e : cE_i X E z0 l0 z1 l1 z s) {x0 : Nat} {x1 : Int32} {x3 : Int32} (h : FX12_waits_b44 s x0 x1 x3 = some z) : cW X z1 l1 s 44 [(0, .ref x0), (1, .int x1), (3, .int x3)] [] := by
  unfold FX12_waits_b44 at h
  have hX := T.1
  refine cw (k_iload_n hX dX12_waits_44 rfl 2 rfl) ?_
  refine cw (k_aload_n hX dX12_waits_45 rfl 0 rfl) ?_
  refine cg_X12_9 T h dX12_waits_46 (fun v1 h => ?_)
  refine c_br h (k_icmp_ge (tgt := 56) hX h dX12_waits_49 (by decide)) (fun h => ?_) (fun h => ?_)
  · refine cw (k_iconst (v := 0) hX dX12_waits_56 (by decide)) ?_
    refine cw (k_iload_n hX dX12_waits_57 rfl 1 rfl) ?_
    refine c_brn h (k_if_ne (tgt := 65) hX h dX12_waits_58 (by decide)) (fun h => ?_) (fun h => ?_)
    · refine cw (k_iconst (v := 0) hX dX12_waits_65 (by decide)) ?_
      refine cw (k_lv (lv' := [(0, .ref x0), (1, .int x1), (3, .int x3)]) [0, 1, 2] rfl) ?_
      exact FX12_waits_b66_ok T hR e h
    · refine cw (k_iconst (v := 1) hX dX12_waits_61 (by decide)) ?_
      refine cw (k_goto (tgt := 66) hX dX12_waits_62 (by decide)) ?_
      refine cw (k_lv (lv' := [(0, .ref x0), (1, .int x1), (3, .int x3)]) [0, 1, 2] rfl) ?_
      exact FX12_waits_b66_ok T hR e h
  · refine cw (k_iconst (v := 1) hX dX12_waits_52 (by decide)) ?_
    refine cw (k_goto (tgt := 57) hX dX12_waits_53 (by decide)) ?_
    refine cw (k_iload_n hX dX12_waits_57 rfl 1 rfl) ?_
    refine c_brn h (k_if_ne (tgt := 65) hX h dX12_waits_58 (by decide)) (fun h => ?_) (fun h => ?_)
    · refine cw (k_iconst (v := 0) hX dX12_waits_65 (by decide)) ?_
      refine cw (k_lv (lv' := [(0, .ref x0), (1, .int x1), (3, .int x3)]) [0, 1, 2] rfl) ?_
      exact FX12_waits_b66_ok T hR e h
    · refine cw (k_iconst (v := 1) hX dX12_waits_61 (by decide)) ?_
      refine cw (k_goto (tgt := 66) hX dX12_waits_62 (by decide)) ?_
      refine cw (k_lv (lv' := [(0, .ref x0), (1, .int x1), (3, .int x3)]) [0, 1, 2] rfl) ?_
      exact FX12_waits_b66_ok T hR e h
theorem FX12_waits_b16_ok {X : KC CS} {E : CE} {z : Int32} {z0 l0 z1 l1 : Nat} {s : CS} (T : cOK X E cX12_waits RX12 4 (some .int) z0 l0 z1 l1) (hR : cRoom X 0 0) (e : cE_i X E z0 l0 z1 l1 z s) {x0 : Nat} {x1 : Int32} {x2 : Int32} {s_0 : Int32} {s_1 : Int32} (h : FX12_waits_b16 s x0 x1 x2 s_0 s_1 = some z) : cW X z1 l1 s 16 [(0, .ref x0), (1, .int x1), (2, .int x2)] [.int s_0, .int s_1] := by
  unfold FX12_waits_b16 at h
  have hX := T.1
  refine c_brn h (k_icmp_ne (tgt := 21) hX h dX12_waits_16 (by decide)) (fun h => ?_) (fun h => ?_)
  · refine cw (k_iload_n hX dX12_waits_21 rfl 2 rfl) ?_
    refine cw (k_aload_n hX dX12_waits_22 rfl 0 rfl) ?_
    refine cg_X12_18 T h dX12_waits_23 (fun v1 h => ?_)
    refine cw (k_isub hX dX12_waits_26) ?_
    refine cw (k_aload_n hX dX12_waits_27 rfl 0 rfl) ?_
    refine cg_X12_15 T h dX12_waits_28 (fun v2 h => ?_)
    refine c_d32 h (k_irem hX h dX12_waits_31) (fun h => ?_)
    refine c_nm h (fun v3 h => ?_)
    refine cw (k_istore_n [(3, .int v3), (0, .ref x0), (1, .int x1), (2, .int x2)] hX dX12_waits_32 rfl rfl rfl) ?_
    refine cw (k_iload_n hX dX12_waits_33 rfl 0 rfl) ?_
    refine c_br h (k_if_ge (tgt := 44) hX h dX12_waits_34 (by decide)) (fun h => ?_) (fun h => ?_)
    · refine cw (k_lv (lv' := [(0, .ref x0), (1, .int x1), (3, .int v3)]) [1, 2, 0] rfl) ?_
      exact FX12_waits_b44_ok T hR e h
    · refine cw (k_iload_n hX dX12_waits_37 rfl 0 rfl) ?_
      refine cw (k_aload_n hX dX12_waits_38 rfl 1 rfl) ?_
      refine cg_X12_15 T h dX12_waits_39 (fun v4 h => ?_)
      refine cw (k_iadd hX dX12_waits_42) ?_
      refine c_nm h (fun v5 h => ?_)
      refine cw (k_istore_n [(3, .int v5), (0, .ref x0), (1, .int x1), (2, .int x2)] hX dX12_waits_43 rfl rfl rfl) ?_
      refine cw (k_lv (lv' := [(0, .ref x0), (1, .int x1), (3, .int v5)]) [1, 2, 0] rfl) ?_
      exact FX12_waits_b44_ok T hR e h
  · refine cw (k_iconst (v := (-1)) hX dX12_waits_19 (by decide)) ?_
    exact c_ret_ir T e h dX12_waits_20
theorem met_FX12_waits {l : Launch} {E : CE} {s : CS} : ∀ (x0 : Nat) (x1 : Int32) (x2 : Int32) (z : Int32), FX12_waits s x0 x1 x2 = some z → (isK s x0 [12, 13] = true ∧ cMet_i l E yX12_waits (ws_ yX12_waits cX12_waits 4 (some .int)) 0 0 [.ref x0, .int x1, .int x2] s z s) := by
  intro x0 x1 x2 z h
  unfold FX12_waits at h
  obtain ⟨hg, h⟩ := gd_of h
  refine ⟨hg, c_met_i ⟨Nat.le_refl _, Nat.le_refl _⟩ (by decide +kernel) rfl (fun X hl hin T hR e => ?_)⟩
  have T : cOK X E cX12_waits RX12 4 (some .int) _ _ _ _ := T
  have hX := T.1
  show cW X _ _ s 0 [(0, .ref x0), (1, .int x1), (2, .int x2)] []
  refine cw (k_aload_n hX dX12_waits_0 rfl 0 rfl) ?_
  refine cg_X12_9 T h dX12_waits_1 (fun v1 h => ?_)
  refine cw (k_iload_n hX dX12_waits_4 rfl 1 rfl) ?_
  refine c_brn h (k_if_ne (tgt := 12) hX h dX12_waits_5 (by decide)) (fun h => ?_) (fun h => ?_)
  · refine cw (k_aload_n hX dX12_waits_12 rfl 0 rfl) ?_
    refine cg_X12_15 T h dX12_waits_13 (fun v2 h => ?_)
    refine cw (k_lv (lv' := [(0, .ref x0), (1, .int x1), (2, .int x2)]) [0, 1, 2] rfl) ?_
    exact FX12_waits_b16_ok T hR e h
  · refine cw (k_iconst (v := 0) hX dX12_waits_8 (by decide)) ?_
    refine cw (k_goto (tgt := 16) hX dX12_waits_9 (by decide)) ?_
    refine cw (k_lv (lv' := [(0, .ref x0), (1, .int x1), (2, .int x2)]) [0, 1, 2] rfl) ?_
    exact FX12_waits_b16_ok T hR e h
theorem met_FX2_isCorner {l : Launch} {E : CE} {s : CS} : ∀ (x0 : Nat) (x1 : Int32) (x2 : Int32) (z : Int32), FX2_isCorner s x0 x1 x2 = some z → (isK s x0 [2] = true ∧ cMet_i l E yX2_isCorner (ws_ yX2_isCorner cX2_isCorner 3 (some .boolean)) 1 22 [.ref x0, .int x1, .int x2] s z s) := by
  intro x0 x1 x2 z h
  unfold FX2_isCorner at h
  obtain ⟨hg, h⟩ := gd_of h
  refine ⟨hg, c_met_i ⟨Nat.le_refl _, Nat.le_refl _⟩ (by decide +kernel) rfl (fun X hl hin T hR e => ?_)⟩
  have T : cOK X E cX2_isCorner RX2 3 (some .boolean) _ _ _ _ := T
  have hX := T.1
  show cW X _ _ s 0 [(0, .ref x0), (1, .int x1), (2, .int x2)] []
  refine cw (k_iload_n hX dX2_isCorner_0 rfl 1 rfl) ?_
  refine cw (k_iconst (v := 0) hX dX2_isCorner_1 (by decide)) ?_
  refine cw (k_aload_n hX dX2_isCorner_2 rfl 0 rfl) ?_
  refine cg_X2_9 T h dX2_isCorner_3 (fun v1 h => ?_)
  refine cw (k_iconst (v := 1) hX dX2_isCorner_6 (by decide)) ?_
  refine cw (k_isub hX dX2_isCorner_7) ?_
  refine cX_X2_75 T met_FX0_in (c_room hR rfl rfl) h rfl dX2_isCorner_8 (fun v2 h => ?_)
  refine c_br h (k_if_eq (tgt := 32) hX h dX2_isCorner_11 (by decide)) (fun h => ?_) (fun h => ?_)
  · refine cw (k_iconst (v := 0) hX dX2_isCorner_32 (by decide)) ?_
    exact c_ret_zrc T e rfl h dX2_isCorner_33
  · refine cw (k_iload_n hX dX2_isCorner_14 rfl 2 rfl) ?_
    refine cw (k_iconst (v := 0) hX dX2_isCorner_15 (by decide)) ?_
    refine cw (k_aload_n hX dX2_isCorner_16 rfl 0 rfl) ?_
    refine cg_X2_15 T h dX2_isCorner_17 (fun v3 h => ?_)
    refine cw (k_iconst (v := 1) hX dX2_isCorner_20 (by decide)) ?_
    refine cw (k_isub hX dX2_isCorner_21) ?_
    refine cX_X2_75 T met_FX0_in (c_room hR rfl rfl) h rfl dX2_isCorner_22 (fun v4 h => ?_)
    refine c_br h (k_if_eq (tgt := 32) hX h dX2_isCorner_25 (by decide)) (fun h => ?_) (fun h => ?_)
    · refine cw (k_iconst (v := 0) hX dX2_isCorner_32 (by decide)) ?_
      exact c_ret_zrc T e rfl h dX2_isCorner_33
    · refine cw (k_iconst (v := 1) hX dX2_isCorner_28 (by decide)) ?_
      refine cw (k_goto (tgt := 33) hX dX2_isCorner_29 (by decide)) ?_
      exact c_ret_zrc T e rfl h dX2_isCorner_33
theorem met_FX2_walk {l : Launch} {E : CE} {s : CS} : ∀ (x0 : Nat) (z : Int32), FX2_walk s x0 = some z → (isK s x0 [2] = true ∧ cMet_i l E yX2_walk (ws_ yX2_walk cX2_walk 1 (some .int)) 0 0 [.ref x0] s z s) := by
  intro x0 z h
  unfold FX2_walk at h
  obtain ⟨hg, h⟩ := gd_of h
  refine ⟨hg, c_met_i ⟨Nat.le_refl _, Nat.le_refl _⟩ (by decide +kernel) rfl (fun X hl hin T hR e => ?_)⟩
  have T : cOK X E cX2_walk RX2 1 (some .int) _ _ _ _ := T
  have hX := T.1
  show cW X _ _ s 0 [(0, .ref x0)] []
  refine cw (k_aload_n hX dX2_walk_0 rfl 0 rfl) ?_
  refine cg_X2_18 T h dX2_walk_1 (fun v1 h => ?_)
  refine c_br h (k_if_ge (tgt := 12) hX h dX2_walk_4 (by decide)) (fun h => ?_) (fun h => ?_)
  · refine cw (k_aload_n hX dX2_walk_12 rfl 0 rfl) ?_
    refine cg_X2_18 T h dX2_walk_13 (fun v2 h => ?_)
    exact c_ret_ir T e h dX2_walk_16
  · refine cw (k_bipush (v := 10) hX dX2_walk_7 (by decide)) ?_
    refine cw (k_goto (tgt := 16) hX dX2_walk_9 (by decide)) ?_
    exact c_ret_ir T e h dX2_walk_16
theorem met_FX2_run {l : Launch} {E : CE} {s : CS} : ∀ (x0 : Nat) (z : Int32), FX2_run s x0 = some z → (isK s x0 [2] = true ∧ cMet_i l E yX2_run (ws_ yX2_run cX2_run 1 (some .int)) 1 20 [.ref x0] s z s) := by
  intro x0 z h
  unfold FX2_run at h
  obtain ⟨hg, h⟩ := gd_of h
  refine ⟨hg, c_met_i ⟨Nat.le_refl _, Nat.le_refl _⟩ (by decide +kernel) rfl (fun X hl hin T hR e => ?_)⟩
  have T : cOK X E cX2_run RX2 1 (some .int) _ _ _ _ := T
  have hX := T.1
  show cW X _ _ s 0 [(0, .ref x0)] []
  refine cw (k_aload_n hX dX2_run_0 rfl 0 rfl) ?_
  refine cg_X2_21 T h dX2_run_1 (fun v1 h => ?_)
  refine c_br h (k_if_ge (tgt := 14) hX h dX2_run_4 (by decide)) (fun h => ?_) (fun h => ?_)
  · refine cw (k_aload_n hX dX2_run_14 rfl 0 rfl) ?_
    refine cg_X2_21 T h dX2_run_15 (fun v2 h => ?_)
    exact c_ret_ir T e h dX2_run_18
  · refine cw (k_aload_n hX dX2_run_7 rfl 0 rfl) ?_
    refine cX_X2_68 T met_FX2_walk (c_room hR rfl rfl) h rfl dX2_run_8 (fun v3 h => ?_)
    refine cw (k_goto (tgt := 18) hX dX2_run_11 (by decide)) ?_
    exact c_ret_ir T e h dX2_run_18
theorem met_FX2_runs {l : Launch} {E : CE} {s : CS} : ∀ (x0 : Nat) (z : Int32), FX2_runs s x0 = some z → (isK s x0 [2] = true ∧ cMet_i l E yX2_runs (ws_ yX2_runs cX2_runs 1 (some .int)) 0 0 [.ref x0] s z s) := by
  intro x0 z h
  unfold FX2_runs at h
  obtain ⟨hg, h⟩ := gd_of h
  refine ⟨hg, c_met_i ⟨Nat.le_refl _, Nat.le_refl _⟩ (by decide +kernel) rfl (fun X hl hin T hR e => ?_)⟩
  have T : cOK X E cX2_runs RX2 1 (some .int) _ _ _ _ := T
  have hX := T.1
  show cW X _ _ s 0 [(0, .ref x0)] []
  refine cw (k_aload_n hX dX2_runs_0 rfl 0 rfl) ?_
  refine cg_X2_71 T h dX2_runs_1 (fun v1 h => ?_)
  refine c_brn h (k_if_ne (tgt := 14) hX h dX2_runs_4 (by decide)) (fun h => ?_) (fun h => ?_)
  · refine cw (k_iconst (v := 0) hX dX2_runs_14 (by decide)) ?_
    refine cw (k_goto (tgt := 22) hX dX2_runs_15 (by decide)) ?_
    exact c_ret_ir T e h dX2_runs_22
  · refine cw (k_aload_n hX dX2_runs_7 rfl 0 rfl) ?_
    refine cg_X2_27 T h dX2_runs_8 (fun v2 h => ?_)
    refine c_br h (k_if_ge (tgt := 18) hX h dX2_runs_11 (by decide)) (fun h => ?_) (fun h => ?_)
    · refine cw (k_aload_n hX dX2_runs_18 rfl 0 rfl) ?_
      refine cg_X2_27 T h dX2_runs_19 (fun v3 h => ?_)
      exact c_ret_ir T e h dX2_runs_22
    · refine cw (k_iconst (v := 0) hX dX2_runs_14 (by decide)) ?_
      refine cw (k_goto (tgt := 22) hX dX2_runs_15 (by decide)) ?_
      exact c_ret_ir T e h dX2_runs_22
theorem met_FX2_slow {l : Launch} {E : CE} {s : CS} : ∀ (x0 : Nat) (z : Int32), FX2_slow s x0 = some z → (isK s x0 [2] = true ∧ cMet_i l E yX2_slow (ws_ yX2_slow cX2_slow 1 (some .int)) 1 20 [.ref x0] s z s) := by
  intro x0 z h
  unfold FX2_slow at h
  obtain ⟨hg, h⟩ := gd_of h
  refine ⟨hg, c_met_i ⟨Nat.le_refl _, Nat.le_refl _⟩ (by decide +kernel) rfl (fun X hl hin T hR e => ?_)⟩
  have T : cOK X E cX2_slow RX2 1 (some .int) _ _ _ _ := T
  have hX := T.1
  show cW X _ _ s 0 [(0, .ref x0)] []
  refine cw (k_aload_n hX dX2_slow_0 rfl 0 rfl) ?_
  refine cg_X2_24 T h dX2_slow_1 (fun v1 h => ?_)
  refine c_br h (k_if_ge (tgt := 14) hX h dX2_slow_4 (by decide)) (fun h => ?_) (fun h => ?_)
  · refine cw (k_aload_n hX dX2_slow_14 rfl 0 rfl) ?_
    refine cg_X2_24 T h dX2_slow_15 (fun v2 h => ?_)
    exact c_ret_ir T e h dX2_slow_18
  · refine cw (k_aload_n hX dX2_slow_7 rfl 0 rfl) ?_
    refine cX_X2_68 T met_FX2_walk (c_room hR rfl rfl) h rfl dX2_slow_8 (fun v3 h => ?_)
    refine cw (k_goto (tgt := 18) hX dX2_slow_11 (by decide)) ?_
    exact c_ret_ir T e h dX2_slow_18
theorem met_FX0_init {l : Launch} {E : CE} : ∀ (x0 : Nat) (s : CS) (z : CS), FX0_init E.2.2.2 x0 s = some z → cMet_v l E yX0_init (ws_ yX0_init cX0_init 1 none) 8 211 [.ref x0] s z := by
  intro x0 s z h
  unfold FX0_init at h
  obtain ⟨hm, h⟩ := mz_of h
  refine c_met_v hm (by decide +kernel) rfl (fun X hl hin T hR e => ?_)
  have T : cOK X E cX0_init RX0 1 none _ _ _ _ := T
  have hX := T.1
  show cW X _ _ s 0 [(0, .ref x0)] []
  refine cw (k_aload_n hX dX0_init_0 rfl 0 rfl) ?_
  refine cw (k_objInit hX hR q182 q183 q184 rfl dX0_init_1) ?_
  refine cw (k_aload_n hX dX0_init_4 rfl 0 rfl) ?_
  refine cw (k_sipush (v := 1000) hX dX0_init_5 (by decide)) ?_
  refine c_newAb T h dX0_init_8 (fun o1 s2 h => ?_)
  refine cp_X0_21 T hin h dX0_init_10 (fun s3 h => ?_)
  refine cw (k_aload_n hX dX0_init_13 rfl 0 rfl) ?_
  refine c_newO kX1 q185 q186 q137 (nd1 _) T h dX0_init_14 (fun o4 s5 h => ?_)
  refine cw (k_dup hX dX0_init_17 rfl) ?_
  refine cX_X0_27 T met_FX1_init (c_room hR rfl rfl) h rfl dX0_init_18 (fun h => ?_)
  refine cp_X0_28 T hin h dX0_init_21 (fun s7 h => ?_)
  refine cw (k_aload_n hX dX0_init_24 rfl 0 rfl) ?_
  refine c_newO kX2 q217 q218 q138 (nd2 _) T h dX0_init_25 (fun o8 s9 h => ?_)
  refine cw (k_dup hX dX0_init_28 rfl) ?_
  refine cX_X0_34 T met_FX2_init (c_room hR rfl rfl) h rfl dX0_init_29 (fun s10 h => ?_)
  refine cp_X0_35 T h dX0_init_32 (fun s11 h => ?_)
  refine cw (k_aload_n hX dX0_init_35 rfl 0 rfl) ?_
  refine c_newO kX7 q409 q410 q150 (nd7 _) T h dX0_init_36 (fun o12 s13 h => ?_)
  refine cw (k_dup hX dX0_init_39 rfl) ?_
  refine cX_X0_41 T met_FX7_init (c_room hR rfl rfl) h rfl dX0_init_40 (fun s14 h => ?_)
  refine cp_X0_42 T h dX0_init_43 (fun s15 h => ?_)
  refine cw (k_aload_n hX dX0_init_46 rfl 0 rfl) ?_
  refine c_newO kX8 q430 q431 q151 (nd8 _) T h dX0_init_47 (fun o16 s17 h => ?_)
  refine cw (k_dup hX dX0_init_50 rfl) ?_
  refine cX_X0_48 T met_FX8_init (c_room hR rfl rfl) h rfl dX0_init_51 (fun s18 h => ?_)
  refine cp_X0_49 T hin h dX0_init_54 (fun s19 h => ?_)
  refine cw (k_aload_n hX dX0_init_57 rfl 0 rfl) ?_
  refine cw (k_bipush (v := 16) hX dX0_init_58 (by decide)) ?_
  refine c_newQ105 q430 T h dX0_init_60 (fun o20 s21 h => ?_)
  refine cp_X0_53 T hin h dX0_init_63 (fun s22 h => ?_)
  refine cw (k_aload_n hX dX0_init_66 rfl 0 rfl) ?_
  refine cw (k_ldc (v := 64800) hX q487 dX0_init_67) ?_
  refine c_newAi T h dX0_init_69 (fun o23 s24 h => ?_)
  refine cp_X0_58 T hin h dX0_init_71 (fun s25 h => ?_)
  refine cw (k_aload_n hX dX0_init_74 rfl 0 rfl) ?_
  refine cw (k_iconst (v := (-1)) hX dX0_init_75 (by decide)) ?_
  refine cp_X0_62 T h dX0_init_76 (fun s26 h => ?_)
  refine cw (k_aload_n hX dX0_init_79 rfl 0 rfl) ?_
  refine cw (k_sipush (v := 1404) hX dX0_init_80 (by decide)) ?_
  refine c_newAi T h dX0_init_83 (fun o27 s28 h => ?_)
  refine cp_X0_66 T hin h dX0_init_85 (fun s29 h => ?_)
  refine cw (k_aload_n hX dX0_init_88 rfl 0 rfl) ?_
  refine cw (k_ldc (v := 63234) hX q488 dX0_init_89) ?_
  refine c_newAi T h dX0_init_91 (fun o30 s31 h => ?_)
  refine cp_X0_70 T hin h dX0_init_93 (fun s32 h => ?_)
  refine cw (k_aload_n hX dX0_init_96 rfl 0 rfl) ?_
  refine cw (k_ldc (v := 163940) hX q489 dX0_init_97) ?_
  refine c_newAi T h dX0_init_99 (fun o33 s34 h => ?_)
  refine cp_X0_74 T hin h dX0_init_101 (fun s35 h => ?_)
  refine cw (k_aload_n hX dX0_init_104 rfl 0 rfl) ?_
  refine cw (k_sipush (v := 240) hX dX0_init_105 (by decide)) ?_
  refine c_newAl T h dX0_init_108 (fun o36 s37 h => ?_)
  refine cp_X0_77 T hin h dX0_init_110 (fun s38 h => ?_)
  refine cw (k_aload_n hX dX0_init_113 rfl 0 rfl) ?_
  refine cw (k_sipush (v := 240) hX dX0_init_114 (by decide)) ?_
  refine c_newAl T h dX0_init_117 (fun o39 s40 h => ?_)
  refine cp_X0_81 T hin h dX0_init_119 (fun s41 h => ?_)
  refine cw (k_aload_n hX dX0_init_122 rfl 0 rfl) ?_
  refine cw (k_iconst (v := 4) hX dX0_init_123 (by decide)) ?_
  refine c_newAi T h dX0_init_124 (fun o42 s43 h => ?_)
  refine cp_X0_84 T hin h dX0_init_126 (fun s44 h => ?_)
  refine cw (k_aload_n hX dX0_init_129 rfl 0 rfl) ?_
  refine cw (k_iconst (v := 4) hX dX0_init_130 (by decide)) ?_
  refine c_newAi T h dX0_init_131 (fun o45 s46 h => ?_)
  refine cp_X0_87 T hin h dX0_init_133 (fun s47 h => ?_)
  refine cw (k_aload_n hX dX0_init_136 rfl 0 rfl) ?_
  refine cw (k_bipush (v := 54) hX dX0_init_137 (by decide)) ?_
  refine c_newAi T h dX0_init_139 (fun o48 s49 h => ?_)
  refine cp_X0_90 T hin h dX0_init_141 (fun s50 h => ?_)
  refine cw (k_aload_n hX dX0_init_144 rfl 0 rfl) ?_
  refine cw (k_iconst (v := 4) hX dX0_init_145 (by decide)) ?_
  refine c_newQ105 q430 T h dX0_init_146 (fun o51 s52 h => ?_)
  refine cp_X0_93 T hin h dX0_init_149 (fun s53 h => ?_)
  exact c_ret_v T e h dX0_init_152
theorem met_FX0_better {l : Launch} {E : CE} {s : CS} : ∀ (x0 : Nat) (x1 : Int32) (x2 : Int32) (z : Int32), FX0_better s x0 x1 x2 = some z → (isK s x0 [0] = true ∧ cMet_i l E yX0_better (ws_ yX0_better cX0_better 3 (some .int)) 0 0 [.ref x0, .int x1, .int x2] s z s) := by
  intro x0 x1 x2 z h
  unfold FX0_better at h
  obtain ⟨hg, h⟩ := gd_of h
  refine ⟨hg, c_met_i ⟨Nat.le_refl _, Nat.le_refl _⟩ (by decide +kernel) rfl (fun X hl hin T hR e => ?_)⟩
  have T : cOK X E cX0_better RX0 3 (some .int) _ _ _ _ := T
  have hX := T.1
  show cW X _ _ s 0 [(0, .ref x0), (1, .int x1), (2, .int x2)] []
  refine cw (k_iload_n hX dX0_better_0 rfl 1 rfl) ?_
  refine c_br h (k_if_lt (tgt := 13) hX h dX0_better_1 (by decide)) (fun h => ?_) (fun h => ?_)
  · refine cw (k_iconst (v := 1) hX dX0_better_13 (by decide)) ?_
    refine cw (k_goto (tgt := 18) hX dX0_better_14 (by decide)) ?_
    exact c_ret_ir T e h dX0_better_18
  · refine cw (k_iload_n hX dX0_better_4 rfl 2 rfl) ?_
    refine c_br h (k_if_lt (tgt := 17) hX h dX0_better_5 (by decide)) (fun h => ?_) (fun h => ?_)
    · refine cw (k_iconst (v := 0) hX dX0_better_17 (by decide)) ?_
      exact c_ret_ir T e h dX0_better_18
    · refine cw (k_iload_n hX dX0_better_8 rfl 2 rfl) ?_
      refine cw (k_iload_n hX dX0_better_9 rfl 1 rfl) ?_
      refine c_br h (k_icmp_ge (tgt := 17) hX h dX0_better_10 (by decide)) (fun h => ?_) (fun h => ?_)
      · refine cw (k_iconst (v := 0) hX dX0_better_17 (by decide)) ?_
        exact c_ret_ir T e h dX0_better_18
      · refine cw (k_iconst (v := 1) hX dX0_better_13 (by decide)) ?_
        refine cw (k_goto (tgt := 18) hX dX0_better_14 (by decide)) ?_
        exact c_ret_ir T e h dX0_better_18
theorem met_FX0_scale {l : Launch} {E : CE} {s : CS} : ∀ (x0 : Nat) (z : Int32), FX0_scale s x0 = some z → (isK s x0 [0] = true ∧ cMet_i l E yX0_scale (ws_ yX0_scale cX0_scale 1 (some .int)) 0 0 [.ref x0] s z s) := by
  intro x0 z h
  unfold FX0_scale at h
  obtain ⟨hg, h⟩ := gd_of h
  refine ⟨hg, c_met_i ⟨Nat.le_refl _, Nat.le_refl _⟩ (by decide +kernel) rfl (fun X hl hin T hR e => ?_)⟩
  have T : cOK X E cX0_scale RX0 1 (some .int) _ _ _ _ := T
  have hX := T.1
  show cW X _ _ s 0 [(0, .ref x0)] []
  refine cw (k_aload_n hX dX0_scale_0 rfl 0 rfl) ?_
  refine cg_X0_237 T h dX0_scale_1 (fun v1 h => ?_)
  refine c_br h (k_if_eq (tgt := 11) hX h dX0_scale_4 (by decide)) (fun h => ?_) (fun h => ?_)
  · refine cw (k_sipush (v := 1000) hX dX0_scale_11 (by decide)) ?_
    exact c_ret_ir T e h dX0_scale_14
  · refine cw (k_iconst (v := 1) hX dX0_scale_7 (by decide)) ?_
    refine cw (k_goto (tgt := 14) hX dX0_scale_8 (by decide)) ?_
    exact c_ret_ir T e h dX0_scale_14
theorem met_FX0_takesAt {l : Launch} {E : CE} {s : CS} : ∀ (x0 : Nat) (x1 : Int32) (x2 : Int32) (x3 : Int32) (z : Int32), FX0_takesAt s x0 x1 x2 x3 = some z → (isK s x0 [0] = true ∧ cMet_i l E yX0_takesAt (ws_ yX0_takesAt cX0_takesAt 4 (some .int)) 0 0 [.ref x0, .int x1, .int x2, .int x3] s z s) := by
  intro x0 x1 x2 x3 z h
  unfold FX0_takesAt at h
  obtain ⟨hg, h⟩ := gd_of h
  refine ⟨hg, c_met_i ⟨Nat.le_refl _, Nat.le_refl _⟩ (by decide +kernel) rfl (fun X hl hin T hR e => ?_)⟩
  have T : cOK X E cX0_takesAt RX0 4 (some .int) _ _ _ _ := T
  have hX := T.1
  show cW X _ _ s 0 [(0, .ref x0), (1, .int x1), (2, .int x2), (3, .int x3)] []
  refine cw (k_aload_n hX dX0_takesAt_0 rfl 0 rfl) ?_
  refine cg_X0_58 T h dX0_takesAt_1 (fun r1 h => ?_)
  refine cw (k_iload_n hX dX0_takesAt_4 rfl 2 rfl) ?_
  refine cw (k_bipush (v := 6) hX dX0_takesAt_5 (by decide)) ?_
  refine cw (k_imul hX dX0_takesAt_7) ?_
  refine cw (k_iload_n hX dX0_takesAt_8 rfl 1 rfl) ?_
  refine cw (k_iadd hX dX0_takesAt_9) ?_
  refine cw (k_sipush (v := 1200) hX dX0_takesAt_10 (by decide)) ?_
  refine cw (k_imul hX dX0_takesAt_13) ?_
  refine cw (k_iload_n hX dX0_takesAt_14 rfl 3 rfl) ?_
  refine cw (k_aload_n hX dX0_takesAt_15 rfl 0 rfl) ?_
  refine cg_X0_35 T h dX0_takesAt_16 (fun r2 h => ?_)
  obtain ⟨p3, e_p3, hq_p3⟩ := nn_of h
  subst e_p3
  have h := hq_p3
  show cW X _ _ _ 19 [(0, .ref x0), (1, .int x1), (2, .int x2), (3, .int x3)] [.ref p3, .int x3, .int (((x2 * 6) + x1) * 1200), va_rf r1]
  refine cg_X0_241 T h dX0_takesAt_19 (fun v4 h => ?_)
  refine c_d32 h (k_irem hX h dX0_takesAt_22) (fun h => ?_)
  refine cw (k_iadd hX dX0_takesAt_23) ?_
  obtain ⟨p5, e_p5, hq_p5⟩ := nn_of h
  subst e_p5
  have h := hq_p5
  show cW X _ _ _ 24 [(0, .ref x0), (1, .int x1), (2, .int x2), (3, .int x3)] [.int ((((x2 * 6) + x1) * 1200) + (rem32 x3 v4)), .ref p5]
  refine ca_ild T h dX0_takesAt_24 (fun v6 h => ?_)
  exact c_ret_ir T e h dX0_takesAt_25
theorem FX0_by_b42_ok {X : KC CS} {E : CE} {z : Int32} {z0 l0 z1 l1 : Nat} {s : CS} (T : cOK X E cX0_by RX0 8 (some .int) z0 l0 z1 l1) (hR : cRoom X 1 23) (e : cE_i X E z0 l0 z1 l1 z s) {x0 : Nat} {x4 : Int32} {x6 : Int32} {s_0 : Int32} {s_1 : Int32} {s_2 : Nat} (h : FX0_by_b42 s x0 x4 x6 s_0 s_1 s_2 = some z) : cW X z1 l1 s 42 [(0, .ref x0), (4, .int x4), (6, .int x6)] [.int s_0, .int s_1, .ref s_2] := by
  unfold FX0_by_b42 at h
  have hX := T.1
  refine cw (k_iload hX dX0_by_42 1 rfl) ?_
  refine cw (k_iload hX dX0_by_44 2 rfl) ?_
  refine cw (k_iadd hX dX0_by_46) ?_
  refine cX_X0_244 T met_FX0_takesAt (c_room hR rfl rfl) h rfl dX0_by_47 (fun v1 h => ?_)
  refine cw (k_istore [(7, .int v1), (0, .ref x0), (4, .int x4), (6, .int x6)] hX dX0_by_50 rfl rfl) ?_
  refine cw (k_iload hX dX0_by_52 0 rfl) ?_
  refine c_br h (k_if_ge (tgt := 61) hX h dX0_by_54 (by decide)) (fun h => ?_) (fun h => ?_)
  · refine cw (k_iload hX dX0_by_61 3 rfl) ?_
    refine cw (k_aload_n hX dX0_by_63 rfl 1 rfl) ?_
    refine cX_X0_248 T met_FX0_scale (c_room hR rfl rfl) h rfl dX0_by_64 (fun v2 h => ?_)
    refine cw (k_imul hX dX0_by_67) ?_
    refine cw (k_iload hX dX0_by_68 0 rfl) ?_
    refine cw (k_iadd hX dX0_by_70) ?_
    exact c_ret_ir T e h dX0_by_71
  · refine cw (k_iconst (v := (-1)) hX dX0_by_57 (by decide)) ?_
    refine cw (k_goto (tgt := 71) hX dX0_by_58 (by decide)) ?_
    exact c_ret_ir T e h dX0_by_71
theorem FX0_by_b31_ok {X : KC CS} {E : CE} {z : Int32} {z0 l0 z1 l1 : Nat} {s : CS} (T : cOK X E cX0_by RX0 8 (some .int) z0 l0 z1 l1) (hR : cRoom X 1 23) (e : cE_i X E z0 l0 z1 l1 z s) {x0 : Nat} {x2 : Int32} {x3 : Int32} {x4 : Int32} {x6 : Int32} {s_0 : Int32} {s_1 : Nat} (h : FX0_by_b31 s x0 x2 x3 x4 x6 s_0 s_1 = some z) : cW X z1 l1 s 31 [(0, .ref x0), (2, .int x2), (3, .int x3), (4, .int x4), (6, .int x6)] [.int s_0, .ref s_1] := by
  unfold FX0_by_b31 at h
  have hX := T.1
  refine cw (k_iload_n hX dX0_by_31 rfl 2 rfl) ?_
  refine c_brn h (k_if_ne (tgt := 39) hX h dX0_by_32 (by decide)) (fun h => ?_) (fun h => ?_)
  · refine cw (k_iload_n hX dX0_by_39 rfl 1 rfl) ?_
    refine cw (k_iconst (v := 1) hX dX0_by_40 (by decide)) ?_
    refine cw (k_iadd hX dX0_by_41) ?_
    refine cw (k_lv (lv' := [(0, .ref x0), (4, .int x4), (6, .int x6)]) [0, 3, 4] rfl) ?_
    exact FX0_by_b42_ok T hR e h
  · refine cw (k_iload_n hX dX0_by_35 rfl 1 rfl) ?_
    refine cw (k_goto (tgt := 42) hX dX0_by_36 (by decide)) ?_
    refine cw (k_lv (lv' := [(0, .ref x0), (4, .int x4), (6, .int x6)]) [0, 3, 4] rfl) ?_
    exact FX0_by_b42_ok T hR e h
theorem met_FX0_by {l : Launch} {E : CE} {s : CS} : ∀ (x0 : Nat) (x1 : Int32) (x2 : Int32) (x3 : Int32) (x4 : Int32) (x5 : Int32) (z : Int32), FX0_by s x0 x1 x2 x3 x4 x5 = some z → (isK s x0 [0] = true ∧ cMet_i l E yX0_by (ws_ yX0_by cX0_by 8 (some .int)) 1 23 [.ref x0, .int x1, .int x2, .int x3, .int x4, .int x5] s z s) := by
  intro x0 x1 x2 x3 x4 x5 z h
  unfold FX0_by at h
  obtain ⟨hg, h⟩ := gd_of h
  refine ⟨hg, c_met_i ⟨Nat.le_refl _, Nat.le_refl _⟩ (by decide +kernel) rfl (fun X hl hin T hR e => ?_)⟩
  have T : cOK X E cX0_by RX0 8 (some .int) _ _ _ _ := T
  have hX := T.1
  show cW X _ _ s 0 [(0, .ref x0), (1, .int x1), (2, .int x2), (3, .int x3), (4, .int x4), (5, .int x5)] []
  refine cw (k_iload hX dX0_by_0 5 rfl) ?_
  refine c_br h (k_if_ge (tgt := 7) hX h dX0_by_2 (by decide)) (fun h => ?_) (fun h => ?_)
  · refine cw (k_iload hX dX0_by_7 5 rfl) ?_
    refine cw (k_aload_n hX dX0_by_9 rfl 0 rfl) ?_
    refine cg_X0_35 T h dX0_by_10 (fun r1 h => ?_)
    obtain ⟨p2, e_p2, hq_p2⟩ := nn_of h
    subst e_p2
    have h := hq_p2
    show cW X _ _ _ 13 [(0, .ref x0), (1, .int x1), (2, .int x2), (3, .int x3), (4, .int x4), (5, .int x5)] [.ref p2, .int x5]
    refine cX_X0_217 T met_FX2_walk (c_room hR rfl rfl) h rfl dX0_by_13 (fun v3 h => ?_)
    refine cw (k_iadd hX dX0_by_16) ?_
    refine c_nm h (fun v4 h => ?_)
    refine cw (k_istore [(6, .int v4), (0, .ref x0), (1, .int x1), (2, .int x2), (3, .int x3), (4, .int x4), (5, .int x5)] hX dX0_by_17 rfl rfl) ?_
    refine cw (k_aload_n hX dX0_by_19 rfl 1 rfl) ?_
    refine cw (k_iload_n hX dX0_by_20 rfl 4 rfl) ?_
    refine c_brn h (k_if_ne (tgt := 30) hX h dX0_by_21 (by decide)) (fun h => ?_) (fun h => ?_)
    · refine cw (k_iload_n hX dX0_by_30 rfl 2 rfl) ?_
      refine cw (k_lv (lv' := [(0, .ref x0), (2, .int x2), (3, .int x3), (4, .int x4), (6, .int v4)]) [1, 3, 4, 5, 0] rfl) ?_
      exact FX0_by_b31_ok T hR e h
    · refine cw (k_iload_n hX dX0_by_24 rfl 2 rfl) ?_
      refine cw (k_iconst (v := 1) hX dX0_by_25 (by decide)) ?_
      refine cw (k_iadd hX dX0_by_26) ?_
      refine cw (k_goto (tgt := 31) hX dX0_by_27 (by decide)) ?_
      refine cw (k_lv (lv' := [(0, .ref x0), (2, .int x2), (3, .int x3), (4, .int x4), (6, .int v4)]) [1, 3, 4, 5, 0] rfl) ?_
      exact FX0_by_b31_ok T hR e h
  · refine cw (k_iconst (v := (-1)) hX dX0_by_5 (by decide)) ?_
    exact c_ret_ir T e h dX0_by_6
theorem met_FX0_isSecond {l : Launch} {E : CE} {s : CS} : ∀ (x0 : Int32) (z : Int32), FX0_isSecond s x0 = some z → cMet_i l E yX0_isSecond (ws_ yX0_isSecond cX0_isSecond 1 (some .boolean)) 1 22 [.int x0] s z s := by
  intro x0 z h
  unfold FX0_isSecond at h
  refine c_met_i ⟨Nat.le_refl _, Nat.le_refl _⟩ (by decide +kernel) rfl (fun X hl hin T hR e => ?_)
  have T : cOK X E cX0_isSecond RX0 1 (some .boolean) _ _ _ _ := T
  have hX := T.1
  show cW X _ _ s 0 [(0, .int x0)] []
  refine cw (k_iload_n hX dX0_isSecond_0 rfl 0 rfl) ?_
  refine cw (k_iconst (v := 0) hX dX0_isSecond_1 (by decide)) ?_
  refine cw (k_ldc (v := 1000000) hX q1237 dX0_isSecond_2) ?_
  refine cX_X0_127 T met_FX0_in (c_room hR rfl rfl) h rfl dX0_isSecond_4 (fun v1 h => ?_)
  exact c_ret_zr T e h dX0_isSecond_7
theorem met_FX0_isAsked {l : Launch} {E : CE} {s : CS} : ∀ (x0 : Nat) (x1 : Int32) (x2 : Int32) (x3 : Int32) (z : Int32), FX0_isAsked s x0 x1 x2 x3 = some z → (isK s x0 [0] = true ∧ cMet_i l E yX0_isAsked (ws_ yX0_isAsked cX0_isAsked 4 (some .boolean)) 2 44 [.ref x0, .int x1, .int x2, .int x3] s z s) := by
  intro x0 x1 x2 x3 z h
  unfold FX0_isAsked at h
  obtain ⟨hg, h⟩ := gd_of h
  refine ⟨hg, c_met_i ⟨Nat.le_refl _, Nat.le_refl _⟩ (by decide +kernel) rfl (fun X hl hin T hR e => ?_)⟩
  have T : cOK X E cX0_isAsked RX0 4 (some .boolean) _ _ _ _ := T
  have hX := T.1
  show cW X _ _ s 0 [(0, .ref x0), (1, .int x1), (2, .int x2), (3, .int x3)] []
  refine cw (k_aload_n hX dX0_isAsked_0 rfl 0 rfl) ?_
  refine cg_X0_35 T h dX0_isAsked_1 (fun r1 h => ?_)
  refine cw (k_iload_n hX dX0_isAsked_4 rfl 1 rfl) ?_
  refine cw (k_iload_n hX dX0_isAsked_5 rfl 2 rfl) ?_
  obtain ⟨p2, e_p2, hq_p2⟩ := nn_of h
  subst e_p2
  have h := hq_p2
  show cW X _ _ _ 6 [(0, .ref x0), (1, .int x1), (2, .int x2), (3, .int x3)] [.int x2, .int x1, .ref p2]
  refine cX_X0_149 T met_FX2_isCorner (c_room hR rfl rfl) h rfl dX0_isAsked_6 (fun v3 h => ?_)
  refine c_br h (k_if_eq (tgt := 23) hX h dX0_isAsked_9 (by decide)) (fun h => ?_) (fun h => ?_)
  · refine cw (k_iconst (v := 0) hX dX0_isAsked_23 (by decide)) ?_
    exact c_ret_zrc T e rfl h dX0_isAsked_24
  · refine cw (k_iload_n hX dX0_isAsked_12 rfl 3 rfl) ?_
    refine cX_X0_173 T met_FX0_isSecond (c_room hR rfl rfl) h rfl dX0_isAsked_13 (fun v4 h => ?_)
    refine c_br h (k_if_eq (tgt := 23) hX h dX0_isAsked_16 (by decide)) (fun h => ?_) (fun h => ?_)
    · refine cw (k_iconst (v := 0) hX dX0_isAsked_23 (by decide)) ?_
      exact c_ret_zrc T e rfl h dX0_isAsked_24
    · refine cw (k_iconst (v := 1) hX dX0_isAsked_19 (by decide)) ?_
      refine cw (k_goto (tgt := 24) hX dX0_isAsked_20 (by decide)) ?_
      exact c_ret_zrc T e rfl h dX0_isAsked_24
theorem met_FX0_isHome {l : Launch} {E : CE} {s : CS} : ∀ (x0 : Nat) (x1 : Int32) (x2 : Int32) (z : Int32), FX0_isHome s x0 x1 x2 = some z → (isK s x0 [0] = true ∧ cMet_i l E yX0_isHome (ws_ yX0_isHome cX0_isHome 3 (some .boolean)) 0 0 [.ref x0, .int x1, .int x2] s z s) := by
  intro x0 x1 x2 z h
  unfold FX0_isHome at h
  obtain ⟨hg, h⟩ := gd_of h
  refine ⟨hg, c_met_i ⟨Nat.le_refl _, Nat.le_refl _⟩ (by decide +kernel) rfl (fun X hl hin T hR e => ?_)⟩
  have T : cOK X E cX0_isHome RX0 3 (some .boolean) _ _ _ _ := T
  have hX := T.1
  show cW X _ _ s 0 [(0, .ref x0), (1, .int x1), (2, .int x2)] []
  refine cw (k_iload_n hX dX0_isHome_0 rfl 1 rfl) ?_
  refine cw (k_aload_n hX dX0_isHome_1 rfl 0 rfl) ?_
  refine cg_X0_35 T h dX0_isHome_2 (fun r1 h => ?_)
  obtain ⟨p2, e_p2, hq_p2⟩ := nn_of h
  subst e_p2
  have h := hq_p2
  show cW X _ _ _ 5 [(0, .ref x0), (1, .int x1), (2, .int x2)] [.ref p2, .int x1]
  refine cg_X0_131 T h dX0_isHome_5 (fun v3 h => ?_)
  refine cw (k_iconst (v := 1) hX dX0_isHome_8 (by decide)) ?_
  refine cw (k_isub hX dX0_isHome_9) ?_
  refine c_brn h (k_icmp_ne (tgt := 30) hX h dX0_isHome_10 (by decide)) (fun h => ?_) (fun h => ?_)
  · refine cw (k_iconst (v := 0) hX dX0_isHome_30 (by decide)) ?_
    exact c_ret_zrc T e rfl h dX0_isHome_31
  · refine cw (k_iload_n hX dX0_isHome_13 rfl 2 rfl) ?_
    refine cw (k_aload_n hX dX0_isHome_14 rfl 0 rfl) ?_
    refine cg_X0_35 T h dX0_isHome_15 (fun r4 h => ?_)
    obtain ⟨p5, e_p5, hq_p5⟩ := nn_of h
    subst e_p5
    have h := hq_p5
    show cW X _ _ _ 18 [(0, .ref x0), (1, .int x1), (2, .int x2)] [.ref p5, .int x2]
    refine cg_X0_134 T h dX0_isHome_18 (fun v6 h => ?_)
    refine cw (k_iconst (v := 1) hX dX0_isHome_21 (by decide)) ?_
    refine cw (k_isub hX dX0_isHome_22) ?_
    refine c_brn h (k_icmp_ne (tgt := 30) hX h dX0_isHome_23 (by decide)) (fun h => ?_) (fun h => ?_)
    · refine cw (k_iconst (v := 0) hX dX0_isHome_30 (by decide)) ?_
      exact c_ret_zrc T e rfl h dX0_isHome_31
    · refine cw (k_iconst (v := 1) hX dX0_isHome_26 (by decide)) ?_
      refine cw (k_goto (tgt := 31) hX dX0_isHome_27 (by decide)) ?_
      exact c_ret_zrc T e rfl h dX0_isHome_31
