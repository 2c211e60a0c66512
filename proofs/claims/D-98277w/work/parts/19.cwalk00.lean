/-! THE COMPONENT's walks and contracts (printed by gen/gen_c.py) -/
set_option maxRecDepth 100000
theorem met_FX3_init {l : Launch} {E : CE} {s : CS} : ∀ (x0 : Nat) (z : Unit), FX3_init s x0 = some z → cMet_v l E yX3_init (ws_ yX3_init cX3_init 1 none) 1 40 [.ref x0] s s := by
  intro x0 z h
  unfold FX3_init at h
  refine c_met_v ⟨Nat.le_refl _, Nat.le_refl _⟩ (by decide +kernel) rfl (fun X hl hin T hR e => ?_)
  have T : cOK X E cX3_init RX3 1 none _ _ _ _ := T
  have hX := T.1
  show cW X _ _ s 0 [(0, .ref x0)] []
  refine cw (k_aload_n hX dX3_init_0 rfl 0 rfl) ?_
  refine cw (k_objInit hX hR q262 q183 q184 rfl dX3_init_1) ?_
  exact c_ret_vr (z := ()) T e dX3_init_4
theorem met_FX6_init {l : Launch} {E : CE} {s : CS} : ∀ (x0 : Nat) (z : Unit), FX6_init s x0 = some z → cMet_v l E yX6_init (ws_ yX6_init cX6_init 1 none) 2 60 [.ref x0] s s := by
  intro x0 z h
  unfold FX6_init at h
  refine c_met_v ⟨Nat.le_refl _, Nat.le_refl _⟩ (by decide +kernel) rfl (fun X hl hin T hR e => ?_)
  have T : cOK X E cX6_init RX6 1 none _ _ _ _ := T
  have hX := T.1
  show cW X _ _ s 0 [(0, .ref x0)] []
  refine cw (k_aload_n hX dX6_init_0 rfl 0 rfl) ?_
  refine cX_X6_3 T met_FX3_init (c_room hR rfl rfl) h rfl dX6_init_1 (fun h => ?_)
  exact c_ret_vr (z := ()) T e dX6_init_4
theorem met_FX6_isBest {l : Launch} {E : CE} {s : CS} : ∀ (x0 : Nat) (z : Int32), FX6_isBest s x0 = some z → (isK s x0 [6] = true ∧ cMet_i l E yX6_isBest (ws_ yX6_isBest cX6_isBest 1 (some .boolean)) 0 0 [.ref x0] s z s) := by
  intro x0 z h
  unfold FX6_isBest at h
  obtain ⟨hg, h⟩ := gd_of h
  refine ⟨hg, c_met_i ⟨Nat.le_refl _, Nat.le_refl _⟩ (by decide +kernel) rfl (fun X hl hin T hR e => ?_)⟩
  have T : cOK X E cX6_isBest RX6 1 (some .boolean) _ _ _ _ := T
  have hX := T.1
  show cW X _ _ s 0 [(0, .ref x0)] []
  refine cw (k_iconst (v := 1) hX dX6_isBest_0 (by decide)) ?_
  exact c_ret_zrc T e rfl h dX6_isBest_1
theorem met_FX6_way {l : Launch} {E : CE} {s : CS} : ∀ (x0 : Nat) (x1 : Int32) (x2 : Int32) (x3 : Int32) (x4 : Int32) (z : Int32), FX6_way s x0 x1 x2 x3 x4 = some z → (isK s x0 [6] = true ∧ cMet_i l E yX6_way (ws_ yX6_way cX6_way 5 (some .int)) 0 0 [.ref x0, .int x1, .int x2, .int x3, .int x4] s z s) := by
  intro x0 x1 x2 x3 x4 z h
  unfold FX6_way at h
  obtain ⟨hg, h⟩ := gd_of h
  refine ⟨hg, c_met_i ⟨Nat.le_refl _, Nat.le_refl _⟩ (by decide +kernel) rfl (fun X hl hin T hR e => ?_)⟩
  have T : cOK X E cX6_way RX6 5 (some .int) _ _ _ _ := T
  have hX := T.1
  show cW X _ _ s 0 [(0, .ref x0), (1, .int x1), (2, .int x2), (3, .int x3), (4, .int x4)] []
  refine cw (k_iconst (v := 0) hX dX6_way_0 (by decide)) ?_
  exact c_ret_ir T e h dX6_way_1
theorem met_FX11_init {l : Launch} {E : CE} : ∀ (x0 : Nat) (x1 : Int32) (x2 : Int32) (x3 : Int32) (s : CS) (z : CS), FX11_init x0 x1 x2 x3 s = some z → cMet_v l E yX11_init (ws_ yX11_init cX11_init 4 none) 1 40 [.ref x0, .int x1, .int x2, .int x3] s z := by
  intro x0 x1 x2 x3 s z h
  unfold FX11_init at h
  obtain ⟨hm, h⟩ := mz_of h
  refine c_met_v hm (by decide +kernel) rfl (fun X hl hin T hR e => ?_)
  have T : cOK X E cX11_init RX11 4 none _ _ _ _ := T
  have hX := T.1
  show cW X _ _ s 0 [(0, .ref x0), (1, .int x1), (2, .int x2), (3, .int x3)] []
  refine cw (k_aload_n hX dX11_init_0 rfl 0 rfl) ?_
  refine cw (k_objInit hX hR q855 q183 q184 rfl dX11_init_1) ?_
  refine cw (k_aload_n hX dX11_init_4 rfl 0 rfl) ?_
  refine cw (k_iload_n hX dX11_init_5 rfl 1 rfl) ?_
  refine cp_X11_7 T hin h dX11_init_6 (fun s1 h => ?_)
  refine cw (k_aload_n hX dX11_init_9 rfl 0 rfl) ?_
  refine cw (k_iload_n hX dX11_init_10 rfl 2 rfl) ?_
  refine cp_X11_13 T hin h dX11_init_11 (fun s2 h => ?_)
  refine cw (k_aload_n hX dX11_init_14 rfl 0 rfl) ?_
  refine cw (k_iload_n hX dX11_init_15 rfl 3 rfl) ?_
  refine cp_X11_16 T hin h dX11_init_16 (fun s3 h => ?_)
  exact c_ret_v T e h dX11_init_19
theorem met_FX14_init {l : Launch} {E : CE} : ∀ (x0 : Nat) (x1 : Int32) (x2 : Int32) (x3 : Int32) (s : CS) (z : CS), FX14_init x0 x1 x2 x3 s = some z → cMet_v l E yX14_init (ws_ yX14_init cX14_init 4 none) 2 63 [.ref x0, .int x1, .int x2, .int x3] s z := by
  intro x0 x1 x2 x3 s z h
  unfold FX14_init at h
  obtain ⟨hm, h⟩ := mz_of h
  refine c_met_v hm (by decide +kernel) rfl (fun X hl hin T hR e => ?_)
  have T : cOK X E cX14_init RX14 4 none _ _ _ _ := T
  have hX := T.1
  show cW X _ _ s 0 [(0, .ref x0), (1, .int x1), (2, .int x2), (3, .int x3)] []
  refine cw (k_aload_n hX dX14_init_0 rfl 0 rfl) ?_
  refine cw (k_iload_n hX dX14_init_1 rfl 1 rfl) ?_
  refine cw (k_iload_n hX dX14_init_2 rfl 2 rfl) ?_
  refine cw (k_iload_n hX dX14_init_3 rfl 3 rfl) ?_
  refine cX_X14_3 T met_FX11_init (c_room hR rfl rfl) h rfl dX14_init_4 (fun s1 h => ?_)
  exact c_ret_v T e h dX14_init_7
theorem met_FX14_isButton {l : Launch} {E : CE} {s : CS} : ∀ (x0 : Nat) (z : Int32), FX14_isButton s x0 = some z → (isK s x0 [14] = true ∧ cMet_i l E yX14_isButton (ws_ yX14_isButton cX14_isButton 1 (some .boolean)) 0 0 [.ref x0] s z s) := by
  intro x0 z h
  unfold FX14_isButton at h
  obtain ⟨hg, h⟩ := gd_of h
  refine ⟨hg, c_met_i ⟨Nat.le_refl _, Nat.le_refl _⟩ (by decide +kernel) rfl (fun X hl hin T hR e => ?_)⟩
  have T : cOK X E cX14_isButton RX14 1 (some .boolean) _ _ _ _ := T
  have hX := T.1
  show cW X _ _ s 0 [(0, .ref x0)] []
  refine cw (k_iconst (v := 1) hX dX14_isButton_0 (by decide)) ?_
  exact c_ret_zrc T e rfl h dX14_isButton_1
theorem met_FX14_kind {l : Launch} {E : CE} {s : CS} : ∀ (x0 : Nat) (z : Int32), FX14_kind s x0 = some z → (isK s x0 [14] = true ∧ cMet_i l E yX14_kind (ws_ yX14_kind cX14_kind 1 (some .int)) 0 0 [.ref x0] s z s) := by
  intro x0 z h
  unfold FX14_kind at h
  obtain ⟨hg, h⟩ := gd_of h
  refine ⟨hg, c_met_i ⟨Nat.le_refl _, Nat.le_refl _⟩ (by decide +kernel) rfl (fun X hl hin T hR e => ?_)⟩
  have T : cOK X E cX14_kind RX14 1 (some .int) _ _ _ _ := T
  have hX := T.1
  show cW X _ _ s 0 [(0, .ref x0)] []
  refine cw (k_iconst (v := 2) hX dX14_kind_0 (by decide)) ?_
  exact c_ret_ir T e h dX14_kind_1
theorem met_FX14_waits {l : Launch} {E : CE} {s : CS} : ∀ (x0 : Nat) (x1 : Int32) (x2 : Int32) (z : Int32), FX14_waits s x0 x1 x2 = some z → (isK s x0 [14] = true ∧ cMet_i l E yX14_waits (ws_ yX14_waits cX14_waits 3 (some .int)) 0 0 [.ref x0, .int x1, .int x2] s z s) := by
  intro x0 x1 x2 z h
  unfold FX14_waits at h
  obtain ⟨hg, h⟩ := gd_of h
  refine ⟨hg, c_met_i ⟨Nat.le_refl _, Nat.le_refl _⟩ (by decide +kernel) rfl (fun X hl hin T hR e => ?_)⟩
  have T : cOK X E cX14_waits RX14 3 (some .int) _ _ _ _ := T
  have hX := T.1
  show cW X _ _ s 0 [(0, .ref x0), (1, .int x1), (2, .int x2)] []
  refine cw (k_iload_n hX dX14_waits_0 rfl 1 rfl) ?_
  refine c_brn h (k_if_ne (tgt := 11) hX h dX14_waits_1 (by decide)) (fun h => ?_) (fun h => ?_)
  · refine cw (k_iconst (v := 0) hX dX14_waits_11 (by decide)) ?_
    exact c_ret_ir T e h dX14_waits_12
  · refine cw (k_aload_n hX dX14_waits_4 rfl 0 rfl) ?_
    refine cg_X14_9 T h dX14_waits_5 (fun v1 h => ?_)
    refine cw (k_goto (tgt := 12) hX dX14_waits_8 (by decide)) ?_
    exact c_ret_ir T e h dX14_waits_12
theorem met_FX17_init {l : Launch} {E : CE} {s : CS} : ∀ (x0 : Nat) (z : Unit), FX17_init s x0 = some z → cMet_v l E yX17_init (ws_ yX17_init cX17_init 1 none) 1 40 [.ref x0] s s := by
  intro x0 z h
  unfold FX17_init at h
  refine c_met_v ⟨Nat.le_refl _, Nat.le_refl _⟩ (by decide +kernel) rfl (fun X hl hin T hR e => ?_)
  have T : cOK X E cX17_init RX17 1 none _ _ _ _ := T
  have hX := T.1
  show cW X _ _ s 0 [(0, .ref x0)] []
  refine cw (k_aload_n hX dX17_init_0 rfl 0 rfl) ?_
  refine cw (k_objInit hX hR q1121 q183 q184 rfl dX17_init_1) ?_
  exact c_ret_vr (z := ()) T e dX17_init_4
theorem met_FX19_init {l : Launch} {E : CE} : ∀ (x0 : Nat) (x1 : Int32) (s : CS) (z : CS), FX19_init x0 x1 s = some z → cMet_v l E yX19_init (ws_ yX19_init cX19_init 2 none) 2 60 [.ref x0, .int x1] s z := by
  intro x0 x1 s z h
  unfold FX19_init at h
  obtain ⟨hm, h⟩ := mz_of h
  refine c_met_v hm (by decide +kernel) rfl (fun X hl hin T hR e => ?_)
  have T : cOK X E cX19_init RX19 2 none _ _ _ _ := T
  have hX := T.1
  show cW X _ _ s 0 [(0, .ref x0), (1, .int x1)] []
  refine cw (k_aload_n hX dX19_init_0 rfl 0 rfl) ?_
  refine cX_X19_1 T met_FX17_init (c_room hR rfl rfl) h rfl dX19_init_1 (fun h => ?_)
  refine cw (k_aload_n hX dX19_init_4 rfl 0 rfl) ?_
  refine cw (k_iload_n hX dX19_init_5 rfl 1 rfl) ?_
  refine cp_X19_7 T hin h dX19_init_6 (fun s2 h => ?_)
  exact c_ret_v T e h dX19_init_9
theorem met_FX19_worked {l : Launch} {E : CE} {s : CS} : ∀ (x0 : Nat) (x1 : Nat) (z : Int32), FX19_worked s x0 x1 = some z → (isK s x0 [19] = true ∧ cMet_i l E yX19_worked (ws_ yX19_worked cX19_worked 2 (some .int)) 0 0 [.ref x0, .ref x1] s z s) := by
  intro x0 x1 z h
  unfold FX19_worked at h
  obtain ⟨hg, h⟩ := gd_of h
  refine ⟨hg, c_met_i ⟨Nat.le_refl _, Nat.le_refl _⟩ (by decide +kernel) rfl (fun X hl hin T hR e => ?_)⟩
  have T : cOK X E cX19_worked RX19 2 (some .int) _ _ _ _ := T
  have hX := T.1
  show cW X _ _ s 0 [(0, .ref x0), (1, .ref x1)] []
  refine cw (k_aload_n hX dX19_worked_0 rfl 1 rfl) ?_
  refine cw (k_aload_n hX dX19_worked_1 rfl 0 rfl) ?_
  refine cg_X19_7 T h dX19_worked_2 (fun v1 h => ?_)
  refine ca_ild T h dX19_worked_5 (fun v2 h => ?_)
  exact c_ret_ir T e h dX19_worked_6
theorem met_FX4_init {l : Launch} {E : CE} : ∀ (x0 : Nat) (x1 : Int32) (s : CS) (z : CS), FX4_init x0 x1 s = some z → cMet_v l E yX4_init (ws_ yX4_init cX4_init 2 none) 2 60 [.ref x0, .int x1] s z := by
  intro x0 x1 s z h
  unfold FX4_init at h
  obtain ⟨hm, h⟩ := mz_of h
  refine c_met_v hm (by decide +kernel) rfl (fun X hl hin T hR e => ?_)
  have T : cOK X E cX4_init RX4 2 none _ _ _ _ := T
  have hX := T.1
  show cW X _ _ s 0 [(0, .ref x0), (1, .int x1)] []
  refine cw (k_aload_n hX dX4_init_0 rfl 0 rfl) ?_
  refine cX_X4_3 T met_FX3_init (c_room hR rfl rfl) h rfl dX4_init_1 (fun h => ?_)
  refine cw (k_aload_n hX dX4_init_4 rfl 0 rfl) ?_
  refine cw (k_iload_n hX dX4_init_5 rfl 1 rfl) ?_
  refine cp_X4_9 T hin h dX4_init_6 (fun s2 h => ?_)
  exact c_ret_v T e h dX4_init_9
theorem FX4_way_b12_ok {X : KC CS} {E : CE} {z : Int32} {z0 l0 z1 l1 : Nat} {s : CS} (T : cOK X E cX4_way RX4 5 (some .int) z0 l0 z1 l1) (hR : cRoom X 0 0) (e : cE_i X E z0 l0 z1 l1 z s) {x0 : Nat} {s_0 : Int32} (h : FX4_way_b12 s x0 s_0 = some z) : cW X z1 l1 s 12 [(0, .ref x0)] [.int s_0] := by
  unfold FX4_way_b12 at h
  have hX := T.1
  refine c_br h (k_if_lt (tgt := 22) hX h dX4_way_12 (by decide)) (fun h => ?_) (fun h => ?_)
  · refine cw (k_iconst (v := 1) hX dX4_way_22 (by decide)) ?_
    refine cw (k_aload_n hX dX4_way_23 rfl 0 rfl) ?_
    refine cg_X4_9 T h dX4_way_24 (fun v1 h => ?_)
    refine cw (k_isub hX dX4_way_27) ?_
    exact c_ret_ir T e h dX4_way_28
  · refine cw (k_aload_n hX dX4_way_15 rfl 0 rfl) ?_
    refine cg_X4_9 T h dX4_way_16 (fun v2 h => ?_)
    refine cw (k_goto (tgt := 28) hX dX4_way_19 (by decide)) ?_
    exact c_ret_ir T e h dX4_way_28
theorem met_FX4_way {l : Launch} {E : CE} {s : CS} : ∀ (x0 : Nat) (x1 : Int32) (x2 : Int32) (x3 : Int32) (x4 : Int32) (z : Int32), FX4_way s x0 x1 x2 x3 x4 = some z → (isK s x0 [4] = true ∧ cMet_i l E yX4_way (ws_ yX4_way cX4_way 5 (some .int)) 0 0 [.ref x0, .int x1, .int x2, .int x3, .int x4] s z s) := by
  intro x0 x1 x2 x3 x4 z h
  unfold FX4_way at h
  obtain ⟨hg, h⟩ := gd_of h
  refine ⟨hg, c_met_i ⟨Nat.le_refl _, Nat.le_refl _⟩ (by decide +kernel) rfl (fun X hl hin T hR e => ?_)⟩
  have T : cOK X E cX4_way RX4 5 (some .int) _ _ _ _ := T
  have hX := T.1
  show cW X _ _ s 0 [(0, .ref x0), (1, .int x1), (2, .int x2), (3, .int x3), (4, .int x4)] []
  refine cw (k_aload_n hX dX4_way_0 rfl 0 rfl) ?_
  refine cg_X4_9 T h dX4_way_1 (fun v1 h => ?_)
  refine c_brn h (k_if_ne (tgt := 11) hX h dX4_way_4 (by decide)) (fun h => ?_) (fun h => ?_)
  · refine cw (k_iload_n hX dX4_way_11 rfl 2 rfl) ?_
    refine cw (k_lv (lv' := [(0, .ref x0)]) [0] rfl) ?_
    exact FX4_way_b12_ok T hR e h
  · refine cw (k_iload_n hX dX4_way_7 rfl 1 rfl) ?_
    refine cw (k_goto (tgt := 12) hX dX4_way_8 (by decide)) ?_
    refine cw (k_lv (lv' := [(0, .ref x0)]) [0] rfl) ?_
    exact FX4_way_b12_ok T hR e h
theorem met_FX18_init {l : Launch} {E : CE} : ∀ (x0 : Nat) (x1 : Int32) (s : CS) (z : CS), FX18_init x0 x1 s = some z → cMet_v l E yX18_init (ws_ yX18_init cX18_init 2 none) 2 60 [.ref x0, .int x1] s z := by
  intro x0 x1 s z h
  unfold FX18_init at h
  obtain ⟨hm, h⟩ := mz_of h
  refine c_met_v hm (by decide +kernel) rfl (fun X hl hin T hR e => ?_)
  have T : cOK X E cX18_init RX18 2 none _ _ _ _ := T
  have hX := T.1
  show cW X _ _ s 0 [(0, .ref x0), (1, .int x1)] []
  refine cw (k_aload_n hX dX18_init_0 rfl 0 rfl) ?_
  refine cX_X18_1 T met_FX17_init (c_room hR rfl rfl) h rfl dX18_init_1 (fun h => ?_)
  refine cw (k_aload_n hX dX18_init_4 rfl 0 rfl) ?_
  refine cw (k_iload_n hX dX18_init_5 rfl 1 rfl) ?_
  refine cp_X18_7 T hin h dX18_init_6 (fun s2 h => ?_)
  exact c_ret_v T e h dX18_init_9
theorem met_FX18_worked {l : Launch} {E : CE} {s : CS} : ∀ (x0 : Nat) (x1 : Nat) (z : Int32), FX18_worked s x0 x1 = some z → (isK s x0 [18] = true ∧ cMet_i l E yX18_worked (ws_ yX18_worked cX18_worked 2 (some .int)) 0 0 [.ref x0, .ref x1] s z s) := by
  intro x0 x1 z h
  unfold FX18_worked at h
  obtain ⟨hg, h⟩ := gd_of h
  refine ⟨hg, c_met_i ⟨Nat.le_refl _, Nat.le_refl _⟩ (by decide +kernel) rfl (fun X hl hin T hR e => ?_)⟩
  have T : cOK X E cX18_worked RX18 2 (some .int) _ _ _ _ := T
  have hX := T.1
  show cW X _ _ s 0 [(0, .ref x0), (1, .ref x1)] []
  refine cw (k_aload_n hX dX18_worked_0 rfl 0 rfl) ?_
  refine cg_X18_7 T h dX18_worked_1 (fun v1 h => ?_)
  exact c_ret_ir T e h dX18_worked_4
theorem met_FX3_isBest {l : Launch} {E : CE} {s : CS} : ∀ (x0 : Nat) (z : Int32), FX3_isBest s x0 = some z → (isK s x0 [4, 5, 6, 16] = true ∧ cMet_i l E yX3_isBest (ws_ yX3_isBest cX3_isBest 1 (some .boolean)) 0 0 [.ref x0] s z s) := by
  intro x0 z h
  unfold FX3_isBest at h
  obtain ⟨hg, h⟩ := gd_of h
  refine ⟨hg, c_met_i ⟨Nat.le_refl _, Nat.le_refl _⟩ (by decide +kernel) rfl (fun X hl hin T hR e => ?_)⟩
  have T : cOK X E cX3_isBest RX3 1 (some .boolean) _ _ _ _ := T
  have hX := T.1
  show cW X _ _ s 0 [(0, .ref x0)] []
  refine cw (k_iconst (v := 0) hX dX3_isBest_0 (by decide)) ?_
  exact c_ret_zrc T e rfl h dX3_isBest_1
theorem met_FX5_init {l : Launch} {E : CE} {s : CS} : ∀ (x0 : Nat) (z : Unit), FX5_init s x0 = some z → cMet_v l E yX5_init (ws_ yX5_init cX5_init 1 none) 2 60 [.ref x0] s s := by
  intro x0 z h
  unfold FX5_init at h
  refine c_met_v ⟨Nat.le_refl _, Nat.le_refl _⟩ (by decide +kernel) rfl (fun X hl hin T hR e => ?_)
  have T : cOK X E cX5_init RX5 1 none _ _ _ _ := T
  have hX := T.1
  show cW X _ _ s 0 [(0, .ref x0)] []
  refine cw (k_aload_n hX dX5_init_0 rfl 0 rfl) ?_
  refine cX_X5_3 T met_FX3_init (c_room hR rfl rfl) h rfl dX5_init_1 (fun h => ?_)
  exact c_ret_vr (z := ()) T e dX5_init_4
theorem met_FX5_way {l : Launch} {E : CE} {s : CS} : ∀ (x0 : Nat) (x1 : Int32) (x2 : Int32) (x3 : Int32) (x4 : Int32) (z : Int32), FX5_way s x0 x1 x2 x3 x4 = some z → (isK s x0 [5] = true ∧ cMet_i l E yX5_way (ws_ yX5_way cX5_way 5 (some .int)) 0 0 [.ref x0, .int x1, .int x2, .int x3, .int x4] s z s) := by
  intro x0 x1 x2 x3 x4 z h
  unfold FX5_way at h
  obtain ⟨hg, h⟩ := gd_of h
  refine ⟨hg, c_met_i ⟨Nat.le_refl _, Nat.le_refl _⟩ (by decide +kernel) rfl (fun X hl hin T hR e => ?_)⟩
  have T : cOK X E cX5_way RX5 5 (some .int) _ _ _ _ := T
  have hX := T.1
  show cW X _ _ s 0 [(0, .ref x0), (1, .int x1), (2, .int x2), (3, .int x3), (4, .int x4)] []
  refine cw (k_iload_n hX dX5_way_0 rfl 1 rfl) ?_
  refine c_br h (k_if_ge (tgt := 8) hX h dX5_way_1 (by decide)) (fun h => ?_) (fun h => ?_)
  · refine cw (k_iload_n hX dX5_way_8 rfl 2 rfl) ?_
    refine c_br h (k_if_lt (tgt := 17) hX h dX5_way_9 (by decide)) (fun h => ?_) (fun h => ?_)
    · refine cw (k_iconst (v := 0) hX dX5_way_17 (by decide)) ?_
      refine cw (k_goto (tgt := 22) hX dX5_way_18 (by decide)) ?_
      exact c_ret_ir T e h dX5_way_22
    · refine cw (k_iload_n hX dX5_way_12 rfl 1 rfl) ?_
      refine cw (k_iload_n hX dX5_way_13 rfl 2 rfl) ?_
      refine c_br h (k_icmp_gt (tgt := 21) hX h dX5_way_14 (by decide)) (fun h => ?_) (fun h => ?_)
      · refine cw (k_iconst (v := 1) hX dX5_way_21 (by decide)) ?_
        exact c_ret_ir T e h dX5_way_22
      · refine cw (k_iconst (v := 0) hX dX5_way_17 (by decide)) ?_
        refine cw (k_goto (tgt := 22) hX dX5_way_18 (by decide)) ?_
        exact c_ret_ir T e h dX5_way_22
  · refine cw (k_iconst (v := 1) hX dX5_way_4 (by decide)) ?_
    refine cw (k_goto (tgt := 22) hX dX5_way_5 (by decide)) ?_
    exact c_ret_ir T e h dX5_way_22
theorem met_FX12_init {l : Launch} {E : CE} : ∀ (x0 : Nat) (x1 : Int32) (x2 : Int32) (x3 : Int32) (s : CS) (z : CS), FX12_init x0 x1 x2 x3 s = some z → cMet_v l E yX12_init (ws_ yX12_init cX12_init 4 none) 2 63 [.ref x0, .int x1, .int x2, .int x3] s z := by
  intro x0 x1 x2 x3 s z h
  unfold FX12_init at h
  obtain ⟨hm, h⟩ := mz_of h
  refine c_met_v hm (by decide +kernel) rfl (fun X hl hin T hR e => ?_)
  have T : cOK X E cX12_init RX12 4 none _ _ _ _ := T
  have hX := T.1
  show cW X _ _ s 0 [(0, .ref x0), (1, .int x1), (2, .int x2), (3, .int x3)] []
  refine cw (k_aload_n hX dX12_init_0 rfl 0 rfl) ?_
  refine cw (k_iload_n hX dX12_init_1 rfl 1 rfl) ?_
  refine cw (k_iload_n hX dX12_init_2 rfl 2 rfl) ?_
  refine cw (k_iload_n hX dX12_init_3 rfl 3 rfl) ?_
  refine cX_X12_3 T met_FX11_init (c_room hR rfl rfl) h rfl dX12_init_4 (fun s1 h => ?_)
  exact c_ret_v T e h dX12_init_7
theorem met_FX13_init {l : Launch} {E : CE} : ∀ (x0 : Nat) (x1 : Int32) (x2 : Int32) (x3 : Int32) (s : CS) (z : CS), FX13_init x0 x1 x2 x3 s = some z → cMet_v l E yX13_init (ws_ yX13_init cX13_init 4 none) 3 86 [.ref x0, .int x1, .int x2, .int x3] s z := by
  intro x0 x1 x2 x3 s z h
  unfold FX13_init at h
  obtain ⟨hm, h⟩ := mz_of h
  refine c_met_v hm (by decide +kernel) rfl (fun X hl hin T hR e => ?_)
  have T : cOK X E cX13_init RX13 4 none _ _ _ _ := T
  have hX := T.1
  show cW X _ _ s 0 [(0, .ref x0), (1, .int x1), (2, .int x2), (3, .int x3)] []
  refine cw (k_aload_n hX dX13_init_0 rfl 0 rfl) ?_
  refine cw (k_iload_n hX dX13_init_1 rfl 1 rfl) ?_
  refine cw (k_iload_n hX dX13_init_2 rfl 2 rfl) ?_
  refine cw (k_iload_n hX dX13_init_3 rfl 3 rfl) ?_
  refine cX_X13_1 T met_FX12_init (c_room hR rfl rfl) h rfl dX13_init_4 (fun s1 h => ?_)
  exact c_ret_v T e h dX13_init_7
theorem met_FX13_isHidden {l : Launch} {E : CE} {s : CS} : ∀ (x0 : Nat) (z : Int32), FX13_isHidden s x0 = some z → (isK s x0 [13] = true ∧ cMet_i l E yX13_isHidden (ws_ yX13_isHidden cX13_isHidden 1 (some .boolean)) 0 0 [.ref x0] s z s) := by
  intro x0 z h
  unfold FX13_isHidden at h
  obtain ⟨hg, h⟩ := gd_of h
  refine ⟨hg, c_met_i ⟨Nat.le_refl _, Nat.le_refl _⟩ (by decide +kernel) rfl (fun X hl hin T hR e => ?_)⟩
  have T : cOK X E cX13_isHidden RX13 1 (some .boolean) _ _ _ _ := T
  have hX := T.1
  show cW X _ _ s 0 [(0, .ref x0)] []
  refine cw (k_iconst (v := 1) hX dX13_isHidden_0 (by decide)) ?_
  exact c_ret_zrc T e rfl h dX13_isHidden_1
theorem met_FX13_kind {l : Launch} {E : CE} {s : CS} : ∀ (x0 : Nat) (z : Int32), FX13_kind s x0 = some z → (isK s x0 [13] = true ∧ cMet_i l E yX13_kind (ws_ yX13_kind cX13_kind 1 (some .int)) 0 0 [.ref x0] s z s) := by
  intro x0 z h
  unfold FX13_kind at h
  obtain ⟨hg, h⟩ := gd_of h
  refine ⟨hg, c_met_i ⟨Nat.le_refl _, Nat.le_refl _⟩ (by decide +kernel) rfl (fun X hl hin T hR e => ?_)⟩
  have T : cOK X E cX13_kind RX13 1 (some .int) _ _ _ _ := T
  have hX := T.1
  show cW X _ _ s 0 [(0, .ref x0)] []
  refine cw (k_iconst (v := 1) hX dX13_kind_0 (by decide)) ?_
  exact c_ret_ir T e h dX13_kind_1
theorem met_FX11_isButton {l : Launch} {E : CE} {s : CS} : ∀ (x0 : Nat) (z : Int32), FX11_isButton s x0 = some z → (isK s x0 [12, 13, 14, 15] = true ∧ cMet_i l E yX11_isButton (ws_ yX11_isButton cX11_isButton 1 (some .boolean)) 0 0 [.ref x0] s z s) := by
  intro x0 z h
  unfold FX11_isButton at h
  obtain ⟨hg, h⟩ := gd_of h
  refine ⟨hg, c_met_i ⟨Nat.le_refl _, Nat.le_refl _⟩ (by decide +kernel) rfl (fun X hl hin T hR e => ?_)⟩
  have T : cOK X E cX11_isButton RX11 1 (some .boolean) _ _ _ _ := T
  have hX := T.1
  show cW X _ _ s 0 [(0, .ref x0)] []
  refine cw (k_iconst (v := 0) hX dX11_isButton_0 (by decide)) ?_
  exact c_ret_zrc T e rfl h dX11_isButton_1
theorem met_FX11_isClock {l : Launch} {E : CE} {s : CS} : ∀ (x0 : Nat) (z : Int32), FX11_isClock s x0 = some z → (isK s x0 [12, 13, 14, 15] = true ∧ cMet_i l E yX11_isClock (ws_ yX11_isClock cX11_isClock 1 (some .boolean)) 0 0 [.ref x0] s z s) := by
  intro x0 z h
  unfold FX11_isClock at h
  obtain ⟨hg, h⟩ := gd_of h
  refine ⟨hg, c_met_i ⟨Nat.le_refl _, Nat.le_refl _⟩ (by decide +kernel) rfl (fun X hl hin T hR e => ?_)⟩
  have T : cOK X E cX11_isClock RX11 1 (some .boolean) _ _ _ _ := T
  have hX := T.1
  show cW X _ _ s 0 [(0, .ref x0)] []
  refine cw (k_iconst (v := 0) hX dX11_isClock_0 (by decide)) ?_
  exact c_ret_zrc T e rfl h dX11_isClock_1
theorem met_FX11_isHidden {l : Launch} {E : CE} {s : CS} : ∀ (x0 : Nat) (z : Int32), FX11_isHidden s x0 = some z → (isK s x0 [12, 13, 14, 15] = true ∧ cMet_i l E yX11_isHidden (ws_ yX11_isHidden cX11_isHidden 1 (some .boolean)) 0 0 [.ref x0] s z s) := by
  intro x0 z h
  unfold FX11_isHidden at h
  obtain ⟨hg, h⟩ := gd_of h
  refine ⟨hg, c_met_i ⟨Nat.le_refl _, Nat.le_refl _⟩ (by decide +kernel) rfl (fun X hl hin T hR e => ?_)⟩
  have T : cOK X E cX11_isHidden RX11 1 (some .boolean) _ _ _ _ := T
  have hX := T.1
  show cW X _ _ s 0 [(0, .ref x0)] []
  refine cw (k_iconst (v := 0) hX dX11_isHidden_0 (by decide)) ?_
  exact c_ret_zrc T e rfl h dX11_isHidden_1
theorem met_FX20_init {l : Launch} {E : CE} : ∀ (x0 : Nat) (x1 : Nat) (s : CS) (z : CS), FX20_init x0 x1 s = some z → cMet_v l E yX20_init (ws_ yX20_init cX20_init 2 none) 2 60 [.ref x0, .ref x1] s z := by
  intro x0 x1 s z h
  unfold FX20_init at h
  obtain ⟨hm, h⟩ := mz_of h
  refine c_met_v hm (by decide +kernel) rfl (fun X hl hin T hR e => ?_)
  have T : cOK X E cX20_init RX20 2 none _ _ _ _ := T
  have hX := T.1
  show cW X _ _ s 0 [(0, .ref x0), (1, .ref x1)] []
  refine cw (k_aload_n hX dX20_init_0 rfl 0 rfl) ?_
  refine cX_X20_1 T met_FX17_init (c_room hR rfl rfl) h rfl dX20_init_1 (fun h => ?_)
  refine cw (k_aload_n hX dX20_init_4 rfl 0 rfl) ?_
  refine cw (k_aload_n hX dX20_init_5 rfl 1 rfl) ?_
  refine cp_X20_7 T hin h dX20_init_6 (fun s2 h => ?_)
  exact c_ret_v T e h dX20_init_9
theorem met_FX20_worked {l : Launch} {E : CE} {rc : Nat → Nat → Option Int32} {Fr Lr : Nat} {s : CS} (hrc : ∀ (o : Nat) (a0 : Nat) (v : Int32), rc o a0 = some v → (isK s o [18] = true ∧ ∃ F' L' : Nat, F' ≤ Fr ∧ L' ≤ Lr ∧ cMet_i l E yX18_worked (ws_ yX18_worked cX18_worked 2 (some .int)) F' L' [.ref o, .ref a0] s v s) ∨ (isK s o [19] = true ∧ ∃ F' L' : Nat, F' ≤ Fr ∧ L' ≤ Lr ∧ cMet_i l E yX19_worked (ws_ yX19_worked cX19_worked 2 (some .int)) F' L' [.ref o, .ref a0] s v s) ∨ (isK s o [20] = true ∧ ∃ F' L' : Nat, F' ≤ Fr ∧ L' ≤ Lr ∧ cMet_i l E yX20_worked (ws_ yX20_worked cX20_worked 2 (some .int)) F' L' [.ref o, .ref a0] s v s) ∨ (isK s o [21] = true ∧ ∃ F' L' : Nat, F' ≤ Fr ∧ L' ≤ Lr ∧ cMet_i l E yX21_worked (ws_ yX21_worked cX21_worked 4 (some .int)) F' L' [.ref o, .ref a0] s v s)) (hN : 0 ≤ Fr) (hM : 0 ≤ Lr) : ∀ (x0 : Nat) (x1 : Nat) (z : Int32), FX20_worked rc s x0 x1 = some z → (isK s x0 [20] = true ∧ cMet_i l E yX20_worked (ws_ yX20_worked cX20_worked 2 (some .int)) (Fr + 1) (Lr + 49) [.ref x0, .ref x1] s z s) := by
  intro x0 x1 z h
  unfold FX20_worked at h
  obtain ⟨hg, h⟩ := gd_of h
  refine ⟨hg, c_met_i ⟨Nat.le_refl _, Nat.le_refl _⟩ (by decide +kernel) rfl (fun X hl hin T hR e => ?_)⟩
  have T : cOK X E cX20_worked RX20 2 (some .int) _ _ _ _ := T
  have hX := T.1
  show cW X _ _ s 0 [(0, .ref x0), (1, .ref x1)] []
  subst hl
  refine cw (k_aload_n hX dX20_worked_0 rfl 0 rfl) ?_
  refine cg_X20_7 T h dX20_worked_1 (fun r1 h => ?_)
  refine cw (k_aload_n hX dX20_worked_4 rfl 1 rfl) ?_
  obtain ⟨p2, e_p2, hq_p2⟩ := nn_of h
  subst e_p2
  have h := hq_p2
  show cW X _ _ _ 5 [(0, .ref x0), (1, .ref x1)] [.ref x1, .ref p2]
  refine cX_X20_13 T hrc (fun k hk => c_roomo hR (by omega) (by omega)) h rfl dX20_worked_5 (fun v3 h => ?_)
  refine c_brn h (k_if_ne (tgt := 15) hX h dX20_worked_8 (by decide)) (fun h => ?_) (fun h => ?_)
  · refine cw (k_iconst (v := 0) hX dX20_worked_15 (by decide)) ?_
    exact c_ret_ir T e h dX20_worked_16
  · refine cw (k_iconst (v := 1) hX dX20_worked_11 (by decide)) ?_
    refine cw (k_goto (tgt := 16) hX dX20_worked_12 (by decide)) ?_
    exact c_ret_ir T e h dX20_worked_16
theorem met_FX21_worked {l : Launch} {E : CE} {rc : Nat → Nat → Option Int32} {Fr Lr : Nat} {s : CS} (hrc : ∀ (o : Nat) (a0 : Nat) (v : Int32), rc o a0 = some v → (isK s o [18] = true ∧ ∃ F' L' : Nat, F' ≤ Fr ∧ L' ≤ Lr ∧ cMet_i l E yX18_worked (ws_ yX18_worked cX18_worked 2 (some .int)) F' L' [.ref o, .ref a0] s v s) ∨ (isK s o [19] = true ∧ ∃ F' L' : Nat, F' ≤ Fr ∧ L' ≤ Lr ∧ cMet_i l E yX19_worked (ws_ yX19_worked cX19_worked 2 (some .int)) F' L' [.ref o, .ref a0] s v s) ∨ (isK s o [20] = true ∧ ∃ F' L' : Nat, F' ≤ Fr ∧ L' ≤ Lr ∧ cMet_i l E yX20_worked (ws_ yX20_worked cX20_worked 2 (some .int)) F' L' [.ref o, .ref a0] s v s) ∨ (isK s o [21] = true ∧ ∃ F' L' : Nat, F' ≤ Fr ∧ L' ≤ Lr ∧ cMet_i l E yX21_worked (ws_ yX21_worked cX21_worked 4 (some .int)) F' L' [.ref o, .ref a0] s v s)) (hN : 0 ≤ Fr) (hM : 0 ≤ Lr) : ∀ (x0 : Nat) (x1 : Nat) (z : Int32), FX21_worked rc s x0 x1 = some z → (isK s x0 [21] = true ∧ cMet_i l E yX21_worked (ws_ yX21_worked cX21_worked 4 (some .int)) (Fr + 1) (Lr + 49) [.ref x0, .ref x1] s z s) := by
  intro x0 x1 z h
  unfold FX21_worked at h
  obtain ⟨hg, h⟩ := gd_of h
  refine ⟨hg, c_met_i ⟨Nat.le_refl _, Nat.le_refl _⟩ (by decide +kernel) rfl (fun X hl hin T hR e => ?_)⟩
  have T : cOK X E cX21_worked RX21 4 (some .int) _ _ _ _ := T
  have hX := T.1
  show cW X _ _ s 0 [(0, .ref x0), (1, .ref x1)] []
  subst hl
  refine cw (k_aload_n hX dX21_worked_0 rfl 0 rfl) ?_
  refine cg_X21_13 T h dX21_worked_1 (fun r1 h => ?_)
  refine cw (k_aload_n hX dX21_worked_4 rfl 1 rfl) ?_
  obtain ⟨p2, e_p2, hq_p2⟩ := nn_of h
  subst e_p2
  have h := hq_p2
  show cW X _ _ _ 5 [(0, .ref x0), (1, .ref x1)] [.ref x1, .ref p2]
  refine cX_X21_20 T hrc (fun k hk => c_roomo hR (by omega) (by omega)) h rfl dX21_worked_5 (fun v3 h => ?_)
  refine cw (k_istore_n [(2, .int v3), (0, .ref x0), (1, .ref x1)] hX dX21_worked_8 rfl rfl rfl) ?_
  refine cw (k_aload_n hX dX21_worked_9 rfl 1 rfl) ?_
  refine cg_X21_17 T h dX21_worked_10 (fun r4 h => ?_)
  refine cw (k_aload_n hX dX21_worked_13 rfl 2 rfl) ?_
  obtain ⟨p5, e_p5, hq_p5⟩ := nn_of h
  subst e_p5
  have h := hq_p5
  show cW X _ _ _ 14 [(2, .int v3), (0, .ref x0), (1, .ref x1)] [.ref x1, .ref p5]
  refine cX_X21_20 T hrc (fun k hk => c_roomo hR (by omega) (by omega)) h rfl dX21_worked_14 (fun v6 h => ?_)
  refine cw (k_istore_n [(3, .int v6), (2, .int v3), (0, .ref x0), (1, .ref x1)] hX dX21_worked_17 rfl rfl rfl) ?_
  refine cw (k_aload_n hX dX21_worked_18 rfl 2 rfl) ?_
  refine cg_X21_7 T h dX21_worked_19 (fun v7 h => ?_)
  refine k_sw (c := 38) h (fun c_0 h => ?_) (fun c_0 h => ?_)
  · refine cw (k_lookup (off := 92) (tgt := 114) hX dX21_worked_22 (by decide) (by rw [c_0]; rfl) (by decide)) ?_
    refine cw (k_iload_n hX dX21_worked_114 rfl 1 rfl) ?_
    refine c_br h (k_if_eq (tgt := 126) hX h dX21_worked_115 (by decide)) (fun h => ?_) (fun h => ?_)
    · refine cw (k_iconst (v := 0) hX dX21_worked_126 (by decide)) ?_
      exact c_ret_ir T e h dX21_worked_127
    · refine cw (k_iload_n hX dX21_worked_118 rfl 0 rfl) ?_
      refine c_br h (k_if_eq (tgt := 126) hX h dX21_worked_119 (by decide)) (fun h => ?_) (fun h => ?_)
      · refine cw (k_iconst (v := 0) hX dX21_worked_126 (by decide)) ?_
        exact c_ret_ir T e h dX21_worked_127
      · refine cw (k_iconst (v := 1) hX dX21_worked_122 (by decide)) ?_
        refine cw (k_goto (tgt := 127) hX dX21_worked_123 (by decide)) ?_
        exact c_ret_ir T e h dX21_worked_127
  refine k_sw (c := 42) h (fun c_1 h => ?_) (fun c_1 h => ?_)
  · refine cw (k_lookup (off := 66) (tgt := 88) hX dX21_worked_22 (by decide) (by rw [c_1]; rfl) (by decide)) ?_
    refine cw (k_iload_n hX dX21_worked_88 rfl 1 rfl) ?_
    refine cw (k_iload_n hX dX21_worked_89 rfl 0 rfl) ?_
    refine cw (k_imul hX dX21_worked_90) ?_
    exact c_ret_ir T e h dX21_worked_91
  refine k_sw (c := 43) h (fun c_2 h => ?_) (fun c_2 h => ?_)
  · refine cw (k_lookup (off := 58) (tgt := 80) hX dX21_worked_22 (by decide) (by rw [c_2]; rfl) (by decide)) ?_
    refine cw (k_iload_n hX dX21_worked_80 rfl 1 rfl) ?_
    refine cw (k_iload_n hX dX21_worked_81 rfl 0 rfl) ?_
    refine cw (k_iadd hX dX21_worked_82) ?_
    exact c_ret_ir T e h dX21_worked_83
  refine k_sw (c := 45) h (fun c_3 h => ?_) (fun c_3 h => ?_)
  · refine cw (k_lookup (off := 62) (tgt := 84) hX dX21_worked_22 (by decide) (by rw [c_3]; rfl) (by decide)) ?_
    refine cw (k_iload_n hX dX21_worked_84 rfl 1 rfl) ?_
    refine cw (k_iload_n hX dX21_worked_85 rfl 0 rfl) ?_
    refine cw (k_isub hX dX21_worked_86) ?_
    exact c_ret_ir T e h dX21_worked_87
  refine k_sw (c := 60) h (fun c_4 h => ?_) (fun c_4 h => ?_)
  · refine cw (k_lookup (off := 70) (tgt := 92) hX dX21_worked_22 (by decide) (by rw [c_4]; rfl) (by decide)) ?_
    refine cw (k_iload_n hX dX21_worked_92 rfl 1 rfl) ?_
    refine cw (k_iload_n hX dX21_worked_93 rfl 0 rfl) ?_
    refine c_br h (k_icmp_ge (tgt := 101) hX h dX21_worked_94 (by decide)) (fun h => ?_) (fun h => ?_)
    · refine cw (k_iconst (v := 0) hX dX21_worked_101 (by decide)) ?_
      exact c_ret_ir T e h dX21_worked_102
    · refine cw (k_iconst (v := 1) hX dX21_worked_97 (by decide)) ?_
      refine cw (k_goto (tgt := 102) hX dX21_worked_98 (by decide)) ?_
      exact c_ret_ir T e h dX21_worked_102
  refine k_sw (c := 61) h (fun c_5 h => ?_) (fun c_5 h => ?_)
  · refine cw (k_lookup (off := 81) (tgt := 103) hX dX21_worked_22 (by decide) (by rw [c_5]; rfl) (by decide)) ?_
    refine cw (k_iload_n hX dX21_worked_103 rfl 1 rfl) ?_
    refine cw (k_iload_n hX dX21_worked_104 rfl 0 rfl) ?_
    refine c_brn h (k_icmp_ne (tgt := 112) hX h dX21_worked_105 (by decide)) (fun h => ?_) (fun h => ?_)
    · refine cw (k_iconst (v := 0) hX dX21_worked_112 (by decide)) ?_
      exact c_ret_ir T e h dX21_worked_113
    · refine cw (k_iconst (v := 1) hX dX21_worked_108 (by decide)) ?_
      refine cw (k_goto (tgt := 113) hX dX21_worked_109 (by decide)) ?_
      exact c_ret_ir T e h dX21_worked_113
  refine cw (k_lookup (off := 106) (tgt := 128) hX dX21_worked_22 (by decide) (by show Op.lookupswitch.offset [(38, 92), (42, 66), (43, 58), (45, 62), (60, 70), (61, 81)] 106 _ = _; rw [lv_osw c_0 (a := 38) rfl, lv_osw c_1 (a := 42) rfl, lv_osw c_2 (a := 43) rfl, lv_osw c_3 (a := 45) rfl, lv_osw c_4 (a := 60) rfl, lv_osw c_5 (a := 61) rfl]; rfl) (by decide)) ?_
  refine cw (k_iload_n hX dX21_worked_128 rfl 1 rfl) ?_
  refine c_brn h (k_if_ne (tgt := 136) hX h dX21_worked_129 (by decide)) (fun h => ?_) (fun h => ?_)
  · refine cw (k_iconst (v := 1) hX dX21_worked_136 (by decide)) ?_
    refine cw (k_goto (tgt := 141) hX dX21_worked_137 (by decide)) ?_
    exact c_ret_ir T e h dX21_worked_141
  · refine cw (k_iload_n hX dX21_worked_132 rfl 0 rfl) ?_
    refine c_br h (k_if_eq (tgt := 140) hX h dX21_worked_133 (by decide)) (fun h => ?_) (fun h => ?_)
    · refine cw (k_iconst (v := 0) hX dX21_worked_140 (by decide)) ?_
      exact c_ret_ir T e h dX21_worked_141
    · refine cw (k_iconst (v := 1) hX dX21_worked_136 (by decide)) ?_
      refine cw (k_goto (tgt := 141) hX dX21_worked_137 (by decide)) ?_
      exact c_ret_ir T e h dX21_worked_141
theorem met_V17_worked_s {l : Launch} {E : CE} {rc : Nat → Nat → Option Int32} {Fr Lr : Nat} {s : CS} (hrc : ∀ (o : Nat) (a0 : Nat) (v : Int32), rc o a0 = some v → (isK s o [18] = true ∧ ∃ F' L' : Nat, F' ≤ Fr ∧ L' ≤ Lr ∧ cMet_i l E yX18_worked (ws_ yX18_worked cX18_worked 2 (some .int)) F' L' [.ref o, .ref a0] s v s) ∨ (isK s o [19] = true ∧ ∃ F' L' : Nat, F' ≤ Fr ∧ L' ≤ Lr ∧ cMet_i l E yX19_worked (ws_ yX19_worked cX19_worked 2 (some .int)) F' L' [.ref o, .ref a0] s v s) ∨ (isK s o [20] = true ∧ ∃ F' L' : Nat, F' ≤ Fr ∧ L' ≤ Lr ∧ cMet_i l E yX20_worked (ws_ yX20_worked cX20_worked 2 (some .int)) F' L' [.ref o, .ref a0] s v s) ∨ (isK s o [21] = true ∧ ∃ F' L' : Nat, F' ≤ Fr ∧ L' ≤ Lr ∧ cMet_i l E yX21_worked (ws_ yX21_worked cX21_worked 4 (some .int)) F' L' [.ref o, .ref a0] s v s)) (hN : 0 ≤ Fr) (hM : 0 ≤ Lr) : ∀ (o : Nat) (a0 : Nat) (v : Int32), V17_worked_s rc s o a0 = some v → (isK s o [18] = true ∧ ∃ F' L' : Nat, F' ≤ (Fr + 1) ∧ L' ≤ (Lr + 49) ∧ cMet_i l E yX18_worked (ws_ yX18_worked cX18_worked 2 (some .int)) F' L' [.ref o, .ref a0] s v s) ∨ (isK s o [19] = true ∧ ∃ F' L' : Nat, F' ≤ (Fr + 1) ∧ L' ≤ (Lr + 49) ∧ cMet_i l E yX19_worked (ws_ yX19_worked cX19_worked 2 (some .int)) F' L' [.ref o, .ref a0] s v s) ∨ (isK s o [20] = true ∧ ∃ F' L' : Nat, F' ≤ (Fr + 1) ∧ L' ≤ (Lr + 49) ∧ cMet_i l E yX20_worked (ws_ yX20_worked cX20_worked 2 (some .int)) F' L' [.ref o, .ref a0] s v s) ∨ (isK s o [21] = true ∧ ∃ F' L' : Nat, F' ≤ (Fr + 1) ∧ L' ≤ (Lr + 49) ∧ cMet_i l E yX21_worked (ws_ yX21_worked cX21_worked 4 (some .int)) F' L' [.ref o, .ref a0] s v s) := by
  intro o a0 v h
  unfold V17_worked_s at h
  by_cases q0 : isK s o [18] = true
  · rw [if_pos q0] at h
    exact Or.inl ⟨q0, _, _, by omega, by omega, (met_FX18_worked _ _ _ h).2⟩
  rw [if_neg q0] at h
  by_cases q1 : isK s o [19] = true
  · rw [if_pos q1] at h
    exact Or.inr (Or.inl ⟨q1, _, _, by omega, by omega, (met_FX19_worked _ _ _ h).2⟩)
  rw [if_neg q1] at h
  by_cases q2 : isK s o [20] = true
  · rw [if_pos q2] at h
    exact Or.inr (Or.inr (Or.inl ⟨q2, _, _, by omega, by omega, (met_FX20_worked hrc (by omega) (by omega) _ _ _ h).2⟩))
  rw [if_neg q2] at h
  by_cases q3 : isK s o [21] = true
  · rw [if_pos q3] at h
    exact Or.inr (Or.inr (Or.inr (⟨q3, _, _, by omega, by omega, (met_FX21_worked hrc (by omega) (by omega) _ _ _ h).2⟩)))
  rw [if_neg q3] at h
  cases h
theorem met_V17_worked {l : Launch} {E : CE} {s : CS} : ∀ (dp : Nat) (o : Nat) (a0 : Nat) (v : Int32), V17_worked s dp o a0 = some v → (isK s o [18] = true ∧ ∃ F' L' : Nat, F' ≤ (1 * dp + 0) ∧ L' ≤ (49 * dp + 0) ∧ cMet_i l E yX18_worked (ws_ yX18_worked cX18_worked 2 (some .int)) F' L' [.ref o, .ref a0] s v s) ∨ (isK s o [19] = true ∧ ∃ F' L' : Nat, F' ≤ (1 * dp + 0) ∧ L' ≤ (49 * dp + 0) ∧ cMet_i l E yX19_worked (ws_ yX19_worked cX19_worked 2 (some .int)) F' L' [.ref o, .ref a0] s v s) ∨ (isK s o [20] = true ∧ ∃ F' L' : Nat, F' ≤ (1 * dp + 0) ∧ L' ≤ (49 * dp + 0) ∧ cMet_i l E yX20_worked (ws_ yX20_worked cX20_worked 2 (some .int)) F' L' [.ref o, .ref a0] s v s) ∨ (isK s o [21] = true ∧ ∃ F' L' : Nat, F' ≤ (1 * dp + 0) ∧ L' ≤ (49 * dp + 0) ∧ cMet_i l E yX21_worked (ws_ yX21_worked cX21_worked 4 (some .int)) F' L' [.ref o, .ref a0] s v s) := by
  intro dp
  induction dp with
  | zero => intro o a0 v h; exact (nomatch (show (none : Option Int32) = some v from h))
  | succ dp ih =>
    intro o a0 v h
    have h : V17_worked_s (V17_worked s dp) s o a0 = some v := h
    rw [show 1 * (dp + 1) + 0 = (1 * dp + 0) + 1 by omega, show 49 * (dp + 1) + 0 = (49 * dp + 0) + 49 by omega]
    exact met_V17_worked_s ih (Nat.le_add_left _ _) (Nat.le_add_left _ _) _ _ _ h
theorem met_FX15_init {l : Launch} {E : CE} : ∀ (x0 : Nat) (x1 : Int32) (x2 : Int32) (x3 : Int32) (s : CS) (z : CS), FX15_init x0 x1 x2 x3 s = some z → cMet_v l E yX15_init (ws_ yX15_init cX15_init 4 none) 2 63 [.ref x0, .int x1, .int x2, .int x3] s z := by
  intro x0 x1 x2 x3 s z h
  unfold FX15_init at h
  obtain ⟨hm, h⟩ := mz_of h
  refine c_met_v hm (by decide +kernel) rfl (fun X hl hin T hR e => ?_)
  have T : cOK X E cX15_init RX15 4 none _ _ _ _ := T
  have hX := T.1
  show cW X _ _ s 0 [(0, .ref x0), (1, .int x1), (2, .int x2), (3, .int x3)] []
  refine cw (k_aload_n hX dX15_init_0 rfl 0 rfl) ?_
  refine cw (k_iload_n hX dX15_init_1 rfl 1 rfl) ?_
  refine cw (k_iload_n hX dX15_init_2 rfl 2 rfl) ?_
  refine cw (k_iload_n hX dX15_init_3 rfl 3 rfl) ?_
  refine cX_X15_1 T met_FX11_init (c_room hR rfl rfl) h rfl dX15_init_4 (fun s1 h => ?_)
  exact c_ret_v T e h dX15_init_7
theorem met_FX15_kind {l : Launch} {E : CE} {s : CS} : ∀ (x0 : Nat) (z : Int32), FX15_kind s x0 = some z → (isK s x0 [15] = true ∧ cMet_i l E yX15_kind (ws_ yX15_kind cX15_kind 1 (some .int)) 0 0 [.ref x0] s z s) := by
  intro x0 z h
  unfold FX15_kind at h
  obtain ⟨hg, h⟩ := gd_of h
  refine ⟨hg, c_met_i ⟨Nat.le_refl _, Nat.le_refl _⟩ (by decide +kernel) rfl (fun X hl hin T hR e => ?_)⟩
  have T : cOK X E cX15_kind RX15 1 (some .int) _ _ _ _ := T
  have hX := T.1
  show cW X _ _ s 0 [(0, .ref x0)] []
  refine cw (k_iconst (v := 3) hX dX15_kind_0 (by decide)) ?_
  exact c_ret_ir T e h dX15_kind_1
theorem met_FX15_waits {l : Launch} {E : CE} {s : CS} : ∀ (x0 : Nat) (x1 : Int32) (x2 : Int32) (z : Int32), FX15_waits s x0 x1 x2 = some z → (isK s x0 [15] = true ∧ cMet_i l E yX15_waits (ws_ yX15_waits cX15_waits 3 (some .int)) 0 0 [.ref x0, .int x1, .int x2] s z s) := by
  intro x0 x1 x2 z h
  unfold FX15_waits at h
  obtain ⟨hg, h⟩ := gd_of h
  refine ⟨hg, c_met_i ⟨Nat.le_refl _, Nat.le_refl _⟩ (by decide +kernel) rfl (fun X hl hin T hR e => ?_)⟩
  have T : cOK X E cX15_waits RX15 3 (some .int) _ _ _ _ := T
  have hX := T.1
  show cW X _ _ s 0 [(0, .ref x0), (1, .int x1), (2, .int x2)] []
  refine cw (k_iconst (v := 0) hX dX15_waits_0 (by decide)) ?_
  exact c_ret_ir T e h dX15_waits_1
theorem met_FX1_init {l : Launch} {E : CE} {s : CS} : ∀ (x0 : Nat) (z : Unit), FX1_init s x0 = some z → cMet_v l E yX1_init (ws_ yX1_init cX1_init 1 none) 1 40 [.ref x0] s s := by
  intro x0 z h
  unfold FX1_init at h
  refine c_met_v ⟨Nat.le_refl _, Nat.le_refl _⟩ (by decide +kernel) rfl (fun X hl hin T hR e => ?_)
  have T : cOK X E cX1_init RX1 1 none _ _ _ _ := T
  have hX := T.1
  show cW X _ _ s 0 [(0, .ref x0)] []
  refine cw (k_aload_n hX dX1_init_0 rfl 0 rfl) ?_
  refine cw (k_objInit hX hR q190 q183 q184 rfl dX1_init_1) ?_
  exact c_ret_vr (z := ()) T e dX1_init_4
theorem met_FX1_at {l : Launch} {E : CE} {s : CS} : ∀ (x0 : Nat) (x1 : Int32) (z : Int32), FX1_at s x0 x1 = some z → (isK s x0 [1] = true ∧ cMet_i l E yX1_at (ws_ yX1_at cX1_at 2 (some .int)) 0 0 [.ref x0, .int x1] s z s) := by
  intro x0 x1 z h
  unfold FX1_at at h
  obtain ⟨hg, h⟩ := gd_of h
  refine ⟨hg, c_met_i ⟨Nat.le_refl _, Nat.le_refl _⟩ (by decide +kernel) rfl (fun X hl hin T hR e => ?_)⟩
  have T : cOK X E cX1_at RX1 2 (some .int) _ _ _ _ := T
  have hX := T.1
  show cW X _ _ s 0 [(0, .ref x0), (1, .int x1)] []
  refine cw (k_iload_n hX dX1_at_0 rfl 1 rfl) ?_
  refine cw (k_aload_n hX dX1_at_1 rfl 0 rfl) ?_
  refine cg_X1_15 T h dX1_at_2 (fun v1 h => ?_)
  refine c_br h (k_icmp_ge (tgt := 17) hX h dX1_at_5 (by decide)) (fun h => ?_) (fun h => ?_)
  · refine cw (k_iconst (v := 0) hX dX1_at_17 (by decide)) ?_
    exact c_ret_ir T e h dX1_at_18
  · refine cw (k_aload_n hX dX1_at_8 rfl 0 rfl) ?_
    refine cg_X1_9 T h dX1_at_9 (fun r2 h => ?_)
    refine cw (k_iload_n hX dX1_at_12 rfl 1 rfl) ?_
    obtain ⟨p3, e_p3, hq_p3⟩ := nn_of h
    subst e_p3
    have h := hq_p3
    show cW X _ _ _ 13 [(0, .ref x0), (1, .int x1)] [.int x1, .ref p3]
    refine ca_bld T h dX1_at_13 (fun v4 h => ?_)
    refine cw (k_goto (tgt := 18) hX dX1_at_14 (by decide)) ?_
    exact c_ret_ir T e h dX1_at_18
theorem met_FX1_isDigit {l : Launch} {E : CE} {s : CS} : ∀ (x0 : Int32) (z : Int32), FX1_isDigit s x0 = some z → cMet_i l E yX1_isDigit (ws_ yX1_isDigit cX1_isDigit 1 (some .boolean)) 0 0 [.int x0] s z s := by
  intro x0 z h
  unfold FX1_isDigit at h
  refine c_met_i ⟨Nat.le_refl _, Nat.le_refl _⟩ (by decide +kernel) rfl (fun X hl hin T hR e => ?_)
  have T : cOK X E cX1_isDigit RX1 1 (some .boolean) _ _ _ _ := T
  have hX := T.1
  show cW X _ _ s 0 [(0, .int x0)] []
  refine cw (k_iload_n hX dX1_isDigit_0 rfl 0 rfl) ?_
  refine cw (k_bipush (v := 48) hX dX1_isDigit_1 (by decide)) ?_
  refine c_br h (k_icmp_lt (tgt := 16) hX h dX1_isDigit_3 (by decide)) (fun h => ?_) (fun h => ?_)
  · refine cw (k_iconst (v := 0) hX dX1_isDigit_16 (by decide)) ?_
    exact c_ret_zrc T e rfl h dX1_isDigit_17
  · refine cw (k_iload_n hX dX1_isDigit_6 rfl 0 rfl) ?_
    refine cw (k_bipush (v := 57) hX dX1_isDigit_7 (by decide)) ?_
    refine c_br h (k_icmp_gt (tgt := 16) hX h dX1_isDigit_9 (by decide)) (fun h => ?_) (fun h => ?_)
    · refine cw (k_iconst (v := 0) hX dX1_isDigit_16 (by decide)) ?_
      exact c_ret_zrc T e rfl h dX1_isDigit_17
    · refine cw (k_iconst (v := 1) hX dX1_isDigit_12 (by decide)) ?_
      refine cw (k_goto (tgt := 17) hX dX1_isDigit_13 (by decide)) ?_
      exact c_ret_zrc T e rfl h dX1_isDigit_17
theorem met_FX1_isLetter {l : Launch} {E : CE} {s : CS} : ∀ (x0 : Int32) (z : Int32), FX1_isLetter s x0 = some z → cMet_i l E yX1_isLetter (ws_ yX1_isLetter cX1_isLetter 1 (some .boolean)) 0 0 [.int x0] s z s := by
  intro x0 z h
  unfold FX1_isLetter at h
  refine c_met_i ⟨Nat.le_refl _, Nat.le_refl _⟩ (by decide +kernel) rfl (fun X hl hin T hR e => ?_)
  have T : cOK X E cX1_isLetter RX1 1 (some .boolean) _ _ _ _ := T
  have hX := T.1
  show cW X _ _ s 0 [(0, .int x0)] []
  refine cw (k_iload_n hX dX1_isLetter_0 rfl 0 rfl) ?_
  refine cw (k_bipush (v := 97) hX dX1_isLetter_1 (by decide)) ?_
  refine c_br h (k_icmp_lt (tgt := 16) hX h dX1_isLetter_3 (by decide)) (fun h => ?_) (fun h => ?_)
  · refine cw (k_iconst (v := 0) hX dX1_isLetter_16 (by decide)) ?_
    exact c_ret_zrc T e rfl h dX1_isLetter_17
  · refine cw (k_iload_n hX dX1_isLetter_6 rfl 0 rfl) ?_
    refine cw (k_bipush (v := 122) hX dX1_isLetter_7 (by decide)) ?_
    refine c_br h (k_icmp_gt (tgt := 16) hX h dX1_isLetter_9 (by decide)) (fun h => ?_) (fun h => ?_)
    · refine cw (k_iconst (v := 0) hX dX1_isLetter_16 (by decide)) ?_
      exact c_ret_zrc T e rfl h dX1_isLetter_17
    · refine cw (k_iconst (v := 1) hX dX1_isLetter_12 (by decide)) ?_
      refine cw (k_goto (tgt := 17) hX dX1_isLetter_13 (by decide)) ?_
      exact c_ret_zrc T e rfl h dX1_isLetter_17
theorem met_FJ6_isLatin1 {l : Launch} {E : CE} {s : CS} : ∀ (x0 : Nat) (z : Int32), FJ6_isLatin1 s x0 = some z → (isK s x0 [23, 25] = true ∧ cMet_i l E yJ6_isLatin1 (ws_ yJ6_isLatin1 cJ6_isLatin1 1 (some .boolean)) 0 0 [.ref x0] s z s) := by
  intro x0 z h
  unfold FJ6_isLatin1 at h
  obtain ⟨hg, h⟩ := gd_of h
  refine ⟨hg, c_met_i ⟨Nat.le_refl _, Nat.le_refl _⟩ (by decide +kernel) rfl (fun X hl hin T hR e => ?_)⟩
  have T : cOK X E cJ6_isLatin1 RJ6 1 (some .boolean) _ _ _ _ := T
  have hX := T.1
  show cW X _ _ s 0 [(0, .ref x0)] []
  refine cw (k_gets T.2.1 hX T.2.2.2.2.2.2.2.2.2.2.1 q620 (fun _ h9 => h9) dJ6_isLatin1_0) ?_
  refine c_br h (k_if_eq (tgt := 17) hX h dJ6_isLatin1_3 (by decide)) (fun h => ?_) (fun h => ?_)
  · refine cw (k_iconst (v := 0) hX dJ6_isLatin1_17 (by decide)) ?_
    exact c_ret_zrc T e rfl h dJ6_isLatin1_18
  · refine cw (k_aload_n hX dJ6_isLatin1_6 rfl 0 rfl) ?_
    refine cg_J6_15 T h dJ6_isLatin1_7 (fun v1 h => ?_)
    refine c_brn h (k_if_ne (tgt := 17) hX h dJ6_isLatin1_10 (by decide)) (fun h => ?_) (fun h => ?_)
    · refine cw (k_iconst (v := 0) hX dJ6_isLatin1_17 (by decide)) ?_
      exact c_ret_zrc T e rfl h dJ6_isLatin1_18
    · refine cw (k_iconst (v := 1) hX dJ6_isLatin1_13 (by decide)) ?_
      refine cw (k_goto (tgt := 18) hX dJ6_isLatin1_14 (by decide)) ?_
      exact c_ret_zrc T e rfl h dJ6_isLatin1_18
theorem met_FJ6_coder {l : Launch} {E : CE} {s : CS} : ∀ (x0 : Nat) (z : Int32), FJ6_coder s x0 = some z → (isK s x0 [23, 25] = true ∧ cMet_i l E yJ6_coder (ws_ yJ6_coder cJ6_coder 1 (some .byte)) 0 0 [.ref x0] s z s) := by
  intro x0 z h
  unfold FJ6_coder at h
  obtain ⟨hg, h⟩ := gd_of h
  refine ⟨hg, c_met_i ⟨Nat.le_refl _, Nat.le_refl _⟩ (by decide +kernel) rfl (fun X hl hin T hR e => ?_)⟩
  have T : cOK X E cJ6_coder RJ6 1 (some .byte) _ _ _ _ := T
  have hX := T.1
  show cW X _ _ s 0 [(0, .ref x0)] []
  refine cw (k_gets T.2.1 hX T.2.2.2.2.2.2.2.2.2.2.1 q620 (fun _ h9 => h9) dJ6_coder_0) ?_
  refine c_br h (k_if_eq (tgt := 13) hX h dJ6_coder_3 (by decide)) (fun h => ?_) (fun h => ?_)
  · refine cw (k_iconst (v := 1) hX dJ6_coder_13 (by decide)) ?_
    exact c_ret_yr T e h dJ6_coder_14
  · refine cw (k_aload_n hX dJ6_coder_6 rfl 0 rfl) ?_
    refine cg_J6_15 T h dJ6_coder_7 (fun v1 h => ?_)
    refine cw (k_goto (tgt := 14) hX dJ6_coder_10 (by decide)) ?_
    exact c_ret_yr T e h dJ6_coder_14
theorem met_FJ6_length {l : Launch} {E : CE} {s : CS} : ∀ (x0 : Nat) (z : Int32), FJ6_length s x0 = some z → (isK s x0 [23, 25] = true ∧ cMet_i l E yJ6_length (ws_ yJ6_length cJ6_length 1 (some .int)) 1 20 [.ref x0] s z s) := by
  intro x0 z h
  unfold FJ6_length at h
  obtain ⟨hg, h⟩ := gd_of h
  refine ⟨hg, c_met_i ⟨Nat.le_refl _, Nat.le_refl _⟩ (by decide +kernel) rfl (fun X hl hin T hR e => ?_)⟩
  have T : cOK X E cJ6_length RJ6 1 (some .int) _ _ _ _ := T
  have hX := T.1
  show cW X _ _ s 0 [(0, .ref x0)] []
  refine cw (k_aload_n hX dJ6_length_0 rfl 0 rfl) ?_
  refine cg_J6_9 T h dJ6_length_1 (fun r1 h => ?_)
  obtain ⟨p2, e_p2, hq_p2⟩ := nn_of h
  subst e_p2
  have h := hq_p2
  show cW X _ _ _ 4 [(0, .ref x0)] [.ref p2]
  refine ca_len T h dJ6_length_4 (fun v3 h => ?_)
  refine cw (k_aload_n hX dJ6_length_5 rfl 0 rfl) ?_
  refine cX_J6_335 T met_FJ6_coder (c_room hR rfl rfl) h rfl dJ6_length_6 (fun v4 h => ?_)
  refine cw (k_ishr hX dJ6_length_9) ?_
  exact c_ret_ir T e h dJ6_length_10
theorem met_FJ7_canEncode {l : Launch} {E : CE} {s : CS} : ∀ (x0 : Int32) (z : Int32), FJ7_canEncode s x0 = some z → cMet_i l E yJ7_canEncode (ws_ yJ7_canEncode cJ7_canEncode 1 (some .boolean)) 0 0 [.int x0] s z s := by
  intro x0 z h
  unfold FJ7_canEncode at h
  refine c_met_i ⟨Nat.le_refl _, Nat.le_refl _⟩ (by decide +kernel) rfl (fun X hl hin T hR e => ?_)
  have T : cOK X E cJ7_canEncode RJ7 1 (some .boolean) _ _ _ _ := T
  have hX := T.1
  show cW X _ _ s 0 [(0, .int x0)] []
  refine cw (k_iload_n hX dJ7_canEncode_0 rfl 0 rfl) ?_
  refine c_br h (k_if_lt (tgt := 15) hX h dJ7_canEncode_1 (by decide)) (fun h => ?_) (fun h => ?_)
  · refine cw (k_iconst (v := 0) hX dJ7_canEncode_15 (by decide)) ?_
    exact c_ret_zrc T e rfl h dJ7_canEncode_16
  · refine cw (k_iload_n hX dJ7_canEncode_4 rfl 0 rfl) ?_
    refine cw (k_sipush (v := 255) hX dJ7_canEncode_5 (by decide)) ?_
    refine c_br h (k_icmp_gt (tgt := 15) hX h dJ7_canEncode_8 (by decide)) (fun h => ?_) (fun h => ?_)
    · refine cw (k_iconst (v := 0) hX dJ7_canEncode_15 (by decide)) ?_
      exact c_ret_zrc T e rfl h dJ7_canEncode_16
    · refine cw (k_iconst (v := 1) hX dJ7_canEncode_11 (by decide)) ?_
      refine cw (k_goto (tgt := 16) hX dJ7_canEncode_12 (by decide)) ?_
      exact c_ret_zrc T e rfl h dJ7_canEncode_16
theorem FJ7_indexOfChar_b7_s_ok {X : KC CS} {E : CE} {z : Int32} {z0 l0 z1 l1 : Nat} {s : CS} (T : cOK X E cJ7_indexOfChar RJ7 6 (some .int) z0 l0 z1 l1) (hR : cRoom X 0 0) (e : cE_i X E z0 l0 z1 l1 z s) {nf : Nat} {k7 : Nat → Int32 → Int32 → Int32 → Option Int32} (hk7 : ∀ (x0 : Nat) (x3 : Int32) (x4 : Int32) (x5 : Int32), k7 x0 x3 x4 x5 = some z → cW X z1 l1 s 7 [(0, .ref x0), (3, .int x3), (4, .int x4), (5, .int x5)] []) {x0 : Nat} {x3 : Int32} {x4 : Int32} {x5 : Int32} (h : FJ7_indexOfChar_b7_s nf s k7 x0 x3 x4 x5 = some z) : cW X z1 l1 s 7 [(0, .ref x0), (3, .int x3), (4, .int x4), (5, .int x5)] [] := by
  unfold FJ7_indexOfChar_b7_s at h
  have hX := T.1
  refine cw (k_iload hX dJ7_indexOfChar_7 3 rfl) ?_
  refine cw (k_iload_n hX dJ7_indexOfChar_9 rfl 1 rfl) ?_
  refine c_br h (k_icmp_ge (tgt := 31) hX h dJ7_indexOfChar_10 (by decide)) (fun h => ?_) (fun h => ?_)
  · refine cw (k_iconst (v := (-1)) hX dJ7_indexOfChar_31 (by decide)) ?_
    exact c_ret_ir T e h dJ7_indexOfChar_32
  · refine cw (k_aload_n hX dJ7_indexOfChar_13 rfl 0 rfl) ?_
    refine cw (k_iload hX dJ7_indexOfChar_14 3 rfl) ?_
    refine ca_bld T h dJ7_indexOfChar_16 (fun v1 h => ?_)
    refine cw (k_iload hX dJ7_indexOfChar_17 2 rfl) ?_
    refine c_brn h (k_icmp_ne (tgt := 25) hX h dJ7_indexOfChar_19 (by decide)) (fun h => ?_) (fun h => ?_)
    · refine cw (k_iinc (j := 3) [(5, .int (x5 + 1)), (0, .ref x0), (3, .int x3), (4, .int x4)] hX dJ7_indexOfChar_25 rfl rfl rfl rfl) ?_
      refine cw (k_goto (tgt := 7) hX dJ7_indexOfChar_28 (by decide)) ?_
      refine cw (k_lv (lv' := [(0, .ref x0), (3, .int x3), (4, .int x4), (5, .int (x5 + 1))]) [1, 2, 3, 0] rfl) ?_
      exact hk7 _ _ _ _ h
    · refine cw (k_iload hX dJ7_indexOfChar_22 3 rfl) ?_
      exact c_ret_ir T e h dJ7_indexOfChar_24
theorem FJ7_indexOfChar_b7_ok {X : KC CS} {E : CE} {z : Int32} {z0 l0 z1 l1 : Nat} {s : CS} (T : cOK X E cJ7_indexOfChar RJ7 6 (some .int) z0 l0 z1 l1) (hR : cRoom X 0 0) (e : cE_i X E z0 l0 z1 l1 z s) {nf : Nat} : ∀ (n : Nat) (x0 : Nat) (x3 : Int32) (x4 : Int32) (x5 : Int32), FJ7_indexOfChar_b7 nf s n x0 x3 x4 x5 = some z → cW X z1 l1 s 7 [(0, .ref x0), (3, .int x3), (4, .int x4), (5, .int x5)] [] := by
  intro n
  induction n with
  | zero => intro x0 x3 x4 x5 h; exact (nomatch (show (none : Option Int32) = some z from h))
  | succ n ih =>
    intro x0 x3 x4 x5 h
    have h : FJ7_indexOfChar_b7_s nf s (FJ7_indexOfChar_b7 nf s n) x0 x3 x4 x5 = some z := h
    exact FJ7_indexOfChar_b7_s_ok T hR e ih h
theorem met_FJ7_indexOfChar {l : Launch} {E : CE} {nf : Nat} {s : CS} : ∀ (x0 : Nat) (x1 : Int32) (x2 : Int32) (x3 : Int32) (z : Int32), FJ7_indexOfChar nf s x0 x1 x2 x3 = some z → cMet_i l E yJ7_indexOfChar (ws_ yJ7_indexOfChar cJ7_indexOfChar 6 (some .int)) 0 0 [.ref x0, .int x1, .int x2, .int x3] s z s := by
  intro x0 x1 x2 x3 z h
  unfold FJ7_indexOfChar at h
  refine c_met_i ⟨Nat.le_refl _, Nat.le_refl _⟩ (by decide +kernel) rfl (fun X hl hin T hR e => ?_)
  have T : cOK X E cJ7_indexOfChar RJ7 6 (some .int) _ _ _ _ := T
  have hX := T.1
  show cW X _ _ s 0 [(0, .ref x0), (1, .int x1), (2, .int x2), (3, .int x3)] []
  refine cw (k_iload_n hX dJ7_indexOfChar_0 rfl 1 rfl) ?_
  refine cw (k_i2b hX dJ7_indexOfChar_1) ?_
  refine c_nm h (fun v1 h => ?_)
  refine cw (k_istore [(4, .int v1), (0, .ref x0), (1, .int x1), (2, .int x2), (3, .int x3)] hX dJ7_indexOfChar_2 rfl rfl) ?_
  refine cw (k_iload_n hX dJ7_indexOfChar_4 rfl 3 rfl) ?_
  refine cw (k_istore [(5, .int x2), (4, .int v1), (0, .ref x0), (1, .int x1), (2, .int x2), (3, .int x3)] hX dJ7_indexOfChar_5 rfl rfl) ?_
  refine cw (k_lv (lv' := [(0, .ref x0), (3, .int x3), (4, .int v1), (5, .int x2)]) [2, 5, 1, 0] rfl) ?_
  exact FJ7_indexOfChar_b7_ok T hR e _ _ _ _ _ h
theorem met_FJ7_indexOf {l : Launch} {E : CE} {nf : Nat} {s : CS} : ∀ (x0 : Nat) (x1 : Int32) (x2 : Int32) (x3 : Int32) (z : Int32), FJ7_indexOf nf s x0 x1 x2 x3 = some z → cMet_i l E yJ7_indexOf (ws_ yJ7_indexOf cJ7_indexOf 4 (some .int)) 1 40 [.ref x0, .int x1, .int x2, .int x3] s z s := by
  intro x0 x1 x2 x3 z h
  unfold FJ7_indexOf at h
  refine c_met_i ⟨Nat.le_refl _, Nat.le_refl _⟩ (by decide +kernel) rfl (fun X hl hin T hR e => ?_)
  have T : cOK X E cJ7_indexOf RJ7 4 (some .int) _ _ _ _ := T
  have hX := T.1
  show cW X _ _ s 0 [(0, .ref x0), (1, .int x1), (2, .int x2), (3, .int x3)] []
  refine cw (k_iload_n hX dJ7_indexOf_0 rfl 1 rfl) ?_
  refine cX_J7_88 T met_FJ7_canEncode (c_room hR rfl rfl) h rfl dJ7_indexOf_1 (fun v1 h => ?_)
  refine c_brn h (k_if_ne (tgt := 9) hX h dJ7_indexOf_4 (by decide)) (fun h => ?_) (fun h => ?_)
  · refine cw (k_iload_n hX dJ7_indexOf_9 rfl 2 rfl) ?_
    refine cw (k_iconst (v := 0) hX dJ7_indexOf_10 (by decide)) ?_
    refine c_mmax T hR q636 q289 q145 q290 rfl dJ7_indexOf_11 ?_
    refine c_nm h (fun v2 h => ?_)
    refine cw (k_istore_n [(2, .int v2), (0, .ref x0), (1, .int x1), (3, .int x3)] hX dJ7_indexOf_14 rfl rfl rfl) ?_
    refine cw (k_iload_n hX dJ7_indexOf_15 rfl 3 rfl) ?_
    refine cw (k_aload_n hX dJ7_indexOf_16 rfl 1 rfl) ?_
    refine ca_len T h dJ7_indexOf_17 (fun v3 h => ?_)
    refine c_mmin T hR q637 q330 q145 q331 rfl dJ7_indexOf_18 ?_
    refine c_nm h (fun v4 h => ?_)
    refine cw (k_istore_n [(3, .int v4), (2, .int v2), (0, .ref x0), (1, .int x1)] hX dJ7_indexOf_21 rfl rfl rfl) ?_
    refine cw (k_iload_n hX dJ7_indexOf_22 rfl 1 rfl) ?_
    refine cw (k_iload_n hX dJ7_indexOf_23 rfl 0 rfl) ?_
    refine c_br h (k_icmp_lt (tgt := 29) hX h dJ7_indexOf_24 (by decide)) (fun h => ?_) (fun h => ?_)
    · refine cw (k_aload_n hX dJ7_indexOf_29 rfl 2 rfl) ?_
      refine cw (k_iload_n hX dJ7_indexOf_30 rfl 3 rfl) ?_
      refine cw (k_iload_n hX dJ7_indexOf_31 rfl 1 rfl) ?_
      refine cw (k_iload_n hX dJ7_indexOf_32 rfl 0 rfl) ?_
      refine cX_J7_95 T met_FJ7_indexOfChar (c_room hR rfl rfl) h rfl dJ7_indexOf_33 (fun v5 h => ?_)
      exact c_ret_ir T e h dJ7_indexOf_36
    · refine cw (k_iconst (v := (-1)) hX dJ7_indexOf_27 (by decide)) ?_
      exact c_ret_ir T e h dJ7_indexOf_28
  · refine cw (k_iconst (v := (-1)) hX dJ7_indexOf_7 (by decide)) ?_
    exact c_ret_ir T e h dJ7_indexOf_8
theorem met_FJ6_indexOf_2 {l : Launch} {E : CE} {nf : Nat} {s : CS} : ∀ (x0 : Nat) (x1 : Int32) (x2 : Int32) (z : Int32), FJ6_indexOf_2 nf s x0 x1 x2 = some z → (isK s x0 [23, 25] = true ∧ cMet_i l E yJ6_indexOf_2 (ws_ yJ6_indexOf_2 cJ6_indexOf_2 3 (some .int)) 2 63 [.ref x0, .int x1, .int x2] s z s) := by
  intro x0 x1 x2 z h
  unfold FJ6_indexOf_2 at h
  obtain ⟨hg, h⟩ := gd_of h
  refine ⟨hg, c_met_i ⟨Nat.le_refl _, Nat.le_refl _⟩ (by decide +kernel) rfl (fun X hl hin T hR e => ?_)⟩
  have T : cOK X E cJ6_indexOf_2 RJ6 3 (some .int) _ _ _ _ := T
  have hX := T.1
  show cW X _ _ s 0 [(0, .ref x0), (1, .int x1), (2, .int x2)] []
  refine cw (k_aload_n hX dJ6_indexOf_2_0 rfl 0 rfl) ?_
  refine cX_J6_492 T met_FJ6_isLatin1 (c_room hR rfl rfl) h rfl dJ6_indexOf_2_1 (fun v1 h => ?_)
  refine c_br h (k_if_eq (tgt := 23) hX h dJ6_indexOf_2_4 (by decide)) (fun h => ?_) (fun h => ?_)
  · refine cw (k_aload_n hX dJ6_indexOf_2_23 rfl 0 rfl) ?_
    refine cg_J6_9 T h dJ6_indexOf_2_24 (fun r2 h => ?_)
    refine cw (k_iload_n hX dJ6_indexOf_2_27 rfl 1 rfl) ?_
    refine cw (k_iload_n hX dJ6_indexOf_2_28 rfl 2 rfl) ?_
    refine cw (k_aload_n hX dJ6_indexOf_2_29 rfl 0 rfl) ?_
    refine cX_J6_505 T met_FJ6_length (c_room hR rfl rfl) h (by cases r2 <;> rfl) dJ6_indexOf_2_30 (fun v3 h => ?_)
    cases h
  · refine cw (k_aload_n hX dJ6_indexOf_2_7 rfl 0 rfl) ?_
    refine cg_J6_9 T h dJ6_indexOf_2_8 (fun r4 h => ?_)
    refine cw (k_iload_n hX dJ6_indexOf_2_11 rfl 1 rfl) ?_
    refine cw (k_iload_n hX dJ6_indexOf_2_12 rfl 2 rfl) ?_
    refine cw (k_aload_n hX dJ6_indexOf_2_13 rfl 0 rfl) ?_
    refine cX_J6_505 T met_FJ6_length (c_room hR rfl rfl) h (by cases r4 <;> rfl) dJ6_indexOf_2_14 (fun v5 h => ?_)
    obtain ⟨p6, e_p6, hq_p6⟩ := nn_of h
    subst e_p6
    have h := hq_p6
    show cW X _ _ _ 17 [(0, .ref x0), (1, .int x1), (2, .int x2)] [.int v5, .int x2, .int x1, .ref p6]
    refine cX_J6_637 T met_FJ7_indexOf (c_room hR rfl rfl) h rfl dJ6_indexOf_2_17 (fun v7 h => ?_)
    refine cw (k_goto (tgt := 36) hX dJ6_indexOf_2_20 (by decide)) ?_
    exact c_ret_ir T e h dJ6_indexOf_2_36
theorem met_FJ6_indexOf {l : Launch} {E : CE} {nf : Nat} {s : CS} : ∀ (x0 : Nat) (x1 : Int32) (z : Int32), FJ6_indexOf nf s x0 x1 = some z → (isK s x0 [23, 25] = true ∧ cMet_i l E yJ6_indexOf (ws_ yJ6_indexOf cJ6_indexOf 2 (some .int)) 3 85 [.ref x0, .int x1] s z s) := by
  intro x0 x1 z h
  unfold FJ6_indexOf at h
  obtain ⟨hg, h⟩ := gd_of h
  refine ⟨hg, c_met_i ⟨Nat.le_refl _, Nat.le_refl _⟩ (by decide +kernel) rfl (fun X hl hin T hR e => ?_)⟩
  have T : cOK X E cJ6_indexOf RJ6 2 (some .int) _ _ _ _ := T
  have hX := T.1
  show cW X _ _ s 0 [(0, .ref x0), (1, .int x1)] []
  refine cw (k_aload_n hX dJ6_indexOf_0 rfl 0 rfl) ?_
  refine cw (k_iload_n hX dJ6_indexOf_1 rfl 1 rfl) ?_
  refine cw (k_iconst (v := 0) hX dJ6_indexOf_2 (by decide)) ?_
  refine cX_J6_633 T met_FJ6_indexOf_2 (c_room hR rfl rfl) h rfl dJ6_indexOf_3 (fun v1 h => ?_)
  exact c_ret_ir T e h dJ6_indexOf_6
theorem FX1_next_b283_ok {X : KC CS} {E : CE} {z : CS} {z0 l0 z1 l1 : Nat} (T : cOK X E cX1_next RX1 1 none z0 l0 z1 l1) (hR : cRoom X 4 106) (e : cE_v X E z0 l0 z1 l1 z) {nf : Nat} {x0 : Nat} {s_0 : Int32} {s_1 : Nat} {s : CS} (h : FX1_next_b283 E.2.2.2 nf x0 s_0 s_1 s = some z) : cW X z1 l1 s 283 [(0, .ref x0)] [.int s_0, .ref s_1] := by
  unfold FX1_next_b283 at h
  have hX := T.1
  refine cp_X1_31 T h dX1_next_283 (fun s1 h => ?_)
  refine cw (k_aload_n hX dX1_next_286 rfl 0 rfl) ?_
  refine cw (k_dup hX dX1_next_287 rfl) ?_
  refine cg_X1_19 T h dX1_next_288 (fun v2 h => ?_)
  refine cw (k_iconst (v := 1) hX dX1_next_291 (by decide)) ?_
  refine cw (k_iadd hX dX1_next_292) ?_
  refine cp_X1_19 T h dX1_next_293 (fun s3 h => ?_)
  exact c_ret_v T e h dX1_next_296
theorem FX1_next_b219_ok {X : KC CS} {E : CE} {z : CS} {z0 l0 z1 l1 : Nat} (T : cOK X E cX1_next RX1 1 none z0 l0 z1 l1) (hR : cRoom X 4 106) (e : cE_v X E z0 l0 z1 l1 z) {nf : Nat} {k165 : Nat → CS → Option CS} (hk165 : ∀ (x0 : Nat) (s : CS), k165 x0 s = some z → cW X z1 l1 s 165 [(0, .ref x0)] []) {x0 : Nat} {s_0 : Int32} {s_1 : Nat} {s : CS} (h : FX1_next_b219 E.2.2.2 nf k165 x0 s_0 s_1 s = some z) : cW X z1 l1 s 219 [(0, .ref x0)] [.int s_0, .ref s_1] := by
  unfold FX1_next_b219 at h
  have hX := T.1
  refine cp_X1_45 T h dX1_next_219 (fun s1 h => ?_)
  refine cw (k_aload_n hX dX1_next_222 rfl 0 rfl) ?_
  refine cw (k_dup hX dX1_next_223 rfl) ?_
  refine cg_X1_19 T h dX1_next_224 (fun v2 h => ?_)
  refine cw (k_iconst (v := 1) hX dX1_next_227 (by decide)) ?_
  refine cw (k_iadd hX dX1_next_228) ?_
  refine cp_X1_19 T h dX1_next_229 (fun s3 h => ?_)
  refine cw (k_goto (tgt := 165) hX dX1_next_232 (by decide)) ?_
  refine cw (k_lv (lv' := [(0, .ref x0)]) [0] rfl) ?_
  exact hk165 _ _ h
theorem FX1_next_b165_s_ok {X : KC CS} {E : CE} {z : CS} {z0 l0 z1 l1 : Nat} (T : cOK X E cX1_next RX1 1 none z0 l0 z1 l1) (hR : cRoom X 4 106) (e : cE_v X E z0 l0 z1 l1 z) {nf : Nat} {k165 : Nat → CS → Option CS} (hk165 : ∀ (x0 : Nat) (s : CS), k165 x0 s = some z → cW X z1 l1 s 165 [(0, .ref x0)] []) {x0 : Nat} {s : CS} (h : FX1_next_b165_s E.2.2.2 nf k165 x0 s = some z) : cW X z1 l1 s 165 [(0, .ref x0)] [] := by
  unfold FX1_next_b165_s at h
  have hX := T.1
  refine cw (k_aload_n hX dX1_next_165 rfl 0 rfl) ?_
  refine cw (k_aload_n hX dX1_next_166 rfl 0 rfl) ?_
  refine cg_X1_19 T h dX1_next_167 (fun v1 h => ?_)
  refine cX_X1_34 T met_FX1_at (c_room hR rfl rfl) h rfl dX1_next_170 (fun v2 h => ?_)
  refine cX_X1_42 T met_FX1_isDigit (c_room hR rfl rfl) h rfl dX1_next_173 (fun v3 h => ?_)
  refine c_br h (k_if_eq (tgt := 235) hX h dX1_next_176 (by decide)) (fun h => ?_) (fun h => ?_)
  · refine cw (k_aload_n hX dX1_next_235 rfl 0 rfl) ?_
    refine cw (k_aload_n hX dX1_next_236 rfl 0 rfl) ?_
    refine cg_X1_19 T h dX1_next_237 (fun v4 h => ?_)
    refine cw (k_aload_n hX dX1_next_240 rfl 0 rfl) ?_
    refine cg_X1_28 T h dX1_next_241 (fun v5 h => ?_)
    refine cw (k_isub hX dX1_next_244) ?_
    refine cw (k_iconst (v := 4) hX dX1_next_245 (by decide)) ?_
    refine c_br h (k_icmp_le (tgt := 253) hX h dX1_next_246 (by decide)) (fun h => ?_) (fun h => ?_)
    · refine cw (k_iconst (v := 2) hX dX1_next_253 (by decide)) ?_
      refine cp_X1_31 T h dX1_next_254 (fun s6 h => ?_)
      refine cw (k_goto (tgt := 296) hX dX1_next_257 (by decide)) ?_
      exact c_ret_v T e h dX1_next_296
    · refine cw (k_iconst (v := 4) hX dX1_next_249 (by decide)) ?_
      refine cw (k_goto (tgt := 254) hX dX1_next_250 (by decide)) ?_
      refine cp_X1_31 T h dX1_next_254 (fun s7 h => ?_)
      refine cw (k_goto (tgt := 296) hX dX1_next_257 (by decide)) ?_
      exact c_ret_v T e h dX1_next_296
  · refine cw (k_aload_n hX dX1_next_179 rfl 0 rfl) ?_
    refine cw (k_aload_n hX dX1_next_180 rfl 0 rfl) ?_
    refine cg_X1_19 T h dX1_next_181 (fun v8 h => ?_)
    refine cw (k_aload_n hX dX1_next_184 rfl 0 rfl) ?_
    refine cg_X1_28 T h dX1_next_185 (fun v9 h => ?_)
    refine cw (k_isub hX dX1_next_188) ?_
    refine cw (k_iconst (v := 4) hX dX1_next_189 (by decide)) ?_
    refine c_br h (k_icmp_ge (tgt := 215) hX h dX1_next_190 (by decide)) (fun h => ?_) (fun h => ?_)
    · refine cw (k_aload_n hX dX1_next_215 rfl 0 rfl) ?_
      refine cg_X1_45 T h dX1_next_216 (fun v10 h => ?_)
      refine cw (k_lv (lv' := [(0, .ref x0)]) [0] rfl) ?_
      exact FX1_next_b219_ok T hR e hk165 h
    · refine cw (k_bipush (v := 10) hX dX1_next_193 (by decide)) ?_
      refine cw (k_aload_n hX dX1_next_195 rfl 0 rfl) ?_
      refine cg_X1_45 T h dX1_next_196 (fun v11 h => ?_)
      refine cw (k_imul hX dX1_next_199) ?_
      refine cw (k_aload_n hX dX1_next_200 rfl 0 rfl) ?_
      refine cw (k_aload_n hX dX1_next_201 rfl 0 rfl) ?_
      refine cg_X1_19 T h dX1_next_202 (fun v12 h => ?_)
      refine cX_X1_34 T met_FX1_at (c_room hR rfl rfl) h rfl dX1_next_205 (fun v13 h => ?_)
      refine cw (k_iadd hX dX1_next_208) ?_
      refine cw (k_bipush (v := 48) hX dX1_next_209 (by decide)) ?_
      refine cw (k_isub hX dX1_next_211) ?_
      refine cw (k_goto (tgt := 219) hX dX1_next_212 (by decide)) ?_
      refine cw (k_lv (lv' := [(0, .ref x0)]) [0] rfl) ?_
      exact FX1_next_b219_ok T hR e hk165 h
theorem FX1_next_b165_ok {X : KC CS} {E : CE} {z : CS} {z0 l0 z1 l1 : Nat} (T : cOK X E cX1_next RX1 1 none z0 l0 z1 l1) (hR : cRoom X 4 106) (e : cE_v X E z0 l0 z1 l1 z) {nf : Nat} : ∀ (n : Nat) (x0 : Nat) (s : CS), FX1_next_b165 E.2.2.2 nf n x0 s = some z → cW X z1 l1 s 165 [(0, .ref x0)] [] := by
  intro n
  induction n with
  | zero => intro x0 s h; exact (nomatch (show (none : Option CS) = some z from h))
  | succ n ih =>
    intro x0 s h
    have h : FX1_next_b165_s E.2.2.2 nf (FX1_next_b165 E.2.2.2 nf n) x0 s = some z := h
    exact FX1_next_b165_s_ok T hR e ih h
theorem FX1_next_b93_s_ok {X : KC CS} {E : CE} {z : CS} {z0 l0 z1 l1 : Nat} (T : cOK X E cX1_next RX1 1 none z0 l0 z1 l1) (hR : cRoom X 4 106) (e : cE_v X E z0 l0 z1 l1 z) {nf : Nat} {k93 : Nat → CS → Option CS} (hk93 : ∀ (x0 : Nat) (s : CS), k93 x0 s = some z → cW X z1 l1 s 93 [(0, .ref x0)] []) {x0 : Nat} {s : CS} (h : FX1_next_b93_s E.2.2.2 nf k93 x0 s = some z) : cW X z1 l1 s 93 [(0, .ref x0)] [] := by
  unfold FX1_next_b93_s at h
  have hX := T.1
  refine cw (k_aload_n hX dX1_next_93 rfl 0 rfl) ?_
  refine cw (k_aload_n hX dX1_next_94 rfl 0 rfl) ?_
  refine cg_X1_19 T h dX1_next_95 (fun v1 h => ?_)
  refine cX_X1_34 T met_FX1_at (c_room hR rfl rfl) h rfl dX1_next_98 (fun v2 h => ?_)
  refine cX_X1_38 T met_FX1_isLetter (c_room hR rfl rfl) h rfl dX1_next_101 (fun v3 h => ?_)
  refine c_br h (k_if_eq (tgt := 120) hX h dX1_next_104 (by decide)) (fun h => ?_) (fun h => ?_)
  · refine cw (k_aload_n hX dX1_next_120 rfl 0 rfl) ?_
    refine cw (k_aload_n hX dX1_next_121 rfl 0 rfl) ?_
    refine cg_X1_19 T h dX1_next_122 (fun v4 h => ?_)
    refine cw (k_aload_n hX dX1_next_125 rfl 0 rfl) ?_
    refine cg_X1_28 T h dX1_next_126 (fun v5 h => ?_)
    refine cw (k_isub hX dX1_next_129) ?_
    refine cw (k_bipush (v := 8) hX dX1_next_130 (by decide)) ?_
    refine c_br h (k_icmp_le (tgt := 139) hX h dX1_next_132 (by decide)) (fun h => ?_) (fun h => ?_)
    · refine cw (k_iconst (v := 1) hX dX1_next_139 (by decide)) ?_
      refine cp_X1_31 T h dX1_next_140 (fun s6 h => ?_)
      refine cw (k_goto (tgt := 296) hX dX1_next_143 (by decide)) ?_
      exact c_ret_v T e h dX1_next_296
    · refine cw (k_iconst (v := 4) hX dX1_next_135 (by decide)) ?_
      refine cw (k_goto (tgt := 140) hX dX1_next_136 (by decide)) ?_
      refine cp_X1_31 T h dX1_next_140 (fun s7 h => ?_)
      refine cw (k_goto (tgt := 296) hX dX1_next_143 (by decide)) ?_
      exact c_ret_v T e h dX1_next_296
  · refine cw (k_aload_n hX dX1_next_107 rfl 0 rfl) ?_
    refine cw (k_dup hX dX1_next_108 rfl) ?_
    refine cg_X1_19 T h dX1_next_109 (fun v8 h => ?_)
    refine cw (k_iconst (v := 1) hX dX1_next_112 (by decide)) ?_
    refine cw (k_iadd hX dX1_next_113) ?_
    refine cp_X1_19 T h dX1_next_114 (fun s9 h => ?_)
    refine cw (k_goto (tgt := 93) hX dX1_next_117 (by decide)) ?_
    refine cw (k_lv (lv' := [(0, .ref x0)]) [0] rfl) ?_
    exact hk93 _ _ h
theorem FX1_next_b93_ok {X : KC CS} {E : CE} {z : CS} {z0 l0 z1 l1 : Nat} (T : cOK X E cX1_next RX1 1 none z0 l0 z1 l1) (hR : cRoom X 4 106) (e : cE_v X E z0 l0 z1 l1 z) {nf : Nat} : ∀ (n : Nat) (x0 : Nat) (s : CS), FX1_next_b93 E.2.2.2 nf n x0 s = some z → cW X z1 l1 s 93 [(0, .ref x0)] [] := by
  intro n
  induction n with
  | zero => intro x0 s h; exact (nomatch (show (none : Option CS) = some z from h))
  | succ n ih =>
    intro x0 s h
    have h : FX1_next_b93_s E.2.2.2 nf (FX1_next_b93 E.2.2.2 nf n) x0 s = some z := h
    exact FX1_next_b93_s_ok T hR e ih h
theorem FX1_next_b52_ok {X : KC CS} {E : CE} {z : CS} {z0 l0 z1 l1 : Nat} (T : cOK X E cX1_next RX1 1 none z0 l0 z1 l1) (hR : cRoom X 4 106) (e : cE_v X E z0 l0 z1 l1 z) {nf : Nat} {x0 : Nat} {s : CS} (h : FX1_next_b52 E.2.2.2 nf x0 s = some z) : cW X z1 l1 s 52 [(0, .ref x0)] [] := by
  unfold FX1_next_b52 at h
  have hX := T.1
  refine cw (k_aload_n hX dX1_next_52 rfl 0 rfl) ?_
  refine cw (k_aload_n hX dX1_next_53 rfl 0 rfl) ?_
  refine cg_X1_19 T h dX1_next_54 (fun v1 h => ?_)
  refine cp_X1_28 T h dX1_next_57 (fun s2 h => ?_)
  refine cw (k_aload_n hX dX1_next_60 rfl 0 rfl) ?_
  refine cg_X1_19 T h dX1_next_61 (fun v3 h => ?_)
  refine cw (k_aload_n hX dX1_next_64 rfl 0 rfl) ?_
  refine cg_X1_15 T h dX1_next_65 (fun v4 h => ?_)
  refine c_brn h (k_icmp_ne (tgt := 79) hX h dX1_next_68 (by decide)) (fun h => ?_) (fun h => ?_)
  · refine cw (k_aload_n hX dX1_next_79 rfl 0 rfl) ?_
    refine cw (k_aload_n hX dX1_next_80 rfl 0 rfl) ?_
    refine cg_X1_19 T h dX1_next_81 (fun v5 h => ?_)
    refine cX_X1_34 T met_FX1_at (c_room hR rfl rfl) h rfl dX1_next_84 (fun v6 h => ?_)
    refine cX_X1_38 T met_FX1_isLetter (c_room hR rfl rfl) h rfl dX1_next_87 (fun v7 h => ?_)
    refine c_br h (k_if_eq (tgt := 146) hX h dX1_next_90 (by decide)) (fun h => ?_) (fun h => ?_)
    · refine cw (k_aload_n hX dX1_next_146 rfl 0 rfl) ?_
      refine cw (k_aload_n hX dX1_next_147 rfl 0 rfl) ?_
      refine cg_X1_19 T h dX1_next_148 (fun v8 h => ?_)
      refine cX_X1_34 T met_FX1_at (c_room hR rfl rfl) h rfl dX1_next_151 (fun v9 h => ?_)
      refine cX_X1_42 T met_FX1_isDigit (c_room hR rfl rfl) h rfl dX1_next_154 (fun v10 h => ?_)
      refine c_br h (k_if_eq (tgt := 260) hX h dX1_next_157 (by decide)) (fun h => ?_) (fun h => ?_)
      · refine cw (k_aload_n hX dX1_next_260 rfl 0 rfl) ?_
        obtain ⟨p11, e_p11, hq_p11⟩ := nn_of h
        have h := hq_p11
        refine cw (k_ldcS (k := 0) T e_p11 rfl dX1_next_261) ?_
        refine cw (k_aload_n hX dX1_next_263 rfl 0 rfl) ?_
        refine cw (k_aload_n hX dX1_next_264 rfl 0 rfl) ?_
        refine cg_X1_19 T h dX1_next_265 (fun v12 h => ?_)
        refine cX_X1_34 T met_FX1_at (c_room hR rfl rfl) h rfl dX1_next_268 (fun v13 h => ?_)
        refine cw (k_i2c hX dX1_next_271) ?_
        refine cX_X1_50 T met_FJ6_indexOf (c_room hR rfl rfl) h rfl dX1_next_272 (fun v14 h => ?_)
        refine c_br h (k_if_lt (tgt := 282) hX h dX1_next_275 (by decide)) (fun h => ?_) (fun h => ?_)
        · refine cw (k_iconst (v := 4) hX dX1_next_282 (by decide)) ?_
          refine cw (k_lv (lv' := [(0, .ref x0)]) [0] rfl) ?_
          exact FX1_next_b283_ok T hR e h
        · refine cw (k_iconst (v := 3) hX dX1_next_278 (by decide)) ?_
          refine cw (k_goto (tgt := 283) hX dX1_next_279 (by decide)) ?_
          refine cw (k_lv (lv' := [(0, .ref x0)]) [0] rfl) ?_
          exact FX1_next_b283_ok T hR e h
      · refine cw (k_aload_n hX dX1_next_160 rfl 0 rfl) ?_
        refine cw (k_iconst (v := 0) hX dX1_next_161 (by decide)) ?_
        refine cp_X1_45 T h dX1_next_162 (fun s15 h => ?_)
        refine cw (k_lv (lv' := [(0, .ref x0)]) [0] rfl) ?_
        exact FX1_next_b165_ok T hR e _ _ _ h
    · refine cw (k_lv (lv' := [(0, .ref x0)]) [0] rfl) ?_
      exact FX1_next_b93_ok T hR e _ _ _ h
  · refine cw (k_aload_n hX dX1_next_71 rfl 0 rfl) ?_
    refine cw (k_iconst (v := 0) hX dX1_next_72 (by decide)) ?_
    refine cp_X1_31 T h dX1_next_73 (fun s16 h => ?_)
    refine cw (k_goto (tgt := 296) hX dX1_next_76 (by decide)) ?_
    exact c_ret_v T e h dX1_next_296
theorem FX1_next_b39_ok {X : KC CS} {E : CE} {z : CS} {z0 l0 z1 l1 : Nat} (T : cOK X E cX1_next RX1 1 none z0 l0 z1 l1) (hR : cRoom X 4 106) (e : cE_v X E z0 l0 z1 l1 z) {nf : Nat} {k0 : Nat → CS → Option CS} (hk0 : ∀ (x0 : Nat) (s : CS), k0 x0 s = some z → cW X z1 l1 s 0 [(0, .ref x0)] []) {x0 : Nat} {s : CS} (h : FX1_next_b39 E.2.2.2 nf k0 x0 s = some z) : cW X z1 l1 s 39 [(0, .ref x0)] [] := by
  unfold FX1_next_b39 at h
  have hX := T.1
  refine cw (k_aload_n hX dX1_next_39 rfl 0 rfl) ?_
  refine cw (k_dup hX dX1_next_40 rfl) ?_
  refine cg_X1_19 T h dX1_next_41 (fun v1 h => ?_)
  refine cw (k_iconst (v := 1) hX dX1_next_44 (by decide)) ?_
  refine cw (k_iadd hX dX1_next_45) ?_
  refine cp_X1_19 T h dX1_next_46 (fun s2 h => ?_)
  refine cw (k_goto (tgt := 0) hX dX1_next_49 (by decide)) ?_
  refine cw (k_lv (lv' := [(0, .ref x0)]) [0] rfl) ?_
  exact hk0 _ _ h
theorem FX1_next_b0_s_ok {X : KC CS} {E : CE} {z : CS} {z0 l0 z1 l1 : Nat} (T : cOK X E cX1_next RX1 1 none z0 l0 z1 l1) (hR : cRoom X 4 106) (e : cE_v X E z0 l0 z1 l1 z) {nf : Nat} {k0 : Nat → CS → Option CS} (hk0 : ∀ (x0 : Nat) (s : CS), k0 x0 s = some z → cW X z1 l1 s 0 [(0, .ref x0)] []) {x0 : Nat} {s : CS} (h : FX1_next_b0_s E.2.2.2 nf k0 x0 s = some z) : cW X z1 l1 s 0 [(0, .ref x0)] [] := by
  unfold FX1_next_b0_s at h
  have hX := T.1
  refine cw (k_aload_n hX dX1_next_0 rfl 0 rfl) ?_
  refine cg_X1_19 T h dX1_next_1 (fun v1 h => ?_)
  refine cw (k_aload_n hX dX1_next_4 rfl 0 rfl) ?_
  refine cg_X1_15 T h dX1_next_5 (fun v2 h => ?_)
  refine c_br h (k_icmp_ge (tgt := 52) hX h dX1_next_8 (by decide)) (fun h => ?_) (fun h => ?_)
  · refine cw (k_lv (lv' := [(0, .ref x0)]) [0] rfl) ?_
    exact FX1_next_b52_ok T hR e h
  · refine cw (k_aload_n hX dX1_next_11 rfl 0 rfl) ?_
    refine cg_X1_9 T h dX1_next_12 (fun r3 h => ?_)
    refine cw (k_aload_n hX dX1_next_15 rfl 0 rfl) ?_
    refine cg_X1_19 T h dX1_next_16 (fun v4 h => ?_)
    obtain ⟨p5, e_p5, hq_p5⟩ := nn_of h
    subst e_p5
    have h := hq_p5
    show cW X z1 l1 _ 19 [(0, .ref x0)] [.int v4, .ref p5]
    refine ca_bld T h dX1_next_19 (fun v6 h => ?_)
    refine cw (k_bipush (v := 10) hX dX1_next_20 (by decide)) ?_
    refine c_br h (k_icmp_eq (tgt := 39) hX h dX1_next_22 (by decide)) (fun h => ?_) (fun h => ?_)
    · refine cw (k_lv (lv' := [(0, .ref x0)]) [0] rfl) ?_
      exact FX1_next_b39_ok T hR e hk0 h
    · refine cw (k_aload_n hX dX1_next_25 rfl 0 rfl) ?_
      refine cg_X1_9 T h dX1_next_26 (fun r7 h => ?_)
      refine cw (k_aload_n hX dX1_next_29 rfl 0 rfl) ?_
      refine cg_X1_19 T h dX1_next_30 (fun v8 h => ?_)
      obtain ⟨p9, e_p9, hq_p9⟩ := nn_of h
      subst e_p9
      have h := hq_p9
      show cW X z1 l1 _ 33 [(0, .ref x0)] [.int v8, .ref p9]
      refine ca_bld T h dX1_next_33 (fun v10 h => ?_)
      refine cw (k_bipush (v := 32) hX dX1_next_34 (by decide)) ?_
      refine c_brn h (k_icmp_ne (tgt := 52) hX h dX1_next_36 (by decide)) (fun h => ?_) (fun h => ?_)
      · refine cw (k_lv (lv' := [(0, .ref x0)]) [0] rfl) ?_
        exact FX1_next_b52_ok T hR e h
      · refine cw (k_lv (lv' := [(0, .ref x0)]) [0] rfl) ?_
        exact FX1_next_b39_ok T hR e hk0 h
theorem FX1_next_b0_ok {X : KC CS} {E : CE} {z : CS} {z0 l0 z1 l1 : Nat} (T : cOK X E cX1_next RX1 1 none z0 l0 z1 l1) (hR : cRoom X 4 106) (e : cE_v X E z0 l0 z1 l1 z) {nf : Nat} : ∀ (n : Nat) (x0 : Nat) (s : CS), FX1_next_b0 E.2.2.2 nf n x0 s = some z → cW X z1 l1 s 0 [(0, .ref x0)] [] := by
  intro n
  induction n with
  | zero => intro x0 s h; exact (nomatch (show (none : Option CS) = some z from h))
  | succ n ih =>
    intro x0 s h
    have h : FX1_next_b0_s E.2.2.2 nf (FX1_next_b0 E.2.2.2 nf n) x0 s = some z := h
    exact FX1_next_b0_s_ok T hR e ih h
theorem met_FX1_next {l : Launch} {E : CE} {nf : Nat} : ∀ (x0 : Nat) (s : CS) (z : CS), FX1_next E.2.2.2 nf x0 s = some z → (isK s x0 [1] = true ∧ cMet_v l E yX1_next (ws_ yX1_next cX1_next 1 none) 4 106 [.ref x0] s z) := by
  intro x0 s z h
  unfold FX1_next at h
  obtain ⟨hm, h⟩ := mz_of h
  obtain ⟨hg, h⟩ := gd_of h
  refine ⟨hg, c_met_v hm (by decide +kernel) rfl (fun X hl hin T hR e => ?_)⟩
  have T : cOK X E cX1_next RX1 1 none _ _ _ _ := T
  have hX := T.1
  show cW X _ _ s 0 [(0, .ref x0)] []
  refine cw (k_lv (lv' := [(0, .ref x0)]) [0] rfl) ?_
  exact FX1_next_b0_ok T hR e _ _ _ h
theorem FJ11_init_2_b41_ok {X : KC CS} {E : CE} {z : CS} {z0 l0 z1 l1 : Nat} (T : cOK X E cJ11_init_2 RJ11 5 none z0 l0 z1 l1) (hR : cRoom X 1 40) (e : cE_v X E z0 l0 z1 l1 z) (hin : X.2.1.2.2.2.1.name = "<init>") {x0 : Nat} {x1 : (Option Nat)} {x2 : (Option Nat)} {x3 : Int32} {s : CS} (h : FJ11_init_2_b41 E.2.2.2 x0 x1 x2 x3 s = some z) : cW X z1 l1 s 41 [(0, .ref x0), (1, va_rf x1), (2, va_rf x2), (3, .int x3)] [] := by
  unfold FJ11_init_2_b41 at h
  have hX := T.1
  refine cw (k_aload_n hX dJ11_init_2_41 rfl 0 rfl) ?_
  refine cw (k_aload_nO hX dJ11_init_2_42 rfl 1 rfl) ?_
  refine cp_J11_31o T h dJ11_init_2_43 (fun s1 h => ?_)
  refine cw (k_aload_n hX dJ11_init_2_46 rfl 0 rfl) ?_
  refine cw (k_aload_nO hX dJ11_init_2_47 rfl 2 rfl) ?_
  refine cp_J11_7o T h dJ11_init_2_48 (fun s2 h => ?_)
  refine cw (k_iload_n hX dJ11_init_2_51 rfl 3 rfl) ?_
  refine c_brn h (k_if_ne (tgt := 60) hX h dJ11_init_2_52 (by decide)) (fun h => ?_) (fun h => ?_)
  · exact c_ret_v T e h dJ11_init_2_60
  · refine cw (k_aload_n hX dJ11_init_2_55 rfl 0 rfl) ?_
    refine cw (k_null hX dJ11_init_2_56) ?_
    refine cp_J11_24z T h dJ11_init_2_57 (fun s3 h => ?_)
    exact c_ret_v T e h dJ11_init_2_60
theorem met_FJ11_init_2 {l : Launch} {E : CE} : ∀ (x0 : Nat) (x1 : (Option Nat)) (x2 : (Option Nat)) (x3 : Int32) (x4 : Int32) (s : CS) (z : CS), FJ11_init_2 E.2.2.2 x0 x1 x2 x3 x4 s = some z → cMet_v l E yJ11_init_2 (ws_ yJ11_init_2 cJ11_init_2 5 none) 1 40 [.ref x0, va_rf x1, va_rf x2, .int x3, .int x4] s z := by
  intro x0 x1 x2 x3 x4 s z h
  unfold FJ11_init_2 at h
  obtain ⟨hm, h⟩ := mz_of h
  refine c_met_v hm (by decide +kernel) (by cases x1 <;> cases x2 <;> rfl) (fun X hl hin T hR e => ?_)
  have T : cOK X E cJ11_init_2 RJ11 5 none _ _ _ _ := T
  have hX := T.1
  have hlv : lv_args 0 [.ref x0, va_rf x1, va_rf x2, .int x3, .int x4] = [(0, .ref x0), (1, va_rf x1), (2, va_rf x2), (3, .int x3), (4, .int x4)] := by cases x1 <;> cases x2 <;> rfl
  rw [hlv]
  show cW X _ _ s 0 [(0, .ref x0), (1, va_rf x1), (2, va_rf x2), (3, .int x3), (4, .int x4)] []
  refine cw (k_aload_n hX dJ11_init_2_0 rfl 0 rfl) ?_
  refine cw (k_objInit hX hR q760 q183 q184 rfl dJ11_init_2_1) ?_
  refine cw (k_aload_n hX dJ11_init_2_4 rfl 0 rfl) ?_
  refine cw (k_aload_n hX dJ11_init_2_5 rfl 0 rfl) ?_
  refine cp_J11_7 T h dJ11_init_2_6 (fun s1 h => ?_)
  refine cw (k_aload_n hX dJ11_init_2_9 rfl 0 rfl) ?_
  refine cw (k_gets T.2.1 hX T.2.2.2.2.2.2.2.2.2.2.2.1 q761 (fun _ h9 => h9) dJ11_init_2_10) ?_
  refine cp_J11_17o T h dJ11_init_2_13 (fun s2 h => ?_)
  refine cw (k_aload_n hX dJ11_init_2_16 rfl 0 rfl) ?_
  refine cw (k_gets T.2.1 hX T.2.2.2.2.2.2.2.2.2.2.2.2.1 q763 (fun _ h9 => h9) dJ11_init_2_17) ?_
  refine cp_J11_24o T h dJ11_init_2_20 (fun s3 h => ?_)
  refine cw (k_iload hX dJ11_init_2_23 4 rfl) ?_
  refine c_br h (k_if_eq (tgt := 36) hX h dJ11_init_2_25 (by decide)) (fun h => ?_) (fun h => ?_)
  · refine cw (k_aload_n hX dJ11_init_2_36 rfl 0 rfl) ?_
    refine cw (k_null hX dJ11_init_2_37) ?_
    refine cp_J11_17z T h dJ11_init_2_38 (fun s4 h => ?_)
    refine cw (k_lv (lv' := [(0, .ref x0), (1, va_rf x1), (2, va_rf x2), (3, .int x3)]) [0, 1, 2, 3] rfl) ?_
    exact FJ11_init_2_b41_ok T hR e hin h
  · refine cw (k_aload_n hX dJ11_init_2_28 rfl 0 rfl) ?_
    cases h
theorem met_FJ12_init {l : Launch} {E : CE} : ∀ (x0 : Nat) (x1 : (Option Nat)) (x2 : (Option Nat)) (x3 : Int32) (x4 : Int32) (s : CS) (z : CS), FJ12_init E.2.2.2 x0 x1 x2 x3 x4 s = some z → cMet_v l E yJ12_init (ws_ yJ12_init cJ12_init 5 none) 2 64 [.ref x0, va_rf x1, va_rf x2, .int x3, .int x4] s z := by
  intro x0 x1 x2 x3 x4 s z h
  unfold FJ12_init at h
  obtain ⟨hm, h⟩ := mz_of h
  refine c_met_v hm (by decide +kernel) (by cases x1 <;> cases x2 <;> rfl) (fun X hl hin T hR e => ?_)
  have T : cOK X E cJ12_init RJ12 5 none _ _ _ _ := T
  have hX := T.1
  have hlv : lv_args 0 [.ref x0, va_rf x1, va_rf x2, .int x3, .int x4] = [(0, .ref x0), (1, va_rf x1), (2, va_rf x2), (3, .int x3), (4, .int x4)] := by cases x1 <;> cases x2 <;> rfl
  rw [hlv]
  show cW X _ _ s 0 [(0, .ref x0), (1, va_rf x1), (2, va_rf x2), (3, .int x3), (4, .int x4)] []
  refine cw (k_aload_n hX dJ12_init_0 rfl 0 rfl) ?_
  refine cw (k_aload_nO hX dJ12_init_1 rfl 1 rfl) ?_
  refine cw (k_aload_nO hX dJ12_init_2 rfl 2 rfl) ?_
  refine cw (k_iload_n hX dJ12_init_3 rfl 3 rfl) ?_
  refine cw (k_iload hX dJ12_init_4 4 rfl) ?_
  refine cX_J12_16 T met_FJ11_init_2 (c_room hR rfl rfl) h rfl dJ12_init_6 (fun s1 h => ?_)
  exact c_ret_v T e h dJ12_init_9
theorem met_FJ13_init {l : Launch} {E : CE} : ∀ (x0 : Nat) (x1 : (Option Nat)) (x2 : (Option Nat)) (x3 : Int32) (x4 : Int32) (s : CS) (z : CS), FJ13_init E.2.2.2 x0 x1 x2 x3 x4 s = some z → cMet_v l E yJ13_init (ws_ yJ13_init cJ13_init 5 none) 3 88 [.ref x0, va_rf x1, va_rf x2, .int x3, .int x4] s z := by
  intro x0 x1 x2 x3 x4 s z h
  unfold FJ13_init at h
  obtain ⟨hm, h⟩ := mz_of h
  refine c_met_v hm (by decide +kernel) (by cases x1 <;> cases x2 <;> rfl) (fun X hl hin T hR e => ?_)
  have T : cOK X E cJ13_init RJ13 5 none _ _ _ _ := T
  have hX := T.1
  have hlv : lv_args 0 [.ref x0, va_rf x1, va_rf x2, .int x3, .int x4] = [(0, .ref x0), (1, va_rf x1), (2, va_rf x2), (3, .int x3), (4, .int x4)] := by cases x1 <;> cases x2 <;> rfl
  rw [hlv]
  show cW X _ _ s 0 [(0, .ref x0), (1, va_rf x1), (2, va_rf x2), (3, .int x3), (4, .int x4)] []
  refine cw (k_aload_n hX dJ13_init_0 rfl 0 rfl) ?_
  refine cw (k_aload_nO hX dJ13_init_1 rfl 1 rfl) ?_
  refine cw (k_aload_nO hX dJ13_init_2 rfl 2 rfl) ?_
  refine cw (k_iload_n hX dJ13_init_3 rfl 3 rfl) ?_
  refine cw (k_iload hX dJ13_init_4 4 rfl) ?_
  refine cX_J13_16 T met_FJ12_init (c_room hR rfl rfl) h rfl dJ13_init_6 (fun s1 h => ?_)
  exact c_ret_v T e h dJ13_init_9
theorem met_FX10_init {l : Launch} {E : CE} : ∀ (x0 : Nat) (x1 : Int32) (x2 : Int32) (s : CS) (z : CS), FX10_init E.2.2.2 x0 x1 x2 s = some z → cMet_v l E yX10_init (ws_ yX10_init cX10_init 3 none) 4 112 [.ref x0, .int x1, .int x2] s z := by
  intro x0 x1 x2 s z h
  unfold FX10_init at h
  obtain ⟨hm, h⟩ := mz_of h
  refine c_met_v hm (by decide +kernel) rfl (fun X hl hin T hR e => ?_)
  have T : cOK X E cX10_init RX10 3 none _ _ _ _ := T
  have hX := T.1
  show cW X _ _ s 0 [(0, .ref x0), (1, .int x1), (2, .int x2)] []
  refine cw (k_aload_n hX dX10_init_0 rfl 0 rfl) ?_
  refine cw (k_null hX dX10_init_1) ?_
  refine cw (k_null hX dX10_init_2) ?_
  refine cw (k_iconst (v := 0) hX dX10_init_3 (by decide)) ?_
  refine cw (k_iconst (v := 0) hX dX10_init_4 (by decide)) ?_
  refine cX_X10_1 T met_FJ13_init (c_room hR rfl rfl) h rfl dX10_init_5 (fun s1 h => ?_)
  refine cw (k_aload_n hX dX10_init_8 rfl 0 rfl) ?_
  refine cw (k_iload_n hX dX10_init_9 rfl 1 rfl) ?_
  refine cw (k_bipush (v := 16) hX dX10_init_10 (by decide)) ?_
  refine cw (k_iload_n hX dX10_init_12 rfl 2 rfl) ?_
  refine cw (k_imul hX dX10_init_13) ?_
  refine cw (k_iadd hX dX10_init_14) ?_
  refine cp_X10_7 T hin h dX10_init_15 (fun s2 h => ?_)
  exact c_ret_v T e h dX10_init_18
theorem met_FX1_wrong {l : Launch} {E : CE} : ∀ (x0 : Nat) (x1 : Int32) (s : CS) (z : ((Option Nat) × CS)), FX1_wrong E.2.2.2 x0 x1 s = some z → (isK s x0 [1] = true ∧ cMet_q l E yX1_wrong (ws_ yX1_wrong cX1_wrong 2 (some (.object "OverFirst$Wrong"))) 5 134 [.ref x0, .int x1] s z.1 z.2) := by
  intro x0 x1 s z h
  unfold FX1_wrong at h
  obtain ⟨hm, h⟩ := mz_of h
  obtain ⟨hg, h⟩ := gd_of h
  refine ⟨hg, c_met_q hm (by decide +kernel) rfl (fun X hl hin T hR e => ?_)⟩
  have T : cOK X E cX1_wrong RX1 2 (some (.object "OverFirst$Wrong")) _ _ _ _ := T
  have hX := T.1
  show cW X _ _ s 0 [(0, .ref x0), (1, .int x1)] []
  refine c_newO kX10 q735 q736 q161 (nd10 _) T h dX1_wrong_0 (fun o1 s2 h => ?_)
  refine cw (k_dup hX dX1_wrong_3 rfl) ?_
  refine cw (k_iload_n hX dX1_wrong_4 rfl 1 rfl) ?_
  refine cw (k_aload_n hX dX1_wrong_5 rfl 0 rfl) ?_
  refine cg_X1_28 T h dX1_wrong_6 (fun v3 h => ?_)
  refine cX_X1_57 T met_FX10_init (c_room hR rfl rfl) h rfl dX1_wrong_9 (fun s4 h => ?_)
  exact c_ret_q (v := (some o1)) T (Or.inl ⟨_, rfl⟩) e h dX1_wrong_12
theorem met_FX1_number_2 {l : Launch} {E : CE} {nf : Nat} : ∀ (x0 : Nat) (x1 : Int32) (x2 : Int32) (s : CS) (z : ((Nat ⊕ Int32) × CS)), FX1_number_2 E.2.2.2 nf x0 x1 x2 s = some z → (isK s x0 [1] = true ∧ xMet_i l E yX1_number_2 (ws_ yX1_number_2 cX1_number_2 4 (some .int)) 6 155 [.ref x0, .int x1, .int x2] s z.1 z.2) := by
  intro x0 x1 x2 s z h
  unfold FX1_number_2 at h
  obtain ⟨hm, h⟩ := mz_of h
  obtain ⟨hg, h⟩ := gd_of h
  refine ⟨hg, x_met_i hm (by decide +kernel) rfl (fun X hl hin T hR e => ?_)⟩
  have T : cOK X E cX1_number_2 RX1 4 (some .int) _ _ _ _ := T
  have hX := T.1
  show cW X _ _ s 0 [(0, .ref x0), (1, .int x1), (2, .int x2)] []
  refine cw (k_aload_n hX dX1_number_2_0 rfl 0 rfl) ?_
  refine cg_X1_31 T h dX1_number_2_1 (fun v1 h => ?_)
  refine cw (k_iconst (v := 2) hX dX1_number_2_4 (by decide)) ?_
  refine c_br h (k_icmp_eq (tgt := 14) hX h dX1_number_2_5 (by decide)) (fun h => ?_) (fun h => ?_)
  · refine cw (k_aload_n hX dX1_number_2_14 rfl 0 rfl) ?_
    refine cg_X1_45 T h dX1_number_2_15 (fun v2 h => ?_)
    refine cw (k_iload_n hX dX1_number_2_18 rfl 1 rfl) ?_
    refine c_br h (k_icmp_lt (tgt := 30) hX h dX1_number_2_19 (by decide)) (fun h => ?_) (fun h => ?_)
    · refine cw (k_aload_n hX dX1_number_2_30 rfl 0 rfl) ?_
      refine cw (k_iconst (v := 4) hX dX1_number_2_31 (by decide)) ?_
      refine cX_X1_75 T met_FX1_wrong (c_room hR rfl rfl) h rfl dX1_number_2_32 (fun r4 s3 h => ?_)
      obtain ⟨p5, e_p5, hq_p5⟩ := nn_of h
      subst e_p5
      have h := hq_p5
      show cW X _ _ _ 35 [(0, .ref x0), (1, .int x1), (2, .int x2)] [.ref p5]
      exact x_throw T e h dX1_number_2_35
    · refine cw (k_aload_n hX dX1_number_2_22 rfl 0 rfl) ?_
      refine cg_X1_45 T h dX1_number_2_23 (fun v6 h => ?_)
      refine cw (k_iload_n hX dX1_number_2_26 rfl 2 rfl) ?_
      refine c_br h (k_icmp_le (tgt := 36) hX h dX1_number_2_27 (by decide)) (fun h => ?_) (fun h => ?_)
      · refine cw (k_aload_n hX dX1_number_2_36 rfl 0 rfl) ?_
        refine cg_X1_45 T h dX1_number_2_37 (fun v7 h => ?_)
        refine cw (k_istore_n [(3, .int v7), (0, .ref x0), (1, .int x1), (2, .int x2)] hX dX1_number_2_40 rfl rfl rfl) ?_
        refine cw (k_aload_n hX dX1_number_2_41 rfl 1 rfl) ?_
        refine cX_X1_25 T met_FX1_next (c_room hR rfl rfl) h rfl dX1_number_2_42 (fun s8 h => ?_)
        refine cw (k_iload_n hX dX1_number_2_45 rfl 0 rfl) ?_
        exact x_ret_i T e h dX1_number_2_46
      · refine cw (k_aload_n hX dX1_number_2_30 rfl 0 rfl) ?_
        refine cw (k_iconst (v := 4) hX dX1_number_2_31 (by decide)) ?_
        refine cX_X1_75 T met_FX1_wrong (c_room hR rfl rfl) h rfl dX1_number_2_32 (fun r10 s9 h => ?_)
        obtain ⟨p11, e_p11, hq_p11⟩ := nn_of h
        subst e_p11
        have h := hq_p11
        show cW X _ _ _ 35 [(0, .ref x0), (1, .int x1), (2, .int x2)] [.ref p11]
        exact x_throw T e h dX1_number_2_35
  · refine cw (k_aload_n hX dX1_number_2_8 rfl 0 rfl) ?_
    refine cw (k_iconst (v := 1) hX dX1_number_2_9 (by decide)) ?_
    refine cX_X1_75 T met_FX1_wrong (c_room hR rfl rfl) h rfl dX1_number_2_10 (fun r13 s12 h => ?_)
    obtain ⟨p14, e_p14, hq_p14⟩ := nn_of h
    subst e_p14
    have h := hq_p14
    show cW X _ _ _ 13 [(0, .ref x0), (1, .int x1), (2, .int x2)] [.ref p14]
    exact x_throw T e h dX1_number_2_13
theorem FJ9_checkIndex_b9_ok {X : KC CS} {E : CE} {z : Int32} {z0 l0 z1 l1 : Nat} {s : CS} (T : cOK X E cJ9_checkIndex RJ9 3 (some .int) z0 l0 z1 l1) (hR : cRoom X 0 0) (e : cE_i X E z0 l0 z1 l1 z s) {x0 : Int32} {x1 : Int32} {x2 : (Option Nat)} (h : FJ9_checkIndex_b9 s x0 x1 x2 = some z) : cW X z1 l1 s 9 [(0, .int x0), (1, .int x1), (2, va_rf x2)] [] := by
  unfold FJ9_checkIndex_b9 at h
  have hX := T.1
  refine cw (k_aload_nO hX dJ9_checkIndex_9 rfl 2 rfl) ?_
  refine cw (k_iload_n hX dJ9_checkIndex_10 rfl 0 rfl) ?_
  refine cw (k_iload_n hX dJ9_checkIndex_11 rfl 1 rfl) ?_
  cases h
theorem met_FJ9_checkIndex {l : Launch} {E : CE} {s : CS} : ∀ (x0 : Int32) (x1 : Int32) (x2 : (Option Nat)) (z : Int32), FJ9_checkIndex s x0 x1 x2 = some z → cMet_i l E yJ9_checkIndex (ws_ yJ9_checkIndex cJ9_checkIndex 3 (some .int)) 0 0 [.int x0, .int x1, va_rf x2] s z s := by
  intro x0 x1 x2 z h
  unfold FJ9_checkIndex at h
  refine c_met_i ⟨Nat.le_refl _, Nat.le_refl _⟩ (by decide +kernel) (by cases x2 <;> rfl) (fun X hl hin T hR e => ?_)
  have T : cOK X E cJ9_checkIndex RJ9 3 (some .int) _ _ _ _ := T
  have hX := T.1
  show cW X _ _ s 0 [(0, .int x0), (1, .int x1), (2, va_rf x2)] []
  refine cw (k_iload_n hX dJ9_checkIndex_0 rfl 0 rfl) ?_
  refine c_br h (k_if_lt (tgt := 9) hX h dJ9_checkIndex_1 (by decide)) (fun h => ?_) (fun h => ?_)
  · refine cw (k_lv (lv' := [(0, .int x0), (1, .int x1), (2, va_rf x2)]) [0, 1, 2] rfl) ?_
    exact FJ9_checkIndex_b9_ok T hR e h
  · refine cw (k_iload_n hX dJ9_checkIndex_4 rfl 0 rfl) ?_
    refine cw (k_iload_n hX dJ9_checkIndex_5 rfl 1 rfl) ?_
    refine c_br h (k_icmp_lt (tgt := 16) hX h dJ9_checkIndex_6 (by decide)) (fun h => ?_) (fun h => ?_)
    · refine cw (k_iload_n hX dJ9_checkIndex_16 rfl 0 rfl) ?_
      exact c_ret_ir T e h dJ9_checkIndex_17
    · refine cw (k_lv (lv' := [(0, .int x0), (1, .int x1), (2, va_rf x2)]) [0, 1, 2] rfl) ?_
      exact FJ9_checkIndex_b9_ok T hR e h
theorem met_FJ6_checkIndex {l : Launch} {E : CE} {s : CS} : ∀ (x0 : Int32) (x1 : Int32) (z : Unit), FJ6_checkIndex E.2.2.2 s x0 x1 = some z → cMet_v l E yJ6_checkIndex (ws_ yJ6_checkIndex cJ6_checkIndex 2 none) 1 22 [.int x0, .int x1] s s := by
  intro x0 x1 z h
  unfold FJ6_checkIndex at h
  refine c_met_v ⟨Nat.le_refl _, Nat.le_refl _⟩ (by decide +kernel) rfl (fun X hl hin T hR e => ?_)
  have T : cOK X E cJ6_checkIndex RJ6 2 none _ _ _ _ := T
  have hX := T.1
  show cW X _ _ s 0 [(0, .int x0), (1, .int x1)] []
  refine cw (k_iload_n hX dJ6_checkIndex_0 rfl 0 rfl) ?_
  refine cw (k_iload_n hX dJ6_checkIndex_1 rfl 1 rfl) ?_
  refine cw (k_gets T.2.1 hX T.2.2.2.2.2.2.2.2.2.2.2.2.2.1 q659 (fun _ h9 => h9) dJ6_checkIndex_2) ?_
  refine cX_J6_1059 T met_FJ9_checkIndex (c_room hR rfl rfl) h rfl dJ6_checkIndex_5 (fun v1 h => ?_)
  refine cw (k_pop hX dJ6_checkIndex_8 rfl) ?_
  exact c_ret_vr (z := ()) T e dJ6_checkIndex_9
theorem met_FJ7_charAt {l : Launch} {E : CE} {s : CS} : ∀ (x0 : Nat) (x1 : Int32) (z : Int32), FJ7_charAt E.2.2.2 s x0 x1 = some z → cMet_i l E yJ7_charAt (ws_ yJ7_charAt cJ7_charAt 2 (some .char)) 2 43 [.ref x0, .int x1] s z s := by
  intro x0 x1 z h
  unfold FJ7_charAt at h
  refine c_met_i ⟨Nat.le_refl _, Nat.le_refl _⟩ (by decide +kernel) rfl (fun X hl hin T hR e => ?_)
  have T : cOK X E cJ7_charAt RJ7 2 (some .char) _ _ _ _ := T
  have hX := T.1
  show cW X _ _ s 0 [(0, .ref x0), (1, .int x1)] []
  refine cw (k_iload_n hX dJ7_charAt_0 rfl 1 rfl) ?_
  refine cw (k_aload_n hX dJ7_charAt_1 rfl 0 rfl) ?_
  refine ca_len T h dJ7_charAt_2 (fun v1 h => ?_)
  refine cX_J7_9 T met_FJ6_checkIndex (c_room hR rfl rfl) h rfl dJ7_charAt_3 (fun h => ?_)
  refine cw (k_aload_n hX dJ7_charAt_6 rfl 0 rfl) ?_
  refine cw (k_iload_n hX dJ7_charAt_7 rfl 1 rfl) ?_
  refine ca_bld T h dJ7_charAt_8 (fun v3 h => ?_)
  refine cw (k_sipush (v := 255) hX dJ7_charAt_9 (by decide)) ?_
  refine cw (k_iand hX dJ7_charAt_12) ?_
  refine cw (k_i2c hX dJ7_charAt_13) ?_
  exact c_ret_cr T e h dJ7_charAt_14
theorem met_FJ6_charAt {l : Launch} {E : CE} {s : CS} : ∀ (x0 : Nat) (x1 : Int32) (z : Int32), FJ6_charAt E.2.2.2 s x0 x1 = some z → (isK s x0 [23, 25] = true ∧ cMet_i l E yJ6_charAt (ws_ yJ6_charAt cJ6_charAt 2 (some .char)) 3 64 [.ref x0, .int x1] s z s) := by
  intro x0 x1 z h
  unfold FJ6_charAt at h
  obtain ⟨hg, h⟩ := gd_of h
  refine ⟨hg, c_met_i ⟨Nat.le_refl _, Nat.le_refl _⟩ (by decide +kernel) rfl (fun X hl hin T hR e => ?_)⟩
  have T : cOK X E cJ6_charAt RJ6 2 (some .char) _ _ _ _ := T
  have hX := T.1
  show cW X _ _ s 0 [(0, .ref x0), (1, .int x1)] []
  refine cw (k_aload_n hX dJ6_charAt_0 rfl 0 rfl) ?_
  refine cX_J6_492 T met_FJ6_isLatin1 (c_room hR rfl rfl) h rfl dJ6_charAt_1 (fun v1 h => ?_)
  refine c_br h (k_if_eq (tgt := 16) hX h dJ6_charAt_4 (by decide)) (fun h => ?_) (fun h => ?_)
  · refine cw (k_aload_n hX dJ6_charAt_16 rfl 0 rfl) ?_
    refine cg_J6_9 T h dJ6_charAt_17 (fun r2 h => ?_)
    refine cw (k_iload_n hX dJ6_charAt_20 rfl 1 rfl) ?_
    cases h
  · refine cw (k_aload_n hX dJ6_charAt_7 rfl 0 rfl) ?_
    refine cg_J6_9 T h dJ6_charAt_8 (fun r3 h => ?_)
    refine cw (k_iload_n hX dJ6_charAt_11 rfl 1 rfl) ?_
    obtain ⟨p4, e_p4, hq_p4⟩ := nn_of h
    subst e_p4
    have h := hq_p4
    show cW X _ _ _ 12 [(0, .ref x0), (1, .int x1)] [.int x1, .ref p4]
    refine cX_J6_495 T met_FJ7_charAt (c_room hR rfl rfl) h rfl dJ6_charAt_12 (fun v5 h => ?_)
    exact c_ret_cr T e h dJ6_charAt_15
theorem FX1_which_b103_ok {X : KC CS} {E : CE} {z : Int32} {z0 l0 z1 l1 : Nat} {s : CS} (T : cOK X E cX1_which RX1 7 (some .int) z0 l0 z1 l1) (hR : cRoom X 4 85) (e : cE_i X E z0 l0 z1 l1 z s) {nf : Nat} {k4 : Nat → Nat → Int32 → Int32 → Option Int32} (hk4 : ∀ (x0 : Nat) (x1 : Nat) (x2 : Int32) (x3 : Int32), k4 x0 x1 x2 x3 = some z → cW X z1 l1 s 4 [(0, .ref x0), (1, .ref x1), (2, .int x2), (3, .int x3)] []) {x0 : Nat} {x1 : Nat} {x2 : Int32} {x3 : Int32} {x4 : Int32} {x5 : Int32} (h : FX1_which_b103 E.2.2.2 nf s k4 x0 x1 x2 x3 x4 x5 = some z) : cW X z1 l1 s 103 [(0, .ref x0), (1, .ref x1), (2, .int x2), (3, .int x3), (4, .int x4), (5, .int x5)] [] := by
  unfold FX1_which_b103 at h
  have hX := T.1
  refine cw (k_iload hX dX1_which_103 5 rfl) ?_
  refine c_br h (k_if_eq (tgt := 110) hX h dX1_which_105 (by decide)) (fun h => ?_) (fun h => ?_)
  · refine cw (k_iload_n hX dX1_which_110 rfl 3 rfl) ?_
    refine cw (k_iload hX dX1_which_111 4 rfl) ?_
    refine cw (k_iconst (v := 1) hX dX1_which_113 (by decide)) ?_
    refine cw (k_iadd hX dX1_which_114) ?_
    refine cw (k_iadd hX dX1_which_115) ?_
    refine c_nm h (fun v1 h => ?_)
    refine cw (k_istore_n [(3, .int v1), (0, .ref x0), (1, .ref x1), (2, .int x2), (4, .int x4), (5, .int x5)] hX dX1_which_116 rfl rfl rfl) ?_
    refine cw (k_iinc (j := 3) [(2, .int (x2 + 1)), (3, .int v1), (0, .ref x0), (1, .ref x1), (4, .int x4), (5, .int x5)] hX dX1_which_117 rfl rfl rfl rfl) ?_
    refine cw (k_goto (tgt := 4) hX dX1_which_120 (by decide)) ?_
    refine cw (k_lv (lv' := [(0, .ref x0), (1, .ref x1), (2, .int (x2 + 1)), (3, .int v1)]) [2, 3, 0, 1] rfl) ?_
    exact hk4 _ _ _ _ h
  · refine cw (k_iload_n hX dX1_which_108 rfl 2 rfl) ?_
    exact c_ret_ir T e h dX1_which_109
theorem FX1_which_b55_s_ok {X : KC CS} {E : CE} {z : Int32} {z0 l0 z1 l1 : Nat} {s : CS} (T : cOK X E cX1_which RX1 7 (some .int) z0 l0 z1 l1) (hR : cRoom X 4 85) (e : cE_i X E z0 l0 z1 l1 z s) {nf : Nat} {k4 : Nat → Nat → Int32 → Int32 → Option Int32} (hk4 : ∀ (x0 : Nat) (x1 : Nat) (x2 : Int32) (x3 : Int32), k4 x0 x1 x2 x3 = some z → cW X z1 l1 s 4 [(0, .ref x0), (1, .ref x1), (2, .int x2), (3, .int x3)] []) {k55 : Nat → Nat → Int32 → Int32 → Int32 → Int32 → Int32 → Option Int32} (hk55 : ∀ (x0 : Nat) (x1 : Nat) (x2 : Int32) (x3 : Int32) (x4 : Int32) (x5 : Int32) (x6 : Int32), k55 x0 x1 x2 x3 x4 x5 x6 = some z → cW X z1 l1 s 55 [(0, .ref x0), (1, .ref x1), (2, .int x2), (3, .int x3), (4, .int x4), (5, .int x5), (6, .int x6)] []) {x0 : Nat} {x1 : Nat} {x2 : Int32} {x3 : Int32} {x4 : Int32} {x5 : Int32} {x6 : Int32} (h : FX1_which_b55_s E.2.2.2 nf s k4 k55 x0 x1 x2 x3 x4 x5 x6 = some z) : cW X z1 l1 s 55 [(0, .ref x0), (1, .ref x1), (2, .int x2), (3, .int x3), (4, .int x4), (5, .int x5), (6, .int x6)] [] := by
  unfold FX1_which_b55_s at h
  have hX := T.1
  refine cw (k_iload hX dX1_which_55 5 rfl) ?_
  refine c_br h (k_if_eq (tgt := 103) hX h dX1_which_57 (by decide)) (fun h => ?_) (fun h => ?_)
  · refine cw (k_lv (lv' := [(0, .ref x0), (1, .ref x1), (2, .int x2), (3, .int x3), (4, .int x4), (5, .int x5)]) [0, 1, 2, 3, 4, 5] rfl) ?_
    exact FX1_which_b103_ok T hR e hk4 h
  · refine cw (k_iload hX dX1_which_60 6 rfl) ?_
    refine cw (k_iload hX dX1_which_62 4 rfl) ?_
    refine c_br h (k_icmp_ge (tgt := 103) hX h dX1_which_64 (by decide)) (fun h => ?_) (fun h => ?_)
    · refine cw (k_lv (lv' := [(0, .ref x0), (1, .ref x1), (2, .int x2), (3, .int x3), (4, .int x4), (5, .int x5)]) [0, 1, 2, 3, 4, 5] rfl) ?_
      exact FX1_which_b103_ok T hR e hk4 h
    · refine cw (k_aload_n hX dX1_which_67 rfl 0 rfl) ?_
      refine cg_X1_9 T h dX1_which_68 (fun r1 h => ?_)
      refine cw (k_aload_n hX dX1_which_71 rfl 0 rfl) ?_
      refine cg_X1_28 T h dX1_which_72 (fun v2 h => ?_)
      refine cw (k_iload hX dX1_which_75 6 rfl) ?_
      refine cw (k_iadd hX dX1_which_77) ?_
      obtain ⟨p3, e_p3, hq_p3⟩ := nn_of h
      subst e_p3
      have h := hq_p3
      show cW X z1 l1 _ 78 [(0, .ref x0), (1, .ref x1), (2, .int x2), (3, .int x3), (4, .int x4), (5, .int x5), (6, .int x6)] [.int (v2 + x6), .ref p3]
      refine ca_bld T h dX1_which_78 (fun v4 h => ?_)
      refine cw (k_aload_n hX dX1_which_79 rfl 1 rfl) ?_
      refine cw (k_iload_n hX dX1_which_80 rfl 3 rfl) ?_
      refine cw (k_iload hX dX1_which_81 6 rfl) ?_
      refine cw (k_iadd hX dX1_which_83) ?_
      refine cX_X1_67 T met_FJ6_charAt (c_room hR rfl rfl) h rfl dX1_which_84 (fun v5 h => ?_)
      refine c_brn h (k_icmp_ne (tgt := 94) hX h dX1_which_87 (by decide)) (fun h => ?_) (fun h => ?_)
      · refine cw (k_iconst (v := 0) hX dX1_which_94 (by decide)) ?_
        refine cw (k_istore [(5, .int 0), (0, .ref x0), (1, .ref x1), (2, .int x2), (3, .int x3), (4, .int x4), (6, .int x6)] hX dX1_which_95 rfl rfl) ?_
        refine cw (k_iinc (j := 6) [(6, .int (x6 + 1)), (5, .int 0), (0, .ref x0), (1, .ref x1), (2, .int x2), (3, .int x3), (4, .int x4)] hX dX1_which_97 rfl rfl rfl rfl) ?_
        refine cw (k_goto (tgt := 55) hX dX1_which_100 (by decide)) ?_
        refine cw (k_lv (lv' := [(0, .ref x0), (1, .ref x1), (2, .int x2), (3, .int x3), (4, .int x4), (5, .int 0), (6, .int (x6 + 1))]) [2, 3, 4, 5, 6, 1, 0] rfl) ?_
        exact hk55 _ _ _ _ _ _ _ h
      · refine cw (k_iconst (v := 1) hX dX1_which_90 (by decide)) ?_
        refine cw (k_goto (tgt := 95) hX dX1_which_91 (by decide)) ?_
        refine cw (k_istore [(5, .int 1), (0, .ref x0), (1, .ref x1), (2, .int x2), (3, .int x3), (4, .int x4), (6, .int x6)] hX dX1_which_95 rfl rfl) ?_
        refine cw (k_iinc (j := 6) [(6, .int (x6 + 1)), (5, .int 1), (0, .ref x0), (1, .ref x1), (2, .int x2), (3, .int x3), (4, .int x4)] hX dX1_which_97 rfl rfl rfl rfl) ?_
        refine cw (k_goto (tgt := 55) hX dX1_which_100 (by decide)) ?_
        refine cw (k_lv (lv' := [(0, .ref x0), (1, .ref x1), (2, .int x2), (3, .int x3), (4, .int x4), (5, .int 1), (6, .int (x6 + 1))]) [2, 3, 4, 5, 6, 1, 0] rfl) ?_
        exact hk55 _ _ _ _ _ _ _ h
theorem FX1_which_b55_ok {X : KC CS} {E : CE} {z : Int32} {z0 l0 z1 l1 : Nat} {s : CS} (T : cOK X E cX1_which RX1 7 (some .int) z0 l0 z1 l1) (hR : cRoom X 4 85) (e : cE_i X E z0 l0 z1 l1 z s) {nf : Nat} {k4 : Nat → Nat → Int32 → Int32 → Option Int32} (hk4 : ∀ (x0 : Nat) (x1 : Nat) (x2 : Int32) (x3 : Int32), k4 x0 x1 x2 x3 = some z → cW X z1 l1 s 4 [(0, .ref x0), (1, .ref x1), (2, .int x2), (3, .int x3)] []) : ∀ (n : Nat) (x0 : Nat) (x1 : Nat) (x2 : Int32) (x3 : Int32) (x4 : Int32) (x5 : Int32) (x6 : Int32), FX1_which_b55 E.2.2.2 nf s k4 n x0 x1 x2 x3 x4 x5 x6 = some z → cW X z1 l1 s 55 [(0, .ref x0), (1, .ref x1), (2, .int x2), (3, .int x3), (4, .int x4), (5, .int x5), (6, .int x6)] [] := by
  intro n
  induction n with
  | zero => intro x0 x1 x2 x3 x4 x5 x6 h; exact (nomatch (show (none : Option Int32) = some z from h))
  | succ n ih =>
    intro x0 x1 x2 x3 x4 x5 x6 h
    have h : FX1_which_b55_s E.2.2.2 nf s k4 (FX1_which_b55 E.2.2.2 nf s k4 n) x0 x1 x2 x3 x4 x5 x6 = some z := h
    exact FX1_which_b55_s_ok T hR e hk4 ih h
theorem FX1_which_b4_s_ok {X : KC CS} {E : CE} {z : Int32} {z0 l0 z1 l1 : Nat} {s : CS} (T : cOK X E cX1_which RX1 7 (some .int) z0 l0 z1 l1) (hR : cRoom X 4 85) (e : cE_i X E z0 l0 z1 l1 z s) {nf : Nat} {k4 : Nat → Nat → Int32 → Int32 → Option Int32} (hk4 : ∀ (x0 : Nat) (x1 : Nat) (x2 : Int32) (x3 : Int32), k4 x0 x1 x2 x3 = some z → cW X z1 l1 s 4 [(0, .ref x0), (1, .ref x1), (2, .int x2), (3, .int x3)] []) {x0 : Nat} {x1 : Nat} {x2 : Int32} {x3 : Int32} (h : FX1_which_b4_s E.2.2.2 nf s k4 x0 x1 x2 x3 = some z) : cW X z1 l1 s 4 [(0, .ref x0), (1, .ref x1), (2, .int x2), (3, .int x3)] [] := by
  unfold FX1_which_b4_s at h
  have hX := T.1
  refine cw (k_iload_n hX dX1_which_4 rfl 3 rfl) ?_
  refine cw (k_aload_n hX dX1_which_5 rfl 1 rfl) ?_
  refine cX_X1_60 T met_FJ6_length (c_room hR rfl rfl) h rfl dX1_which_6 (fun v1 h => ?_)
  refine c_br h (k_icmp_ge (tgt := 123) hX h dX1_which_9 (by decide)) (fun h => ?_) (fun h => ?_)
  · refine cw (k_iconst (v := (-1)) hX dX1_which_123 (by decide)) ?_
    exact c_ret_ir T e h dX1_which_124
  · refine cw (k_aload_n hX dX1_which_12 rfl 0 rfl) ?_
    refine cg_X1_31 T h dX1_which_13 (fun v2 h => ?_)
    refine cw (k_iconst (v := 1) hX dX1_which_16 (by decide)) ?_
    refine c_brn h (k_icmp_ne (tgt := 123) hX h dX1_which_17 (by decide)) (fun h => ?_) (fun h => ?_)
    · refine cw (k_iconst (v := (-1)) hX dX1_which_123 (by decide)) ?_
      exact c_ret_ir T e h dX1_which_124
    · refine cw (k_aload_n hX dX1_which_20 rfl 1 rfl) ?_
      refine cw (k_bipush (v := 32) hX dX1_which_21 (by decide)) ?_
      refine cw (k_iload_n hX dX1_which_23 rfl 3 rfl) ?_
      refine cX_X1_64 T met_FJ6_indexOf_2 (c_room hR rfl rfl) h rfl dX1_which_24 (fun v3 h => ?_)
      refine cw (k_iload_n hX dX1_which_27 rfl 3 rfl) ?_
      refine cw (k_isub hX dX1_which_28) ?_
      refine c_nm h (fun v4 h => ?_)
      refine cw (k_istore [(4, .int v4), (0, .ref x0), (1, .ref x1), (2, .int x2), (3, .int x3)] hX dX1_which_29 rfl rfl) ?_
      refine cw (k_aload_n hX dX1_which_31 rfl 1 rfl) ?_
      refine cg_X1_19 T h dX1_which_32 (fun v5 h => ?_)
      refine cw (k_aload_n hX dX1_which_35 rfl 1 rfl) ?_
      refine cg_X1_28 T h dX1_which_36 (fun v6 h => ?_)
      refine cw (k_isub hX dX1_which_39) ?_
      refine cw (k_iload hX dX1_which_40 0 rfl) ?_
      refine c_brn h (k_icmp_ne (tgt := 49) hX h dX1_which_42 (by decide)) (fun h => ?_) (fun h => ?_)
      · refine cw (k_iconst (v := 0) hX dX1_which_49 (by decide)) ?_
        refine cw (k_istore [(5, .int 0), (4, .int v4), (0, .ref x0), (1, .ref x1), (2, .int x2), (3, .int x3)] hX dX1_which_50 rfl rfl) ?_
        refine cw (k_iconst (v := 0) hX dX1_which_52 (by decide)) ?_
        refine cw (k_istore [(6, .int 0), (5, .int 0), (4, .int v4), (0, .ref x0), (1, .ref x1), (2, .int x2), (3, .int x3)] hX dX1_which_53 rfl rfl) ?_
        refine cw (k_lv (lv' := [(0, .ref x0), (1, .ref x1), (2, .int x2), (3, .int x3), (4, .int v4), (5, .int 0), (6, .int 0)]) [3, 4, 5, 6, 2, 1, 0] rfl) ?_
        exact FX1_which_b55_ok T hR e hk4 _ _ _ _ _ _ _ _ h
      · refine cw (k_iconst (v := 1) hX dX1_which_45 (by decide)) ?_
        refine cw (k_goto (tgt := 50) hX dX1_which_46 (by decide)) ?_
        refine cw (k_istore [(5, .int 1), (4, .int v4), (0, .ref x0), (1, .ref x1), (2, .int x2), (3, .int x3)] hX dX1_which_50 rfl rfl) ?_
        refine cw (k_iconst (v := 0) hX dX1_which_52 (by decide)) ?_
        refine cw (k_istore [(6, .int 0), (5, .int 1), (4, .int v4), (0, .ref x0), (1, .ref x1), (2, .int x2), (3, .int x3)] hX dX1_which_53 rfl rfl) ?_
        refine cw (k_lv (lv' := [(0, .ref x0), (1, .ref x1), (2, .int x2), (3, .int x3), (4, .int v4), (5, .int 1), (6, .int 0)]) [3, 4, 5, 6, 2, 1, 0] rfl) ?_
        exact FX1_which_b55_ok T hR e hk4 _ _ _ _ _ _ _ _ h
theorem FX1_which_b4_ok {X : KC CS} {E : CE} {z : Int32} {z0 l0 z1 l1 : Nat} {s : CS} (T : cOK X E cX1_which RX1 7 (some .int) z0 l0 z1 l1) (hR : cRoom X 4 85) (e : cE_i X E z0 l0 z1 l1 z s) {nf : Nat} : ∀ (n : Nat) (x0 : Nat) (x1 : Nat) (x2 : Int32) (x3 : Int32), FX1_which_b4 E.2.2.2 nf s n x0 x1 x2 x3 = some z → cW X z1 l1 s 4 [(0, .ref x0), (1, .ref x1), (2, .int x2), (3, .int x3)] [] := by
  intro n
  induction n with
  | zero => intro x0 x1 x2 x3 h; exact (nomatch (show (none : Option Int32) = some z from h))
  | succ n ih =>
    intro x0 x1 x2 x3 h
    have h : FX1_which_b4_s E.2.2.2 nf s (FX1_which_b4 E.2.2.2 nf s n) x0 x1 x2 x3 = some z := h
    exact FX1_which_b4_s_ok T hR e ih h
theorem met_FX1_which {l : Launch} {E : CE} {nf : Nat} {s : CS} : ∀ (x0 : Nat) (x1 : Nat) (z : Int32), FX1_which E.2.2.2 nf s x0 x1 = some z → (isK s x0 [1] = true ∧ cMet_i l E yX1_which (ws_ yX1_which cX1_which 7 (some .int)) 4 85 [.ref x0, .ref x1] s z s) := by
  intro x0 x1 z h
  unfold FX1_which at h
  obtain ⟨hg, h⟩ := gd_of h
  refine ⟨hg, c_met_i ⟨Nat.le_refl _, Nat.le_refl _⟩ (by decide +kernel) rfl (fun X hl hin T hR e => ?_)⟩
  have T : cOK X E cX1_which RX1 7 (some .int) _ _ _ _ := T
  have hX := T.1
  show cW X _ _ s 0 [(0, .ref x0), (1, .ref x1)] []
  refine cw (k_iconst (v := 0) hX dX1_which_0 (by decide)) ?_
  refine cw (k_istore_n [(2, .int 0), (0, .ref x0), (1, .ref x1)] hX dX1_which_1 rfl rfl rfl) ?_
  refine cw (k_iconst (v := 0) hX dX1_which_2 (by decide)) ?_
  refine cw (k_istore_n [(3, .int 0), (2, .int 0), (0, .ref x0), (1, .ref x1)] hX dX1_which_3 rfl rfl rfl) ?_
  refine cw (k_lv (lv' := [(0, .ref x0), (1, .ref x1), (2, .int 0), (3, .int 0)]) [2, 3, 1, 0] rfl) ?_
  exact FX1_which_b4_ok T hR e _ _ _ _ _ h
theorem met_FX1_bar {l : Launch} {E : CE} {nf : Nat} : ∀ (x0 : Nat) (s : CS) (z : ((Nat ⊕ Unit) × CS)), FX1_bar E.2.2.2 nf x0 s = some z → (isK s x0 [1] = true ∧ xMet_v l E yX1_bar (ws_ yX1_bar cX1_bar 4 none) 7 178 [.ref x0] s z.1 z.2) := by
  intro x0 s z h
  unfold FX1_bar at h
  obtain ⟨hm, h⟩ := mz_of h
  obtain ⟨hg, h⟩ := gd_of h
  refine ⟨hg, x_met_v hm (by decide +kernel) rfl (fun X hl hin T hR e => ?_)⟩
  have T : cOK X E cX1_bar RX1 4 none _ _ _ _ := T
  have hX := T.1
  show cW X _ _ s 0 [(0, .ref x0)] []
  refine cw (k_aload_n hX dX1_bar_0 rfl 0 rfl) ?_
  refine cw (k_iconst (v := 0) hX dX1_bar_1 (by decide)) ?_
  refine cw (k_aload_n hX dX1_bar_2 rfl 0 rfl) ?_
  refine cg_X1_98 T h dX1_bar_3 (fun r1 h => ?_)
  obtain ⟨p2, e_p2, hq_p2⟩ := nn_of h
  subst e_p2
  have h := hq_p2
  show cW X _ _ _ 6 [(0, .ref x0)] [.ref p2, .int 0, .ref x0]
  refine cg_X1_149 T h dX1_bar_6 (fun v3 h => ?_)
  refine cw (k_iconst (v := 1) hX dX1_bar_9 (by decide)) ?_
  refine cw (k_isub hX dX1_bar_10) ?_
  refine cX_X1_124 T met_FX1_number_2 (c_room hR rfl rfl) e h rfl dX1_bar_11 (fun v5 s4 h => ?_)
  refine cw (k_istore_n [(1, .int v5), (0, .ref x0)] hX dX1_bar_14 rfl rfl rfl) ?_
  refine cw (k_aload_n hX dX1_bar_15 rfl 1 rfl) ?_
  refine cw (k_iconst (v := 0) hX dX1_bar_16 (by decide)) ?_
  refine cw (k_aload_n hX dX1_bar_17 rfl 1 rfl) ?_
  refine cg_X1_98 T h dX1_bar_18 (fun r6 h => ?_)
  obtain ⟨p7, e_p7, hq_p7⟩ := nn_of h
  subst e_p7
  have h := hq_p7
  show cW X _ _ _ 21 [(1, .int v5), (0, .ref x0)] [.ref p7, .int 0, .ref x0]
  refine cg_X1_152 T h dX1_bar_21 (fun v8 h => ?_)
  refine cw (k_iconst (v := 1) hX dX1_bar_24 (by decide)) ?_
  refine cw (k_isub hX dX1_bar_25) ?_
  refine cX_X1_124 T met_FX1_number_2 (c_room hR rfl rfl) e h rfl dX1_bar_26 (fun v10 s9 h => ?_)
  refine cw (k_bipush (v := 6) hX dX1_bar_29 (by decide)) ?_
  refine cw (k_imul hX dX1_bar_31) ?_
  refine cw (k_iload_n hX dX1_bar_32 rfl 0 rfl) ?_
  refine cw (k_iadd hX dX1_bar_33) ?_
  refine c_nm h (fun v11 h => ?_)
  refine cw (k_istore_n [(2, .int v11), (1, .int v5), (0, .ref x0)] hX dX1_bar_34 rfl rfl rfl) ?_
  refine cw (k_aload_n hX dX1_bar_35 rfl 2 rfl) ?_
  obtain ⟨p12, e_p12, hq_p12⟩ := nn_of h
  have h := hq_p12
  refine cw (k_ldcS (k := 7) T e_p12 rfl dX1_bar_36) ?_
  refine cX_X1_71 T met_FX1_which (c_room hR rfl rfl) h rfl dX1_bar_38 (fun v13 h => ?_)
  refine cw (k_istore_n [(3, .int v13), (2, .int v11), (1, .int v5), (0, .ref x0)] hX dX1_bar_41 rfl rfl rfl) ?_
  refine cw (k_iload_n hX dX1_bar_42 rfl 0 rfl) ?_
  refine c_br h (k_if_ge (tgt := 52) hX h dX1_bar_43 (by decide)) (fun h => ?_) (fun h => ?_)
  · refine cw (k_aload_n hX dX1_bar_52 rfl 3 rfl) ?_
    refine cg_X1_98 T h dX1_bar_53 (fun r14 h => ?_)
    obtain ⟨p15, e_p15, hq_p15⟩ := nn_of h
    subst e_p15
    have h := hq_p15
    show cW X _ _ _ 56 [(3, .int v13), (2, .int v11), (1, .int v5), (0, .ref x0)] [.ref p15]
    refine cg_X1_217 T h dX1_bar_56 (fun r16 h => ?_)
    refine cw (k_iload_n hX dX1_bar_59 rfl 1 rfl) ?_
    obtain ⟨p17, e_p17, hq_p17⟩ := nn_of h
    subst e_p17
    have h := hq_p17
    show cW X _ _ _ 60 [(3, .int v13), (2, .int v11), (1, .int v5), (0, .ref x0)] [.int v11, .ref p17]
    refine ca_ild T h dX1_bar_60 (fun v18 h => ?_)
    refine cw (k_iload_n hX dX1_bar_61 rfl 0 rfl) ?_
    refine cw (k_ishr hX dX1_bar_62) ?_
    refine cw (k_iconst (v := 1) hX dX1_bar_63 (by decide)) ?_
    refine cw (k_iand hX dX1_bar_64) ?_
    refine cw (k_iconst (v := 1) hX dX1_bar_65 (by decide)) ?_
    refine c_brn h (k_icmp_ne (tgt := 75) hX h dX1_bar_66 (by decide)) (fun h => ?_) (fun h => ?_)
    · refine cw (k_aload_n hX dX1_bar_75 rfl 3 rfl) ?_
      refine cX_X1_25 T met_FX1_next (c_room hR rfl rfl) h rfl dX1_bar_76 (fun s19 h => ?_)
      refine cw (k_aload_n hX dX1_bar_79 rfl 3 rfl) ?_
      refine cg_X1_98 T h dX1_bar_80 (fun r20 h => ?_)
      obtain ⟨p21, e_p21, hq_p21⟩ := nn_of h
      subst e_p21
      have h := hq_p21
      show cW X _ _ _ 83 [(3, .int v13), (2, .int v11), (1, .int v5), (0, .ref x0)] [.ref p21]
      refine cg_X1_217 T h dX1_bar_83 (fun r22 h => ?_)
      refine cw (k_iload_n hX dX1_bar_86 rfl 1 rfl) ?_
      refine cw (k_dup2 hX dX1_bar_87 (by first | rfl | exact rf_cat _) (by first | rfl | exact rf_cat _)) ?_
      obtain ⟨p23, e_p23, hq_p23⟩ := nn_of h
      subst e_p23
      have h := hq_p23
      show cW X _ _ _ 88 [(3, .int v13), (2, .int v11), (1, .int v5), (0, .ref x0)] [.int v11, .ref p23, .int v11, .ref p23]
      refine ca_ild T h dX1_bar_88 (fun v24 h => ?_)
      refine cw (k_iconst (v := 1) hX dX1_bar_89 (by decide)) ?_
      refine cw (k_iload_n hX dX1_bar_90 rfl 0 rfl) ?_
      refine cw (k_ishl hX dX1_bar_91) ?_
      refine cw (k_ior hX dX1_bar_92) ?_
      refine ca_ist T h dX1_bar_93 (fun s25 h => ?_)
      exact x_ret_v T e h dX1_bar_94
    · refine cw (k_aload_n hX dX1_bar_69 rfl 3 rfl) ?_
      refine cw (k_iconst (v := 3) hX dX1_bar_70 (by decide)) ?_
      refine cX_X1_75 T met_FX1_wrong (c_room hR rfl rfl) h rfl dX1_bar_71 (fun r27 s26 h => ?_)
      obtain ⟨p28, e_p28, hq_p28⟩ := nn_of h
      subst e_p28
      have h := hq_p28
      show cW X _ _ _ 74 [(3, .int v13), (2, .int v11), (1, .int v5), (0, .ref x0)] [.ref p28]
      exact x_throw T e h dX1_bar_74
  · refine cw (k_aload_n hX dX1_bar_46 rfl 3 rfl) ?_
    refine cw (k_iconst (v := 1) hX dX1_bar_47 (by decide)) ?_
    refine cX_X1_75 T met_FX1_wrong (c_room hR rfl rfl) h rfl dX1_bar_48 (fun r30 s29 h => ?_)
    obtain ⟨p31, e_p31, hq_p31⟩ := nn_of h
    subst e_p31
    have h := hq_p31
    show cW X _ _ _ 51 [(3, .int v13), (2, .int v11), (1, .int v5), (0, .ref x0)] [.ref p31]
    exact x_throw T e h dX1_bar_51
theorem met_FX1_begin {l : Launch} {E : CE} {nf : Nat} : ∀ (x0 : Nat) (x1 : Nat) (x2 : Int32) (s : CS) (z : CS), FX1_begin E.2.2.2 nf x0 x1 x2 s = some z → (isK s x0 [1] = true ∧ cMet_v l E yX1_begin (ws_ yX1_begin cX1_begin 3 none) 5 126 [.ref x0, .ref x1, .int x2] s z) := by
  intro x0 x1 x2 s z h
  unfold FX1_begin at h
  obtain ⟨hm, h⟩ := mz_of h
  obtain ⟨hg, h⟩ := gd_of h
  refine ⟨hg, c_met_v hm (by decide +kernel) rfl (fun X hl hin T hR e => ?_)⟩
  have T : cOK X E cX1_begin RX1 3 none _ _ _ _ := T
  have hX := T.1
  show cW X _ _ s 0 [(0, .ref x0), (1, .ref x1), (2, .int x2)] []
  refine cw (k_aload_n hX dX1_begin_0 rfl 0 rfl) ?_
  refine cw (k_aload_n hX dX1_begin_1 rfl 1 rfl) ?_
  refine cp_X1_9 T h dX1_begin_2 (fun s1 h => ?_)
  refine cw (k_aload_n hX dX1_begin_5 rfl 0 rfl) ?_
  refine cw (k_iload_n hX dX1_begin_6 rfl 2 rfl) ?_
  refine cp_X1_15 T h dX1_begin_7 (fun s2 h => ?_)
  refine cw (k_aload_n hX dX1_begin_10 rfl 0 rfl) ?_
  refine cw (k_iconst (v := 0) hX dX1_begin_11 (by decide)) ?_
  refine cp_X1_19 T h dX1_begin_12 (fun s3 h => ?_)
  refine cw (k_aload_n hX dX1_begin_15 rfl 0 rfl) ?_
  refine cw (k_iconst (v := 0) hX dX1_begin_16 (by decide)) ?_
  refine cp_X1_22 T h dX1_begin_17 (fun s4 h => ?_)
  refine cw (k_aload_n hX dX1_begin_20 rfl 0 rfl) ?_
  refine cX_X1_25 T met_FX1_next (c_room hR rfl rfl) h rfl dX1_begin_21 (fun s5 h => ?_)
  exact c_ret_v T e h dX1_begin_24
theorem met_FX1_isSign {l : Launch} {E : CE} {s : CS} : ∀ (x0 : Nat) (x1 : Int32) (z : Int32), FX1_isSign s x0 x1 = some z → (isK s x0 [1] = true ∧ cMet_i l E yX1_isSign (ws_ yX1_isSign cX1_isSign 2 (some .boolean)) 0 0 [.ref x0, .int x1] s z s) := by
  intro x0 x1 z h
  unfold FX1_isSign at h
  obtain ⟨hg, h⟩ := gd_of h
  refine ⟨hg, c_met_i ⟨Nat.le_refl _, Nat.le_refl _⟩ (by decide +kernel) rfl (fun X hl hin T hR e => ?_)⟩
  have T : cOK X E cX1_isSign RX1 2 (some .boolean) _ _ _ _ := T
  have hX := T.1
  show cW X _ _ s 0 [(0, .ref x0), (1, .int x1)] []
  refine cw (k_aload_n hX dX1_isSign_0 rfl 0 rfl) ?_
  refine cg_X1_31 T h dX1_isSign_1 (fun v1 h => ?_)
  refine cw (k_iconst (v := 3) hX dX1_isSign_4 (by decide)) ?_
  refine c_brn h (k_icmp_ne (tgt := 25) hX h dX1_isSign_5 (by decide)) (fun h => ?_) (fun h => ?_)
  · refine cw (k_iconst (v := 0) hX dX1_isSign_25 (by decide)) ?_
    exact c_ret_zrc T e rfl h dX1_isSign_26
  · refine cw (k_aload_n hX dX1_isSign_8 rfl 0 rfl) ?_
    refine cg_X1_9 T h dX1_isSign_9 (fun r2 h => ?_)
    refine cw (k_aload_n hX dX1_isSign_12 rfl 0 rfl) ?_
    refine cg_X1_28 T h dX1_isSign_13 (fun v3 h => ?_)
    obtain ⟨p4, e_p4, hq_p4⟩ := nn_of h
    subst e_p4
    have h := hq_p4
    show cW X _ _ _ 16 [(0, .ref x0), (1, .int x1)] [.int v3, .ref p4]
    refine ca_bld T h dX1_isSign_16 (fun v5 h => ?_)
    refine cw (k_iload_n hX dX1_isSign_17 rfl 1 rfl) ?_
    refine c_brn h (k_icmp_ne (tgt := 25) hX h dX1_isSign_18 (by decide)) (fun h => ?_) (fun h => ?_)
    · refine cw (k_iconst (v := 0) hX dX1_isSign_25 (by decide)) ?_
      exact c_ret_zrc T e rfl h dX1_isSign_26
    · refine cw (k_iconst (v := 1) hX dX1_isSign_21 (by decide)) ?_
      refine cw (k_goto (tgt := 26) hX dX1_isSign_22 (by decide)) ?_
      exact c_ret_zrc T e rfl h dX1_isSign_26
theorem met_FX1_need_2 {l : Launch} {E : CE} {nf : Nat} : ∀ (x0 : Nat) (x1 : Int32) (s : CS) (z : ((Nat ⊕ Unit) × CS)), FX1_need_2 E.2.2.2 nf x0 x1 s = some z → (isK s x0 [1] = true ∧ xMet_v l E yX1_need_2 (ws_ yX1_need_2 cX1_need_2 2 none) 6 155 [.ref x0, .int x1] s z.1 z.2) := by
  intro x0 x1 s z h
  unfold FX1_need_2 at h
  obtain ⟨hm, h⟩ := mz_of h
  obtain ⟨hg, h⟩ := gd_of h
  refine ⟨hg, x_met_v hm (by decide +kernel) rfl (fun X hl hin T hR e => ?_)⟩
  have T : cOK X E cX1_need_2 RX1 2 none _ _ _ _ := T
  have hX := T.1
  show cW X _ _ s 0 [(0, .ref x0), (1, .int x1)] []
  refine cw (k_aload_n hX dX1_need_2_0 rfl 0 rfl) ?_
  refine cw (k_iload_n hX dX1_need_2_1 rfl 1 rfl) ?_
  refine cX_X1_79 T met_FX1_isSign (c_room hR rfl rfl) h rfl dX1_need_2_2 (fun v1 h => ?_)
  refine c_brn h (k_if_ne (tgt := 14) hX h dX1_need_2_5 (by decide)) (fun h => ?_) (fun h => ?_)
  · refine cw (k_aload_n hX dX1_need_2_14 rfl 0 rfl) ?_
    refine cX_X1_25 T met_FX1_next (c_room hR rfl rfl) h rfl dX1_need_2_15 (fun s2 h => ?_)
    exact x_ret_v T e h dX1_need_2_18
  · refine cw (k_aload_n hX dX1_need_2_8 rfl 0 rfl) ?_
    refine cw (k_iconst (v := 1) hX dX1_need_2_9 (by decide)) ?_
    refine cX_X1_75 T met_FX1_wrong (c_room hR rfl rfl) h rfl dX1_need_2_10 (fun r4 s3 h => ?_)
    obtain ⟨p5, e_p5, hq_p5⟩ := nn_of h
    subst e_p5
    have h := hq_p5
    show cW X _ _ _ 13 [(0, .ref x0), (1, .int x1)] [.ref p5]
    exact x_throw T e h dX1_need_2_13
theorem met_FX21_init {l : Launch} {E : CE} : ∀ (x0 : Nat) (x1 : Int32) (x2 : Nat) (x3 : Nat) (s : CS) (z : CS), FX21_init x0 x1 x2 x3 s = some z → cMet_v l E yX21_init (ws_ yX21_init cX21_init 4 none) 2 60 [.ref x0, .int x1, .ref x2, .ref x3] s z := by
  intro x0 x1 x2 x3 s z h
  unfold FX21_init at h
  obtain ⟨hm, h⟩ := mz_of h
  refine c_met_v hm (by decide +kernel) rfl (fun X hl hin T hR e => ?_)
  have T : cOK X E cX21_init RX21 4 none _ _ _ _ := T
  have hX := T.1
  show cW X _ _ s 0 [(0, .ref x0), (1, .int x1), (2, .ref x2), (3, .ref x3)] []
  refine cw (k_aload_n hX dX21_init_0 rfl 0 rfl) ?_
  refine cX_X21_1 T met_FX17_init (c_room hR rfl rfl) h rfl dX21_init_1 (fun h => ?_)
  refine cw (k_aload_n hX dX21_init_4 rfl 0 rfl) ?_
  refine cw (k_iload_n hX dX21_init_5 rfl 1 rfl) ?_
  refine cp_X21_7 T hin h dX21_init_6 (fun s2 h => ?_)
  refine cw (k_aload_n hX dX21_init_9 rfl 0 rfl) ?_
  refine cw (k_aload_n hX dX21_init_10 rfl 2 rfl) ?_
  refine cp_X21_13 T hin h dX21_init_11 (fun s3 h => ?_)
  refine cw (k_aload_n hX dX21_init_14 rfl 0 rfl) ?_
  refine cw (k_aload_n hX dX21_init_15 rfl 3 rfl) ?_
  refine cp_X21_17 T hin h dX21_init_16 (fun s4 h => ?_)
  exact c_ret_v T e h dX21_init_19
theorem FX1_product_b5_s_ok {X : KC CS} {E : CE} {z : ((Nat ⊕ (Option Nat)) × CS)} {z0 l0 z1 l1 : Nat} (T : cOK X E cX1_product RX1 2 (some (.object "OverFirst$Expression")) z0 l0 z1 l1) {Fr Lr : Nat} (hR : cRoom X (Fr + 1) (Lr + 49)) (e : xE X E z0 l0 z1 l1 (xQ_q E z.1 z.2) (xgl z.1) z.2) {nf : Nat} {rc : Nat → CS → Option ((Nat ⊕ (Option Nat)) × CS)} (hrc : ∀ (o : Nat) (s : CS) (v : ((Nat ⊕ (Option Nat)) × CS)), rc o s = some v → (isK s o [1] = true ∧ xMet_q X.1.2.1 E yX1_part (ws_ yX1_part cX1_part 5 (some (.object "OverFirst$Expression"))) Fr Lr [.ref o] s v.1 v.2)) (hN : 5 ≤ Fr) (hM : 126 ≤ Lr) {k5 : Nat → (Option Nat) → CS → Option ((Nat ⊕ (Option Nat)) × CS)} (hk5 : ∀ (x0 : Nat) (x1 : (Option Nat)) (s : CS), k5 x0 x1 s = some z → cW X z1 l1 s 5 [(0, .ref x0), (1, va_rf x1)] []) {x0 : Nat} {x1 : (Option Nat)} {s : CS} (h : FX1_product_b5_s E.2.2.2 nf rc k5 x0 x1 s = some z) : cW X z1 l1 s 5 [(0, .ref x0), (1, va_rf x1)] [] := by
  unfold FX1_product_b5_s at h
  have hX := T.1
  refine cw (k_aload_n hX dX1_product_5 rfl 0 rfl) ?_
  refine cw (k_bipush (v := 42) hX dX1_product_6 (by decide)) ?_
  refine cX_X1_79 T met_FX1_isSign (c_roomo hR (by omega) (by omega)) h rfl dX1_product_8 (fun v1 h => ?_)
  refine c_br h (k_if_eq (tgt := 36) hX h dX1_product_11 (by decide)) (fun h => ?_) (fun h => ?_)
  · refine cw (k_aload_nO hX dX1_product_36 rfl 1 rfl) ?_
    exact x_ret_q (v := x1) T (Or.inl ⟨_, rfl⟩) e h dX1_product_37
  · refine cw (k_aload_n hX dX1_product_14 rfl 0 rfl) ?_
    refine cX_X1_25 T met_FX1_next (c_roomo hR (by omega) (by omega)) h rfl dX1_product_15 (fun s2 h => ?_)
    refine c_newO kX21 q1146 q1147 q175 (nd21 _) T h dX1_product_18 (fun o3 s4 h => ?_)
    refine cw (k_dup hX dX1_product_21 rfl) ?_
    refine cw (k_bipush (v := 42) hX dX1_product_22 (by decide)) ?_
    refine cw (k_aload_nO hX dX1_product_24 rfl 1 rfl) ?_
    refine cw (k_aload_n hX dX1_product_25 rfl 0 rfl) ?_
    refine cX_X1_269 T hrc (c_roomo hR (by omega) (by omega)) e h (by cases x1 <;> rfl) dX1_product_26 (fun r6 s5 h => ?_)
    obtain ⟨p7, e_p7, hq_p7⟩ := nn_of h
    subst e_p7
    have h := hq_p7
    show cW X z1 l1 _ 29 [(0, .ref x0), (1, .ref p7)] [va_rf r6, .ref p7, .int 42, .ref o3, .ref o3]
    obtain ⟨p8, e_p8, hq_p8⟩ := nn_of h
    subst e_p8
    have h := hq_p8
    show cW X z1 l1 _ 29 [(0, .ref x0), (1, .ref p7)] [.ref p8, .ref p7, .int 42, .ref o3, .ref o3]
    refine cX_X1_260 T met_FX21_init (c_roomo hR (by omega) (by omega)) h rfl dX1_product_29 (fun s9 h => ?_)
    refine cw (k_astore_n [(1, .ref o3), (0, .ref x0)] hX dX1_product_32 rfl rfl rfl) ?_
    refine cw (k_goto (tgt := 5) hX dX1_product_33 (by decide)) ?_
    refine cw (k_lv (lv' := [(0, .ref x0), (1, va_rf (some o3))]) [1, 0] rfl) ?_
    exact hk5 _ _ _ h
theorem FX1_product_b5_ok {X : KC CS} {E : CE} {z : ((Nat ⊕ (Option Nat)) × CS)} {z0 l0 z1 l1 : Nat} (T : cOK X E cX1_product RX1 2 (some (.object "OverFirst$Expression")) z0 l0 z1 l1) {Fr Lr : Nat} (hR : cRoom X (Fr + 1) (Lr + 49)) (e : xE X E z0 l0 z1 l1 (xQ_q E z.1 z.2) (xgl z.1) z.2) {nf : Nat} {rc : Nat → CS → Option ((Nat ⊕ (Option Nat)) × CS)} (hrc : ∀ (o : Nat) (s : CS) (v : ((Nat ⊕ (Option Nat)) × CS)), rc o s = some v → (isK s o [1] = true ∧ xMet_q X.1.2.1 E yX1_part (ws_ yX1_part cX1_part 5 (some (.object "OverFirst$Expression"))) Fr Lr [.ref o] s v.1 v.2)) (hN : 5 ≤ Fr) (hM : 126 ≤ Lr) : ∀ (n : Nat) (x0 : Nat) (x1 : (Option Nat)) (s : CS), FX1_product_b5 E.2.2.2 nf rc n x0 x1 s = some z → cW X z1 l1 s 5 [(0, .ref x0), (1, va_rf x1)] [] := by
  intro n
  induction n with
  | zero => intro x0 x1 s h; exact (nomatch (show (none : Option ((Nat ⊕ (Option Nat)) × CS)) = some z from h))
  | succ n ih =>
    intro x0 x1 s h
    have h : FX1_product_b5_s E.2.2.2 nf rc (FX1_product_b5 E.2.2.2 nf rc n) x0 x1 s = some z := h
    exact FX1_product_b5_s_ok T hR e hrc hN hM ih h
theorem met_FX1_product {l : Launch} {E : CE} {nf : Nat} {rc : Nat → CS → Option ((Nat ⊕ (Option Nat)) × CS)} {Fr Lr : Nat} (hrc : ∀ (o : Nat) (s : CS) (v : ((Nat ⊕ (Option Nat)) × CS)), rc o s = some v → (isK s o [1] = true ∧ xMet_q l E yX1_part (ws_ yX1_part cX1_part 5 (some (.object "OverFirst$Expression"))) Fr Lr [.ref o] s v.1 v.2)) (hN : 5 ≤ Fr) (hM : 126 ≤ Lr) : ∀ (x0 : Nat) (s : CS) (z : ((Nat ⊕ (Option Nat)) × CS)), FX1_product E.2.2.2 nf rc x0 s = some z → (isK s x0 [1] = true ∧ xMet_q l E yX1_product (ws_ yX1_product cX1_product 2 (some (.object "OverFirst$Expression"))) (Fr + 1) (Lr + 49) [.ref x0] s z.1 z.2) := by
  intro x0 s z h
  unfold FX1_product at h
  obtain ⟨hm, h⟩ := mz_of h
  obtain ⟨hg, h⟩ := gd_of h
  refine ⟨hg, x_met_q hm (by decide +kernel) rfl (fun X hl hin T hR e => ?_)⟩
  have T : cOK X E cX1_product RX1 2 (some (.object "OverFirst$Expression")) _ _ _ _ := T
  have hX := T.1
  show cW X _ _ s 0 [(0, .ref x0)] []
  subst hl
  refine cw (k_aload_n hX dX1_product_0 rfl 0 rfl) ?_
  refine cX_X1_269 T hrc (c_roomo hR (by omega) (by omega)) e h rfl dX1_product_1 (fun r2 s1 h => ?_)
  refine cw (k_astore_nO [(1, va_rf r2), (0, .ref x0)] hX dX1_product_4 rfl rfl rfl) ?_
  refine cw (k_lv (lv' := [(0, .ref x0), (1, va_rf r2)]) [1, 0] rfl) ?_
  exact FX1_product_b5_ok T hR e hrc hN hM _ _ _ _ h
theorem FX1_sum_b39_ok {X : KC CS} {E : CE} {z : ((Nat ⊕ (Option Nat)) × CS)} {z0 l0 z1 l1 : Nat} (T : cOK X E cX1_sum RX1 3 (some (.object "OverFirst$Expression")) z0 l0 z1 l1) {Fr Lr : Nat} (hR : cRoom X (Fr + 2) (Lr + 70)) (e : xE X E z0 l0 z1 l1 (xQ_q E z.1 z.2) (xgl z.1) z.2) {nf : Nat} {rc : Nat → CS → Option ((Nat ⊕ (Option Nat)) × CS)} (hrc : ∀ (o : Nat) (s : CS) (v : ((Nat ⊕ (Option Nat)) × CS)), rc o s = some v → (isK s o [1] = true ∧ xMet_q X.1.2.1 E yX1_part (ws_ yX1_part cX1_part 5 (some (.object "OverFirst$Expression"))) Fr Lr [.ref o] s v.1 v.2)) (hN : 5 ≤ Fr) (hM : 126 ≤ Lr) {k5 : Nat → (Option Nat) → CS → Option ((Nat ⊕ (Option Nat)) × CS)} (hk5 : ∀ (x0 : Nat) (x1 : (Option Nat)) (s : CS), k5 x0 x1 s = some z → cW X z1 l1 s 5 [(0, .ref x0), (1, va_rf x1)] []) {x0 : Nat} {x1 : (Option Nat)} {s_0 : Int32} {s : CS} (h : FX1_sum_b39 E.2.2.2 nf rc k5 x0 x1 s_0 s = some z) : cW X z1 l1 s 39 [(0, .ref x0), (1, va_rf x1)] [.int s_0] := by
  unfold FX1_sum_b39 at h
  have hX := T.1
  refine cw (k_istore_n [(2, .int s_0), (0, .ref x0), (1, va_rf x1)] hX dX1_sum_39 rfl rfl (by cases x1 <;> rfl)) ?_
  refine cw (k_aload_n hX dX1_sum_40 rfl 1 rfl) ?_
  refine cX_X1_25 T met_FX1_next (c_roomo hR (by omega) (by omega)) h rfl dX1_sum_41 (fun s1 h => ?_)
  refine c_newO kX21 q1146 q1147 q175 (nd21 _) T h dX1_sum_44 (fun o2 s3 h => ?_)
  refine cw (k_dup hX dX1_sum_47 rfl) ?_
  refine cw (k_iload_n hX dX1_sum_48 rfl 0 rfl) ?_
  refine cw (k_aload_nO hX dX1_sum_49 rfl 2 rfl) ?_
  refine cw (k_aload_n hX dX1_sum_50 rfl 1 rfl) ?_
  refine cX_X1_266 T (met_FX1_product hrc (by omega) (by omega)) (c_roomo hR (by omega) (by omega)) e h (by cases x1 <;> rfl) dX1_sum_51 (fun r5 s4 h => ?_)
  obtain ⟨p6, e_p6, hq_p6⟩ := nn_of h
  subst e_p6
  have h := hq_p6
  show cW X z1 l1 _ 54 [(2, .int s_0), (0, .ref x0), (1, .ref p6)] [va_rf r5, .ref p6, .int s_0, .ref o2, .ref o2]
  obtain ⟨p7, e_p7, hq_p7⟩ := nn_of h
  subst e_p7
  have h := hq_p7
  show cW X z1 l1 _ 54 [(2, .int s_0), (0, .ref x0), (1, .ref p6)] [.ref p7, .ref p6, .int s_0, .ref o2, .ref o2]
  refine cX_X1_260 T met_FX21_init (c_roomo hR (by omega) (by omega)) h rfl dX1_sum_54 (fun s8 h => ?_)
  refine cw (k_astore_n [(1, .ref o2), (2, .int s_0), (0, .ref x0)] hX dX1_sum_57 rfl rfl rfl) ?_
  refine cw (k_goto (tgt := 5) hX dX1_sum_58 (by decide)) ?_
  refine cw (k_lv (lv' := [(0, .ref x0), (1, va_rf (some o2))]) [2, 0] rfl) ?_
  exact hk5 _ _ _ h
theorem FX1_sum_b23_ok {X : KC CS} {E : CE} {z : ((Nat ⊕ (Option Nat)) × CS)} {z0 l0 z1 l1 : Nat} (T : cOK X E cX1_sum RX1 3 (some (.object "OverFirst$Expression")) z0 l0 z1 l1) {Fr Lr : Nat} (hR : cRoom X (Fr + 2) (Lr + 70)) (e : xE X E z0 l0 z1 l1 (xQ_q E z.1 z.2) (xgl z.1) z.2) {nf : Nat} {rc : Nat → CS → Option ((Nat ⊕ (Option Nat)) × CS)} (hrc : ∀ (o : Nat) (s : CS) (v : ((Nat ⊕ (Option Nat)) × CS)), rc o s = some v → (isK s o [1] = true ∧ xMet_q X.1.2.1 E yX1_part (ws_ yX1_part cX1_part 5 (some (.object "OverFirst$Expression"))) Fr Lr [.ref o] s v.1 v.2)) (hN : 5 ≤ Fr) (hM : 126 ≤ Lr) {k5 : Nat → (Option Nat) → CS → Option ((Nat ⊕ (Option Nat)) × CS)} (hk5 : ∀ (x0 : Nat) (x1 : (Option Nat)) (s : CS), k5 x0 x1 s = some z → cW X z1 l1 s 5 [(0, .ref x0), (1, va_rf x1)] []) {x0 : Nat} {x1 : (Option Nat)} {s : CS} (h : FX1_sum_b23 E.2.2.2 nf rc k5 x0 x1 s = some z) : cW X z1 l1 s 23 [(0, .ref x0), (1, va_rf x1)] [] := by
  unfold FX1_sum_b23 at h
  have hX := T.1
  refine cw (k_aload_n hX dX1_sum_23 rfl 0 rfl) ?_
  refine cw (k_bipush (v := 43) hX dX1_sum_24 (by decide)) ?_
  refine cX_X1_79 T met_FX1_isSign (c_roomo hR (by omega) (by omega)) h rfl dX1_sum_26 (fun v1 h => ?_)
  refine c_br h (k_if_eq (tgt := 37) hX h dX1_sum_29 (by decide)) (fun h => ?_) (fun h => ?_)
  · refine cw (k_bipush (v := 45) hX dX1_sum_37 (by decide)) ?_
    refine cw (k_lv (lv' := [(0, .ref x0), (1, va_rf x1)]) [0, 1] rfl) ?_
    exact FX1_sum_b39_ok T hR e hrc hN hM hk5 h
  · refine cw (k_bipush (v := 43) hX dX1_sum_32 (by decide)) ?_
    refine cw (k_goto (tgt := 39) hX dX1_sum_34 (by decide)) ?_
    refine cw (k_lv (lv' := [(0, .ref x0), (1, va_rf x1)]) [0, 1] rfl) ?_
    exact FX1_sum_b39_ok T hR e hrc hN hM hk5 h
theorem FX1_sum_b5_s_ok {X : KC CS} {E : CE} {z : ((Nat ⊕ (Option Nat)) × CS)} {z0 l0 z1 l1 : Nat} (T : cOK X E cX1_sum RX1 3 (some (.object "OverFirst$Expression")) z0 l0 z1 l1) {Fr Lr : Nat} (hR : cRoom X (Fr + 2) (Lr + 70)) (e : xE X E z0 l0 z1 l1 (xQ_q E z.1 z.2) (xgl z.1) z.2) {nf : Nat} {rc : Nat → CS → Option ((Nat ⊕ (Option Nat)) × CS)} (hrc : ∀ (o : Nat) (s : CS) (v : ((Nat ⊕ (Option Nat)) × CS)), rc o s = some v → (isK s o [1] = true ∧ xMet_q X.1.2.1 E yX1_part (ws_ yX1_part cX1_part 5 (some (.object "OverFirst$Expression"))) Fr Lr [.ref o] s v.1 v.2)) (hN : 5 ≤ Fr) (hM : 126 ≤ Lr) {k5 : Nat → (Option Nat) → CS → Option ((Nat ⊕ (Option Nat)) × CS)} (hk5 : ∀ (x0 : Nat) (x1 : (Option Nat)) (s : CS), k5 x0 x1 s = some z → cW X z1 l1 s 5 [(0, .ref x0), (1, va_rf x1)] []) {x0 : Nat} {x1 : (Option Nat)} {s : CS} (h : FX1_sum_b5_s E.2.2.2 nf rc k5 x0 x1 s = some z) : cW X z1 l1 s 5 [(0, .ref x0), (1, va_rf x1)] [] := by
  unfold FX1_sum_b5_s at h
  have hX := T.1
  refine cw (k_aload_n hX dX1_sum_5 rfl 0 rfl) ?_
  refine cw (k_bipush (v := 43) hX dX1_sum_6 (by decide)) ?_
  refine cX_X1_79 T met_FX1_isSign (c_roomo hR (by omega) (by omega)) h rfl dX1_sum_8 (fun v1 h => ?_)
  refine c_brn h (k_if_ne (tgt := 23) hX h dX1_sum_11 (by decide)) (fun h => ?_) (fun h => ?_)
  · refine cw (k_lv (lv' := [(0, .ref x0), (1, va_rf x1)]) [0, 1] rfl) ?_
    exact FX1_sum_b23_ok T hR e hrc hN hM hk5 h
  · refine cw (k_aload_n hX dX1_sum_14 rfl 0 rfl) ?_
    refine cw (k_bipush (v := 45) hX dX1_sum_15 (by decide)) ?_
    refine cX_X1_79 T met_FX1_isSign (c_roomo hR (by omega) (by omega)) h rfl dX1_sum_17 (fun v2 h => ?_)
    refine c_br h (k_if_eq (tgt := 61) hX h dX1_sum_20 (by decide)) (fun h => ?_) (fun h => ?_)
    · refine cw (k_aload_nO hX dX1_sum_61 rfl 1 rfl) ?_
      exact x_ret_q (v := x1) T (Or.inl ⟨_, rfl⟩) e h dX1_sum_62
    · refine cw (k_lv (lv' := [(0, .ref x0), (1, va_rf x1)]) [0, 1] rfl) ?_
      exact FX1_sum_b23_ok T hR e hrc hN hM hk5 h
theorem FX1_sum_b5_ok {X : KC CS} {E : CE} {z : ((Nat ⊕ (Option Nat)) × CS)} {z0 l0 z1 l1 : Nat} (T : cOK X E cX1_sum RX1 3 (some (.object "OverFirst$Expression")) z0 l0 z1 l1) {Fr Lr : Nat} (hR : cRoom X (Fr + 2) (Lr + 70)) (e : xE X E z0 l0 z1 l1 (xQ_q E z.1 z.2) (xgl z.1) z.2) {nf : Nat} {rc : Nat → CS → Option ((Nat ⊕ (Option Nat)) × CS)} (hrc : ∀ (o : Nat) (s : CS) (v : ((Nat ⊕ (Option Nat)) × CS)), rc o s = some v → (isK s o [1] = true ∧ xMet_q X.1.2.1 E yX1_part (ws_ yX1_part cX1_part 5 (some (.object "OverFirst$Expression"))) Fr Lr [.ref o] s v.1 v.2)) (hN : 5 ≤ Fr) (hM : 126 ≤ Lr) : ∀ (n : Nat) (x0 : Nat) (x1 : (Option Nat)) (s : CS), FX1_sum_b5 E.2.2.2 nf rc n x0 x1 s = some z → cW X z1 l1 s 5 [(0, .ref x0), (1, va_rf x1)] [] := by
  intro n
  induction n with
  | zero => intro x0 x1 s h; exact (nomatch (show (none : Option ((Nat ⊕ (Option Nat)) × CS)) = some z from h))
  | succ n ih =>
    intro x0 x1 s h
    have h : FX1_sum_b5_s E.2.2.2 nf rc (FX1_sum_b5 E.2.2.2 nf rc n) x0 x1 s = some z := h
    exact FX1_sum_b5_s_ok T hR e hrc hN hM ih h
theorem met_FX1_sum {l : Launch} {E : CE} {nf : Nat} {rc : Nat → CS → Option ((Nat ⊕ (Option Nat)) × CS)} {Fr Lr : Nat} (hrc : ∀ (o : Nat) (s : CS) (v : ((Nat ⊕ (Option Nat)) × CS)), rc o s = some v → (isK s o [1] = true ∧ xMet_q l E yX1_part (ws_ yX1_part cX1_part 5 (some (.object "OverFirst$Expression"))) Fr Lr [.ref o] s v.1 v.2)) (hN : 5 ≤ Fr) (hM : 126 ≤ Lr) : ∀ (x0 : Nat) (s : CS) (z : ((Nat ⊕ (Option Nat)) × CS)), FX1_sum E.2.2.2 nf rc x0 s = some z → (isK s x0 [1] = true ∧ xMet_q l E yX1_sum (ws_ yX1_sum cX1_sum 3 (some (.object "OverFirst$Expression"))) (Fr + 2) (Lr + 70) [.ref x0] s z.1 z.2) := by
  intro x0 s z h
  unfold FX1_sum at h
  obtain ⟨hm, h⟩ := mz_of h
  obtain ⟨hg, h⟩ := gd_of h
  refine ⟨hg, x_met_q hm (by decide +kernel) rfl (fun X hl hin T hR e => ?_)⟩
  have T : cOK X E cX1_sum RX1 3 (some (.object "OverFirst$Expression")) _ _ _ _ := T
  have hX := T.1
  show cW X _ _ s 0 [(0, .ref x0)] []
  subst hl
  refine cw (k_aload_n hX dX1_sum_0 rfl 0 rfl) ?_
  refine cX_X1_266 T (met_FX1_product hrc (by omega) (by omega)) (c_roomo hR (by omega) (by omega)) e h rfl dX1_sum_1 (fun r2 s1 h => ?_)
  refine cw (k_astore_nO [(1, va_rf r2), (0, .ref x0)] hX dX1_sum_4 rfl rfl rfl) ?_
  refine cw (k_lv (lv' := [(0, .ref x0), (1, va_rf r2)]) [1, 0] rfl) ?_
  exact FX1_sum_b5_ok T hR e hrc hN hM _ _ _ _ h
theorem FX1_test_b35_ok {X : KC CS} {E : CE} {z : ((Nat ⊕ (Option Nat)) × CS)} {z0 l0 z1 l1 : Nat} (T : cOK X E cX1_test RX1 3 (some (.object "OverFirst$Expression")) z0 l0 z1 l1) {Fr Lr : Nat} (hR : cRoom X (Fr + 3) (Lr + 92)) (e : xE X E z0 l0 z1 l1 (xQ_q E z.1 z.2) (xgl z.1) z.2) {nf : Nat} {rc : Nat → CS → Option ((Nat ⊕ (Option Nat)) × CS)} (hrc : ∀ (o : Nat) (s : CS) (v : ((Nat ⊕ (Option Nat)) × CS)), rc o s = some v → (isK s o [1] = true ∧ xMet_q X.1.2.1 E yX1_part (ws_ yX1_part cX1_part 5 (some (.object "OverFirst$Expression"))) Fr Lr [.ref o] s v.1 v.2)) (hN : 5 ≤ Fr) (hM : 126 ≤ Lr) {x0 : Nat} {x1 : (Option Nat)} {s_0 : Int32} {s : CS} (h : FX1_test_b35 E.2.2.2 nf rc x0 x1 s_0 s = some z) : cW X z1 l1 s 35 [(0, .ref x0), (1, va_rf x1)] [.int s_0] := by
  unfold FX1_test_b35 at h
  have hX := T.1
  refine cw (k_istore_n [(2, .int s_0), (0, .ref x0), (1, va_rf x1)] hX dX1_test_35 rfl rfl (by cases x1 <;> rfl)) ?_
  refine cw (k_iload_n hX dX1_test_36 rfl 0 rfl) ?_
  refine cw (k_bipush (v := 32) hX dX1_test_37 (by decide)) ?_
  refine c_brn h (k_icmp_ne (tgt := 44) hX h dX1_test_39 (by decide)) (fun h => ?_) (fun h => ?_)
  · refine cw (k_aload_n hX dX1_test_44 rfl 1 rfl) ?_
    refine cX_X1_25 T met_FX1_next (c_roomo hR (by omega) (by omega)) h rfl dX1_test_45 (fun s1 h => ?_)
    refine c_newO kX21 q1146 q1147 q175 (nd21 _) T h dX1_test_48 (fun o2 s3 h => ?_)
    refine cw (k_dup hX dX1_test_51 rfl) ?_
    refine cw (k_iload_n hX dX1_test_52 rfl 0 rfl) ?_
    refine cw (k_aload_nO hX dX1_test_53 rfl 2 rfl) ?_
    refine cw (k_aload_n hX dX1_test_54 rfl 1 rfl) ?_
    refine cX_X1_263 T (met_FX1_sum hrc (by omega) (by omega)) (c_roomo hR (by omega) (by omega)) e h (by cases x1 <;> rfl) dX1_test_55 (fun r5 s4 h => ?_)
    obtain ⟨p6, e_p6, hq_p6⟩ := nn_of h
    subst e_p6
    have h := hq_p6
    show cW X z1 l1 _ 58 [(2, .int s_0), (0, .ref x0), (1, .ref p6)] [va_rf r5, .ref p6, .int s_0, .ref o2, .ref o2]
    obtain ⟨p7, e_p7, hq_p7⟩ := nn_of h
    subst e_p7
    have h := hq_p7
    show cW X z1 l1 _ 58 [(2, .int s_0), (0, .ref x0), (1, .ref p6)] [.ref p7, .ref p6, .int s_0, .ref o2, .ref o2]
    refine cX_X1_260 T met_FX21_init (c_roomo hR (by omega) (by omega)) h rfl dX1_test_58 (fun s8 h => ?_)
    exact x_ret_q (v := (some o2)) T (Or.inl ⟨_, rfl⟩) e h dX1_test_61
  · refine cw (k_aload_nO hX dX1_test_42 rfl 2 rfl) ?_
    exact x_ret_q (v := x1) T (Or.inl ⟨_, rfl⟩) e h dX1_test_43
theorem met_FX1_test {l : Launch} {E : CE} {nf : Nat} {rc : Nat → CS → Option ((Nat ⊕ (Option Nat)) × CS)} {Fr Lr : Nat} (hrc : ∀ (o : Nat) (s : CS) (v : ((Nat ⊕ (Option Nat)) × CS)), rc o s = some v → (isK s o [1] = true ∧ xMet_q l E yX1_part (ws_ yX1_part cX1_part 5 (some (.object "OverFirst$Expression"))) Fr Lr [.ref o] s v.1 v.2)) (hN : 5 ≤ Fr) (hM : 126 ≤ Lr) : ∀ (x0 : Nat) (s : CS) (z : ((Nat ⊕ (Option Nat)) × CS)), FX1_test E.2.2.2 nf rc x0 s = some z → (isK s x0 [1] = true ∧ xMet_q l E yX1_test (ws_ yX1_test cX1_test 3 (some (.object "OverFirst$Expression"))) (Fr + 3) (Lr + 92) [.ref x0] s z.1 z.2) := by
  intro x0 s z h
  unfold FX1_test at h
  obtain ⟨hm, h⟩ := mz_of h
  obtain ⟨hg, h⟩ := gd_of h
  refine ⟨hg, x_met_q hm (by decide +kernel) rfl (fun X hl hin T hR e => ?_)⟩
  have T : cOK X E cX1_test RX1 3 (some (.object "OverFirst$Expression")) _ _ _ _ := T
  have hX := T.1
  show cW X _ _ s 0 [(0, .ref x0)] []
  subst hl
  refine cw (k_aload_n hX dX1_test_0 rfl 0 rfl) ?_
  refine cX_X1_263 T (met_FX1_sum hrc (by omega) (by omega)) (c_roomo hR (by omega) (by omega)) e h rfl dX1_test_1 (fun r2 s1 h => ?_)
  refine cw (k_astore_nO [(1, va_rf r2), (0, .ref x0)] hX dX1_test_4 rfl rfl rfl) ?_
  refine cw (k_aload_n hX dX1_test_5 rfl 1 rfl) ?_
  refine cw (k_bipush (v := 60) hX dX1_test_6 (by decide)) ?_
  refine cX_X1_79 T met_FX1_isSign (c_roomo hR (by omega) (by omega)) h rfl dX1_test_8 (fun v3 h => ?_)
  refine c_br h (k_if_eq (tgt := 19) hX h dX1_test_11 (by decide)) (fun h => ?_) (fun h => ?_)
  · refine cw (k_aload_n hX dX1_test_19 rfl 1 rfl) ?_
    refine cw (k_bipush (v := 61) hX dX1_test_20 (by decide)) ?_
    refine cX_X1_79 T met_FX1_isSign (c_roomo hR (by omega) (by omega)) h rfl dX1_test_22 (fun v4 h => ?_)
    refine c_br h (k_if_eq (tgt := 33) hX h dX1_test_25 (by decide)) (fun h => ?_) (fun h => ?_)
    · refine cw (k_bipush (v := 32) hX dX1_test_33 (by decide)) ?_
      refine cw (k_lv (lv' := [(0, .ref x0), (1, va_rf r2)]) [1, 0] rfl) ?_
      exact FX1_test_b35_ok T hR e hrc hN hM h
    · refine cw (k_bipush (v := 61) hX dX1_test_28 (by decide)) ?_
      refine cw (k_goto (tgt := 35) hX dX1_test_30 (by decide)) ?_
      refine cw (k_lv (lv' := [(0, .ref x0), (1, va_rf r2)]) [1, 0] rfl) ?_
      exact FX1_test_b35_ok T hR e hrc hN hM h
  · refine cw (k_bipush (v := 60) hX dX1_test_14 (by decide)) ?_
    refine cw (k_goto (tgt := 35) hX dX1_test_16 (by decide)) ?_
    refine cw (k_lv (lv' := [(0, .ref x0), (1, va_rf r2)]) [1, 0] rfl) ?_
    exact FX1_test_b35_ok T hR e hrc hN hM h
theorem FX1_expression_b38_ok {X : KC CS} {E : CE} {z : ((Nat ⊕ (Option Nat)) × CS)} {z0 l0 z1 l1 : Nat} (T : cOK X E cX1_expression RX1 3 (some (.object "OverFirst$Expression")) z0 l0 z1 l1) {Fr Lr : Nat} (hR : cRoom X (Fr + 4) (Lr + 114)) (e : xE X E z0 l0 z1 l1 (xQ_q E z.1 z.2) (xgl z.1) z.2) {nf : Nat} {rc : Nat → CS → Option ((Nat ⊕ (Option Nat)) × CS)} (hrc : ∀ (o : Nat) (s : CS) (v : ((Nat ⊕ (Option Nat)) × CS)), rc o s = some v → (isK s o [1] = true ∧ xMet_q X.1.2.1 E yX1_part (ws_ yX1_part cX1_part 5 (some (.object "OverFirst$Expression"))) Fr Lr [.ref o] s v.1 v.2)) (hN : 5 ≤ Fr) (hM : 126 ≤ Lr) {k5 : Nat → (Option Nat) → CS → Option ((Nat ⊕ (Option Nat)) × CS)} (hk5 : ∀ (x0 : Nat) (x1 : (Option Nat)) (s : CS), k5 x0 x1 s = some z → cW X z1 l1 s 5 [(0, .ref x0), (1, va_rf x1)] []) {x0 : Nat} {x1 : (Option Nat)} {s_0 : Int32} {s_1 : Nat} {s_2 : Nat} {s : CS} (h : FX1_expression_b38 E.2.2.2 nf rc k5 x0 x1 s_0 s_1 s_2 s = some z) : cW X z1 l1 s 38 [(0, .ref x0), (1, va_rf x1)] [.int s_0, .ref s_1, .ref s_2] := by
  unfold FX1_expression_b38 at h
  have hX := T.1
  refine cw (k_aload_nO hX dX1_expression_38 rfl 1 rfl) ?_
  refine cw (k_aload_n hX dX1_expression_39 rfl 0 rfl) ?_
  refine cX_X1_253 T (met_FX1_test hrc (by omega) (by omega)) (c_roomo hR (by omega) (by omega)) e h (by cases x1 <;> rfl) dX1_expression_40 (fun r2 s1 h => ?_)
  obtain ⟨p3, e_p3, hq_p3⟩ := nn_of h
  subst e_p3
  have h := hq_p3
  show cW X z1 l1 _ 43 [(0, .ref x0), (1, .ref p3)] [va_rf r2, .ref p3, .int s_0, .ref s_1, .ref s_2]
  obtain ⟨p4, e_p4, hq_p4⟩ := nn_of h
  subst e_p4
  have h := hq_p4
  show cW X z1 l1 _ 43 [(0, .ref x0), (1, .ref p3)] [.ref p4, .ref p3, .int s_0, .ref s_1, .ref s_2]
  refine cX_X1_260 T met_FX21_init (c_roomo hR (by omega) (by omega)) h rfl dX1_expression_43 (fun s5 h => ?_)
  refine cw (k_astore_n [(1, .ref s_2), (0, .ref x0)] hX dX1_expression_46 rfl rfl rfl) ?_
  refine cw (k_goto (tgt := 5) hX dX1_expression_47 (by decide)) ?_
  refine cw (k_lv (lv' := [(0, .ref x0), (1, va_rf (some s_2))]) [1, 0] rfl) ?_
  exact hk5 _ _ _ h
theorem FX1_expression_b5_s_ok {X : KC CS} {E : CE} {z : ((Nat ⊕ (Option Nat)) × CS)} {z0 l0 z1 l1 : Nat} (T : cOK X E cX1_expression RX1 3 (some (.object "OverFirst$Expression")) z0 l0 z1 l1) {Fr Lr : Nat} (hR : cRoom X (Fr + 4) (Lr + 114)) (e : xE X E z0 l0 z1 l1 (xQ_q E z.1 z.2) (xgl z.1) z.2) {nf : Nat} {rc : Nat → CS → Option ((Nat ⊕ (Option Nat)) × CS)} (hrc : ∀ (o : Nat) (s : CS) (v : ((Nat ⊕ (Option Nat)) × CS)), rc o s = some v → (isK s o [1] = true ∧ xMet_q X.1.2.1 E yX1_part (ws_ yX1_part cX1_part 5 (some (.object "OverFirst$Expression"))) Fr Lr [.ref o] s v.1 v.2)) (hN : 5 ≤ Fr) (hM : 126 ≤ Lr) {k5 : Nat → (Option Nat) → CS → Option ((Nat ⊕ (Option Nat)) × CS)} (hk5 : ∀ (x0 : Nat) (x1 : (Option Nat)) (s : CS), k5 x0 x1 s = some z → cW X z1 l1 s 5 [(0, .ref x0), (1, va_rf x1)] []) {x0 : Nat} {x1 : (Option Nat)} {s : CS} (h : FX1_expression_b5_s E.2.2.2 nf rc k5 x0 x1 s = some z) : cW X z1 l1 s 5 [(0, .ref x0), (1, va_rf x1)] [] := by
  unfold FX1_expression_b5_s at h
  have hX := T.1
  refine cw (k_aload_n hX dX1_expression_5 rfl 0 rfl) ?_
  obtain ⟨p1, e_p1, hq_p1⟩ := nn_of h
  have h := hq_p1
  refine cw (k_ldcwS (k := 11) T e_p1 rfl dX1_expression_6) ?_
  refine cX_X1_71 T met_FX1_which (c_roomo hR (by omega) (by omega)) h rfl dX1_expression_9 (fun v2 h => ?_)
  refine cw (k_istore_n [(2, .int v2), (0, .ref x0), (1, va_rf x1)] hX dX1_expression_12 rfl rfl (by cases x1 <;> rfl)) ?_
  refine cw (k_iload_n hX dX1_expression_13 rfl 0 rfl) ?_
  refine c_br h (k_if_ge (tgt := 19) hX h dX1_expression_14 (by decide)) (fun h => ?_) (fun h => ?_)
  · refine cw (k_aload_n hX dX1_expression_19 rfl 1 rfl) ?_
    refine cX_X1_25 T met_FX1_next (c_roomo hR (by omega) (by omega)) h rfl dX1_expression_20 (fun s3 h => ?_)
    refine c_newO kX21 q1146 q1147 q175 (nd21 _) T h dX1_expression_23 (fun o4 s5 h => ?_)
    refine cw (k_dup hX dX1_expression_26 rfl) ?_
    refine cw (k_iload_n hX dX1_expression_27 rfl 0 rfl) ?_
    refine c_brn h (k_if_ne (tgt := 36) hX h dX1_expression_28 (by decide)) (fun h => ?_) (fun h => ?_)
    · refine cw (k_bipush (v := 124) hX dX1_expression_36 (by decide)) ?_
      refine cw (k_lv (lv' := [(0, .ref x0), (1, va_rf x1)]) [1, 2] rfl) ?_
      exact FX1_expression_b38_ok T hR e hrc hN hM hk5 h
    · refine cw (k_bipush (v := 38) hX dX1_expression_31 (by decide)) ?_
      refine cw (k_goto (tgt := 38) hX dX1_expression_33 (by decide)) ?_
      refine cw (k_lv (lv' := [(0, .ref x0), (1, va_rf x1)]) [1, 2] rfl) ?_
      exact FX1_expression_b38_ok T hR e hrc hN hM hk5 h
  · refine cw (k_aload_nO hX dX1_expression_17 rfl 2 rfl) ?_
    exact x_ret_q (v := x1) T (Or.inl ⟨_, rfl⟩) e h dX1_expression_18
theorem FX1_expression_b5_ok {X : KC CS} {E : CE} {z : ((Nat ⊕ (Option Nat)) × CS)} {z0 l0 z1 l1 : Nat} (T : cOK X E cX1_expression RX1 3 (some (.object "OverFirst$Expression")) z0 l0 z1 l1) {Fr Lr : Nat} (hR : cRoom X (Fr + 4) (Lr + 114)) (e : xE X E z0 l0 z1 l1 (xQ_q E z.1 z.2) (xgl z.1) z.2) {nf : Nat} {rc : Nat → CS → Option ((Nat ⊕ (Option Nat)) × CS)} (hrc : ∀ (o : Nat) (s : CS) (v : ((Nat ⊕ (Option Nat)) × CS)), rc o s = some v → (isK s o [1] = true ∧ xMet_q X.1.2.1 E yX1_part (ws_ yX1_part cX1_part 5 (some (.object "OverFirst$Expression"))) Fr Lr [.ref o] s v.1 v.2)) (hN : 5 ≤ Fr) (hM : 126 ≤ Lr) : ∀ (n : Nat) (x0 : Nat) (x1 : (Option Nat)) (s : CS), FX1_expression_b5 E.2.2.2 nf rc n x0 x1 s = some z → cW X z1 l1 s 5 [(0, .ref x0), (1, va_rf x1)] [] := by
  intro n
  induction n with
  | zero => intro x0 x1 s h; exact (nomatch (show (none : Option ((Nat ⊕ (Option Nat)) × CS)) = some z from h))
  | succ n ih =>
    intro x0 x1 s h
    have h : FX1_expression_b5_s E.2.2.2 nf rc (FX1_expression_b5 E.2.2.2 nf rc n) x0 x1 s = some z := h
    exact FX1_expression_b5_s_ok T hR e hrc hN hM ih h
theorem met_FX1_expression {l : Launch} {E : CE} {nf : Nat} {rc : Nat → CS → Option ((Nat ⊕ (Option Nat)) × CS)} {Fr Lr : Nat} (hrc : ∀ (o : Nat) (s : CS) (v : ((Nat ⊕ (Option Nat)) × CS)), rc o s = some v → (isK s o [1] = true ∧ xMet_q l E yX1_part (ws_ yX1_part cX1_part 5 (some (.object "OverFirst$Expression"))) Fr Lr [.ref o] s v.1 v.2)) (hN : 5 ≤ Fr) (hM : 126 ≤ Lr) : ∀ (x0 : Nat) (s : CS) (z : ((Nat ⊕ (Option Nat)) × CS)), FX1_expression E.2.2.2 nf rc x0 s = some z → (isK s x0 [1] = true ∧ xMet_q l E yX1_expression (ws_ yX1_expression cX1_expression 3 (some (.object "OverFirst$Expression"))) (Fr + 4) (Lr + 114) [.ref x0] s z.1 z.2) := by
  intro x0 s z h
  unfold FX1_expression at h
  obtain ⟨hm, h⟩ := mz_of h
  obtain ⟨hg, h⟩ := gd_of h
  refine ⟨hg, x_met_q hm (by decide +kernel) rfl (fun X hl hin T hR e => ?_)⟩
  have T : cOK X E cX1_expression RX1 3 (some (.object "OverFirst$Expression")) _ _ _ _ := T
  have hX := T.1
  show cW X _ _ s 0 [(0, .ref x0)] []
  subst hl
  refine cw (k_aload_n hX dX1_expression_0 rfl 0 rfl) ?_
  refine cX_X1_253 T (met_FX1_test hrc (by omega) (by omega)) (c_roomo hR (by omega) (by omega)) e h rfl dX1_expression_1 (fun r2 s1 h => ?_)
  refine cw (k_astore_nO [(1, va_rf r2), (0, .ref x0)] hX dX1_expression_4 rfl rfl rfl) ?_
  refine cw (k_lv (lv' := [(0, .ref x0), (1, va_rf r2)]) [1, 0] rfl) ?_
  exact FX1_expression_b5_ok T hR e hrc hN hM _ _ _ _ h
theorem FX1_part_b156_ok {X : KC CS} {E : CE} {z : ((Nat ⊕ (Option Nat)) × CS)} {z0 l0 z1 l1 : Nat} (T : cOK X E cX1_part RX1 5 (some (.object "OverFirst$Expression")) z0 l0 z1 l1) {Fr Lr : Nat} (hR : cRoom X (Fr + 5) (Lr + 136)) (e : xE X E z0 l0 z1 l1 (xQ_q E z.1 z.2) (xgl z.1) z.2) {nf : Nat} {rc : Nat → CS → Option ((Nat ⊕ (Option Nat)) × CS)} (hrc : ∀ (o : Nat) (s : CS) (v : ((Nat ⊕ (Option Nat)) × CS)), rc o s = some v → (isK s o [1] = true ∧ xMet_q X.1.2.1 E yX1_part (ws_ yX1_part cX1_part 5 (some (.object "OverFirst$Expression"))) Fr Lr [.ref o] s v.1 v.2)) (hN : 7 ≤ Fr) (hM : 178 ≤ Lr) {x0 : Nat} {x4 : (Option Nat)} {s : CS} (h : FX1_part_b156 E.2.2.2 nf rc x0 x4 s = some z) : cW X z1 l1 s 156 [(0, .ref x0), (4, va_rf x4)] [] := by
  unfold FX1_part_b156 at h
  have hX := T.1
  refine cw (k_aload_n hX dX1_part_156 rfl 0 rfl) ?_
  refine cw (k_dup hX dX1_part_157 rfl) ?_
  refine cg_X1_22 T h dX1_part_158 (fun v1 h => ?_)
  refine cw (k_iconst (v := 1) hX dX1_part_161 (by decide)) ?_
  refine cw (k_isub hX dX1_part_162) ?_
  refine cp_X1_22 T h dX1_part_163 (fun s2 h => ?_)
  refine cw (k_aloadO hX dX1_part_166 1 rfl) ?_
  exact x_ret_q (v := x4) T (Or.inl ⟨_, rfl⟩) e h dX1_part_168
theorem FX1_part_b144_ok {X : KC CS} {E : CE} {z : ((Nat ⊕ (Option Nat)) × CS)} {z0 l0 z1 l1 : Nat} (T : cOK X E cX1_part RX1 5 (some (.object "OverFirst$Expression")) z0 l0 z1 l1) {Fr Lr : Nat} (hR : cRoom X (Fr + 5) (Lr + 136)) (e : xE X E z0 l0 z1 l1 (xQ_q E z.1 z.2) (xgl z.1) z.2) {nf : Nat} {rc : Nat → CS → Option ((Nat ⊕ (Option Nat)) × CS)} (hrc : ∀ (o : Nat) (s : CS) (v : ((Nat ⊕ (Option Nat)) × CS)), rc o s = some v → (isK s o [1] = true ∧ xMet_q X.1.2.1 E yX1_part (ws_ yX1_part cX1_part 5 (some (.object "OverFirst$Expression"))) Fr Lr [.ref o] s v.1 v.2)) (hN : 7 ≤ Fr) (hM : 178 ≤ Lr) {x0 : Nat} {x3 : Int32} {s_0 : (Option Nat)} {s : CS} (h : FX1_part_b144 E.2.2.2 nf rc x0 x3 s_0 s = some z) : cW X z1 l1 s 144 [(0, .ref x0), (3, .int x3)] [va_rf s_0] := by
  unfold FX1_part_b144 at h
  have hX := T.1
  refine cw (k_astoreO [(4, va_rf s_0), (0, .ref x0), (3, .int x3)] hX dX1_part_144 rfl rfl) ?_
  refine cw (k_iload_n hX dX1_part_146 rfl 2 rfl) ?_
  refine c_br h (k_if_eq (tgt := 156) hX h dX1_part_147 (by decide)) (fun h => ?_) (fun h => ?_)
  · refine cw (k_lv (lv' := [(0, .ref x0), (4, va_rf s_0)]) [1, 0] rfl) ?_
    exact FX1_part_b156_ok T hR e hrc hN hM h
  · refine cw (k_aload_n hX dX1_part_150 rfl 1 rfl) ?_
    refine cw (k_bipush (v := 41) hX dX1_part_151 (by decide)) ?_
    refine cX_X1_155 T met_FX1_need_2 (c_roomo hR (by omega) (by omega)) e h rfl dX1_part_153 (fun s1 h => ?_)
    refine cw (k_lv (lv' := [(0, .ref x0), (4, va_rf s_0)]) [1, 0] rfl) ?_
    exact FX1_part_b156_ok T hR e hrc hN hM h
theorem FX1_part_b57_ok {X : KC CS} {E : CE} {z : ((Nat ⊕ (Option Nat)) × CS)} {z0 l0 z1 l1 : Nat} (T : cOK X E cX1_part RX1 5 (some (.object "OverFirst$Expression")) z0 l0 z1 l1) {Fr Lr : Nat} (hR : cRoom X (Fr + 5) (Lr + 136)) (e : xE X E z0 l0 z1 l1 (xQ_q E z.1 z.2) (xgl z.1) z.2) {nf : Nat} {rc : Nat → CS → Option ((Nat ⊕ (Option Nat)) × CS)} (hrc : ∀ (o : Nat) (s : CS) (v : ((Nat ⊕ (Option Nat)) × CS)), rc o s = some v → (isK s o [1] = true ∧ xMet_q X.1.2.1 E yX1_part (ws_ yX1_part cX1_part 5 (some (.object "OverFirst$Expression"))) Fr Lr [.ref o] s v.1 v.2)) (hN : 7 ≤ Fr) (hM : 178 ≤ Lr) {x0 : Nat} {x1 : Int32} {x2 : Int32} {x3 : Int32} {s : CS} (h : FX1_part_b57 E.2.2.2 nf rc x0 x1 x2 x3 s = some z) : cW X z1 l1 s 57 [(0, .ref x0), (1, .int x1), (2, .int x2), (3, .int x3)] [] := by
  unfold FX1_part_b57 at h
  have hX := T.1
  refine cw (k_aload_n hX dX1_part_57 rfl 0 rfl) ?_
  refine cg_X1_22 T h dX1_part_58 (fun v1 h => ?_)
  refine cw (k_iconst (v := 5) hX dX1_part_61 (by decide)) ?_
  refine c_brn h (k_icmp_ne (tgt := 71) hX h dX1_part_62 (by decide)) (fun h => ?_) (fun h => ?_)
  · refine cw (k_aload_n hX dX1_part_71 rfl 0 rfl) ?_
    refine cg_X1_31 T h dX1_part_72 (fun v2 h => ?_)
    refine cw (k_iconst (v := 2) hX dX1_part_75 (by decide)) ?_
    refine c_brn h (k_icmp_ne (tgt := 95) hX h dX1_part_76 (by decide)) (fun h => ?_) (fun h => ?_)
    · refine cw (k_aload_n hX dX1_part_95 rfl 0 rfl) ?_
      refine cX_X1_25 T met_FX1_next (c_roomo hR (by omega) (by omega)) h rfl dX1_part_96 (fun s3 h => ?_)
      refine cw (k_iload_n hX dX1_part_99 rfl 1 rfl) ?_
      refine c_br h (k_if_lt (tgt := 112) hX h dX1_part_100 (by decide)) (fun h => ?_) (fun h => ?_)
      · refine cw (k_aload_n hX dX1_part_112 rfl 0 rfl) ?_
        refine cw (k_dup hX dX1_part_113 rfl) ?_
        refine cg_X1_22 T h dX1_part_114 (fun v4 h => ?_)
        refine cw (k_iconst (v := 1) hX dX1_part_117 (by decide)) ?_
        refine cw (k_iadd hX dX1_part_118) ?_
        refine cp_X1_22 T h dX1_part_119 (fun s5 h => ?_)
        refine cw (k_iload_n hX dX1_part_122 rfl 2 rfl) ?_
        refine c_br h (k_if_eq (tgt := 140) hX h dX1_part_123 (by decide)) (fun h => ?_) (fun h => ?_)
        · refine cw (k_aload_n hX dX1_part_140 rfl 0 rfl) ?_
          refine cX_X1_228 T (met_FX1_expression hrc (by omega) (by omega)) (c_roomo hR (by omega) (by omega)) e h rfl dX1_part_141 (fun r7 s6 h => ?_)
          refine cw (k_lv (lv' := [(0, .ref x0), (3, .int x3)]) [0, 3] rfl) ?_
          exact FX1_part_b144_ok T hR e hrc hN hM h
        · refine c_newO kX20 q1136 q1137 q174 (nd20 _) T h dX1_part_126 (fun o8 s9 h => ?_)
          refine cw (k_dup hX dX1_part_129 rfl) ?_
          refine cw (k_aload_n hX dX1_part_130 rfl 0 rfl) ?_
          refine cX_X1_269 T hrc (c_roomo hR (by omega) (by omega)) e h rfl dX1_part_131 (fun r11 s10 h => ?_)
          obtain ⟨p12, e_p12, hq_p12⟩ := nn_of h
          subst e_p12
          have h := hq_p12
          show cW X z1 l1 _ 134 [(0, .ref x0), (1, .int x1), (2, .int x2), (3, .int x3)] [.ref p12, .ref o8, .ref o8]
          refine cX_X1_284 T met_FX20_init (c_roomo hR (by omega) (by omega)) h rfl dX1_part_134 (fun s13 h => ?_)
          refine cw (k_goto (tgt := 144) hX dX1_part_137 (by decide)) ?_
          refine cw (k_lv (lv' := [(0, .ref x0), (3, .int x3)]) [0, 3] rfl) ?_
          exact FX1_part_b144_ok T hR e hrc hN hM h
      · refine c_newO kX19 q1126 q1127 q173 (nd19 _) T h dX1_part_103 (fun o14 s15 h => ?_)
        refine cw (k_dup hX dX1_part_106 rfl) ?_
        refine cw (k_iload_n hX dX1_part_107 rfl 1 rfl) ?_
        refine cX_X1_281 T met_FX19_init (c_roomo hR (by omega) (by omega)) h rfl dX1_part_108 (fun s16 h => ?_)
        exact x_ret_q (v := (some o14)) T (Or.inl ⟨_, rfl⟩) e h dX1_part_111
    · refine c_newO kX18 q1113 q1114 q172 (nd18 _) T h dX1_part_79 (fun o17 s18 h => ?_)
      refine cw (k_dup hX dX1_part_82 rfl) ?_
      refine cw (k_aload_n hX dX1_part_83 rfl 0 rfl) ?_
      refine cw (k_iconst (v := 0) hX dX1_part_84 (by decide)) ?_
      refine cw (k_sipush (v := 9999) hX dX1_part_85 (by decide)) ?_
      refine cX_X1_124 T met_FX1_number_2 (c_roomo hR (by omega) (by omega)) e h rfl dX1_part_88 (fun v20 s19 h => ?_)
      refine cX_X1_278 T met_FX18_init (c_roomo hR (by omega) (by omega)) h rfl dX1_part_91 (fun s21 h => ?_)
      exact x_ret_q (v := (some o17)) T (Or.inl ⟨_, rfl⟩) e h dX1_part_94
  · refine cw (k_aload_n hX dX1_part_65 rfl 0 rfl) ?_
    refine cw (k_iconst (v := 5) hX dX1_part_66 (by decide)) ?_
    refine cX_X1_75 T met_FX1_wrong (c_roomo hR (by omega) (by omega)) h rfl dX1_part_67 (fun r23 s22 h => ?_)
    obtain ⟨p24, e_p24, hq_p24⟩ := nn_of h
    subst e_p24
    have h := hq_p24
    show cW X z1 l1 _ 70 [(0, .ref x0), (1, .int x1), (2, .int x2), (3, .int x3)] [.ref p24]
    exact x_throw T e h dX1_part_70
theorem FX1_part_b23_ok {X : KC CS} {E : CE} {z : ((Nat ⊕ (Option Nat)) × CS)} {z0 l0 z1 l1 : Nat} (T : cOK X E cX1_part RX1 5 (some (.object "OverFirst$Expression")) z0 l0 z1 l1) {Fr Lr : Nat} (hR : cRoom X (Fr + 5) (Lr + 136)) (e : xE X E z0 l0 z1 l1 (xQ_q E z.1 z.2) (xgl z.1) z.2) {nf : Nat} {rc : Nat → CS → Option ((Nat ⊕ (Option Nat)) × CS)} (hrc : ∀ (o : Nat) (s : CS) (v : ((Nat ⊕ (Option Nat)) × CS)), rc o s = some v → (isK s o [1] = true ∧ xMet_q X.1.2.1 E yX1_part (ws_ yX1_part cX1_part 5 (some (.object "OverFirst$Expression"))) Fr Lr [.ref o] s v.1 v.2)) (hN : 7 ≤ Fr) (hM : 178 ≤ Lr) {x0 : Nat} {x1 : Int32} {s_0 : Int32} {s : CS} (h : FX1_part_b23 E.2.2.2 nf rc x0 x1 s_0 s = some z) : cW X z1 l1 s 23 [(0, .ref x0), (1, .int x1)] [.int s_0] := by
  unfold FX1_part_b23 at h
  have hX := T.1
  refine cw (k_istore_n [(2, .int s_0), (0, .ref x0), (1, .int x1)] hX dX1_part_23 rfl rfl rfl) ?_
  refine cw (k_aload_n hX dX1_part_24 rfl 1 rfl) ?_
  refine cw (k_bipush (v := 40) hX dX1_part_25 (by decide)) ?_
  refine cX_X1_79 T met_FX1_isSign (c_roomo hR (by omega) (by omega)) h rfl dX1_part_27 (fun v1 h => ?_)
  refine cw (k_istore_n [(3, .int v1), (2, .int s_0), (0, .ref x0), (1, .int x1)] hX dX1_part_30 rfl rfl rfl) ?_
  refine cw (k_iload_n hX dX1_part_31 rfl 3 rfl) ?_
  refine c_br h (k_if_ge (tgt := 57) hX h dX1_part_32 (by decide)) (fun h => ?_) (fun h => ?_)
  · refine cw (k_lv (lv' := [(0, .ref x0), (1, .int x1), (2, .int s_0), (3, .int v1)]) [2, 3, 1, 0] rfl) ?_
    exact FX1_part_b57_ok T hR e hrc hN hM h
  · refine cw (k_iload_n hX dX1_part_35 rfl 1 rfl) ?_
    refine c_brn h (k_if_ne (tgt := 57) hX h dX1_part_36 (by decide)) (fun h => ?_) (fun h => ?_)
    · refine cw (k_lv (lv' := [(0, .ref x0), (1, .int x1), (2, .int s_0), (3, .int v1)]) [2, 3, 1, 0] rfl) ?_
      exact FX1_part_b57_ok T hR e hrc hN hM h
    · refine cw (k_iload_n hX dX1_part_39 rfl 0 rfl) ?_
      refine c_brn h (k_if_ne (tgt := 57) hX h dX1_part_40 (by decide)) (fun h => ?_) (fun h => ?_)
      · refine cw (k_lv (lv' := [(0, .ref x0), (1, .int x1), (2, .int s_0), (3, .int v1)]) [2, 3, 1, 0] rfl) ?_
        exact FX1_part_b57_ok T hR e hrc hN hM h
      · refine cw (k_aload_n hX dX1_part_43 rfl 2 rfl) ?_
        refine cg_X1_31 T h dX1_part_44 (fun v2 h => ?_)
        refine cw (k_iconst (v := 2) hX dX1_part_47 (by decide)) ?_
        refine c_br h (k_icmp_eq (tgt := 57) hX h dX1_part_48 (by decide)) (fun h => ?_) (fun h => ?_)
        · refine cw (k_lv (lv' := [(0, .ref x0), (1, .int x1), (2, .int s_0), (3, .int v1)]) [2, 3, 1, 0] rfl) ?_
          exact FX1_part_b57_ok T hR e hrc hN hM h
        · refine cw (k_aload_n hX dX1_part_51 rfl 2 rfl) ?_
          refine cw (k_iconst (v := 1) hX dX1_part_52 (by decide)) ?_
          refine cX_X1_75 T met_FX1_wrong (c_roomo hR (by omega) (by omega)) h rfl dX1_part_53 (fun r4 s3 h => ?_)
          obtain ⟨p5, e_p5, hq_p5⟩ := nn_of h
          subst e_p5
          have h := hq_p5
          show cW X z1 l1 _ 56 [(3, .int v1), (2, .int s_0), (0, .ref x0), (1, .int x1)] [.ref p5]
          exact x_throw T e h dX1_part_56
theorem met_FX1_part_s {l : Launch} {E : CE} {nf : Nat} {rc : Nat → CS → Option ((Nat ⊕ (Option Nat)) × CS)} {Fr Lr : Nat} (hrc : ∀ (o : Nat) (s : CS) (v : ((Nat ⊕ (Option Nat)) × CS)), rc o s = some v → (isK s o [1] = true ∧ xMet_q l E yX1_part (ws_ yX1_part cX1_part 5 (some (.object "OverFirst$Expression"))) Fr Lr [.ref o] s v.1 v.2)) (hN : 7 ≤ Fr) (hM : 178 ≤ Lr) : ∀ (x0 : Nat) (s : CS) (z : ((Nat ⊕ (Option Nat)) × CS)), FX1_part_s E.2.2.2 nf rc x0 s = some z → (isK s x0 [1] = true ∧ xMet_q l E yX1_part (ws_ yX1_part cX1_part 5 (some (.object "OverFirst$Expression"))) (Fr + 5) (Lr + 136) [.ref x0] s z.1 z.2) := by
  intro x0 s z h
  unfold FX1_part_s at h
  obtain ⟨hm, h⟩ := mz_of h
  obtain ⟨hg, h⟩ := gd_of h
  refine ⟨hg, x_met_q hm (by decide +kernel) rfl (fun X hl hin T hR e => ?_)⟩
  have T : cOK X E cX1_part RX1 5 (some (.object "OverFirst$Expression")) _ _ _ _ := T
  have hX := T.1
  show cW X _ _ s 0 [(0, .ref x0)] []
  subst hl
  refine cw (k_aload_n hX dX1_part_0 rfl 0 rfl) ?_
  obtain ⟨p1, e_p1, hq_p1⟩ := nn_of h
  have h := hq_p1
  refine cw (k_ldcwS (k := 9) T e_p1 rfl dX1_part_1) ?_
  refine cX_X1_71 T met_FX1_which (c_roomo hR (by omega) (by omega)) h rfl dX1_part_4 (fun v2 h => ?_)
  refine cw (k_istore_n [(1, .int v2), (0, .ref x0)] hX dX1_part_7 rfl rfl rfl) ?_
  refine cw (k_aload_n hX dX1_part_8 rfl 1 rfl) ?_
  obtain ⟨p3, e_p3, hq_p3⟩ := nn_of h
  have h := hq_p3
  refine cw (k_ldcwS (k := 10) T e_p3 rfl dX1_part_9) ?_
  refine cX_X1_71 T met_FX1_which (c_roomo hR (by omega) (by omega)) h rfl dX1_part_12 (fun v4 h => ?_)
  refine c_br h (k_if_lt (tgt := 22) hX h dX1_part_15 (by decide)) (fun h => ?_) (fun h => ?_)
  · refine cw (k_iconst (v := 0) hX dX1_part_22 (by decide)) ?_
    refine cw (k_lv (lv' := [(0, .ref x0), (1, .int v2)]) [1, 0] rfl) ?_
    exact FX1_part_b23_ok T hR e hrc hN hM h
  · refine cw (k_iconst (v := 1) hX dX1_part_18 (by decide)) ?_
    refine cw (k_goto (tgt := 23) hX dX1_part_19 (by decide)) ?_
    refine cw (k_lv (lv' := [(0, .ref x0), (1, .int v2)]) [1, 0] rfl) ?_
    exact FX1_part_b23_ok T hR e hrc hN hM h
theorem met_FX1_part {l : Launch} {E : CE} {nf : Nat} : ∀ (dp : Nat) (x0 : Nat) (s : CS) (z : ((Nat ⊕ (Option Nat)) × CS)), FX1_part E.2.2.2 nf dp x0 s = some z → (isK s x0 [1] = true ∧ xMet_q l E yX1_part (ws_ yX1_part cX1_part 5 (some (.object "OverFirst$Expression"))) (5 * dp + 7) (136 * dp + 178) [.ref x0] s z.1 z.2) := by
  intro dp
  induction dp with
  | zero => intro x0 s z h; exact (nomatch (show (none : Option ((Nat ⊕ (Option Nat)) × CS)) = some z from h))
  | succ dp ih =>
    intro x0 s z h
    have h : FX1_part_s E.2.2.2 nf (FX1_part E.2.2.2 nf dp) x0 s = some z := h
    rw [show 5 * (dp + 1) + 7 = (5 * dp + 7) + 5 by omega, show 136 * (dp + 1) + 178 = (136 * dp + 178) + 136 by omega]
    exact met_FX1_part_s ih (Nat.le_add_left _ _) (Nat.le_add_left _ _) _ _ _ h
theorem FJ7_equals_b9_s_ok {X : KC CS} {E : CE} {z : Int32} {z0 l0 z1 l1 : Nat} {s : CS} (T : cOK X E cJ7_equals RJ7 3 (some .boolean) z0 l0 z1 l1) (hR : cRoom X 0 0) (e : cE_i X E z0 l0 z1 l1 z s) {nf : Nat} {k9 : Nat → Nat → Int32 → Option Int32} (hk9 : ∀ (x0 : Nat) (x1 : Nat) (x2 : Int32), k9 x0 x1 x2 = some z → cW X z1 l1 s 9 [(0, .ref x0), (1, .ref x1), (2, .int x2)] []) {x0 : Nat} {x1 : Nat} {x2 : Int32} (h : FJ7_equals_b9_s nf s k9 x0 x1 x2 = some z) : cW X z1 l1 s 9 [(0, .ref x0), (1, .ref x1), (2, .int x2)] [] := by
  unfold FJ7_equals_b9_s at h
  have hX := T.1
  refine cw (k_iload_n hX dJ7_equals_9 rfl 2 rfl) ?_
  refine cw (k_aload_n hX dJ7_equals_10 rfl 0 rfl) ?_
  refine ca_len T h dJ7_equals_11 (fun v1 h => ?_)
  refine c_br h (k_icmp_ge (tgt := 32) hX h dJ7_equals_12 (by decide)) (fun h => ?_) (fun h => ?_)
  · refine cw (k_iconst (v := 1) hX dJ7_equals_32 (by decide)) ?_
    exact c_ret_zrc T e rfl h dJ7_equals_33
  · refine cw (k_aload_n hX dJ7_equals_15 rfl 0 rfl) ?_
    refine cw (k_iload_n hX dJ7_equals_16 rfl 2 rfl) ?_
    refine ca_bld T h dJ7_equals_17 (fun v2 h => ?_)
    refine cw (k_aload_n hX dJ7_equals_18 rfl 1 rfl) ?_
    refine cw (k_iload_n hX dJ7_equals_19 rfl 2 rfl) ?_
    refine ca_bld T h dJ7_equals_20 (fun v3 h => ?_)
    refine c_br h (k_icmp_eq (tgt := 26) hX h dJ7_equals_21 (by decide)) (fun h => ?_) (fun h => ?_)
    · refine cw (k_iinc (j := 2) [(2, .int (x2 + 1)), (0, .ref x0), (1, .ref x1)] hX dJ7_equals_26 rfl rfl rfl rfl) ?_
      refine cw (k_goto (tgt := 9) hX dJ7_equals_29 (by decide)) ?_
      refine cw (k_lv (lv' := [(0, .ref x0), (1, .ref x1), (2, .int (x2 + 1))]) [1, 2, 0] rfl) ?_
      exact hk9 _ _ _ h
    · refine cw (k_iconst (v := 0) hX dJ7_equals_24 (by decide)) ?_
      exact c_ret_zrc T e rfl h dJ7_equals_25
theorem FJ7_equals_b9_ok {X : KC CS} {E : CE} {z : Int32} {z0 l0 z1 l1 : Nat} {s : CS} (T : cOK X E cJ7_equals RJ7 3 (some .boolean) z0 l0 z1 l1) (hR : cRoom X 0 0) (e : cE_i X E z0 l0 z1 l1 z s) {nf : Nat} : ∀ (n : Nat) (x0 : Nat) (x1 : Nat) (x2 : Int32), FJ7_equals_b9 nf s n x0 x1 x2 = some z → cW X z1 l1 s 9 [(0, .ref x0), (1, .ref x1), (2, .int x2)] [] := by
  intro n
  induction n with
  | zero => intro x0 x1 x2 h; exact (nomatch (show (none : Option Int32) = some z from h))
  | succ n ih =>
    intro x0 x1 x2 h
    have h : FJ7_equals_b9_s nf s (FJ7_equals_b9 nf s n) x0 x1 x2 = some z := h
    exact FJ7_equals_b9_s_ok T hR e ih h
theorem met_FJ7_equals {l : Launch} {E : CE} {nf : Nat} {s : CS} : ∀ (x0 : Nat) (x1 : Nat) (z : Int32), FJ7_equals nf s x0 x1 = some z → cMet_i l E yJ7_equals (ws_ yJ7_equals cJ7_equals 3 (some .boolean)) 0 0 [.ref x0, .ref x1] s z s := by
  intro x0 x1 z h
  unfold FJ7_equals at h
  refine c_met_i ⟨Nat.le_refl _, Nat.le_refl _⟩ (by decide +kernel) rfl (fun X hl hin T hR e => ?_)
  have T : cOK X E cJ7_equals RJ7 3 (some .boolean) _ _ _ _ := T
  have hX := T.1
  show cW X _ _ s 0 [(0, .ref x0), (1, .ref x1)] []
  refine cw (k_aload_n hX dJ7_equals_0 rfl 0 rfl) ?_
  refine ca_len T h dJ7_equals_1 (fun v1 h => ?_)
  refine cw (k_aload_n hX dJ7_equals_2 rfl 1 rfl) ?_
  refine ca_len T h dJ7_equals_3 (fun v2 h => ?_)
  refine c_brn h (k_icmp_ne (tgt := 34) hX h dJ7_equals_4 (by decide)) (fun h => ?_) (fun h => ?_)
  · refine cw (k_iconst (v := 0) hX dJ7_equals_34 (by decide)) ?_
    exact c_ret_zrc T e rfl h dJ7_equals_35
  · refine cw (k_iconst (v := 0) hX dJ7_equals_7 (by decide)) ?_
    refine cw (k_istore_n [(2, .int 0), (0, .ref x0), (1, .ref x1)] hX dJ7_equals_8 rfl rfl rfl) ?_
    refine cw (k_lv (lv' := [(0, .ref x0), (1, .ref x1), (2, .int 0)]) [1, 2, 0] rfl) ?_
    exact FJ7_equals_b9_ok T hR e _ _ _ _ h
theorem FJ6_equals_b36_ok {X : KC CS} {E : CE} {z : Int32} {z0 l0 z1 l1 : Nat} {s : CS} (T : cOK X E cJ6_equals RJ6 3 (some .boolean) z0 l0 z1 l1) (hR : cRoom X 1 22) (e : cE_i X E z0 l0 z1 l1 z s) {nf : Nat} {x0 : Nat} {x2 : Nat} (h : FJ6_equals_b36 nf s x0 x2 = some z) : cW X z1 l1 s 36 [(0, .ref x0), (2, .ref x2)] [] := by
  unfold FJ6_equals_b36 at h
  have hX := T.1
  refine cw (k_aload_n hX dJ6_equals_36 rfl 0 rfl) ?_
  refine cg_J6_9 T h dJ6_equals_37 (fun r1 h => ?_)
  refine cw (k_aload_n hX dJ6_equals_40 rfl 1 rfl) ?_
  refine cg_J6_9 T h dJ6_equals_41 (fun r2 h => ?_)
  obtain ⟨p3, e_p3, hq_p3⟩ := nn_of h
  subst e_p3
  have h := hq_p3
  show cW X z1 l1 _ 44 [(0, .ref x0), (2, .ref x2)] [va_rf r2, .ref p3]
  obtain ⟨p4, e_p4, hq_p4⟩ := nn_of h
  subst e_p4
  have h := hq_p4
  show cW X z1 l1 _ 44 [(0, .ref x0), (2, .ref x2)] [.ref p4, .ref p3]
  refine cX_J6_541 T met_FJ7_equals (c_room hR rfl rfl) h rfl dJ6_equals_44 (fun v5 h => ?_)
  refine c_br h (k_if_eq (tgt := 54) hX h dJ6_equals_47 (by decide)) (fun h => ?_) (fun h => ?_)
  · refine cw (k_iconst (v := 0) hX dJ6_equals_54 (by decide)) ?_
    exact c_ret_zrc T e rfl h dJ6_equals_55
  · refine cw (k_iconst (v := 1) hX dJ6_equals_50 (by decide)) ?_
    refine cw (k_goto (tgt := 55) hX dJ6_equals_51 (by decide)) ?_
    exact c_ret_zrc T e rfl h dJ6_equals_55
theorem met_FJ6_equals {l : Launch} {E : CE} {nf : Nat} {s : CS} : ∀ (x0 : Nat) (x1 : Nat) (z : Int32), FJ6_equals nf s x0 x1 = some z → (isK s x0 [23, 25] = true ∧ cMet_i l E yJ6_equals (ws_ yJ6_equals cJ6_equals 3 (some .boolean)) 1 22 [.ref x0, .ref x1] s z s) := by
  intro x0 x1 z h
  unfold FJ6_equals at h
  obtain ⟨hg, h⟩ := gd_of h
  refine ⟨hg, c_met_i ⟨Nat.le_refl _, Nat.le_refl _⟩ (by decide +kernel) rfl (fun X hl hin T hR e => ?_)⟩
  have T : cOK X E cJ6_equals RJ6 3 (some .boolean) _ _ _ _ := T
  have hX := T.1
  show cW X _ _ s 0 [(0, .ref x0), (1, .ref x1)] []
  refine cw (k_aload_n hX dJ6_equals_0 rfl 0 rfl) ?_
  refine cw (k_aload_n hX dJ6_equals_1 rfl 1 rfl) ?_
  refine c_brn h (k_acmp_ne (rx := (some x0)) (ry := (some x1)) (tgt := 7) hX h dJ6_equals_2 (by decide)) (fun h => ?_) (fun h => ?_)
  · refine cw (k_aload_n hX dJ6_equals_7 rfl 1 rfl) ?_
    obtain ⟨hc_8, h⟩ := gd_of h
    refine cw (c_instS T hc_8 q1085 dJ6_equals_8) ?_
    refine c_br h (k_if_eq (tgt := 54) hX h dJ6_equals_11 (by decide)) (fun h => ?_) (fun h => ?_)
    · refine cw (k_iconst (v := 0) hX dJ6_equals_54 (by decide)) ?_
      exact c_ret_zrc T e rfl h dJ6_equals_55
    · refine cw (k_aload_n hX dJ6_equals_14 rfl 1 rfl) ?_
      obtain ⟨hc_15, h⟩ := gd_of h
      refine cw (cc_J6_10 T hc_15 dJ6_equals_15) ?_
      refine cw (k_astore_n [(2, .ref x1), (0, .ref x0), (1, .ref x1)] hX dJ6_equals_18 rfl rfl rfl) ?_
      refine cw (k_gets T.2.1 hX T.2.2.2.2.2.2.2.2.2.2.1 q620 (fun _ h9 => h9) dJ6_equals_19) ?_
      refine c_br h (k_if_eq (tgt := 36) hX h dJ6_equals_22 (by decide)) (fun h => ?_) (fun h => ?_)
      · refine cw (k_lv (lv' := [(0, .ref x0), (2, .ref x1)]) [1, 0] rfl) ?_
        exact FJ6_equals_b36_ok T hR e h
      · refine cw (k_aload_n hX dJ6_equals_25 rfl 1 rfl) ?_
        refine cg_J6_15 T h dJ6_equals_26 (fun v1 h => ?_)
        refine cw (k_aload_n hX dJ6_equals_29 rfl 0 rfl) ?_
        refine cg_J6_15 T h dJ6_equals_30 (fun v2 h => ?_)
        refine c_brn h (k_icmp_ne (tgt := 54) hX h dJ6_equals_33 (by decide)) (fun h => ?_) (fun h => ?_)
        · refine cw (k_iconst (v := 0) hX dJ6_equals_54 (by decide)) ?_
          exact c_ret_zrc T e rfl h dJ6_equals_55
        · refine cw (k_lv (lv' := [(0, .ref x0), (2, .ref x1)]) [1, 0] rfl) ?_
          exact FJ6_equals_b36_ok T hR e h
  · refine cw (k_iconst (v := 1) hX dJ6_equals_5 (by decide)) ?_
    exact c_ret_zrc T e rfl h dJ6_equals_6
theorem met_FJ14_init {l : Launch} {E : CE} : ∀ (x0 : Nat) (x1 : Int32) (s : CS) (z : CS), FJ14_init x0 x1 s = some z → cMet_v l E yJ14_init (ws_ yJ14_init cJ14_init 2 none) 1 40 [.ref x0, .int x1] s z := by
  intro x0 x1 s z h
  unfold FJ14_init at h
  obtain ⟨hm, h⟩ := mz_of h
  refine c_met_v hm (by decide +kernel) rfl (fun X hl hin T hR e => ?_)
  have T : cOK X E cJ14_init RJ14 2 none _ _ _ _ := T
  have hX := T.1
  show cW X _ _ s 0 [(0, .ref x0), (1, .int x1)] []
  refine cw (k_aload_n hX dJ14_init_0 rfl 0 rfl) ?_
  refine cw (k_objInit hX hR q929 q183 q184 rfl dJ14_init_1) ?_
  refine cw (k_gets T.2.1 hX T.2.2.2.2.2.2.2.2.2.2.1 q930 (fun _ h9 => h9) dJ14_init_4) ?_
  refine c_br h (k_if_eq (tgt := 25) hX h dJ14_init_7 (by decide)) (fun h => ?_) (fun h => ?_)
  · refine cw (k_aload_n hX dJ14_init_25 rfl 0 rfl) ?_
    refine cw (k_iload_n hX dJ14_init_26 rfl 1 rfl) ?_
    cases h
  · refine cw (k_aload_n hX dJ14_init_10 rfl 0 rfl) ?_
    refine cw (k_iload_n hX dJ14_init_11 rfl 1 rfl) ?_
    refine c_newAb T h dJ14_init_12 (fun o1 s2 h => ?_)
    refine cp_J14_15 T h dJ14_init_14 (fun s3 h => ?_)
    refine cw (k_aload_n hX dJ14_init_17 rfl 0 rfl) ?_
    refine cw (k_iconst (v := 0) hX dJ14_init_18 (by decide)) ?_
    refine cp_J14_22 T h dJ14_init_19 (fun s4 h => ?_)
    refine cw (k_goto (tgt := 38) hX dJ14_init_22 (by decide)) ?_
    exact c_ret_v T e h dJ14_init_38
theorem met_FJ15_init {l : Launch} {E : CE} : ∀ (x0 : Nat) (x1 : Int32) (s : CS) (z : CS), FJ15_init x0 x1 s = some z → cMet_v l E yJ15_init (ws_ yJ15_init cJ15_init 2 none) 2 61 [.ref x0, .int x1] s z := by
  intro x0 x1 s z h
  unfold FJ15_init at h
  obtain ⟨hm, h⟩ := mz_of h
  refine c_met_v hm (by decide +kernel) rfl (fun X hl hin T hR e => ?_)
  have T : cOK X E cJ15_init RJ15 2 none _ _ _ _ := T
  have hX := T.1
  show cW X _ _ s 0 [(0, .ref x0), (1, .int x1)] []
  refine cw (k_aload_n hX dJ15_init_0 rfl 0 rfl) ?_
  refine cw (k_iload_n hX dJ15_init_1 rfl 1 rfl) ?_
  refine cX_J15_1 T met_FJ14_init (c_room hR rfl rfl) h rfl dJ15_init_2 (fun s1 h => ?_)
  exact c_ret_v T e h dJ15_init_5
theorem met_FJ3_hugeLength {l : Launch} {E : CE} : ∀ (x0 : Int32) (x1 : Int32) (s : CS) (z : (Int32 × CS)), FJ3_hugeLength x0 x1 s = some z → cMet_i l E yJ3_hugeLength (ws_ yJ3_hugeLength cJ3_hugeLength 3 (some .int)) 0 0 [.int x0, .int x1] s z.1 z.2 := by
  intro x0 x1 s z h
  unfold FJ3_hugeLength at h
  obtain ⟨hm, h⟩ := mz_of h
  refine c_met_i hm (by decide +kernel) rfl (fun X hl hin T hR e => ?_)
  have T : cOK X E cJ3_hugeLength RJ3 3 (some .int) _ _ _ _ := T
  have hX := T.1
  show cW X _ _ s 0 [(0, .int x0), (1, .int x1)] []
  refine cw (k_iload_n hX dJ3_hugeLength_0 rfl 0 rfl) ?_
  refine cw (k_iload_n hX dJ3_hugeLength_1 rfl 1 rfl) ?_
  refine cw (k_iadd hX dJ3_hugeLength_2) ?_
  refine c_nm h (fun v1 h => ?_)
  refine cw (k_istore_n [(2, .int v1), (0, .int x0), (1, .int x1)] hX dJ3_hugeLength_3 rfl rfl rfl) ?_
  refine cw (k_iload_n hX dJ3_hugeLength_4 rfl 0 rfl) ?_
  refine c_br h (k_if_ge (tgt := 49) hX h dJ3_hugeLength_5 (by decide)) (fun h => ?_) (fun h => ?_)
  · refine cw (k_iload_n hX dJ3_hugeLength_49 rfl 0 rfl) ?_
    refine cw (k_ldc (v := 2147483639) hX q291 dJ3_hugeLength_50) ?_
    refine c_br h (k_icmp_gt (tgt := 58) hX h dJ3_hugeLength_52 (by decide)) (fun h => ?_) (fun h => ?_)
    · refine cw (k_iload_n hX dJ3_hugeLength_58 rfl 0 rfl) ?_
      exact c_ret_i T e h dJ3_hugeLength_59
    · refine cw (k_ldc (v := 2147483639) hX q291 dJ3_hugeLength_55) ?_
      exact c_ret_i T e h dJ3_hugeLength_57
  · cases h
theorem met_FJ3_newLength {l : Launch} {E : CE} : ∀ (x0 : Int32) (x1 : Int32) (x2 : Int32) (s : CS) (z : (Int32 × CS)), FJ3_newLength x0 x1 x2 s = some z → cMet_i l E yJ3_newLength (ws_ yJ3_newLength cJ3_newLength 4 (some .int)) 1 40 [.int x0, .int x1, .int x2] s z.1 z.2 := by
  intro x0 x1 x2 s z h
  unfold FJ3_newLength at h
  obtain ⟨hm, h⟩ := mz_of h
  refine c_met_i hm (by decide +kernel) rfl (fun X hl hin T hR e => ?_)
  have T : cOK X E cJ3_newLength RJ3 4 (some .int) _ _ _ _ := T
  have hX := T.1
  show cW X _ _ s 0 [(0, .int x0), (1, .int x1), (2, .int x2)] []
  refine cw (k_iload_n hX dJ3_newLength_0 rfl 0 rfl) ?_
  refine cw (k_iload_n hX dJ3_newLength_1 rfl 1 rfl) ?_
  refine cw (k_iload_n hX dJ3_newLength_2 rfl 2 rfl) ?_
  refine c_mmax T hR q288 q289 q145 q290 rfl dJ3_newLength_3 ?_
  refine cw (k_iadd hX dJ3_newLength_6) ?_
  refine c_nm h (fun v1 h => ?_)
  refine cw (k_istore_n [(3, .int v1), (0, .int x0), (1, .int x1), (2, .int x2)] hX dJ3_newLength_7 rfl rfl rfl) ?_
  refine cw (k_iconst (v := 0) hX dJ3_newLength_8 (by decide)) ?_
  refine cw (k_iload_n hX dJ3_newLength_9 rfl 0 rfl) ?_
  refine c_br h (k_icmp_ge (tgt := 21) hX h dJ3_newLength_10 (by decide)) (fun h => ?_) (fun h => ?_)
  · refine cw (k_iload_n hX dJ3_newLength_21 rfl 1 rfl) ?_
    refine cw (k_iload_n hX dJ3_newLength_22 rfl 2 rfl) ?_
    refine cX_J3_201 T met_FJ3_hugeLength (c_room hR rfl rfl) h rfl dJ3_newLength_23 (fun v3 s2 h => ?_)
    exact c_ret_i T e h dJ3_newLength_26
  · refine cw (k_iload_n hX dJ3_newLength_13 rfl 0 rfl) ?_
    refine cw (k_ldc (v := 2147483639) hX q291 dJ3_newLength_14) ?_
    refine c_br h (k_icmp_gt (tgt := 21) hX h dJ3_newLength_16 (by decide)) (fun h => ?_) (fun h => ?_)
    · refine cw (k_iload_n hX dJ3_newLength_21 rfl 1 rfl) ?_
      refine cw (k_iload_n hX dJ3_newLength_22 rfl 2 rfl) ?_
      refine cX_J3_201 T met_FJ3_hugeLength (c_room hR rfl rfl) h rfl dJ3_newLength_23 (fun v5 s4 h => ?_)
      exact c_ret_i T e h dJ3_newLength_26
    · refine cw (k_iload_n hX dJ3_newLength_19 rfl 0 rfl) ?_
      exact c_ret_i T e h dJ3_newLength_20
theorem met_FJ14_newCapacity {l : Launch} {E : CE} : ∀ (x0 : Nat) (x1 : Int32) (s : CS) (z : (Int32 × CS)), FJ14_newCapacity x0 x1 s = some z → (isK s x0 [24] = true ∧ cMet_i l E yJ14_newCapacity (ws_ yJ14_newCapacity cJ14_newCapacity 6 (some .int)) 2 63 [.ref x0, .int x1] s z.1 z.2) := by
  intro x0 x1 s z h
  unfold FJ14_newCapacity at h
  obtain ⟨hm, h⟩ := mz_of h
  obtain ⟨hg, h⟩ := gd_of h
  refine ⟨hg, c_met_i hm (by decide +kernel) rfl (fun X hl hin T hR e => ?_)⟩
  have T : cOK X E cJ14_newCapacity RJ14 6 (some .int) _ _ _ _ := T
  have hX := T.1
  show cW X _ _ s 0 [(0, .ref x0), (1, .int x1)] []
  refine cw (k_aload_n hX dJ14_newCapacity_0 rfl 0 rfl) ?_
  refine cg_J14_15 T h dJ14_newCapacity_1 (fun r1 h => ?_)
  obtain ⟨p2, e_p2, hq_p2⟩ := nn_of h
  subst e_p2
  have h := hq_p2
  show cW X _ _ _ 4 [(0, .ref x0), (1, .int x1)] [.ref p2]
  refine ca_len T h dJ14_newCapacity_4 (fun v3 h => ?_)
  refine cw (k_istore_n [(2, .int v3), (0, .ref x0), (1, .int x1)] hX dJ14_newCapacity_5 rfl rfl rfl) ?_
  refine cw (k_iload_n hX dJ14_newCapacity_6 rfl 2 rfl) ?_
  refine cw (k_aload_n hX dJ14_newCapacity_7 rfl 1 rfl) ?_
  refine cg_J14_22 T h dJ14_newCapacity_8 (fun v4 h => ?_)
  refine cw (k_ishl hX dJ14_newCapacity_11) ?_
  refine c_nm h (fun v5 h => ?_)
  refine cw (k_istore_n [(3, .int v5), (2, .int v3), (0, .ref x0), (1, .int x1)] hX dJ14_newCapacity_12 rfl rfl rfl) ?_
  refine cw (k_iload_n hX dJ14_newCapacity_13 rfl 0 rfl) ?_
  refine cw (k_iload_n hX dJ14_newCapacity_14 rfl 1 rfl) ?_
  refine cw (k_isub hX dJ14_newCapacity_15) ?_
  refine c_nm h (fun v6 h => ?_)
  refine cw (k_istore [(4, .int v6), (3, .int v5), (2, .int v3), (0, .ref x0), (1, .int x1)] hX dJ14_newCapacity_16 rfl rfl) ?_
  refine cw (k_iload_n hX dJ14_newCapacity_18 rfl 2 rfl) ?_
  refine cw (k_iload hX dJ14_newCapacity_19 0 rfl) ?_
  refine cw (k_iload_n hX dJ14_newCapacity_21 rfl 2 rfl) ?_
  refine cw (k_iconst (v := 2) hX dJ14_newCapacity_22 (by decide)) ?_
  refine cw (k_aload_n hX dJ14_newCapacity_23 rfl 3 rfl) ?_
  refine cg_J14_22 T h dJ14_newCapacity_24 (fun v7 h => ?_)
  refine cw (k_ishl hX dJ14_newCapacity_27) ?_
  refine cw (k_iadd hX dJ14_newCapacity_28) ?_
  refine cX_J14_114 T met_FJ3_newLength (c_room hR rfl rfl) h rfl dJ14_newCapacity_29 (fun v9 s8 h => ?_)
  refine cw (k_istore [(5, .int v9), (4, .int v6), (3, .int v5), (2, .int v3), (0, .ref x0), (1, .int x1)] hX dJ14_newCapacity_32 rfl rfl) ?_
  refine cw (k_iload hX dJ14_newCapacity_34 0 rfl) ?_
  refine cw (k_ldc (v := 2147483647) hX q967 dJ14_newCapacity_36) ?_
  refine c_brn h (k_icmp_ne (tgt := 51) hX h dJ14_newCapacity_38 (by decide)) (fun h => ?_) (fun h => ?_)
  · refine cw (k_iload hX dJ14_newCapacity_51 0 rfl) ?_
    refine cw (k_aload_n hX dJ14_newCapacity_53 rfl 4 rfl) ?_
    refine cg_J14_22 T h dJ14_newCapacity_54 (fun v10 h => ?_)
    refine cw (k_ishr hX dJ14_newCapacity_57) ?_
    exact c_ret_i T e h dJ14_newCapacity_58
  · cases h
theorem met_FJ5_copyOf_3 {l : Launch} {E : CE} : ∀ (x0 : Nat) (x1 : Int32) (s : CS) (z : ((Option Nat) × CS)), FJ5_copyOf_3 x0 x1 s = some z → cMet_q l E yJ5_copyOf_3 (ws_ yJ5_copyOf_3 cJ5_copyOf_3 3 (some (.array .byte))) 1 60 [.ref x0, .int x1] s z.1 z.2 := by
  intro x0 x1 s z h
  unfold FJ5_copyOf_3 at h
  obtain ⟨hm, h⟩ := mz_of h
  refine c_met_q hm (by decide +kernel) rfl (fun X hl hin T hR e => ?_)
  have T : cOK X E cJ5_copyOf_3 RJ5 3 (some (.array .byte)) _ _ _ _ := T
  have hX := T.1
  show cW X _ _ s 0 [(0, .ref x0), (1, .int x1)] []
  refine cw (k_iload_n hX dJ5_copyOf_3_0 rfl 1 rfl) ?_
  refine cw (k_aload_n hX dJ5_copyOf_3_1 rfl 0 rfl) ?_
  refine ca_len T h dJ5_copyOf_3_2 (fun v1 h => ?_)
  refine c_brn h (k_icmp_ne (tgt := 14) hX h dJ5_copyOf_3_3 (by decide)) (fun h => ?_) (fun h => ?_)
  · refine cw (k_iload_n hX dJ5_copyOf_3_14 rfl 1 rfl) ?_
    refine c_newAb T h dJ5_copyOf_3_15 (fun o2 s3 h => ?_)
    refine cw (k_astore_n [(2, .ref o2), (0, .ref x0), (1, .int x1)] hX dJ5_copyOf_3_17 rfl rfl rfl) ?_
    refine cw (k_aload_n hX dJ5_copyOf_3_18 rfl 1 rfl) ?_
    refine cw (k_iconst (v := 0) hX dJ5_copyOf_3_19 (by decide)) ?_
    refine cw (k_aload_n hX dJ5_copyOf_3_20 rfl 0 rfl) ?_
    refine cw (k_iconst (v := 0) hX dJ5_copyOf_3_21 (by decide)) ?_
    refine cw (k_aload_n hX dJ5_copyOf_3_22 rfl 1 rfl) ?_
    refine ca_len T h dJ5_copyOf_3_23 (fun v4 h => ?_)
    refine cw (k_iload_n hX dJ5_copyOf_3_24 rfl 2 rfl) ?_
    refine c_mmin T hR q329 q330 q145 q331 rfl dJ5_copyOf_3_25 ?_
    refine c_cpB q332 hR rfl T h dJ5_copyOf_3_28 (fun s5 h => ?_)
    refine cw (k_aload_n hX dJ5_copyOf_3_31 rfl 0 rfl) ?_
    exact c_ret_q (v := (some o2)) T (Or.inr ⟨_, rfl⟩) e h dJ5_copyOf_3_32
  · refine cw (k_aload_n hX dJ5_copyOf_3_6 rfl 0 rfl) ?_
    refine c_clB q971 hR rfl T h dJ5_copyOf_3_7 (fun o6 s7 h => ?_)
    obtain ⟨hc_10, h⟩ := gd_of h
    refine cw (c_castB T hc_10 q977 dJ5_copyOf_3_10) ?_
    exact c_ret_q (v := (some o6)) T (Or.inr ⟨_, rfl⟩) e h dJ5_copyOf_3_13
theorem met_FJ14_ensureCapacityInternal {l : Launch} {E : CE} : ∀ (x0 : Nat) (x1 : Int32) (s : CS) (z : CS), FJ14_ensureCapacityInternal x0 x1 s = some z → (isK s x0 [24] = true ∧ cMet_v l E yJ14_ensureCapacityInternal (ws_ yJ14_ensureCapacityInternal cJ14_ensureCapacityInternal 3 none) 3 88 [.ref x0, .int x1] s z) := by
  intro x0 x1 s z h
  unfold FJ14_ensureCapacityInternal at h
  obtain ⟨hm, h⟩ := mz_of h
  obtain ⟨hg, h⟩ := gd_of h
  refine ⟨hg, c_met_v hm (by decide +kernel) rfl (fun X hl hin T hR e => ?_)⟩
  have T : cOK X E cJ14_ensureCapacityInternal RJ14 3 none _ _ _ _ := T
  have hX := T.1
  show cW X _ _ s 0 [(0, .ref x0), (1, .int x1)] []
  refine cw (k_aload_n hX dJ14_ensureCapacityInternal_0 rfl 0 rfl) ?_
  refine cg_J14_15 T h dJ14_ensureCapacityInternal_1 (fun r1 h => ?_)
  obtain ⟨p2, e_p2, hq_p2⟩ := nn_of h
  subst e_p2
  have h := hq_p2
  show cW X _ _ _ 4 [(0, .ref x0), (1, .int x1)] [.ref p2]
  refine ca_len T h dJ14_ensureCapacityInternal_4 (fun v3 h => ?_)
  refine cw (k_aload_n hX dJ14_ensureCapacityInternal_5 rfl 0 rfl) ?_
  refine cg_J14_22 T h dJ14_ensureCapacityInternal_6 (fun v4 h => ?_)
  refine cw (k_ishr hX dJ14_ensureCapacityInternal_9) ?_
  refine c_nm h (fun v5 h => ?_)
  refine cw (k_istore_n [(2, .int v5), (0, .ref x0), (1, .int x1)] hX dJ14_ensureCapacityInternal_10 rfl rfl rfl) ?_
  refine cw (k_iload_n hX dJ14_ensureCapacityInternal_11 rfl 2 rfl) ?_
  refine cw (k_iload_n hX dJ14_ensureCapacityInternal_12 rfl 0 rfl) ?_
  refine cw (k_isub hX dJ14_ensureCapacityInternal_13) ?_
  refine c_br h (k_if_le (tgt := 38) hX h dJ14_ensureCapacityInternal_14 (by decide)) (fun h => ?_) (fun h => ?_)
  · exact c_ret_v T e h dJ14_ensureCapacityInternal_38
  · refine cw (k_aload_n hX dJ14_ensureCapacityInternal_17 rfl 1 rfl) ?_
    refine cw (k_aload_n hX dJ14_ensureCapacityInternal_18 rfl 1 rfl) ?_
    refine cg_J14_15 T h dJ14_ensureCapacityInternal_19 (fun r6 h => ?_)
    refine cw (k_aload_n hX dJ14_ensureCapacityInternal_22 rfl 1 rfl) ?_
    refine cw (k_iload_n hX dJ14_ensureCapacityInternal_23 rfl 2 rfl) ?_
    refine cX_J14_104 T met_FJ14_newCapacity (c_room hR rfl rfl) h (by cases r6 <;> rfl) dJ14_ensureCapacityInternal_24 (fun v8 s7 h => ?_)
    refine cw (k_aload_n hX dJ14_ensureCapacityInternal_27 rfl 1 rfl) ?_
    refine cg_J14_22 T h dJ14_ensureCapacityInternal_28 (fun v9 h => ?_)
    refine cw (k_ishl hX dJ14_ensureCapacityInternal_31) ?_
    obtain ⟨p10, e_p10, hq_p10⟩ := nn_of h
    subst e_p10
    have h := hq_p10
    show cW X _ _ _ 32 [(2, .int v5), (0, .ref x0), (1, .int x1)] [.int (shl32 v8 v9), .ref p10, .ref x0]
    refine cX_J14_108 T met_FJ5_copyOf_3 (c_room hR rfl rfl) h rfl dJ14_ensureCapacityInternal_32 (fun r12 s11 h => ?_)
    refine cp_J14_15o T h dJ14_ensureCapacityInternal_35 (fun s13 h => ?_)
    exact c_ret_v T e h dJ14_ensureCapacityInternal_38
theorem met_FJ14_isLatin1 {l : Launch} {E : CE} {s : CS} : ∀ (x0 : Nat) (z : Int32), FJ14_isLatin1 s x0 = some z → (isK s x0 [24] = true ∧ cMet_i l E yJ14_isLatin1 (ws_ yJ14_isLatin1 cJ14_isLatin1 1 (some .boolean)) 0 0 [.ref x0] s z s) := by
  intro x0 z h
  unfold FJ14_isLatin1 at h
  obtain ⟨hg, h⟩ := gd_of h
  refine ⟨hg, c_met_i ⟨Nat.le_refl _, Nat.le_refl _⟩ (by decide +kernel) rfl (fun X hl hin T hR e => ?_)⟩
  have T : cOK X E cJ14_isLatin1 RJ14 1 (some .boolean) _ _ _ _ := T
  have hX := T.1
  show cW X _ _ s 0 [(0, .ref x0)] []
  refine cw (k_gets T.2.1 hX T.2.2.2.2.2.2.2.2.2.2.1 q930 (fun _ h9 => h9) dJ14_isLatin1_0) ?_
  refine c_br h (k_if_eq (tgt := 17) hX h dJ14_isLatin1_3 (by decide)) (fun h => ?_) (fun h => ?_)
  · refine cw (k_iconst (v := 0) hX dJ14_isLatin1_17 (by decide)) ?_
    exact c_ret_zrc T e rfl h dJ14_isLatin1_18
  · refine cw (k_aload_n hX dJ14_isLatin1_6 rfl 0 rfl) ?_
    refine cg_J14_22 T h dJ14_isLatin1_7 (fun v1 h => ?_)
    refine c_brn h (k_if_ne (tgt := 17) hX h dJ14_isLatin1_10 (by decide)) (fun h => ?_) (fun h => ?_)
    · refine cw (k_iconst (v := 0) hX dJ14_isLatin1_17 (by decide)) ?_
      exact c_ret_zrc T e rfl h dJ14_isLatin1_18
    · refine cw (k_iconst (v := 1) hX dJ14_isLatin1_13 (by decide)) ?_
      refine cw (k_goto (tgt := 18) hX dJ14_isLatin1_14 (by decide)) ?_
      exact c_ret_zrc T e rfl h dJ14_isLatin1_18
theorem met_FJ7_inflate {l : Launch} {E : CE} {s : CS} : ∀ (x0 : Nat) (x1 : Int32) (x2 : Nat) (x3 : Int32) (x4 : Int32) (z : Unit), FJ7_inflate s x0 x1 x2 x3 x4 = some z → cMet_v l E yJ7_inflate (ws_ yJ7_inflate cJ7_inflate 5 none) 0 0 [.ref x0, .int x1, .ref x2, .int x3, .int x4] s s := by
  intro x0 x1 x2 x3 x4 z h
  unfold FJ7_inflate at h
  refine c_met_v ⟨Nat.le_refl _, Nat.le_refl _⟩ (by decide +kernel) rfl (fun X hl hin T hR e => ?_)
  have T : cOK X E cJ7_inflate RJ7 5 none _ _ _ _ := T
  have hX := T.1
  show cW X _ _ s 0 [(0, .ref x0), (1, .int x1), (2, .ref x2), (3, .int x3), (4, .int x4)] []
  refine cw (k_aload_n hX dJ7_inflate_0 rfl 0 rfl) ?_
  refine cw (k_iload_n hX dJ7_inflate_1 rfl 1 rfl) ?_
  refine cw (k_aload_n hX dJ7_inflate_2 rfl 2 rfl) ?_
  refine cw (k_iload_n hX dJ7_inflate_3 rfl 3 rfl) ?_
  refine cw (k_iload hX dJ7_inflate_4 4 rfl) ?_
  cases h
theorem met_FJ14_inflate {l : Launch} {E : CE} : ∀ (x0 : Nat) (s : CS) (z : CS), FJ14_inflate x0 s = some z → (isK s x0 [24] = true ∧ cMet_v l E yJ14_inflate (ws_ yJ14_inflate cJ14_inflate 2 none) 1 20 [.ref x0] s z) := by
  intro x0 s z h
  unfold FJ14_inflate at h
  obtain ⟨hm, h⟩ := mz_of h
  obtain ⟨hg, h⟩ := gd_of h
  refine ⟨hg, c_met_v hm (by decide +kernel) rfl (fun X hl hin T hR e => ?_)⟩
  have T : cOK X E cJ14_inflate RJ14 2 none _ _ _ _ := T
  have hX := T.1
  show cW X _ _ s 0 [(0, .ref x0)] []
  refine cw (k_aload_n hX dJ14_inflate_0 rfl 0 rfl) ?_
  refine cX_J14_83 T met_FJ14_isLatin1 (fun k hk => c_room hR rfl (Nat.ble_eq.mpr (by omega))) h rfl dJ14_inflate_1 (fun v1 h => ?_)
  refine c_brn h (k_if_ne (tgt := 8) hX h dJ14_inflate_4 (by decide)) (fun h => ?_) (fun h => ?_)
  · refine cw (k_aload_n hX dJ14_inflate_8 rfl 0 rfl) ?_
    refine cg_J14_15 T h dJ14_inflate_9 (fun r2 h => ?_)
    obtain ⟨p3, e_p3, hq_p3⟩ := nn_of h
    subst e_p3
    have h := hq_p3
    show cW X _ _ _ 12 [(0, .ref x0)] [.ref p3]
    refine ca_len T h dJ14_inflate_12 (fun v4 h => ?_)
    cases h
  · exact c_ret_v T e h dJ14_inflate_7
theorem met_FJ7_canEncode_2 {l : Launch} {E : CE} {s : CS} : ∀ (x0 : Int32) (z : Int32), FJ7_canEncode_2 s x0 = some z → cMet_i l E yJ7_canEncode_2 (ws_ yJ7_canEncode_2 cJ7_canEncode_2 1 (some .boolean)) 0 0 [.int x0] s z s := by
  intro x0 z h
  unfold FJ7_canEncode_2 at h
  refine c_met_i ⟨Nat.le_refl _, Nat.le_refl _⟩ (by decide +kernel) rfl (fun X hl hin T hR e => ?_)
  have T : cOK X E cJ7_canEncode_2 RJ7 1 (some .boolean) _ _ _ _ := T
  have hX := T.1
  show cW X _ _ s 0 [(0, .int x0)] []
  refine cw (k_iload_n hX dJ7_canEncode_2_0 rfl 0 rfl) ?_
  refine cw (k_sipush (v := 255) hX dJ7_canEncode_2_1 (by decide)) ?_
  refine c_br h (k_icmp_gt (tgt := 11) hX h dJ7_canEncode_2_4 (by decide)) (fun h => ?_) (fun h => ?_)
  · refine cw (k_iconst (v := 0) hX dJ7_canEncode_2_11 (by decide)) ?_
    exact c_ret_zrc T e rfl h dJ7_canEncode_2_12
  · refine cw (k_iconst (v := 1) hX dJ7_canEncode_2_7 (by decide)) ?_
    refine cw (k_goto (tgt := 12) hX dJ7_canEncode_2_8 (by decide)) ?_
    exact c_ret_zrc T e rfl h dJ7_canEncode_2_12
theorem FJ14_append_b56_ok {X : KC CS} {E : CE} {z : ((Option Nat) × CS)} {z0 l0 z1 l1 : Nat} (T : cOK X E cJ14_append RJ14 2 (some (.object "java/lang/AbstractStringBuilder")) z0 l0 z1 l1) (hR : cRoom X 4 110) (e : cE_q X E z0 l0 z1 l1 z.1 z.2) {x0 : Nat} {x1 : Int32} {s : CS} (h : FJ14_append_b56 x0 x1 s = some z) : cW X z1 l1 s 56 [(0, .ref x0), (1, .int x1)] [] := by
  unfold FJ14_append_b56 at h
  have hX := T.1
  refine cw (k_aload_n hX dJ14_append_56 rfl 0 rfl) ?_
  refine cg_J14_15 T h dJ14_append_57 (fun r1 h => ?_)
  refine cw (k_aload_n hX dJ14_append_60 rfl 0 rfl) ?_
  refine cw (k_dup hX dJ14_append_61 rfl) ?_
  refine cg_J14_79 T h dJ14_append_62 (fun v2 h => ?_)
  refine cw (k_dup_x1 hX dJ14_append_65 (by first | rfl | exact rf_cat _) (by first | rfl | exact rf_cat _)) ?_
  refine cw (k_iconst (v := 1) hX dJ14_append_66 (by decide)) ?_
  refine cw (k_iadd hX dJ14_append_67) ?_
  refine cp_J14_79 T h dJ14_append_68 (fun s3 h => ?_)
  refine cw (k_iload_n hX dJ14_append_71 rfl 1 rfl) ?_
  cases h
theorem FJ14_append_b45_ok {X : KC CS} {E : CE} {z : ((Option Nat) × CS)} {z0 l0 z1 l1 : Nat} (T : cOK X E cJ14_append RJ14 2 (some (.object "java/lang/AbstractStringBuilder")) z0 l0 z1 l1) (hR : cRoom X 4 110) (e : cE_q X E z0 l0 z1 l1 z.1 z.2) {x0 : Nat} {x1 : Int32} {s : CS} (h : FJ14_append_b45 x0 x1 s = some z) : cW X z1 l1 s 45 [(0, .ref x0), (1, .int x1)] [] := by
  unfold FJ14_append_b45 at h
  have hX := T.1
  refine cw (k_aload_n hX dJ14_append_45 rfl 0 rfl) ?_
  refine cX_J14_83 T met_FJ14_isLatin1 (fun k hk => c_room hR rfl (Nat.ble_eq.mpr (by omega))) h rfl dJ14_append_46 (fun v1 h => ?_)
  refine c_br h (k_if_eq (tgt := 56) hX h dJ14_append_49 (by decide)) (fun h => ?_) (fun h => ?_)
  · refine cw (k_lv (lv' := [(0, .ref x0), (1, .int x1)]) [0, 1] rfl) ?_
    exact FJ14_append_b56_ok T hR e h
  · refine cw (k_aload_n hX dJ14_append_52 rfl 0 rfl) ?_
    refine cX_J14_195 T met_FJ14_inflate (c_room hR rfl rfl) h rfl dJ14_append_53 (fun s2 h => ?_)
    refine cw (k_lv (lv' := [(0, .ref x0), (1, .int x1)]) [0, 1] rfl) ?_
    exact FJ14_append_b56_ok T hR e h
theorem met_FJ14_append {l : Launch} {E : CE} : ∀ (x0 : Nat) (x1 : Int32) (s : CS) (z : ((Option Nat) × CS)), FJ14_append x0 x1 s = some z → (isK s x0 [24] = true ∧ cMet_q l E yJ14_append (ws_ yJ14_append cJ14_append 2 (some (.object "java/lang/AbstractStringBuilder"))) 4 110 [.ref x0, .int x1] s z.1 z.2) := by
  intro x0 x1 s z h
  unfold FJ14_append at h
  obtain ⟨hm, h⟩ := mz_of h
  obtain ⟨hg, h⟩ := gd_of h
  refine ⟨hg, c_met_q hm (by decide +kernel) rfl (fun X hl hin T hR e => ?_)⟩
  have T : cOK X E cJ14_append RJ14 2 (some (.object "java/lang/AbstractStringBuilder")) _ _ _ _ := T
  have hX := T.1
  show cW X _ _ s 0 [(0, .ref x0), (1, .int x1)] []
  refine cw (k_aload_n hX dJ14_append_0 rfl 0 rfl) ?_
  refine cw (k_aload_n hX dJ14_append_1 rfl 0 rfl) ?_
  refine cg_J14_79 T h dJ14_append_2 (fun v1 h => ?_)
  refine cw (k_iconst (v := 1) hX dJ14_append_5 (by decide)) ?_
  refine cw (k_iadd hX dJ14_append_6) ?_
  refine cX_J14_100 T met_FJ14_ensureCapacityInternal (c_room hR rfl rfl) h rfl dJ14_append_7 (fun s2 h => ?_)
  refine cw (k_aload_n hX dJ14_append_10 rfl 0 rfl) ?_
  refine cX_J14_83 T met_FJ14_isLatin1 (fun k hk => c_room hR rfl (Nat.ble_eq.mpr (by omega))) h rfl dJ14_append_11 (fun v3 h => ?_)
  refine c_br h (k_if_eq (tgt := 45) hX h dJ14_append_14 (by decide)) (fun h => ?_) (fun h => ?_)
  · refine cw (k_lv (lv' := [(0, .ref x0), (1, .int x1)]) [0, 1] rfl) ?_
    exact FJ14_append_b45_ok T hR e h
  · refine cw (k_iload_n hX dJ14_append_17 rfl 1 rfl) ?_
    refine cX_J14_191 T met_FJ7_canEncode_2 (c_room hR rfl rfl) h rfl dJ14_append_18 (fun v4 h => ?_)
    refine c_br h (k_if_eq (tgt := 45) hX h dJ14_append_21 (by decide)) (fun h => ?_) (fun h => ?_)
    · refine cw (k_lv (lv' := [(0, .ref x0), (1, .int x1)]) [0, 1] rfl) ?_
      exact FJ14_append_b45_ok T hR e h
    · refine cw (k_aload_n hX dJ14_append_24 rfl 0 rfl) ?_
      refine cg_J14_15 T h dJ14_append_25 (fun r5 h => ?_)
      refine cw (k_aload_n hX dJ14_append_28 rfl 0 rfl) ?_
      refine cw (k_dup hX dJ14_append_29 rfl) ?_
      refine cg_J14_79 T h dJ14_append_30 (fun v6 h => ?_)
      refine cw (k_dup_x1 hX dJ14_append_33 (by first | rfl | exact rf_cat _) (by first | rfl | exact rf_cat _)) ?_
      refine cw (k_iconst (v := 1) hX dJ14_append_34 (by decide)) ?_
      refine cw (k_iadd hX dJ14_append_35) ?_
      refine cp_J14_79 T h dJ14_append_36 (fun s7 h => ?_)
      refine cw (k_iload_n hX dJ14_append_39 rfl 1 rfl) ?_
      refine cw (k_i2b hX dJ14_append_40) ?_
      obtain ⟨p8, e_p8, hq_p8⟩ := nn_of h
      subst e_p8
      have h := hq_p8
      show cW X _ _ _ 41 [(0, .ref x0), (1, .int x1)] [.int (i2b x1), .int v6, .ref p8]
      refine ca_bst T h dJ14_append_41 (fun s9 h => ?_)
      refine cw (k_goto (tgt := 75) hX dJ14_append_42 (by decide)) ?_
      refine cw (k_aload_n hX dJ14_append_75 rfl 0 rfl) ?_
      exact c_ret_q (v := (some x0)) T (Or.inl ⟨_, rfl⟩) e h dJ14_append_76
theorem met_FJ15_append {l : Launch} {E : CE} : ∀ (x0 : Nat) (x1 : Int32) (s : CS) (z : ((Option Nat) × CS)), FJ15_append x0 x1 s = some z → (isK s x0 [24] = true ∧ cMet_q l E yJ15_append (ws_ yJ15_append cJ15_append 2 (some (.object "java/lang/StringBuilder"))) 5 131 [.ref x0, .int x1] s z.1 z.2) := by
  intro x0 x1 s z h
  unfold FJ15_append at h
  obtain ⟨hm, h⟩ := mz_of h
  obtain ⟨hg, h⟩ := gd_of h
  refine ⟨hg, c_met_q hm (by decide +kernel) rfl (fun X hl hin T hR e => ?_)⟩
  have T : cOK X E cJ15_append RJ15 2 (some (.object "java/lang/StringBuilder")) _ _ _ _ := T
  have hX := T.1
  show cW X _ _ s 0 [(0, .ref x0), (1, .int x1)] []
  refine cw (k_aload_n hX dJ15_append_0 rfl 0 rfl) ?_
  refine cw (k_iload_n hX dJ15_append_1 rfl 1 rfl) ?_
  refine cX_J15_50 T met_FJ14_append (c_room hR rfl rfl) h rfl dJ15_append_2 (fun r2 s1 h => ?_)
  refine cw (k_pop hX dJ15_append_5 (rf_cat _)) ?_
  refine cw (k_aload_n hX dJ15_append_6 rfl 0 rfl) ?_
  exact c_ret_q (v := (some x0)) T (Or.inl ⟨_, rfl⟩) e h dJ15_append_7
theorem met_FJ14_getValue {l : Launch} {E : CE} {s : CS} : ∀ (x0 : Nat) (z : (Option Nat)), FJ14_getValue s x0 = some z → (isK s x0 [24] = true ∧ cMet_q l E yJ14_getValue (ws_ yJ14_getValue cJ14_getValue 1 (some (.array .byte))) 0 0 [.ref x0] s z s) := by
  intro x0 z h
  unfold FJ14_getValue at h
  obtain ⟨hg, h⟩ := gd_of h
  refine ⟨hg, c_met_q ⟨Nat.le_refl _, Nat.le_refl _⟩ (by decide +kernel) rfl (fun X hl hin T hR e => ?_)⟩
  have T : cOK X E cJ14_getValue RJ14 1 (some (.array .byte)) _ _ _ _ := T
  have hX := T.1
  show cW X _ _ s 0 [(0, .ref x0)] []
  refine cw (k_aload_n hX dJ14_getValue_0 rfl 0 rfl) ?_
  refine cg_J14_15 T h dJ14_getValue_1 (fun r1 h => ?_)
  exact c_ret_qr (v := r1) T (Or.inr ⟨_, rfl⟩) e h dJ14_getValue_4
theorem met_FJ14_length {l : Launch} {E : CE} {s : CS} : ∀ (x0 : Nat) (z : Int32), FJ14_length s x0 = some z → (isK s x0 [24] = true ∧ cMet_i l E yJ14_length (ws_ yJ14_length cJ14_length 1 (some .int)) 0 0 [.ref x0] s z s) := by
  intro x0 z h
  unfold FJ14_length at h
  obtain ⟨hg, h⟩ := gd_of h
  refine ⟨hg, c_met_i ⟨Nat.le_refl _, Nat.le_refl _⟩ (by decide +kernel) rfl (fun X hl hin T hR e => ?_)⟩
  have T : cOK X E cJ14_length RJ14 1 (some .int) _ _ _ _ := T
  have hX := T.1
  show cW X _ _ s 0 [(0, .ref x0)] []
  refine cw (k_aload_n hX dJ14_length_0 rfl 0 rfl) ?_
  refine cg_J14_79 T h dJ14_length_1 (fun v1 h => ?_)
  exact c_ret_ir T e h dJ14_length_4
theorem met_FJ15_length {l : Launch} {E : CE} {s : CS} : ∀ (x0 : Nat) (z : Int32), FJ15_length s x0 = some z → (isK s x0 [24] = true ∧ cMet_i l E yJ15_length (ws_ yJ15_length cJ15_length 1 (some .int)) 1 20 [.ref x0] s z s) := by
  intro x0 z h
  unfold FJ15_length at h
  obtain ⟨hg, h⟩ := gd_of h
  refine ⟨hg, c_met_i ⟨Nat.le_refl _, Nat.le_refl _⟩ (by decide +kernel) rfl (fun X hl hin T hR e => ?_)⟩
  have T : cOK X E cJ15_length RJ15 1 (some .int) _ _ _ _ := T
  have hX := T.1
  show cW X _ _ s 0 [(0, .ref x0)] []
  refine cw (k_aload_n hX dJ15_length_0 rfl 0 rfl) ?_
  refine cX_J15_343 T met_FJ14_length (c_room hR rfl rfl) h rfl dJ15_length_1 (fun v1 h => ?_)
  exact c_ret_ir T e h dJ15_length_4
theorem met_FJ5_checkLength {l : Launch} {E : CE} : ∀ (x0 : Int32) (x1 : Int32) (s : CS) (z : CS), FJ5_checkLength x0 x1 s = some z → cMet_v l E yJ5_checkLength (ws_ yJ5_checkLength cJ5_checkLength 2 none) 0 0 [.int x0, .int x1] s z := by
  intro x0 x1 s z h
  unfold FJ5_checkLength at h
  obtain ⟨hm, h⟩ := mz_of h
  refine c_met_v hm (by decide +kernel) rfl (fun X hl hin T hR e => ?_)
  have T : cOK X E cJ5_checkLength RJ5 2 none _ _ _ _ := T
  have hX := T.1
  show cW X _ _ s 0 [(0, .int x0), (1, .int x1)] []
  refine cw (k_iload_n hX dJ5_checkLength_0 rfl 1 rfl) ?_
  refine cw (k_iload_n hX dJ5_checkLength_1 rfl 0 rfl) ?_
  refine c_br h (k_icmp_ge (tgt := 37) hX h dJ5_checkLength_2 (by decide)) (fun h => ?_) (fun h => ?_)
  · exact c_ret_v T e h dJ5_checkLength_37
  · cases h
theorem met_FJ5_copyOfRangeByte {l : Launch} {E : CE} : ∀ (x0 : Nat) (x1 : Int32) (x2 : Int32) (s : CS) (z : ((Option Nat) × CS)), FJ5_copyOfRangeByte x0 x1 x2 s = some z → cMet_q l E yJ5_copyOfRangeByte (ws_ yJ5_copyOfRangeByte cJ5_copyOfRangeByte 5 (some (.array .byte))) 1 60 [.ref x0, .int x1, .int x2] s z.1 z.2 := by
  intro x0 x1 x2 s z h
  unfold FJ5_copyOfRangeByte at h
  obtain ⟨hm, h⟩ := mz_of h
  refine c_met_q hm (by decide +kernel) rfl (fun X hl hin T hR e => ?_)
  have T : cOK X E cJ5_copyOfRangeByte RJ5 5 (some (.array .byte)) _ _ _ _ := T
  have hX := T.1
  show cW X _ _ s 0 [(0, .ref x0), (1, .int x1), (2, .int x2)] []
  refine cw (k_iload_n hX dJ5_copyOfRangeByte_0 rfl 1 rfl) ?_
  refine cw (k_iload_n hX dJ5_copyOfRangeByte_1 rfl 2 rfl) ?_
  refine cX_J5_343 T met_FJ5_checkLength (c_room hR rfl rfl) h rfl dJ5_copyOfRangeByte_2 (fun s1 h => ?_)
  refine cw (k_iload_n hX dJ5_copyOfRangeByte_5 rfl 2 rfl) ?_
  refine cw (k_iload_n hX dJ5_copyOfRangeByte_6 rfl 1 rfl) ?_
  refine cw (k_isub hX dJ5_copyOfRangeByte_7) ?_
  refine c_nm h (fun v2 h => ?_)
  refine cw (k_istore_n [(3, .int v2), (0, .ref x0), (1, .int x1), (2, .int x2)] hX dJ5_copyOfRangeByte_8 rfl rfl rfl) ?_
  refine cw (k_iload_n hX dJ5_copyOfRangeByte_9 rfl 0 rfl) ?_
  refine c_newAb T h dJ5_copyOfRangeByte_10 (fun o3 s4 h => ?_)
  refine cw (k_astore [(4, .ref o3), (3, .int v2), (0, .ref x0), (1, .int x1), (2, .int x2)] hX dJ5_copyOfRangeByte_12 rfl rfl) ?_
  refine cw (k_aload_n hX dJ5_copyOfRangeByte_14 rfl 2 rfl) ?_
  refine cw (k_iload_n hX dJ5_copyOfRangeByte_15 rfl 3 rfl) ?_
  refine cw (k_aload hX dJ5_copyOfRangeByte_16 0 rfl) ?_
  refine cw (k_iconst (v := 0) hX dJ5_copyOfRangeByte_18 (by decide)) ?_
  refine cw (k_aload_n hX dJ5_copyOfRangeByte_19 rfl 2 rfl) ?_
  refine ca_len T h dJ5_copyOfRangeByte_20 (fun v5 h => ?_)
  refine cw (k_iload_n hX dJ5_copyOfRangeByte_21 rfl 3 rfl) ?_
  refine cw (k_isub hX dJ5_copyOfRangeByte_22) ?_
  refine cw (k_iload_n hX dJ5_copyOfRangeByte_23 rfl 1 rfl) ?_
  refine c_mmin T hR q329 q330 q145 q331 rfl dJ5_copyOfRangeByte_24 ?_
  refine c_cpB q332 hR rfl T h dJ5_copyOfRangeByte_27 (fun s6 h => ?_)
  refine cw (k_aload hX dJ5_copyOfRangeByte_30 0 rfl) ?_
  exact c_ret_q (v := (some o3)) T (Or.inr ⟨_, rfl⟩) e h dJ5_copyOfRangeByte_32
theorem FJ5_copyOfRange_b10_ok {X : KC CS} {E : CE} {z : ((Option Nat) × CS)} {z0 l0 z1 l1 : Nat} (T : cOK X E cJ5_copyOfRange RJ5 3 (some (.array .byte)) z0 l0 z1 l1) (hR : cRoom X 2 84) (e : cE_q X E z0 l0 z1 l1 z.1 z.2) {x0 : Nat} {x1 : Int32} {x2 : Int32} {s : CS} (h : FJ5_copyOfRange_b10 x0 x1 x2 s = some z) : cW X z1 l1 s 10 [(0, .ref x0), (1, .int x1), (2, .int x2)] [] := by
  unfold FJ5_copyOfRange_b10 at h
  have hX := T.1
  refine cw (k_aload_n hX dJ5_copyOfRange_10 rfl 0 rfl) ?_
  refine cw (k_iload_n hX dJ5_copyOfRange_11 rfl 1 rfl) ?_
  refine cw (k_iload_n hX dJ5_copyOfRange_12 rfl 2 rfl) ?_
  refine cX_J5_339 T met_FJ5_copyOfRangeByte (c_room hR rfl rfl) h rfl dJ5_copyOfRange_13 (fun r2 s1 h => ?_)
  exact c_ret_q (v := r2) T (Or.inr ⟨_, rfl⟩) e h dJ5_copyOfRange_16
theorem met_FJ5_copyOfRange {l : Launch} {E : CE} : ∀ (x0 : Nat) (x1 : Int32) (x2 : Int32) (s : CS) (z : ((Option Nat) × CS)), FJ5_copyOfRange x0 x1 x2 s = some z → cMet_q l E yJ5_copyOfRange (ws_ yJ5_copyOfRange cJ5_copyOfRange 3 (some (.array .byte))) 2 84 [.ref x0, .int x1, .int x2] s z.1 z.2 := by
  intro x0 x1 x2 s z h
  unfold FJ5_copyOfRange at h
  obtain ⟨hm, h⟩ := mz_of h
  refine c_met_q hm (by decide +kernel) rfl (fun X hl hin T hR e => ?_)
  have T : cOK X E cJ5_copyOfRange RJ5 3 (some (.array .byte)) _ _ _ _ := T
  have hX := T.1
  show cW X _ _ s 0 [(0, .ref x0), (1, .int x1), (2, .int x2)] []
  refine cw (k_iload_n hX dJ5_copyOfRange_0 rfl 1 rfl) ?_
  refine c_brn h (k_if_ne (tgt := 10) hX h dJ5_copyOfRange_1 (by decide)) (fun h => ?_) (fun h => ?_)
  · refine cw (k_lv (lv' := [(0, .ref x0), (1, .int x1), (2, .int x2)]) [0, 1, 2] rfl) ?_
    exact FJ5_copyOfRange_b10_ok T hR e h
  · refine cw (k_iload_n hX dJ5_copyOfRange_4 rfl 2 rfl) ?_
    refine cw (k_aload_n hX dJ5_copyOfRange_5 rfl 0 rfl) ?_
    refine ca_len T h dJ5_copyOfRange_6 (fun v1 h => ?_)
    refine c_br h (k_icmp_eq (tgt := 17) hX h dJ5_copyOfRange_7 (by decide)) (fun h => ?_) (fun h => ?_)
    · refine cw (k_aload_n hX dJ5_copyOfRange_17 rfl 0 rfl) ?_
      refine c_clB q971 hR rfl T h dJ5_copyOfRange_18 (fun o2 s3 h => ?_)
      obtain ⟨hc_21, h⟩ := gd_of h
      refine cw (c_castB T hc_21 q977 dJ5_copyOfRange_21) ?_
      exact c_ret_q (v := (some o2)) T (Or.inr ⟨_, rfl⟩) e h dJ5_copyOfRange_24
    · refine cw (k_lv (lv' := [(0, .ref x0), (1, .int x1), (2, .int x2)]) [0, 1, 2] rfl) ?_
      exact FJ5_copyOfRange_b10_ok T hR e h
