/-! THE COMPONENT's walks and contracts (printed by gen/gen_c.py) -/
set_option maxRecDepth 100000
theorem met_V11_isHidden {l : Launch} {E : CE} {s : CS} : ∀ (o : Nat) (v : Int32), V11_isHidden s o = some v → (isK s o [12, 14, 15] = true ∧ ∃ F' L' : Nat, F' ≤ 0 ∧ L' ≤ 0 ∧ cMet_i l E yX11_isHidden (ws_ yX11_isHidden cX11_isHidden 1 (some .boolean)) F' L' [.ref o] s v s) ∨ (isK s o [13] = true ∧ ∃ F' L' : Nat, F' ≤ 0 ∧ L' ≤ 0 ∧ cMet_i l E yX13_isHidden (ws_ yX13_isHidden cX13_isHidden 1 (some .boolean)) F' L' [.ref o] s v s) := by
  intro o v h
  unfold V11_isHidden at h
  by_cases q0 : isK s o [12, 14, 15] = true
  · rw [if_pos q0] at h
    exact Or.inl ⟨q0, _, _, by decide, by decide, (met_FX11_isHidden _ _ h).2⟩
  rw [if_neg q0] at h
  by_cases q1 : isK s o [13] = true
  · rw [if_pos q1] at h
    exact Or.inr (⟨q1, _, _, by decide, by decide, (met_FX13_isHidden _ _ h).2⟩)
  rw [if_neg q1] at h
  cases h
theorem met_FX0_isUnknown {l : Launch} {E : CE} {s : CS} : ∀ (x0 : Nat) (x1 : Int32) (z : Int32), FX0_isUnknown s x0 x1 = some z → (isK s x0 [0] = true ∧ cMet_i l E yX0_isUnknown (ws_ yX0_isUnknown cX0_isUnknown 2 (some .boolean)) 1 20 [.ref x0, .int x1] s z s) := by
  intro x0 x1 z h
  unfold FX0_isUnknown at h
  obtain ⟨hg, h⟩ := gd_of h
  refine ⟨hg, c_met_i ⟨Nat.le_refl _, Nat.le_refl _⟩ (by decide +kernel) rfl (fun X hl hin T hR e => ?_)⟩
  have T : cOK X E cX0_isUnknown RX0 2 (some .boolean) _ _ _ _ := T
  have hX := T.1
  show cW X _ _ s 0 [(0, .ref x0), (1, .int x1)] []
  refine cw (k_aload_n hX dX0_isUnknown_0 rfl 0 rfl) ?_
  refine cg_X0_35 T h dX0_isUnknown_1 (fun r1 h => ?_)
  obtain ⟨p2, e_p2, hq_p2⟩ := nn_of h
  subst e_p2
  have h := hq_p2
  show cW X _ _ _ 4 [(0, .ref x0), (1, .int x1)] [.ref p2]
  refine cg_X0_122 T h dX0_isUnknown_4 (fun r3 h => ?_)
  refine cw (k_iload_n hX dX0_isUnknown_7 rfl 1 rfl) ?_
  obtain ⟨p4, e_p4, hq_p4⟩ := nn_of h
  subst e_p4
  have h := hq_p4
  show cW X _ _ _ 8 [(0, .ref x0), (1, .int x1)] [.int x1, .ref p4]
  refine ca_qld104 T h dX0_isUnknown_8 (fun r5 h => ?_)
  rcases r5 with _ | p6
  · replace h := nul_n h
    show cW X _ _ _ 9 [(0, .ref x0), (1, .int x1)] [.null]
    refine cw (k_ifnullN (tgt := 43) hX dX0_isUnknown_9 (by decide)) ?_
    refine cw (k_iconst (v := 0) hX dX0_isUnknown_43 (by decide)) ?_
    exact c_ret_zrc T e rfl h dX0_isUnknown_44
  · replace h := nul_s h
    show cW X _ _ _ 9 [(0, .ref x0), (1, .int x1)] [.ref p6]
    refine cw (k_ifnullS hX dX0_isUnknown_9) ?_
    refine cw (k_aload_n hX dX0_isUnknown_12 rfl 0 rfl) ?_
    refine cg_X0_35 T h dX0_isUnknown_13 (fun r7 h => ?_)
    obtain ⟨p8, e_p8, hq_p8⟩ := nn_of h
    subst e_p8
    have h := hq_p8
    show cW X _ _ _ 16 [(0, .ref x0), (1, .int x1)] [.ref p8]
    refine cg_X0_122 T h dX0_isUnknown_16 (fun r9 h => ?_)
    refine cw (k_iload_n hX dX0_isUnknown_19 rfl 1 rfl) ?_
    obtain ⟨p10, e_p10, hq_p10⟩ := nn_of h
    subst e_p10
    have h := hq_p10
    show cW X _ _ _ 20 [(0, .ref x0), (1, .int x1)] [.int x1, .ref p10]
    refine ca_qld104 T h dX0_isUnknown_20 (fun r11 h => ?_)
    obtain ⟨p12, e_p12, hq_p12⟩ := nn_of h
    subst e_p12
    have h := hq_p12
    show cW X _ _ _ 21 [(0, .ref x0), (1, .int x1)] [.ref p12]
    refine cX_X0_219 T met_V11_isHidden (fun k hk => c_room hR rfl (Nat.ble_eq.mpr (by omega))) h rfl dX0_isUnknown_21 (fun v13 h => ?_)
    refine c_br h (k_if_eq (tgt := 43) hX h dX0_isUnknown_24 (by decide)) (fun h => ?_) (fun h => ?_)
    · refine cw (k_iconst (v := 0) hX dX0_isUnknown_43 (by decide)) ?_
      exact c_ret_zrc T e rfl h dX0_isUnknown_44
    · refine cw (k_aload_n hX dX0_isUnknown_27 rfl 0 rfl) ?_
      refine cg_X0_49 T h dX0_isUnknown_28 (fun r14 h => ?_)
      obtain ⟨p15, e_p15, hq_p15⟩ := nn_of h
      subst e_p15
      have h := hq_p15
      show cW X _ _ _ 31 [(0, .ref x0), (1, .int x1)] [.ref p15]
      refine cg_X0_169 T h dX0_isUnknown_31 (fun r16 h => ?_)
      refine cw (k_iload_n hX dX0_isUnknown_34 rfl 1 rfl) ?_
      obtain ⟨p17, e_p17, hq_p17⟩ := nn_of h
      subst e_p17
      have h := hq_p17
      show cW X _ _ _ 35 [(0, .ref x0), (1, .int x1)] [.int x1, .ref p17]
      refine ca_zld T h dX0_isUnknown_35 (fun v18 h => ?_)
      refine c_brn h (k_if_ne (tgt := 43) hX h dX0_isUnknown_36 (by decide)) (fun h => ?_) (fun h => ?_)
      · refine cw (k_iconst (v := 0) hX dX0_isUnknown_43 (by decide)) ?_
        exact c_ret_zrc T e rfl h dX0_isUnknown_44
      · refine cw (k_iconst (v := 1) hX dX0_isUnknown_39 (by decide)) ?_
        refine cw (k_goto (tgt := 44) hX dX0_isUnknown_40 (by decide)) ?_
        exact c_ret_zrc T e rfl h dX0_isUnknown_44
theorem met_FX0_lightAt {l : Launch} {E : CE} {s : CS} : ∀ (x0 : Nat) (x1 : Int32) (x2 : Int32) (z : (Option Nat)), FX0_lightAt s x0 x1 x2 = some z → (isK s x0 [0] = true ∧ cMet_q l E yX0_lightAt (ws_ yX0_lightAt cX0_lightAt 3 (some (.object "OverFirst$Light"))) 0 0 [.ref x0, .int x1, .int x2] s z s) := by
  intro x0 x1 x2 z h
  unfold FX0_lightAt at h
  obtain ⟨hg, h⟩ := gd_of h
  refine ⟨hg, c_met_q ⟨Nat.le_refl _, Nat.le_refl _⟩ (by decide +kernel) rfl (fun X hl hin T hR e => ?_)⟩
  have T : cOK X E cX0_lightAt RX0 3 (some (.object "OverFirst$Light")) _ _ _ _ := T
  have hX := T.1
  show cW X _ _ s 0 [(0, .ref x0), (1, .int x1), (2, .int x2)] []
  refine cw (k_aload_n hX dX0_lightAt_0 rfl 0 rfl) ?_
  refine cg_X0_35 T h dX0_lightAt_1 (fun r1 h => ?_)
  obtain ⟨p2, e_p2, hq_p2⟩ := nn_of h
  subst e_p2
  have h := hq_p2
  show cW X _ _ _ 4 [(0, .ref x0), (1, .int x1), (2, .int x2)] [.ref p2]
  refine cg_X0_122 T h dX0_lightAt_4 (fun r3 h => ?_)
  refine cw (k_iload_n hX dX0_lightAt_7 rfl 2 rfl) ?_
  refine cw (k_bipush (v := 6) hX dX0_lightAt_8 (by decide)) ?_
  refine cw (k_imul hX dX0_lightAt_10) ?_
  refine cw (k_iload_n hX dX0_lightAt_11 rfl 1 rfl) ?_
  refine cw (k_iadd hX dX0_lightAt_12) ?_
  obtain ⟨p4, e_p4, hq_p4⟩ := nn_of h
  subst e_p4
  have h := hq_p4
  show cW X _ _ _ 13 [(0, .ref x0), (1, .int x1), (2, .int x2)] [.int ((x2 * 6) + x1), .ref p4]
  refine ca_qld104 T h dX0_lightAt_13 (fun r5 h => ?_)
  exact c_ret_qr (v := r5) T (Or.inl ⟨_, rfl⟩) e h dX0_lightAt_14
theorem met_V11_waits {l : Launch} {E : CE} {s : CS} : ∀ (o : Nat) (a0 : Int32) (a1 : Int32) (v : Int32), V11_waits s o a0 a1 = some v → (isK s o [12, 13] = true ∧ ∃ F' L' : Nat, F' ≤ 0 ∧ L' ≤ 0 ∧ cMet_i l E yX12_waits (ws_ yX12_waits cX12_waits 4 (some .int)) F' L' [.ref o, .int a0, .int a1] s v s) ∨ (isK s o [14] = true ∧ ∃ F' L' : Nat, F' ≤ 0 ∧ L' ≤ 0 ∧ cMet_i l E yX14_waits (ws_ yX14_waits cX14_waits 3 (some .int)) F' L' [.ref o, .int a0, .int a1] s v s) ∨ (isK s o [15] = true ∧ ∃ F' L' : Nat, F' ≤ 0 ∧ L' ≤ 0 ∧ cMet_i l E yX15_waits (ws_ yX15_waits cX15_waits 3 (some .int)) F' L' [.ref o, .int a0, .int a1] s v s) := by
  intro o a0 a1 v h
  unfold V11_waits at h
  by_cases q0 : isK s o [12, 13] = true
  · rw [if_pos q0] at h
    exact Or.inl ⟨q0, _, _, by decide, by decide, (met_FX12_waits _ _ _ _ h).2⟩
  rw [if_neg q0] at h
  by_cases q1 : isK s o [14] = true
  · rw [if_pos q1] at h
    exact Or.inr (Or.inl ⟨q1, _, _, by decide, by decide, (met_FX14_waits _ _ _ _ h).2⟩)
  rw [if_neg q1] at h
  by_cases q2 : isK s o [15] = true
  · rw [if_pos q2] at h
    exact Or.inr (Or.inr (⟨q2, _, _, by decide, by decide, (met_FX15_waits _ _ _ _ h).2⟩))
  rw [if_neg q2] at h
  cases h
theorem met_FX0_waits {l : Launch} {E : CE} {s : CS} : ∀ (x0 : Nat) (x1 : Int32) (x2 : Int32) (x3 : Int32) (x4 : Int32) (z : Int32), FX0_waits s x0 x1 x2 x3 x4 = some z → (isK s x0 [0] = true ∧ cMet_i l E yX0_waits (ws_ yX0_waits cX0_waits 6 (some .int)) 1 23 [.ref x0, .int x1, .int x2, .int x3, .int x4] s z s) := by
  intro x0 x1 x2 x3 x4 z h
  unfold FX0_waits at h
  obtain ⟨hg, h⟩ := gd_of h
  refine ⟨hg, c_met_i ⟨Nat.le_refl _, Nat.le_refl _⟩ (by decide +kernel) rfl (fun X hl hin T hR e => ?_)⟩
  have T : cOK X E cX0_waits RX0 6 (some .int) _ _ _ _ := T
  have hX := T.1
  show cW X _ _ s 0 [(0, .ref x0), (1, .int x1), (2, .int x2), (3, .int x3), (4, .int x4)] []
  refine cw (k_aload_n hX dX0_waits_0 rfl 0 rfl) ?_
  refine cg_X0_35 T h dX0_waits_1 (fun r1 h => ?_)
  refine cw (k_iload_n hX dX0_waits_4 rfl 1 rfl) ?_
  refine cw (k_iload_n hX dX0_waits_5 rfl 2 rfl) ?_
  refine cw (k_iload_n hX dX0_waits_6 rfl 3 rfl) ?_
  obtain ⟨p2, e_p2, hq_p2⟩ := nn_of h
  subst e_p2
  have h := hq_p2
  show cW X _ _ _ 7 [(0, .ref x0), (1, .int x1), (2, .int x2), (3, .int x3), (4, .int x4)] [.int x3, .int x2, .int x1, .ref p2]
  refine cX_X0_137 T met_FX2_leads (c_room hR rfl rfl) h rfl dX0_waits_7 (fun v3 h => ?_)
  refine c_brn h (k_if_ne (tgt := 15) hX h dX0_waits_10 (by decide)) (fun h => ?_) (fun h => ?_)
  · refine cw (k_aload_n hX dX0_waits_15 rfl 0 rfl) ?_
    refine cw (k_iload_n hX dX0_waits_16 rfl 1 rfl) ?_
    refine cw (k_iload_n hX dX0_waits_17 rfl 2 rfl) ?_
    refine cX_X0_140 T met_FX0_lightAt (c_room hR rfl rfl) h rfl dX0_waits_18 (fun r4 h => ?_)
    refine cw (k_astoreO [(5, va_rf r4), (0, .ref x0), (1, .int x1), (2, .int x2), (3, .int x3), (4, .int x4)] hX dX0_waits_21 rfl rfl) ?_
    refine cw (k_aloadO hX dX0_waits_23 0 rfl) ?_
    rcases r4 with _ | p5
    · replace h := nul_n h
      show cW X _ _ _ 25 [(5, .null), (0, .ref x0), (1, .int x1), (2, .int x2), (3, .int x3), (4, .int x4)] [.null]
      refine cw (k_ifnonnullN hX dX0_waits_25) ?_
      refine cw (k_iconst (v := 0) hX dX0_waits_28 (by decide)) ?_
      refine cw (k_goto (tgt := 40) hX dX0_waits_29 (by decide)) ?_
      exact c_ret_ir T e h dX0_waits_40
    · replace h := nul_s h
      show cW X _ _ _ 25 [(5, .ref p5), (0, .ref x0), (1, .int x1), (2, .int x2), (3, .int x3), (4, .int x4)] [.ref p5]
      refine cw (k_ifnonnullS (tgt := 32) hX dX0_waits_25 (by decide)) ?_
      refine cw (k_aload hX dX0_waits_32 0 rfl) ?_
      refine cw (k_iload_n hX dX0_waits_34 rfl 4 rfl) ?_
      refine cw (k_iload hX dX0_waits_35 5 rfl) ?_
      refine cX_X0_144 T met_V11_waits (fun k hk => c_room hR rfl (Nat.ble_eq.mpr (by omega))) h rfl dX0_waits_37 (fun v6 h => ?_)
      exact c_ret_ir T e h dX0_waits_40
  · refine cw (k_iconst (v := (-1)) hX dX0_waits_13 (by decide)) ?_
    exact c_ret_ir T e h dX0_waits_14
theorem met_V3_isBest {l : Launch} {E : CE} {s : CS} : ∀ (o : Nat) (v : Int32), V3_isBest s o = some v → (isK s o [4, 5, 16] = true ∧ ∃ F' L' : Nat, F' ≤ 0 ∧ L' ≤ 0 ∧ cMet_i l E yX3_isBest (ws_ yX3_isBest cX3_isBest 1 (some .boolean)) F' L' [.ref o] s v s) ∨ (isK s o [6] = true ∧ ∃ F' L' : Nat, F' ≤ 0 ∧ L' ≤ 0 ∧ cMet_i l E yX6_isBest (ws_ yX6_isBest cX6_isBest 1 (some .boolean)) F' L' [.ref o] s v s) := by
  intro o v h
  unfold V3_isBest at h
  by_cases q0 : isK s o [4, 5, 16] = true
  · rw [if_pos q0] at h
    exact Or.inl ⟨q0, _, _, by decide, by decide, (met_FX3_isBest _ _ h).2⟩
  rw [if_neg q0] at h
  by_cases q1 : isK s o [6] = true
  · rw [if_pos q1] at h
    exact Or.inr (⟨q1, _, _, by decide, by decide, (met_FX6_isBest _ _ h).2⟩)
  rw [if_neg q1] at h
  cases h
theorem met_V3_way {l : Launch} {E : CE} : ∀ (o : Nat) (a0 : Int32) (a1 : Int32) (a2 : Int32) (a3 : Int32) (s : CS) (v : (Int32 × CS)), V3_way o a0 a1 a2 a3 s = some v → (isK s o [4] = true ∧ ∃ F' L' : Nat, F' ≤ 601 ∧ L' ≤ 29423 ∧ cMet_i l E yX4_way (ws_ yX4_way cX4_way 5 (some .int)) F' L' [.ref o, .int a0, .int a1, .int a2, .int a3] s v.1 v.2) ∨ (isK s o [5] = true ∧ ∃ F' L' : Nat, F' ≤ 601 ∧ L' ≤ 29423 ∧ cMet_i l E yX5_way (ws_ yX5_way cX5_way 5 (some .int)) F' L' [.ref o, .int a0, .int a1, .int a2, .int a3] s v.1 v.2) ∨ (isK s o [6] = true ∧ ∃ F' L' : Nat, F' ≤ 601 ∧ L' ≤ 29423 ∧ cMet_i l E yX6_way (ws_ yX6_way cX6_way 5 (some .int)) F' L' [.ref o, .int a0, .int a1, .int a2, .int a3] s v.1 v.2) ∨ (isK s o [16] = true ∧ ∃ F' L' : Nat, F' ≤ 601 ∧ L' ≤ 29423 ∧ cMet_i l E yX16_way (ws_ yX16_way cX16_way 6 (some .int)) F' L' [.ref o, .int a0, .int a1, .int a2, .int a3] s v.1 v.2) := by
  intro o a0 a1 a2 a3 s v h
  unfold V3_way at h
  by_cases q0 : isK s o [4] = true
  · rw [if_pos q0] at h
    obtain ⟨w, h1, h2⟩ := bd_of h
    cases h2
    exact Or.inl ⟨q0, _, _, by decide, by decide, (met_FX4_way _ _ _ _ _ _ h1).2⟩
  rw [if_neg q0] at h
  by_cases q1 : isK s o [5] = true
  · rw [if_pos q1] at h
    obtain ⟨w, h1, h2⟩ := bd_of h
    cases h2
    exact Or.inr (Or.inl ⟨q1, _, _, by decide, by decide, (met_FX5_way _ _ _ _ _ _ h1).2⟩)
  rw [if_neg q1] at h
  by_cases q2 : isK s o [6] = true
  · rw [if_pos q2] at h
    obtain ⟨w, h1, h2⟩ := bd_of h
    cases h2
    exact Or.inr (Or.inr (Or.inl ⟨q2, _, _, by decide, by decide, (met_FX6_way _ _ _ _ _ _ h1).2⟩))
  rw [if_neg q2] at h
  by_cases q3 : isK s o [16] = true
  · rw [if_pos q3] at h
    exact Or.inr (Or.inr (Or.inr (⟨q3, _, _, by decide, by decide, (met_FX16_way _ _ _ _ _ _ _ h).2⟩)))
  rw [if_neg q3] at h
  cases h
theorem FX0_wayOf_b12_ok {X : KC CS} {E : CE} {z : (Int32 × CS)} {z0 l0 z1 l1 : Nat} (T : cOK X E cX0_wayOf RX0 7 (some .int) z0 l0 z1 l1) (hR : cRoom X 602 29448) (e : cE_i X E z0 l0 z1 l1 z.1 z.2) {x0 : Nat} {x1 : Nat} {x2 : Int32} {x3 : Int32} {x4 : Int32} {x5 : Int32} {x6 : Int32} {s : CS} (h : FX0_wayOf_b12 x0 x1 x2 x3 x4 x5 x6 s = some z) : cW X z1 l1 s 12 [(0, .ref x0), (1, .ref x1), (2, .int x2), (3, .int x3), (4, .int x4), (5, .int x5), (6, .int x6)] [] := by
  unfold FX0_wayOf_b12 at h
  have hX := T.1
  refine cw (k_aload_n hX dX0_wayOf_12 rfl 1 rfl) ?_
  refine cX_X0_251 T met_V3_isBest (fun k hk => c_room hR rfl (Nat.ble_eq.mpr (by omega))) h rfl dX0_wayOf_13 (fun v1 h => ?_)
  refine c_br h (k_if_eq (tgt := 46) hX h dX0_wayOf_16 (by decide)) (fun h => ?_) (fun h => ?_)
  · refine cw (k_aload_n hX dX0_wayOf_46 rfl 1 rfl) ?_
    refine cw (k_iload hX dX0_wayOf_47 5 rfl) ?_
    refine cw (k_iload hX dX0_wayOf_49 6 rfl) ?_
    refine cw (k_aload_n hX dX0_wayOf_51 rfl 0 rfl) ?_
    refine cg_X0_35 T h dX0_wayOf_52 (fun r2 h => ?_)
    obtain ⟨p3, e_p3, hq_p3⟩ := nn_of h
    subst e_p3
    have h := hq_p3
    show cW X z1 l1 _ 55 [(0, .ref x0), (1, .ref x1), (2, .int x2), (3, .int x3), (4, .int x4), (5, .int x5), (6, .int x6)] [.ref p3, .int x6, .int x5, .ref x1]
    refine cg_X0_131 T h dX0_wayOf_55 (fun v4 h => ?_)
    refine cw (k_iconst (v := 1) hX dX0_wayOf_58 (by decide)) ?_
    refine cw (k_isub hX dX0_wayOf_59) ?_
    refine cw (k_iload_n hX dX0_wayOf_60 rfl 2 rfl) ?_
    refine cw (k_isub hX dX0_wayOf_61) ?_
    refine cw (k_aload_n hX dX0_wayOf_62 rfl 0 rfl) ?_
    refine cg_X0_35 T h dX0_wayOf_63 (fun r5 h => ?_)
    obtain ⟨p6, e_p6, hq_p6⟩ := nn_of h
    subst e_p6
    have h := hq_p6
    show cW X z1 l1 _ 66 [(0, .ref x0), (1, .ref x1), (2, .int x2), (3, .int x3), (4, .int x4), (5, .int x5), (6, .int x6)] [.ref p6, .int ((v4 - 1) - x2), .int x6, .int x5, .ref x1]
    refine cg_X0_134 T h dX0_wayOf_66 (fun v7 h => ?_)
    refine cw (k_iconst (v := 1) hX dX0_wayOf_69 (by decide)) ?_
    refine cw (k_isub hX dX0_wayOf_70) ?_
    refine cw (k_iload_n hX dX0_wayOf_71 rfl 3 rfl) ?_
    refine cw (k_isub hX dX0_wayOf_72) ?_
    refine cX_X0_263 T met_V3_way (fun k hk => c_room hR rfl (Nat.ble_eq.mpr (by omega))) h rfl dX0_wayOf_73 (fun v9 s8 h => ?_)
    exact c_ret_i T e h dX0_wayOf_76
  · refine cw (k_aload_n hX dX0_wayOf_19 rfl 0 rfl) ?_
    refine cw (k_aload_n hX dX0_wayOf_20 rfl 0 rfl) ?_
    refine cw (k_iload_n hX dX0_wayOf_21 rfl 2 rfl) ?_
    refine cw (k_iload_n hX dX0_wayOf_22 rfl 3 rfl) ?_
    refine cw (k_iconst (v := 0) hX dX0_wayOf_23 (by decide)) ?_
    refine cw (k_iload hX dX0_wayOf_24 4 rfl) ?_
    refine cw (k_iload hX dX0_wayOf_26 5 rfl) ?_
    refine cX_X0_256 T met_FX0_by (c_room hR rfl rfl) h rfl dX0_wayOf_28 (fun v10 h => ?_)
    refine cw (k_aload_n hX dX0_wayOf_31 rfl 0 rfl) ?_
    refine cw (k_iload_n hX dX0_wayOf_32 rfl 2 rfl) ?_
    refine cw (k_iload_n hX dX0_wayOf_33 rfl 3 rfl) ?_
    refine cw (k_iconst (v := 1) hX dX0_wayOf_34 (by decide)) ?_
    refine cw (k_iload hX dX0_wayOf_35 4 rfl) ?_
    refine cw (k_iload hX dX0_wayOf_37 6 rfl) ?_
    refine cX_X0_256 T met_FX0_by (c_room hR rfl rfl) h rfl dX0_wayOf_39 (fun v11 h => ?_)
    refine cX_X0_260 T met_FX0_better (c_room hR rfl rfl) h rfl dX0_wayOf_42 (fun v12 h => ?_)
    exact c_ret_i T e h dX0_wayOf_45
theorem met_FX0_wayOf {l : Launch} {E : CE} : ∀ (x0 : Nat) (x1 : Nat) (x2 : Int32) (x3 : Int32) (x4 : Int32) (x5 : Int32) (x6 : Int32) (s : CS) (z : (Int32 × CS)), FX0_wayOf x0 x1 x2 x3 x4 x5 x6 s = some z → (isK s x0 [0] = true ∧ cMet_i l E yX0_wayOf (ws_ yX0_wayOf cX0_wayOf 7 (some .int)) 602 29448 [.ref x0, .ref x1, .int x2, .int x3, .int x4, .int x5, .int x6] s z.1 z.2) := by
  intro x0 x1 x2 x3 x4 x5 x6 s z h
  unfold FX0_wayOf at h
  obtain ⟨hm, h⟩ := mz_of h
  obtain ⟨hg, h⟩ := gd_of h
  refine ⟨hg, c_met_i hm (by decide +kernel) rfl (fun X hl hin T hR e => ?_)⟩
  have T : cOK X E cX0_wayOf RX0 7 (some .int) _ _ _ _ := T
  have hX := T.1
  show cW X _ _ s 0 [(0, .ref x0), (1, .ref x1), (2, .int x2), (3, .int x3), (4, .int x4), (5, .int x5), (6, .int x6)] []
  refine cw (k_iload hX dX0_wayOf_0 5 rfl) ?_
  refine c_br h (k_if_ge (tgt := 12) hX h dX0_wayOf_2 (by decide)) (fun h => ?_) (fun h => ?_)
  · refine cw (k_lv (lv' := [(0, .ref x0), (1, .ref x1), (2, .int x2), (3, .int x3), (4, .int x4), (5, .int x5), (6, .int x6)]) [0, 1, 2, 3, 4, 5, 6] rfl) ?_
    exact FX0_wayOf_b12_ok T hR e h
  · refine cw (k_iload hX dX0_wayOf_5 6 rfl) ?_
    refine c_br h (k_if_ge (tgt := 12) hX h dX0_wayOf_7 (by decide)) (fun h => ?_) (fun h => ?_)
    · refine cw (k_lv (lv' := [(0, .ref x0), (1, .ref x1), (2, .int x2), (3, .int x3), (4, .int x4), (5, .int x5), (6, .int x6)]) [0, 1, 2, 3, 4, 5, 6] rfl) ?_
      exact FX0_wayOf_b12_ok T hR e h
    · refine cw (k_iconst (v := (-1)) hX dX0_wayOf_10 (by decide)) ?_
      exact c_ret_i T e h dX0_wayOf_11
theorem met_FX0_takesBy {l : Launch} {E : CE} : ∀ (x0 : Nat) (x1 : Nat) (x2 : Int32) (x3 : Int32) (x4 : Int32) (x5 : Int32) (s : CS) (z : (Int32 × CS)), FX0_takesBy x0 x1 x2 x3 x4 x5 s = some z → (isK s x0 [0] = true ∧ cMet_i l E yX0_takesBy (ws_ yX0_takesBy cX0_takesBy 9 (some .int)) 603 29474 [.ref x0, .ref x1, .int x2, .int x3, .int x4, .int x5] s z.1 z.2) := by
  intro x0 x1 x2 x3 x4 x5 s z h
  unfold FX0_takesBy at h
  obtain ⟨hm, h⟩ := mz_of h
  obtain ⟨hg, h⟩ := gd_of h
  refine ⟨hg, c_met_i hm (by decide +kernel) rfl (fun X hl hin T hR e => ?_)⟩
  have T : cOK X E cX0_takesBy RX0 9 (some .int) _ _ _ _ := T
  have hX := T.1
  show cW X _ _ s 0 [(0, .ref x0), (1, .ref x1), (2, .int x2), (3, .int x3), (4, .int x4), (5, .int x5)] []
  refine cw (k_aload_n hX dX0_takesBy_0 rfl 0 rfl) ?_
  refine cw (k_iload_n hX dX0_takesBy_1 rfl 2 rfl) ?_
  refine cw (k_iload_n hX dX0_takesBy_2 rfl 3 rfl) ?_
  refine cw (k_iconst (v := 0) hX dX0_takesBy_3 (by decide)) ?_
  refine cw (k_iload hX dX0_takesBy_4 5 rfl) ?_
  refine cX_X0_191 T met_FX0_waits (c_room hR rfl rfl) h rfl dX0_takesBy_6 (fun v1 h => ?_)
  refine cw (k_istore [(6, .int v1), (0, .ref x0), (1, .ref x1), (2, .int x2), (3, .int x3), (4, .int x4), (5, .int x5)] hX dX0_takesBy_9 rfl rfl) ?_
  refine cw (k_aload_n hX dX0_takesBy_11 rfl 1 rfl) ?_
  refine cw (k_iload_n hX dX0_takesBy_12 rfl 3 rfl) ?_
  refine cw (k_iload_n hX dX0_takesBy_13 rfl 4 rfl) ?_
  refine cw (k_iconst (v := 1) hX dX0_takesBy_14 (by decide)) ?_
  refine cw (k_iload hX dX0_takesBy_15 6 rfl) ?_
  refine cX_X0_191 T met_FX0_waits (c_room hR rfl rfl) h rfl dX0_takesBy_17 (fun v2 h => ?_)
  refine cw (k_istore [(7, .int v2), (6, .int v1), (0, .ref x0), (1, .ref x1), (2, .int x2), (3, .int x3), (4, .int x4), (5, .int x5)] hX dX0_takesBy_20 rfl rfl) ?_
  refine cw (k_aload_n hX dX0_takesBy_22 rfl 2 rfl) ?_
  refine cw (k_aload_n hX dX0_takesBy_23 rfl 3 rfl) ?_
  refine cw (k_iload_n hX dX0_takesBy_24 rfl 4 rfl) ?_
  refine cw (k_iload_n hX dX0_takesBy_25 rfl 5 rfl) ?_
  refine cw (k_iload hX dX0_takesBy_26 6 rfl) ?_
  refine cw (k_iload hX dX0_takesBy_28 1 rfl) ?_
  refine cw (k_iload hX dX0_takesBy_30 0 rfl) ?_
  refine cX_X0_265 T met_FX0_wayOf (c_room hR rfl rfl) h rfl dX0_takesBy_32 (fun v4 s3 h => ?_)
  refine cw (k_istore [(8, .int v4), (7, .int v2), (6, .int v1), (0, .ref x0), (1, .ref x1), (2, .int x2), (3, .int x3), (4, .int x4), (5, .int x5)] hX dX0_takesBy_35 rfl rfl) ?_
  refine cw (k_iload hX dX0_takesBy_37 0 rfl) ?_
  refine c_br h (k_if_ge (tgt := 46) hX h dX0_takesBy_39 (by decide)) (fun h => ?_) (fun h => ?_)
  · refine cw (k_aload_n hX dX0_takesBy_46 rfl 3 rfl) ?_
    refine cw (k_iload_n hX dX0_takesBy_47 rfl 5 rfl) ?_
    refine cw (k_iload_n hX dX0_takesBy_48 rfl 6 rfl) ?_
    refine cw (k_iload hX dX0_takesBy_49 0 rfl) ?_
    refine cw (k_iload hX dX0_takesBy_51 7 rfl) ?_
    refine cw (k_iload hX dX0_takesBy_53 0 rfl) ?_
    refine c_brn h (k_if_ne (tgt := 63) hX h dX0_takesBy_55 (by decide)) (fun h => ?_) (fun h => ?_)
    · refine cw (k_iload hX dX0_takesBy_63 1 rfl) ?_
      refine cX_X0_256 T met_FX0_by (c_room hR rfl rfl) h rfl dX0_takesBy_65 (fun v5 h => ?_)
      exact c_ret_i T e h dX0_takesBy_68
    · refine cw (k_iload hX dX0_takesBy_58 2 rfl) ?_
      refine cw (k_goto (tgt := 65) hX dX0_takesBy_60 (by decide)) ?_
      refine cX_X0_256 T met_FX0_by (c_room hR rfl rfl) h rfl dX0_takesBy_65 (fun v6 h => ?_)
      exact c_ret_i T e h dX0_takesBy_68
  · refine cw (k_iconst (v := (-1)) hX dX0_takesBy_42 (by decide)) ?_
    refine cw (k_goto (tgt := 68) hX dX0_takesBy_43 (by decide)) ?_
    exact c_ret_i T e h dX0_takesBy_68
theorem FX0_takesHidden_b20_s_ok {X : KC CS} {E : CE} {z : (Int32 × CS)} {z0 l0 z1 l1 : Nat} (T : cOK X E cX0_takesHidden RX0 11 (some .int) z0 l0 z1 l1) (hR : cRoom X 604 29502) (e : cE_i X E z0 l0 z1 l1 z.1 z.2) {nf : Nat} {k20 : Nat → Nat → Int32 → Int32 → Int32 → Int32 → Int64 → Int32 → Int32 → CS → Option (Int32 × CS)} (hk20 : ∀ (x0 : Nat) (x1 : Nat) (x2 : Int32) (x3 : Int32) (x4 : Int32) (x5 : Int32) (x6 : Int64) (x8 : Int32) (x9 : Int32) (s : CS), k20 x0 x1 x2 x3 x4 x5 x6 x8 x9 s = some z → cW X z1 l1 s 20 [(0, .ref x0), (1, .ref x1), (2, .int x2), (3, .int x3), (4, .int x4), (5, .int x5), (6, .long x6), (8, .int x8), (9, .int x9)] []) {x0 : Nat} {x1 : Nat} {x2 : Int32} {x3 : Int32} {x4 : Int32} {x5 : Int32} {x6 : Int64} {x8 : Int32} {x9 : Int32} {s : CS} (h : FX0_takesHidden_b20_s nf k20 x0 x1 x2 x3 x4 x5 x6 x8 x9 s = some z) : cW X z1 l1 s 20 [(0, .ref x0), (1, .ref x1), (2, .int x2), (3, .int x3), (4, .int x4), (5, .int x5), (6, .long x6), (8, .int x8), (9, .int x9)] [] := by
  unfold FX0_takesHidden_b20_s at h
  have hX := T.1
  refine cw (k_iload hX dX0_takesHidden_20 8 rfl) ?_
  refine cw (k_iload hX dX0_takesHidden_22 5 rfl) ?_
  refine c_br h (k_icmp_ge (tgt := 70) hX h dX0_takesHidden_24 (by decide)) (fun h => ?_) (fun h => ?_)
  · refine cw (k_aload_n hX dX0_takesHidden_70 rfl 0 rfl) ?_
    refine cg_X0_237 T h dX0_takesHidden_71 (fun v1 h => ?_)
    refine c_br h (k_if_eq (tgt := 82) hX h dX0_takesHidden_74 (by decide)) (fun h => ?_) (fun h => ?_)
    · refine cw (k_lload hX dX0_takesHidden_82 6 rfl) ?_
      refine cw (k_iload hX dX0_takesHidden_84 5 rfl) ?_
      refine cw (k_i2l hX dX0_takesHidden_86) ?_
      refine c_d64 h (k_ldiv hX h dX0_takesHidden_87) (fun h => ?_)
      refine cw (k_l2i hX dX0_takesHidden_88) ?_
      exact c_ret_i T e h dX0_takesHidden_89
    · refine cw (k_iload hX dX0_takesHidden_77 7 rfl) ?_
      refine cw (k_goto (tgt := 89) hX dX0_takesHidden_79 (by decide)) ?_
      exact c_ret_i T e h dX0_takesHidden_89
  · refine cw (k_aload_n hX dX0_takesHidden_27 rfl 0 rfl) ?_
    refine cw (k_aload_n hX dX0_takesHidden_28 rfl 1 rfl) ?_
    refine cw (k_iload_n hX dX0_takesHidden_29 rfl 2 rfl) ?_
    refine cw (k_iload_n hX dX0_takesHidden_30 rfl 3 rfl) ?_
    refine cw (k_iload hX dX0_takesHidden_31 4 rfl) ?_
    refine cw (k_iload hX dX0_takesHidden_33 8 rfl) ?_
    refine cX_X0_269 T met_FX0_takesBy (c_room hR rfl rfl) h rfl dX0_takesHidden_35 (fun v3 s2 h => ?_)
    refine cw (k_istore [(10, .int v3), (0, .ref x0), (1, .ref x1), (2, .int x2), (3, .int x3), (4, .int x4), (5, .int x5), (6, .long x6), (8, .int x8), (9, .int x9)] hX dX0_takesHidden_38 rfl rfl) ?_
    refine cw (k_iload hX dX0_takesHidden_40 0 rfl) ?_
    refine c_br h (k_if_ge (tgt := 47) hX h dX0_takesHidden_42 (by decide)) (fun h => ?_) (fun h => ?_)
    · refine cw (k_lload hX dX0_takesHidden_47 7 rfl) ?_
      refine cw (k_iload hX dX0_takesHidden_49 0 rfl) ?_
      refine cw (k_i2l hX dX0_takesHidden_51) ?_
      refine cw (k_ladd hX dX0_takesHidden_52) ?_
      refine c_nml h (fun v4 h => ?_)
      refine cw (k_lstore [(6, .long v4), (10, .int v3), (0, .ref x0), (1, .ref x1), (2, .int x2), (3, .int x3), (4, .int x4), (5, .int x5), (8, .int x8), (9, .int x9)] hX dX0_takesHidden_53 rfl rfl) ?_
      refine cw (k_iload hX dX0_takesHidden_55 8 rfl) ?_
      refine cw (k_iload hX dX0_takesHidden_57 1 rfl) ?_
      refine c_mmax T hR q1417 q289 q145 q290 rfl dX0_takesHidden_59 ?_
      refine c_nm h (fun v5 h => ?_)
      refine cw (k_istore [(8, .int v5), (6, .long v4), (10, .int v3), (0, .ref x0), (1, .ref x1), (2, .int x2), (3, .int x3), (4, .int x4), (5, .int x5), (9, .int x9)] hX dX0_takesHidden_62 rfl rfl) ?_
      refine cw (k_iinc (j := 9) [(9, .int (x9 + 1)), (8, .int v5), (6, .long v4), (10, .int v3), (0, .ref x0), (1, .ref x1), (2, .int x2), (3, .int x3), (4, .int x4), (5, .int x5)] hX dX0_takesHidden_64 rfl rfl rfl rfl) ?_
      refine cw (k_goto (tgt := 20) hX dX0_takesHidden_67 (by decide)) ?_
      refine cw (k_lv (lv' := [(0, .ref x0), (1, .ref x1), (2, .int x2), (3, .int x3), (4, .int x4), (5, .int x5), (6, .long v4), (8, .int v5), (9, .int (x9 + 1))]) [4, 5, 6, 7, 8, 9, 2, 1, 0] rfl) ?_
      exact hk20 _ _ _ _ _ _ _ _ _ _ h
    · refine cw (k_iconst (v := (-1)) hX dX0_takesHidden_45 (by decide)) ?_
      exact c_ret_i T e h dX0_takesHidden_46
theorem FX0_takesHidden_b20_ok {X : KC CS} {E : CE} {z : (Int32 × CS)} {z0 l0 z1 l1 : Nat} (T : cOK X E cX0_takesHidden RX0 11 (some .int) z0 l0 z1 l1) (hR : cRoom X 604 29502) (e : cE_i X E z0 l0 z1 l1 z.1 z.2) {nf : Nat} : ∀ (n : Nat) (x0 : Nat) (x1 : Nat) (x2 : Int32) (x3 : Int32) (x4 : Int32) (x5 : Int32) (x6 : Int64) (x8 : Int32) (x9 : Int32) (s : CS), FX0_takesHidden_b20 nf n x0 x1 x2 x3 x4 x5 x6 x8 x9 s = some z → cW X z1 l1 s 20 [(0, .ref x0), (1, .ref x1), (2, .int x2), (3, .int x3), (4, .int x4), (5, .int x5), (6, .long x6), (8, .int x8), (9, .int x9)] [] := by
  intro n
  induction n with
  | zero => intro x0 x1 x2 x3 x4 x5 x6 x8 x9 s h; exact (nomatch (show (none : Option (Int32 × CS)) = some z from h))
  | succ n ih =>
    intro x0 x1 x2 x3 x4 x5 x6 x8 x9 s h
    have h : FX0_takesHidden_b20_s nf (FX0_takesHidden_b20 nf n) x0 x1 x2 x3 x4 x5 x6 x8 x9 s = some z := h
    exact FX0_takesHidden_b20_s_ok T hR e ih h
theorem met_FX0_takesHidden {l : Launch} {E : CE} {nf : Nat} : ∀ (x0 : Nat) (x1 : Nat) (x2 : Int32) (x3 : Int32) (x4 : Int32) (s : CS) (z : (Int32 × CS)), FX0_takesHidden nf x0 x1 x2 x3 x4 s = some z → (isK s x0 [0] = true ∧ cMet_i l E yX0_takesHidden (ws_ yX0_takesHidden cX0_takesHidden 11 (some .int)) 604 29502 [.ref x0, .ref x1, .int x2, .int x3, .int x4] s z.1 z.2) := by
  intro x0 x1 x2 x3 x4 s z h
  unfold FX0_takesHidden at h
  obtain ⟨hm, h⟩ := mz_of h
  obtain ⟨hg, h⟩ := gd_of h
  refine ⟨hg, c_met_i hm (by decide +kernel) rfl (fun X hl hin T hR e => ?_)⟩
  have T : cOK X E cX0_takesHidden RX0 11 (some .int) _ _ _ _ := T
  have hX := T.1
  show cW X _ _ s 0 [(0, .ref x0), (1, .ref x1), (2, .int x2), (3, .int x3), (4, .int x4)] []
  refine cw (k_aload_n hX dX0_takesHidden_0 rfl 0 rfl) ?_
  refine cw (k_iload_n hX dX0_takesHidden_1 rfl 2 rfl) ?_
  refine cw (k_iload_n hX dX0_takesHidden_2 rfl 3 rfl) ?_
  refine cX_X0_140 T met_FX0_lightAt (c_room hR rfl rfl) h rfl dX0_takesHidden_3 (fun r1 h => ?_)
  obtain ⟨p2, e_p2, hq_p2⟩ := nn_of h
  subst e_p2
  have h := hq_p2
  show cW X _ _ _ 6 [(0, .ref x0), (1, .ref x1), (2, .int x2), (3, .int x3), (4, .int x4)] [.ref p2]
  refine cg_X0_160 T h dX0_takesHidden_6 (fun v3 h => ?_)
  refine cw (k_istore [(5, .int v3), (0, .ref x0), (1, .ref x1), (2, .int x2), (3, .int x3), (4, .int x4)] hX dX0_takesHidden_9 rfl rfl) ?_
  refine cw (k_lconst (v := 0) hX dX0_takesHidden_11 (by decide)) ?_
  refine cw (k_lstore [(6, .long 0), (5, .int v3), (0, .ref x0), (1, .ref x1), (2, .int x2), (3, .int x3), (4, .int x4)] hX dX0_takesHidden_12 rfl rfl) ?_
  refine cw (k_iconst (v := 0) hX dX0_takesHidden_14 (by decide)) ?_
  refine cw (k_istore [(8, .int 0), (6, .long 0), (5, .int v3), (0, .ref x0), (1, .ref x1), (2, .int x2), (3, .int x3), (4, .int x4)] hX dX0_takesHidden_15 rfl rfl) ?_
  refine cw (k_iconst (v := 0) hX dX0_takesHidden_17 (by decide)) ?_
  refine cw (k_istore [(9, .int 0), (8, .int 0), (6, .long 0), (5, .int v3), (0, .ref x0), (1, .ref x1), (2, .int x2), (3, .int x3), (4, .int x4)] hX dX0_takesHidden_18 rfl rfl) ?_
  refine cw (k_lv (lv' := [(0, .ref x0), (1, .ref x1), (2, .int x2), (3, .int x3), (4, .int x4), (5, .int v3), (6, .long 0), (8, .int 0), (9, .int 0)]) [4, 5, 6, 7, 8, 3, 2, 1, 0] rfl) ?_
  exact FX0_takesHidden_b20_ok T hR e _ _ _ _ _ _ _ _ _ _ _ h
theorem FX0_tables_2_b129_ok {X : KC CS} {E : CE} {z : CS} {z0 l0 z1 l1 : Nat} (T : cOK X E cX0_tables_2 RX0 9 none z0 l0 z1 l1) (hR : cRoom X 605 29532) (e : cE_v X E z0 l0 z1 l1 z) {nf : Nat} {k3 : Nat → Nat → Int32 → Int32 → CS → Option CS} (hk3 : ∀ (x0 : Nat) (x1 : Nat) (x2 : Int32) (x4 : Int32) (s : CS), k3 x0 x1 x2 x4 s = some z → cW X z1 l1 s 3 [(0, .ref x0), (1, .ref x1), (2, .int x2), (4, .int x4)] []) {k11 : Nat → Nat → Int32 → Int32 → Int32 → CS → Option CS} (hk11 : ∀ (x0 : Nat) (x1 : Nat) (x2 : Int32) (x4 : Int32) (x5 : Int32) (s : CS), k11 x0 x1 x2 x4 x5 s = some z → cW X z1 l1 s 11 [(0, .ref x0), (1, .ref x1), (2, .int x2), (4, .int x4), (5, .int x5)] []) {k29 : Nat → Nat → Int32 → Int32 → Int32 → Int32 → Int32 → CS → Option CS} (hk29 : ∀ (x0 : Nat) (x1 : Nat) (x2 : Int32) (x4 : Int32) (x5 : Int32) (x6 : Int32) (x7 : Int32) (s : CS), k29 x0 x1 x2 x4 x5 x6 x7 s = some z → cW X z1 l1 s 29 [(0, .ref x0), (1, .ref x1), (2, .int x2), (4, .int x4), (5, .int x5), (6, .int x6), (7, .int x7)] []) {x0 : Nat} {x1 : Nat} {x2 : Int32} {x4 : Int32} {x5 : Int32} {x6 : Int32} {x7 : Int32} {s_0 : Int32} {s : CS} (h : FX0_tables_2_b129 nf k3 k11 k29 x0 x1 x2 x4 x5 x6 x7 s_0 s = some z) : cW X z1 l1 s 129 [(0, .ref x0), (1, .ref x1), (2, .int x2), (4, .int x4), (5, .int x5), (6, .int x6), (7, .int x7)] [.int s_0] := by
  unfold FX0_tables_2_b129 at h
  have hX := T.1
  refine cw (k_istore [(8, .int s_0), (0, .ref x0), (1, .ref x1), (2, .int x2), (4, .int x4), (5, .int x5), (6, .int x6), (7, .int x7)] hX dX0_tables_2_129 rfl rfl) ?_
  refine cw (k_aload_n hX dX0_tables_2_131 rfl 1 rfl) ?_
  refine cg_X0_58 T h dX0_tables_2_132 (fun r1 h => ?_)
  refine cw (k_iload hX dX0_tables_2_135 6 rfl) ?_
  refine cw (k_sipush (v := 1200) hX dX0_tables_2_137 (by decide)) ?_
  refine cw (k_imul hX dX0_tables_2_140) ?_
  refine cw (k_iload hX dX0_tables_2_141 7 rfl) ?_
  refine cw (k_iadd hX dX0_tables_2_143) ?_
  refine cw (k_iload hX dX0_tables_2_144 0 rfl) ?_
  obtain ⟨p2, e_p2, hq_p2⟩ := nn_of h
  subst e_p2
  have h := hq_p2
  show cW X z1 l1 _ 146 [(8, .int s_0), (0, .ref x0), (1, .ref x1), (2, .int x2), (4, .int x4), (5, .int x5), (6, .int x6), (7, .int x7)] [.int s_0, .int ((x6 * 1200) + x7), .ref p2]
  refine ca_ist T h dX0_tables_2_146 (fun s3 h => ?_)
  refine cw (k_iinc (j := 7) [(7, .int (x7 + 1)), (8, .int s_0), (0, .ref x0), (1, .ref x1), (2, .int x2), (4, .int x4), (5, .int x5), (6, .int x6)] hX dX0_tables_2_147 rfl rfl rfl rfl) ?_
  refine cw (k_goto (tgt := 29) hX dX0_tables_2_150 (by decide)) ?_
  refine cw (k_lv (lv' := [(0, .ref x0), (1, .ref x1), (2, .int x2), (4, .int x4), (5, .int x5), (6, .int x6), (7, .int (x7 + 1))]) [2, 3, 4, 5, 6, 7, 0] rfl) ?_
  exact hk29 _ _ _ _ _ _ _ _ h
theorem FX0_tables_2_b116_ok {X : KC CS} {E : CE} {z : CS} {z0 l0 z1 l1 : Nat} (T : cOK X E cX0_tables_2 RX0 9 none z0 l0 z1 l1) (hR : cRoom X 605 29532) (e : cE_v X E z0 l0 z1 l1 z) {nf : Nat} {k3 : Nat → Nat → Int32 → Int32 → CS → Option CS} (hk3 : ∀ (x0 : Nat) (x1 : Nat) (x2 : Int32) (x4 : Int32) (s : CS), k3 x0 x1 x2 x4 s = some z → cW X z1 l1 s 3 [(0, .ref x0), (1, .ref x1), (2, .int x2), (4, .int x4)] []) {k11 : Nat → Nat → Int32 → Int32 → Int32 → CS → Option CS} (hk11 : ∀ (x0 : Nat) (x1 : Nat) (x2 : Int32) (x4 : Int32) (x5 : Int32) (s : CS), k11 x0 x1 x2 x4 x5 s = some z → cW X z1 l1 s 11 [(0, .ref x0), (1, .ref x1), (2, .int x2), (4, .int x4), (5, .int x5)] []) {k29 : Nat → Nat → Int32 → Int32 → Int32 → Int32 → Int32 → CS → Option CS} (hk29 : ∀ (x0 : Nat) (x1 : Nat) (x2 : Int32) (x4 : Int32) (x5 : Int32) (x6 : Int32) (x7 : Int32) (s : CS), k29 x0 x1 x2 x4 x5 x6 x7 s = some z → cW X z1 l1 s 29 [(0, .ref x0), (1, .ref x1), (2, .int x2), (4, .int x4), (5, .int x5), (6, .int x6), (7, .int x7)] []) {x0 : Nat} {x1 : Nat} {x2 : Int32} {x4 : Int32} {x5 : Int32} {x6 : Int32} {x7 : Int32} {s : CS} (h : FX0_tables_2_b116 nf k3 k11 k29 x0 x1 x2 x4 x5 x6 x7 s = some z) : cW X z1 l1 s 116 [(0, .ref x0), (1, .ref x1), (2, .int x2), (4, .int x4), (5, .int x5), (6, .int x6), (7, .int x7)] [] := by
  unfold FX0_tables_2_b116 at h
  have hX := T.1
  refine cw (k_aload_n hX dX0_tables_2_116 rfl 0 rfl) ?_
  refine cw (k_aload_n hX dX0_tables_2_117 rfl 1 rfl) ?_
  refine cw (k_iload hX dX0_tables_2_118 4 rfl) ?_
  refine cw (k_iload hX dX0_tables_2_120 3 rfl) ?_
  refine cw (k_iload hX dX0_tables_2_122 6 rfl) ?_
  refine cw (k_iload hX dX0_tables_2_124 6 rfl) ?_
  refine cX_X0_269 T met_FX0_takesBy (c_room hR rfl rfl) h rfl dX0_tables_2_126 (fun v2 s1 h => ?_)
  refine cw (k_lv (lv' := [(0, .ref x0), (1, .ref x1), (2, .int x2), (4, .int x4), (5, .int x5), (6, .int x6), (7, .int x7)]) [0, 1, 2, 3, 4, 5, 6] rfl) ?_
  exact FX0_tables_2_b129_ok T hR e hk3 hk11 hk29 h
theorem FX0_tables_2_b29_s_ok {X : KC CS} {E : CE} {z : CS} {z0 l0 z1 l1 : Nat} (T : cOK X E cX0_tables_2 RX0 9 none z0 l0 z1 l1) (hR : cRoom X 605 29532) (e : cE_v X E z0 l0 z1 l1 z) {nf : Nat} {k3 : Nat → Nat → Int32 → Int32 → CS → Option CS} (hk3 : ∀ (x0 : Nat) (x1 : Nat) (x2 : Int32) (x4 : Int32) (s : CS), k3 x0 x1 x2 x4 s = some z → cW X z1 l1 s 3 [(0, .ref x0), (1, .ref x1), (2, .int x2), (4, .int x4)] []) {k11 : Nat → Nat → Int32 → Int32 → Int32 → CS → Option CS} (hk11 : ∀ (x0 : Nat) (x1 : Nat) (x2 : Int32) (x4 : Int32) (x5 : Int32) (s : CS), k11 x0 x1 x2 x4 x5 s = some z → cW X z1 l1 s 11 [(0, .ref x0), (1, .ref x1), (2, .int x2), (4, .int x4), (5, .int x5)] []) {k29 : Nat → Nat → Int32 → Int32 → Int32 → Int32 → Int32 → CS → Option CS} (hk29 : ∀ (x0 : Nat) (x1 : Nat) (x2 : Int32) (x4 : Int32) (x5 : Int32) (x6 : Int32) (x7 : Int32) (s : CS), k29 x0 x1 x2 x4 x5 x6 x7 s = some z → cW X z1 l1 s 29 [(0, .ref x0), (1, .ref x1), (2, .int x2), (4, .int x4), (5, .int x5), (6, .int x6), (7, .int x7)] []) {x0 : Nat} {x1 : Nat} {x2 : Int32} {x4 : Int32} {x5 : Int32} {x6 : Int32} {x7 : Int32} {s : CS} (h : FX0_tables_2_b29_s nf k3 k11 k29 x0 x1 x2 x4 x5 x6 x7 s = some z) : cW X z1 l1 s 29 [(0, .ref x0), (1, .ref x1), (2, .int x2), (4, .int x4), (5, .int x5), (6, .int x6), (7, .int x7)] [] := by
  unfold FX0_tables_2_b29_s at h
  have hX := T.1
  refine cw (k_iload hX dX0_tables_2_29 6 rfl) ?_
  refine cw (k_aload_n hX dX0_tables_2_31 rfl 0 rfl) ?_
  refine cg_X0_35 T h dX0_tables_2_32 (fun r1 h => ?_)
  obtain ⟨p2, e_p2, hq_p2⟩ := nn_of h
  subst e_p2
  have h := hq_p2
  show cW X z1 l1 _ 35 [(0, .ref x0), (1, .ref x1), (2, .int x2), (4, .int x4), (5, .int x5), (6, .int x6), (7, .int x7)] [.ref p2, .int x7]
  refine cg_X0_241 T h dX0_tables_2_35 (fun v3 h => ?_)
  refine c_br h (k_icmp_ge (tgt := 153) hX h dX0_tables_2_38 (by decide)) (fun h => ?_) (fun h => ?_)
  · refine cw (k_iinc (j := 4) [(5, .int (x5 + (-1))), (0, .ref x0), (1, .ref x1), (2, .int x2), (4, .int x4), (6, .int x6), (7, .int x7)] hX dX0_tables_2_153 rfl rfl rfl rfl) ?_
    refine cw (k_goto (tgt := 11) hX dX0_tables_2_156 (by decide)) ?_
    refine cw (k_lv (lv' := [(0, .ref x0), (1, .ref x1), (2, .int x2), (4, .int x4), (5, .int (x5 + (-1)))]) [1, 2, 3, 4, 0] rfl) ?_
    exact hk11 _ _ _ _ _ _ h
  · refine cw (k_aload_n hX dX0_tables_2_41 rfl 0 rfl) ?_
    refine cw (k_iload hX dX0_tables_2_42 4 rfl) ?_
    refine cw (k_iload hX dX0_tables_2_44 3 rfl) ?_
    refine cX_X0_278 T met_FX0_isHome (c_room hR rfl rfl) h rfl dX0_tables_2_46 (fun v4 h => ?_)
    refine c_br h (k_if_eq (tgt := 56) hX h dX0_tables_2_49 (by decide)) (fun h => ?_) (fun h => ?_)
    · refine cw (k_iload hX dX0_tables_2_56 5 rfl) ?_
      refine cw (k_aload_n hX dX0_tables_2_58 rfl 0 rfl) ?_
      refine cg_X0_62 T h dX0_tables_2_59 (fun v5 h => ?_)
      refine c_brn h (k_icmp_ne (tgt := 86) hX h dX0_tables_2_62 (by decide)) (fun h => ?_) (fun h => ?_)
      · refine cw (k_aload_n hX dX0_tables_2_86 rfl 0 rfl) ?_
        refine cg_X0_284 T h dX0_tables_2_87 (fun v6 h => ?_)
        refine c_brn h (k_if_ne (tgt := 116) hX h dX0_tables_2_90 (by decide)) (fun h => ?_) (fun h => ?_)
        · refine cw (k_lv (lv' := [(0, .ref x0), (1, .ref x1), (2, .int x2), (4, .int x4), (5, .int x5), (6, .int x6), (7, .int x7)]) [0, 1, 2, 3, 4, 5, 6] rfl) ?_
          exact FX0_tables_2_b116_ok T hR e hk3 hk11 hk29 h
        · refine cw (k_aload_n hX dX0_tables_2_93 rfl 0 rfl) ?_
          refine cw (k_iload hX dX0_tables_2_94 5 rfl) ?_
          refine cX_X0_222 T met_FX0_isUnknown (c_room hR rfl rfl) h rfl dX0_tables_2_96 (fun v7 h => ?_)
          refine c_br h (k_if_eq (tgt := 116) hX h dX0_tables_2_99 (by decide)) (fun h => ?_) (fun h => ?_)
          · refine cw (k_lv (lv' := [(0, .ref x0), (1, .ref x1), (2, .int x2), (4, .int x4), (5, .int x5), (6, .int x6), (7, .int x7)]) [0, 1, 2, 3, 4, 5, 6] rfl) ?_
            exact FX0_tables_2_b116_ok T hR e hk3 hk11 hk29 h
          · refine cw (k_aload_n hX dX0_tables_2_102 rfl 0 rfl) ?_
            refine cw (k_aload_n hX dX0_tables_2_103 rfl 1 rfl) ?_
            refine cw (k_iload hX dX0_tables_2_104 4 rfl) ?_
            refine cw (k_iload hX dX0_tables_2_106 3 rfl) ?_
            refine cw (k_iload hX dX0_tables_2_108 6 rfl) ?_
            refine cX_X0_287 T met_FX0_takesHidden (c_room hR rfl rfl) h rfl dX0_tables_2_110 (fun v9 s8 h => ?_)
            refine cw (k_goto (tgt := 129) hX dX0_tables_2_113 (by decide)) ?_
            refine cw (k_lv (lv' := [(0, .ref x0), (1, .ref x1), (2, .int x2), (4, .int x4), (5, .int x5), (6, .int x6), (7, .int x7)]) [0, 1, 2, 3, 4, 5, 6] rfl) ?_
            exact FX0_tables_2_b129_ok T hR e hk3 hk11 hk29 h
      · refine cw (k_aload_n hX dX0_tables_2_65 rfl 0 rfl) ?_
        refine cw (k_aload_n hX dX0_tables_2_66 rfl 1 rfl) ?_
        refine cw (k_iload hX dX0_tables_2_67 4 rfl) ?_
        refine cw (k_iload hX dX0_tables_2_69 3 rfl) ?_
        refine cw (k_iload hX dX0_tables_2_71 6 rfl) ?_
        refine cw (k_iload hX dX0_tables_2_73 6 rfl) ?_
        refine cw (k_aload_n hX dX0_tables_2_75 rfl 0 rfl) ?_
        refine cg_X0_281 T h dX0_tables_2_76 (fun v10 h => ?_)
        refine cw (k_iadd hX dX0_tables_2_79) ?_
        refine cX_X0_269 T met_FX0_takesBy (c_room hR rfl rfl) h rfl dX0_tables_2_80 (fun v12 s11 h => ?_)
        refine cw (k_goto (tgt := 129) hX dX0_tables_2_83 (by decide)) ?_
        refine cw (k_lv (lv' := [(0, .ref x0), (1, .ref x1), (2, .int x2), (4, .int x4), (5, .int x5), (6, .int x6), (7, .int x7)]) [0, 1, 2, 3, 4, 5, 6] rfl) ?_
        exact FX0_tables_2_b129_ok T hR e hk3 hk11 hk29 h
    · refine cw (k_iconst (v := 0) hX dX0_tables_2_52 (by decide)) ?_
      refine cw (k_goto (tgt := 129) hX dX0_tables_2_53 (by decide)) ?_
      refine cw (k_lv (lv' := [(0, .ref x0), (1, .ref x1), (2, .int x2), (4, .int x4), (5, .int x5), (6, .int x6), (7, .int x7)]) [0, 1, 2, 3, 4, 5, 6] rfl) ?_
      exact FX0_tables_2_b129_ok T hR e hk3 hk11 hk29 h
theorem FX0_tables_2_b29_ok {X : KC CS} {E : CE} {z : CS} {z0 l0 z1 l1 : Nat} (T : cOK X E cX0_tables_2 RX0 9 none z0 l0 z1 l1) (hR : cRoom X 605 29532) (e : cE_v X E z0 l0 z1 l1 z) {nf : Nat} {k3 : Nat → Nat → Int32 → Int32 → CS → Option CS} (hk3 : ∀ (x0 : Nat) (x1 : Nat) (x2 : Int32) (x4 : Int32) (s : CS), k3 x0 x1 x2 x4 s = some z → cW X z1 l1 s 3 [(0, .ref x0), (1, .ref x1), (2, .int x2), (4, .int x4)] []) {k11 : Nat → Nat → Int32 → Int32 → Int32 → CS → Option CS} (hk11 : ∀ (x0 : Nat) (x1 : Nat) (x2 : Int32) (x4 : Int32) (x5 : Int32) (s : CS), k11 x0 x1 x2 x4 x5 s = some z → cW X z1 l1 s 11 [(0, .ref x0), (1, .ref x1), (2, .int x2), (4, .int x4), (5, .int x5)] []) : ∀ (n : Nat) (x0 : Nat) (x1 : Nat) (x2 : Int32) (x4 : Int32) (x5 : Int32) (x6 : Int32) (x7 : Int32) (s : CS), FX0_tables_2_b29 nf k3 k11 n x0 x1 x2 x4 x5 x6 x7 s = some z → cW X z1 l1 s 29 [(0, .ref x0), (1, .ref x1), (2, .int x2), (4, .int x4), (5, .int x5), (6, .int x6), (7, .int x7)] [] := by
  intro n
  induction n with
  | zero => intro x0 x1 x2 x4 x5 x6 x7 s h; exact (nomatch (show (none : Option CS) = some z from h))
  | succ n ih =>
    intro x0 x1 x2 x4 x5 x6 x7 s h
    have h : FX0_tables_2_b29_s nf k3 k11 (FX0_tables_2_b29 nf k3 k11 n) x0 x1 x2 x4 x5 x6 x7 s = some z := h
    exact FX0_tables_2_b29_s_ok T hR e hk3 hk11 ih h
theorem FX0_tables_2_b11_s_ok {X : KC CS} {E : CE} {z : CS} {z0 l0 z1 l1 : Nat} (T : cOK X E cX0_tables_2 RX0 9 none z0 l0 z1 l1) (hR : cRoom X 605 29532) (e : cE_v X E z0 l0 z1 l1 z) {nf : Nat} {k3 : Nat → Nat → Int32 → Int32 → CS → Option CS} (hk3 : ∀ (x0 : Nat) (x1 : Nat) (x2 : Int32) (x4 : Int32) (s : CS), k3 x0 x1 x2 x4 s = some z → cW X z1 l1 s 3 [(0, .ref x0), (1, .ref x1), (2, .int x2), (4, .int x4)] []) {k11 : Nat → Nat → Int32 → Int32 → Int32 → CS → Option CS} (hk11 : ∀ (x0 : Nat) (x1 : Nat) (x2 : Int32) (x4 : Int32) (x5 : Int32) (s : CS), k11 x0 x1 x2 x4 x5 s = some z → cW X z1 l1 s 11 [(0, .ref x0), (1, .ref x1), (2, .int x2), (4, .int x4), (5, .int x5)] []) {x0 : Nat} {x1 : Nat} {x2 : Int32} {x4 : Int32} {x5 : Int32} {s : CS} (h : FX0_tables_2_b11_s nf k3 k11 x0 x1 x2 x4 x5 s = some z) : cW X z1 l1 s 11 [(0, .ref x0), (1, .ref x1), (2, .int x2), (4, .int x4), (5, .int x5)] [] := by
  unfold FX0_tables_2_b11_s at h
  have hX := T.1
  refine cw (k_iload hX dX0_tables_2_11 4 rfl) ?_
  refine c_br h (k_if_lt (tgt := 159) hX h dX0_tables_2_13 (by decide)) (fun h => ?_) (fun h => ?_)
  · refine cw (k_iinc (j := 3) [(4, .int (x4 + (-1))), (0, .ref x0), (1, .ref x1), (2, .int x2), (5, .int x5)] hX dX0_tables_2_159 rfl rfl rfl rfl) ?_
    refine cw (k_goto (tgt := 3) hX dX0_tables_2_162 (by decide)) ?_
    refine cw (k_lv (lv' := [(0, .ref x0), (1, .ref x1), (2, .int x2), (4, .int (x4 + (-1)))]) [1, 2, 3, 0] rfl) ?_
    exact hk3 _ _ _ _ _ h
  · refine cw (k_iload hX dX0_tables_2_16 3 rfl) ?_
    refine cw (k_bipush (v := 6) hX dX0_tables_2_18 (by decide)) ?_
    refine cw (k_imul hX dX0_tables_2_20) ?_
    refine cw (k_iload hX dX0_tables_2_21 4 rfl) ?_
    refine cw (k_iadd hX dX0_tables_2_23) ?_
    refine c_nm h (fun v1 h => ?_)
    refine cw (k_istore [(6, .int v1), (0, .ref x0), (1, .ref x1), (2, .int x2), (4, .int x4), (5, .int x5)] hX dX0_tables_2_24 rfl rfl) ?_
    refine cw (k_iconst (v := 0) hX dX0_tables_2_26 (by decide)) ?_
    refine cw (k_istore [(7, .int 0), (6, .int v1), (0, .ref x0), (1, .ref x1), (2, .int x2), (4, .int x4), (5, .int x5)] hX dX0_tables_2_27 rfl rfl) ?_
    refine cw (k_lv (lv' := [(0, .ref x0), (1, .ref x1), (2, .int x2), (4, .int x4), (5, .int x5), (6, .int v1), (7, .int 0)]) [2, 3, 4, 5, 6, 1, 0] rfl) ?_
    exact FX0_tables_2_b29_ok T hR e hk3 hk11 _ _ _ _ _ _ _ _ _ h
theorem FX0_tables_2_b11_ok {X : KC CS} {E : CE} {z : CS} {z0 l0 z1 l1 : Nat} (T : cOK X E cX0_tables_2 RX0 9 none z0 l0 z1 l1) (hR : cRoom X 605 29532) (e : cE_v X E z0 l0 z1 l1 z) {nf : Nat} {k3 : Nat → Nat → Int32 → Int32 → CS → Option CS} (hk3 : ∀ (x0 : Nat) (x1 : Nat) (x2 : Int32) (x4 : Int32) (s : CS), k3 x0 x1 x2 x4 s = some z → cW X z1 l1 s 3 [(0, .ref x0), (1, .ref x1), (2, .int x2), (4, .int x4)] []) : ∀ (n : Nat) (x0 : Nat) (x1 : Nat) (x2 : Int32) (x4 : Int32) (x5 : Int32) (s : CS), FX0_tables_2_b11 nf k3 n x0 x1 x2 x4 x5 s = some z → cW X z1 l1 s 11 [(0, .ref x0), (1, .ref x1), (2, .int x2), (4, .int x4), (5, .int x5)] [] := by
  intro n
  induction n with
  | zero => intro x0 x1 x2 x4 x5 s h; exact (nomatch (show (none : Option CS) = some z from h))
  | succ n ih =>
    intro x0 x1 x2 x4 x5 s h
    have h : FX0_tables_2_b11_s nf k3 (FX0_tables_2_b11 nf k3 n) x0 x1 x2 x4 x5 s = some z := h
    exact FX0_tables_2_b11_s_ok T hR e hk3 ih h
theorem FX0_tables_2_b3_s_ok {X : KC CS} {E : CE} {z : CS} {z0 l0 z1 l1 : Nat} (T : cOK X E cX0_tables_2 RX0 9 none z0 l0 z1 l1) (hR : cRoom X 605 29532) (e : cE_v X E z0 l0 z1 l1 z) {nf : Nat} {k3 : Nat → Nat → Int32 → Int32 → CS → Option CS} (hk3 : ∀ (x0 : Nat) (x1 : Nat) (x2 : Int32) (x4 : Int32) (s : CS), k3 x0 x1 x2 x4 s = some z → cW X z1 l1 s 3 [(0, .ref x0), (1, .ref x1), (2, .int x2), (4, .int x4)] []) {x0 : Nat} {x1 : Nat} {x2 : Int32} {x4 : Int32} {s : CS} (h : FX0_tables_2_b3_s nf k3 x0 x1 x2 x4 s = some z) : cW X z1 l1 s 3 [(0, .ref x0), (1, .ref x1), (2, .int x2), (4, .int x4)] [] := by
  unfold FX0_tables_2_b3_s at h
  have hX := T.1
  refine cw (k_iload hX dX0_tables_2_3 3 rfl) ?_
  refine c_br h (k_if_lt (tgt := 165) hX h dX0_tables_2_5 (by decide)) (fun h => ?_) (fun h => ?_)
  · exact c_ret_v T e h dX0_tables_2_165
  · refine cw (k_iload_n hX dX0_tables_2_8 rfl 2 rfl) ?_
    refine cw (k_istore [(5, .int x2), (0, .ref x0), (1, .ref x1), (2, .int x2), (4, .int x4)] hX dX0_tables_2_9 rfl rfl) ?_
    refine cw (k_lv (lv' := [(0, .ref x0), (1, .ref x1), (2, .int x2), (4, .int x4), (5, .int x2)]) [1, 2, 3, 4, 0] rfl) ?_
    exact FX0_tables_2_b11_ok T hR e hk3 _ _ _ _ _ _ _ h
theorem FX0_tables_2_b3_ok {X : KC CS} {E : CE} {z : CS} {z0 l0 z1 l1 : Nat} (T : cOK X E cX0_tables_2 RX0 9 none z0 l0 z1 l1) (hR : cRoom X 605 29532) (e : cE_v X E z0 l0 z1 l1 z) {nf : Nat} : ∀ (n : Nat) (x0 : Nat) (x1 : Nat) (x2 : Int32) (x4 : Int32) (s : CS), FX0_tables_2_b3 nf n x0 x1 x2 x4 s = some z → cW X z1 l1 s 3 [(0, .ref x0), (1, .ref x1), (2, .int x2), (4, .int x4)] [] := by
  intro n
  induction n with
  | zero => intro x0 x1 x2 x4 s h; exact (nomatch (show (none : Option CS) = some z from h))
  | succ n ih =>
    intro x0 x1 x2 x4 s h
    have h : FX0_tables_2_b3_s nf (FX0_tables_2_b3 nf n) x0 x1 x2 x4 s = some z := h
    exact FX0_tables_2_b3_s_ok T hR e ih h
theorem met_FX0_tables_2 {l : Launch} {E : CE} {nf : Nat} : ∀ (x0 : Nat) (x1 : Nat) (x2 : Int32) (x3 : Int32) (s : CS) (z : CS), FX0_tables_2 nf x0 x1 x2 x3 s = some z → (isK s x0 [0] = true ∧ cMet_v l E yX0_tables_2 (ws_ yX0_tables_2 cX0_tables_2 9 none) 605 29532 [.ref x0, .ref x1, .int x2, .int x3] s z) := by
  intro x0 x1 x2 x3 s z h
  unfold FX0_tables_2 at h
  obtain ⟨hm, h⟩ := mz_of h
  obtain ⟨hg, h⟩ := gd_of h
  refine ⟨hg, c_met_v hm (by decide +kernel) rfl (fun X hl hin T hR e => ?_)⟩
  have T : cOK X E cX0_tables_2 RX0 9 none _ _ _ _ := T
  have hX := T.1
  show cW X _ _ s 0 [(0, .ref x0), (1, .ref x1), (2, .int x2), (3, .int x3)] []
  refine cw (k_iload_n hX dX0_tables_2_0 rfl 3 rfl) ?_
  refine cw (k_istore [(4, .int x3), (0, .ref x0), (1, .ref x1), (2, .int x2), (3, .int x3)] hX dX0_tables_2_1 rfl rfl) ?_
  refine cw (k_lv (lv' := [(0, .ref x0), (1, .ref x1), (2, .int x2), (4, .int x3)]) [1, 2, 3, 0] rfl) ?_
  exact FX0_tables_2_b3_ok T hR e _ _ _ _ _ _ h
theorem met_FX0_tables {l : Launch} {E : CE} {nf : Nat} : ∀ (x0 : Nat) (x1 : Int32) (x2 : Int32) (x3 : Int32) (s : CS) (z : CS), FX0_tables nf x0 x1 x2 x3 s = some z → (isK s x0 [0] = true ∧ cMet_v l E yX0_tables (ws_ yX0_tables cX0_tables 4 none) 606 29560 [.ref x0, .int x1, .int x2, .int x3] s z) := by
  intro x0 x1 x2 x3 s z h
  unfold FX0_tables at h
  obtain ⟨hm, h⟩ := mz_of h
  obtain ⟨hg, h⟩ := gd_of h
  refine ⟨hg, c_met_v hm (by decide +kernel) rfl (fun X hl hin T hR e => ?_)⟩
  have T : cOK X E cX0_tables RX0 4 none _ _ _ _ := T
  have hX := T.1
  show cW X _ _ s 0 [(0, .ref x0), (1, .int x1), (2, .int x2), (3, .int x3)] []
  refine cw (k_aload_n hX dX0_tables_0 rfl 0 rfl) ?_
  refine cw (k_iload_n hX dX0_tables_1 rfl 2 rfl) ?_
  refine cp_X0_284 T h dX0_tables_2 (fun s1 h => ?_)
  refine cw (k_aload_n hX dX0_tables_5 rfl 0 rfl) ?_
  refine cw (k_iload_n hX dX0_tables_6 rfl 3 rfl) ?_
  refine cp_X0_237 T h dX0_tables_7 (fun s2 h => ?_)
  refine cw (k_aload_n hX dX0_tables_10 rfl 0 rfl) ?_
  refine cw (k_iconst (v := (-1)) hX dX0_tables_11 (by decide)) ?_
  refine cp_X0_62 T h dX0_tables_12 (fun s3 h => ?_)
  refine cw (k_aload_n hX dX0_tables_15 rfl 0 rfl) ?_
  refine cw (k_aload_n hX dX0_tables_16 rfl 0 rfl) ?_
  refine cg_X0_35 T h dX0_tables_17 (fun r4 h => ?_)
  obtain ⟨p5, e_p5, hq_p5⟩ := nn_of h
  subst e_p5
  have h := hq_p5
  show cW X _ _ _ 20 [(0, .ref x0), (1, .int x1), (2, .int x2), (3, .int x3)] [.ref p5, .ref x0]
  refine cg_X0_291 T h dX0_tables_20 (fun r6 h => ?_)
  refine cw (k_iload_n hX dX0_tables_23 rfl 1 rfl) ?_
  obtain ⟨p7, e_p7, hq_p7⟩ := nn_of h
  subst e_p7
  have h := hq_p7
  show cW X _ _ _ 24 [(0, .ref x0), (1, .int x1), (2, .int x2), (3, .int x3)] [.int x1, .ref p7, .ref x0]
  refine cX_X0_295 T met_FJ2_get (c_room hR rfl rfl) h rfl dX0_tables_24 (fun r8 h => ?_)
  obtain ⟨p9, e_p9, hq_p9⟩ := nn_of h
  subst e_p9
  have h := hq_p9
  show cW X _ _ _ 27 [(0, .ref x0), (1, .int x1), (2, .int x2), (3, .int x3)] [.ref p9, .ref x0]
  obtain ⟨hc_27, h⟩ := gd_of h
  refine cw (cc_X0_252 T hc_27 dX0_tables_27) ?_
  refine cw (k_aload_n hX dX0_tables_30 rfl 0 rfl) ?_
  refine cg_X0_35 T h dX0_tables_31 (fun r10 h => ?_)
  obtain ⟨p11, e_p11, hq_p11⟩ := nn_of h
  subst e_p11
  have h := hq_p11
  show cW X _ _ _ 34 [(0, .ref x0), (1, .int x1), (2, .int x2), (3, .int x3)] [.ref p11, .ref p9, .ref x0]
  refine cg_X0_131 T h dX0_tables_34 (fun v12 h => ?_)
  refine cw (k_iconst (v := 1) hX dX0_tables_37 (by decide)) ?_
  refine cw (k_isub hX dX0_tables_38) ?_
  refine cw (k_aload_n hX dX0_tables_39 rfl 0 rfl) ?_
  refine cg_X0_35 T h dX0_tables_40 (fun r13 h => ?_)
  obtain ⟨p14, e_p14, hq_p14⟩ := nn_of h
  subst e_p14
  have h := hq_p14
  show cW X _ _ _ 43 [(0, .ref x0), (1, .int x1), (2, .int x2), (3, .int x3)] [.ref p14, .int (v12 - 1), .ref p9, .ref x0]
  refine cg_X0_134 T h dX0_tables_43 (fun v15 h => ?_)
  refine cw (k_iconst (v := 1) hX dX0_tables_46 (by decide)) ?_
  refine cw (k_isub hX dX0_tables_47) ?_
  refine cX_X0_301 T met_FX0_tables_2 (c_room hR rfl rfl) h rfl dX0_tables_48 (fun s16 h => ?_)
  exact c_ret_v T e h dX0_tables_51
theorem FX0_choice_b136_ok {X : KC CS} {E : CE} {z : (Int32 × CS)} {z0 l0 z1 l1 : Nat} (T : cOK X E cX0_choice RX0 9 (some .int) z0 l0 z1 l1) (hR : cRoom X 607 29583) (e : cE_i X E z0 l0 z1 l1 z.1 z.2) {nf : Nat} {x0 : Nat} {x7 : Int32} {x8 : Int32} {s : CS} (h : FX0_choice_b136 nf x0 x7 x8 s = some z) : cW X z1 l1 s 136 [(0, .ref x0), (7, .int x7), (8, .int x8)] [] := by
  unfold FX0_choice_b136 at h
  have hX := T.1
  refine cw (k_aload_n hX dX0_choice_136 rfl 0 rfl) ?_
  refine cw (k_iload hX dX0_choice_137 1 rfl) ?_
  refine cw (k_iload hX dX0_choice_139 2 rfl) ?_
  refine cX_X0_260 T met_FX0_better (c_room hR rfl rfl) h rfl dX0_choice_141 (fun v1 h => ?_)
  exact c_ret_i T e h dX0_choice_144
theorem FX0_choice_b82_ok {X : KC CS} {E : CE} {z : (Int32 × CS)} {z0 l0 z1 l1 : Nat} (T : cOK X E cX0_choice RX0 9 (some .int) z0 l0 z1 l1) (hR : cRoom X 607 29583) (e : cE_i X E z0 l0 z1 l1 z.1 z.2) {nf : Nat} {x0 : Nat} {x1 : Int32} {x2 : Int32} {x3 : Int32} {s_0 : Int32} {s : CS} (h : FX0_choice_b82 nf x0 x1 x2 x3 s_0 s = some z) : cW X z1 l1 s 82 [(0, .ref x0), (1, .int x1), (2, .int x2), (3, .int x3)] [.int s_0] := by
  unfold FX0_choice_b82 at h
  have hX := T.1
  refine cw (k_istore [(6, .int s_0), (0, .ref x0), (1, .int x1), (2, .int x2), (3, .int x3)] hX dX0_choice_82 rfl rfl) ?_
  refine cw (k_aload_n hX dX0_choice_84 rfl 1 rfl) ?_
  refine cw (k_iload_n hX dX0_choice_85 rfl 2 rfl) ?_
  refine cw (k_iload_n hX dX0_choice_86 rfl 3 rfl) ?_
  refine cw (k_iconst (v := 0) hX dX0_choice_87 (by decide)) ?_
  refine cw (k_iload_n hX dX0_choice_88 rfl 4 rfl) ?_
  refine cw (k_aload_n hX dX0_choice_89 rfl 1 rfl) ?_
  refine cw (k_iload_n hX dX0_choice_90 rfl 2 rfl) ?_
  refine cw (k_iload_n hX dX0_choice_91 rfl 3 rfl) ?_
  refine cw (k_iconst (v := 0) hX dX0_choice_92 (by decide)) ?_
  refine cw (k_iload hX dX0_choice_93 0 rfl) ?_
  refine cX_X0_191 T met_FX0_waits (c_room hR rfl rfl) h rfl dX0_choice_95 (fun v1 h => ?_)
  refine cX_X0_256 T met_FX0_by (c_room hR rfl rfl) h rfl dX0_choice_98 (fun v2 h => ?_)
  refine cw (k_istore [(7, .int v2), (6, .int s_0), (0, .ref x0), (1, .int x1), (2, .int x2), (3, .int x3)] hX dX0_choice_101 rfl rfl) ?_
  refine cw (k_aload_n hX dX0_choice_103 rfl 2 rfl) ?_
  refine cw (k_iload_n hX dX0_choice_104 rfl 3 rfl) ?_
  refine cw (k_iload_n hX dX0_choice_105 rfl 4 rfl) ?_
  refine cw (k_iconst (v := 1) hX dX0_choice_106 (by decide)) ?_
  refine cw (k_iload_n hX dX0_choice_107 rfl 5 rfl) ?_
  refine cw (k_aload_n hX dX0_choice_108 rfl 2 rfl) ?_
  refine cw (k_iload_n hX dX0_choice_109 rfl 3 rfl) ?_
  refine cw (k_iload_n hX dX0_choice_110 rfl 4 rfl) ?_
  refine cw (k_iconst (v := 1) hX dX0_choice_111 (by decide)) ?_
  refine cw (k_iload hX dX0_choice_112 1 rfl) ?_
  refine cX_X0_191 T met_FX0_waits (c_room hR rfl rfl) h rfl dX0_choice_114 (fun v3 h => ?_)
  refine cX_X0_256 T met_FX0_by (c_room hR rfl rfl) h rfl dX0_choice_117 (fun v4 h => ?_)
  refine cw (k_istore [(8, .int v4), (7, .int v2), (6, .int s_0), (0, .ref x0), (1, .int x1), (2, .int x2), (3, .int x3)] hX dX0_choice_120 rfl rfl) ?_
  refine cw (k_iload hX dX0_choice_122 1 rfl) ?_
  refine c_br h (k_if_ge (tgt := 136) hX h dX0_choice_124 (by decide)) (fun h => ?_) (fun h => ?_)
  · refine cw (k_lv (lv' := [(0, .ref x0), (7, .int v2), (8, .int v4)]) [3, 1, 0] rfl) ?_
    exact FX0_choice_b136_ok T hR e h
  · refine cw (k_iload hX dX0_choice_127 0 rfl) ?_
    refine c_br h (k_if_ge (tgt := 136) hX h dX0_choice_129 (by decide)) (fun h => ?_) (fun h => ?_)
    · refine cw (k_lv (lv' := [(0, .ref x0), (7, .int v2), (8, .int v4)]) [3, 1, 0] rfl) ?_
      exact FX0_choice_b136_ok T hR e h
    · refine cw (k_iconst (v := (-1)) hX dX0_choice_132 (by decide)) ?_
      refine cw (k_goto (tgt := 144) hX dX0_choice_133 (by decide)) ?_
      exact c_ret_i T e h dX0_choice_144
theorem FX0_choice_b60_ok {X : KC CS} {E : CE} {z : (Int32 × CS)} {z0 l0 z1 l1 : Nat} (T : cOK X E cX0_choice RX0 9 (some .int) z0 l0 z1 l1) (hR : cRoom X 607 29583) (e : cE_i X E z0 l0 z1 l1 z.1 z.2) {nf : Nat} {x0 : Nat} {x1 : Int32} {x2 : Int32} {x3 : Int32} {x4 : Int32} {x5 : Int32} {s : CS} (h : FX0_choice_b60 nf x0 x1 x2 x3 x4 x5 s = some z) : cW X z1 l1 s 60 [(0, .ref x0), (1, .int x1), (2, .int x2), (3, .int x3), (4, .int x4), (5, .int x5)] [] := by
  unfold FX0_choice_b60 at h
  have hX := T.1
  refine cw (k_aload_n hX dX0_choice_60 rfl 0 rfl) ?_
  refine cw (k_iconst (v := 3) hX dX0_choice_61 (by decide)) ?_
  refine cw (k_iconst (v := 0) hX dX0_choice_62 (by decide)) ?_
  refine cw (k_iconst (v := 0) hX dX0_choice_63 (by decide)) ?_
  refine cX_X0_305 T met_FX0_tables (c_room hR rfl rfl) h rfl dX0_choice_64 (fun s1 h => ?_)
  refine cw (k_aload_n hX dX0_choice_67 rfl 0 rfl) ?_
  refine cw (k_iload hX dX0_choice_68 5 rfl) ?_
  refine cX_X0_222 T met_FX0_isUnknown (c_room hR rfl rfl) h rfl dX0_choice_70 (fun v2 h => ?_)
  refine c_br h (k_if_eq (tgt := 81) hX h dX0_choice_73 (by decide)) (fun h => ?_) (fun h => ?_)
  · refine cw (k_iload_n hX dX0_choice_81 rfl 3 rfl) ?_
    refine cw (k_lv (lv' := [(0, .ref x0), (1, .int x1), (2, .int x2), (3, .int x3)]) [0, 1, 2, 3] rfl) ?_
    exact FX0_choice_b82_ok T hR e h
  · refine cw (k_iload hX dX0_choice_76 4 rfl) ?_
    refine cw (k_goto (tgt := 82) hX dX0_choice_78 (by decide)) ?_
    refine cw (k_lv (lv' := [(0, .ref x0), (1, .int x1), (2, .int x2), (3, .int x3)]) [0, 1, 2, 3] rfl) ?_
    exact FX0_choice_b82_ok T hR e h
theorem met_FX0_choice {l : Launch} {E : CE} {nf : Nat} : ∀ (x0 : Nat) (x1 : Int32) (x2 : Int32) (x3 : Int32) (x4 : Int32) (s : CS) (z : (Int32 × CS)), FX0_choice nf x0 x1 x2 x3 x4 s = some z → (isK s x0 [0] = true ∧ cMet_i l E yX0_choice (ws_ yX0_choice cX0_choice 9 (some .int)) 607 29583 [.ref x0, .int x1, .int x2, .int x3, .int x4] s z.1 z.2) := by
  intro x0 x1 x2 x3 x4 s z h
  unfold FX0_choice at h
  obtain ⟨hm, h⟩ := mz_of h
  obtain ⟨hg, h⟩ := gd_of h
  refine ⟨hg, c_met_i hm (by decide +kernel) rfl (fun X hl hin T hR e => ?_)⟩
  have T : cOK X E cX0_choice RX0 9 (some .int) _ _ _ _ := T
  have hX := T.1
  show cW X _ _ s 0 [(0, .ref x0), (1, .int x1), (2, .int x2), (3, .int x3), (4, .int x4)] []
  refine cw (k_aload_n hX dX0_choice_0 rfl 0 rfl) ?_
  refine cw (k_iload_n hX dX0_choice_1 rfl 1 rfl) ?_
  refine cw (k_iload_n hX dX0_choice_2 rfl 2 rfl) ?_
  refine cw (k_iload_n hX dX0_choice_3 rfl 3 rfl) ?_
  refine cX_X0_185 T met_FX0_isAsked (c_room hR rfl rfl) h rfl dX0_choice_4 (fun v1 h => ?_)
  refine c_br h (k_if_eq (tgt := 19) hX h dX0_choice_7 (by decide)) (fun h => ?_) (fun h => ?_)
  · refine cw (k_iconst (v := (-1)) hX dX0_choice_19 (by decide)) ?_
    exact c_ret_i T e h dX0_choice_20
  · refine cw (k_aload_n hX dX0_choice_10 rfl 0 rfl) ?_
    refine cw (k_iload_n hX dX0_choice_11 rfl 1 rfl) ?_
    refine cw (k_iload_n hX dX0_choice_12 rfl 2 rfl) ?_
    refine cX_X0_278 T met_FX0_isHome (c_room hR rfl rfl) h rfl dX0_choice_13 (fun v2 h => ?_)
    refine c_br h (k_if_eq (tgt := 21) hX h dX0_choice_16 (by decide)) (fun h => ?_) (fun h => ?_)
    · refine cw (k_iload_n hX dX0_choice_21 rfl 2 rfl) ?_
      refine cw (k_bipush (v := 6) hX dX0_choice_22 (by decide)) ?_
      refine cw (k_imul hX dX0_choice_24) ?_
      refine cw (k_iload_n hX dX0_choice_25 rfl 1 rfl) ?_
      refine cw (k_iadd hX dX0_choice_26) ?_
      refine c_nm h (fun v3 h => ?_)
      refine cw (k_istore [(5, .int v3), (0, .ref x0), (1, .int x1), (2, .int x2), (3, .int x3), (4, .int x4)] hX dX0_choice_27 rfl rfl) ?_
      refine cw (k_aload_n hX dX0_choice_29 rfl 1 rfl) ?_
      refine cw (k_iload hX dX0_choice_30 0 rfl) ?_
      refine cX_X0_222 T met_FX0_isUnknown (c_room hR rfl rfl) h rfl dX0_choice_32 (fun v4 h => ?_)
      refine c_br h (k_if_eq (tgt := 60) hX h dX0_choice_35 (by decide)) (fun h => ?_) (fun h => ?_)
      · refine cw (k_lv (lv' := [(0, .ref x0), (1, .int x1), (2, .int x2), (3, .int x3), (4, .int x4), (5, .int v3)]) [1, 2, 3, 4, 5, 0] rfl) ?_
        exact FX0_choice_b60_ok T hR e h
      · refine cw (k_iload hX dX0_choice_38 5 rfl) ?_
        refine cw (k_iconst (v := 0) hX dX0_choice_40 (by decide)) ?_
        refine cw (k_aload_n hX dX0_choice_41 rfl 1 rfl) ?_
        refine cw (k_iload_n hX dX0_choice_42 rfl 2 rfl) ?_
        refine cw (k_iload_n hX dX0_choice_43 rfl 3 rfl) ?_
        refine cX_X0_140 T met_FX0_lightAt (c_room hR rfl rfl) h rfl dX0_choice_44 (fun r5 h => ?_)
        obtain ⟨p6, e_p6, hq_p6⟩ := nn_of h
        subst e_p6
        have h := hq_p6
        show cW X _ _ _ 47 [(5, .int v3), (0, .ref x0), (1, .int x1), (2, .int x2), (3, .int x3), (4, .int x4)] [.ref p6, .int 0, .int x4]
        refine cg_X0_160 T h dX0_choice_47 (fun v7 h => ?_)
        refine cw (k_iconst (v := 1) hX dX0_choice_50 (by decide)) ?_
        refine cw (k_isub hX dX0_choice_51) ?_
        refine cX_X0_127 T met_FX0_in (c_room hR rfl rfl) h rfl dX0_choice_52 (fun v8 h => ?_)
        refine c_brn h (k_if_ne (tgt := 60) hX h dX0_choice_55 (by decide)) (fun h => ?_) (fun h => ?_)
        · refine cw (k_lv (lv' := [(0, .ref x0), (1, .int x1), (2, .int x2), (3, .int x3), (4, .int x4), (5, .int v3)]) [1, 2, 3, 4, 5, 0] rfl) ?_
          exact FX0_choice_b60_ok T hR e h
        · refine cw (k_iconst (v := (-1)) hX dX0_choice_58 (by decide)) ?_
          exact c_ret_i T e h dX0_choice_59
    · refine cw (k_iconst (v := (-1)) hX dX0_choice_19 (by decide)) ?_
      exact c_ret_i T e h dX0_choice_20
theorem met_FX0_comesAt {l : Launch} {E : CE} {s : CS} : ∀ (x0 : Nat) (x1 : Int32) (x2 : Int32) (x3 : Int32) (x4 : Int32) (z : Int32), FX0_comesAt s x0 x1 x2 x3 x4 = some z → (isK s x0 [0] = true ∧ cMet_i l E yX0_comesAt (ws_ yX0_comesAt cX0_comesAt 5 (some .int)) 0 0 [.ref x0, .int x1, .int x2, .int x3, .int x4] s z s) := by
  intro x0 x1 x2 x3 x4 z h
  unfold FX0_comesAt at h
  obtain ⟨hg, h⟩ := gd_of h
  refine ⟨hg, c_met_i ⟨Nat.le_refl _, Nat.le_refl _⟩ (by decide +kernel) rfl (fun X hl hin T hR e => ?_)⟩
  have T : cOK X E cX0_comesAt RX0 5 (some .int) _ _ _ _ := T
  have hX := T.1
  show cW X _ _ s 0 [(0, .ref x0), (1, .int x1), (2, .int x2), (3, .int x3), (4, .int x4)] []
  refine cw (k_iload_n hX dX0_comesAt_0 rfl 2 rfl) ?_
  refine cw (k_bipush (v := 6) hX dX0_comesAt_1 (by decide)) ?_
  refine cw (k_imul hX dX0_comesAt_3) ?_
  refine cw (k_iload_n hX dX0_comesAt_4 rfl 1 rfl) ?_
  refine cw (k_iadd hX dX0_comesAt_5) ?_
  refine cw (k_iconst (v := 2) hX dX0_comesAt_6 (by decide)) ?_
  refine cw (k_imul hX dX0_comesAt_7) ?_
  refine cw (k_iload_n hX dX0_comesAt_8 rfl 3 rfl) ?_
  refine cw (k_iadd hX dX0_comesAt_9) ?_
  refine cw (k_bipush (v := 13) hX dX0_comesAt_10 (by decide)) ?_
  refine cw (k_imul hX dX0_comesAt_12) ?_
  refine cw (k_iload hX dX0_comesAt_13 4 rfl) ?_
  refine cw (k_iadd hX dX0_comesAt_15) ?_
  exact c_ret_ir T e h dX0_comesAt_16
theorem FX0_lights_b4_s_ok {X : KC CS} {E : CE} {z : Int32} {z0 l0 z1 l1 : Nat} {s : CS} (T : cOK X E cX0_lights RX0 3 (some .int) z0 l0 z1 l1) (hR : cRoom X 0 0) (e : cE_i X E z0 l0 z1 l1 z s) {nf : Nat} {k4 : Nat → Int32 → Int32 → Option Int32} (hk4 : ∀ (x0 : Nat) (x1 : Int32) (x2 : Int32), k4 x0 x1 x2 = some z → cW X z1 l1 s 4 [(0, .ref x0), (1, .int x1), (2, .int x2)] []) {x0 : Nat} {x1 : Int32} {x2 : Int32} (h : FX0_lights_b4_s nf s k4 x0 x1 x2 = some z) : cW X z1 l1 s 4 [(0, .ref x0), (1, .int x1), (2, .int x2)] [] := by
  unfold FX0_lights_b4_s at h
  have hX := T.1
  refine cw (k_iload_n hX dX0_lights_4 rfl 2 rfl) ?_
  refine cw (k_bipush (v := 54) hX dX0_lights_5 (by decide)) ?_
  refine c_br h (k_icmp_ge (tgt := 31) hX h dX0_lights_7 (by decide)) (fun h => ?_) (fun h => ?_)
  · refine cw (k_iload_n hX dX0_lights_31 rfl 1 rfl) ?_
    exact c_ret_ir T e h dX0_lights_32
  · refine cw (k_aload_n hX dX0_lights_10 rfl 0 rfl) ?_
    refine cg_X0_35 T h dX0_lights_11 (fun r1 h => ?_)
    obtain ⟨p2, e_p2, hq_p2⟩ := nn_of h
    subst e_p2
    have h := hq_p2
    show cW X z1 l1 _ 14 [(0, .ref x0), (1, .int x1), (2, .int x2)] [.ref p2]
    refine cg_X0_122 T h dX0_lights_14 (fun r3 h => ?_)
    refine cw (k_iload_n hX dX0_lights_17 rfl 2 rfl) ?_
    obtain ⟨p4, e_p4, hq_p4⟩ := nn_of h
    subst e_p4
    have h := hq_p4
    show cW X z1 l1 _ 18 [(0, .ref x0), (1, .int x1), (2, .int x2)] [.int x2, .ref p4]
    refine ca_qld104 T h dX0_lights_18 (fun r5 h => ?_)
    rcases r5 with _ | p6
    · replace h := nul_n h
      show cW X z1 l1 _ 19 [(0, .ref x0), (1, .int x1), (2, .int x2)] [.null]
      refine cw (k_ifnullN (tgt := 25) hX dX0_lights_19 (by decide)) ?_
      refine cw (k_iinc (j := 2) [(2, .int (x2 + 1)), (0, .ref x0), (1, .int x1)] hX dX0_lights_25 rfl rfl rfl rfl) ?_
      refine cw (k_goto (tgt := 4) hX dX0_lights_28 (by decide)) ?_
      refine cw (k_lv (lv' := [(0, .ref x0), (1, .int x1), (2, .int (x2 + 1))]) [1, 2, 0] rfl) ?_
      exact hk4 _ _ _ h
    · replace h := nul_s h
      show cW X z1 l1 _ 19 [(0, .ref x0), (1, .int x1), (2, .int x2)] [.ref p6]
      refine cw (k_ifnullS hX dX0_lights_19) ?_
      refine cw (k_iinc (j := 1) [(1, .int (x1 + 1)), (0, .ref x0), (2, .int x2)] hX dX0_lights_22 rfl rfl rfl rfl) ?_
      refine cw (k_iinc (j := 2) [(2, .int (x2 + 1)), (1, .int (x1 + 1)), (0, .ref x0)] hX dX0_lights_25 rfl rfl rfl rfl) ?_
      refine cw (k_goto (tgt := 4) hX dX0_lights_28 (by decide)) ?_
      refine cw (k_lv (lv' := [(0, .ref x0), (1, .int (x1 + 1)), (2, .int (x2 + 1))]) [2, 1, 0] rfl) ?_
      exact hk4 _ _ _ h
theorem FX0_lights_b4_ok {X : KC CS} {E : CE} {z : Int32} {z0 l0 z1 l1 : Nat} {s : CS} (T : cOK X E cX0_lights RX0 3 (some .int) z0 l0 z1 l1) (hR : cRoom X 0 0) (e : cE_i X E z0 l0 z1 l1 z s) {nf : Nat} : ∀ (n : Nat) (x0 : Nat) (x1 : Int32) (x2 : Int32), FX0_lights_b4 nf s n x0 x1 x2 = some z → cW X z1 l1 s 4 [(0, .ref x0), (1, .int x1), (2, .int x2)] [] := by
  intro n
  induction n with
  | zero => intro x0 x1 x2 h; exact (nomatch (show (none : Option Int32) = some z from h))
  | succ n ih =>
    intro x0 x1 x2 h
    have h : FX0_lights_b4_s nf s (FX0_lights_b4 nf s n) x0 x1 x2 = some z := h
    exact FX0_lights_b4_s_ok T hR e ih h
theorem met_FX0_lights {l : Launch} {E : CE} {nf : Nat} {s : CS} : ∀ (x0 : Nat) (z : Int32), FX0_lights nf s x0 = some z → (isK s x0 [0] = true ∧ cMet_i l E yX0_lights (ws_ yX0_lights cX0_lights 3 (some .int)) 0 0 [.ref x0] s z s) := by
  intro x0 z h
  unfold FX0_lights at h
  obtain ⟨hg, h⟩ := gd_of h
  refine ⟨hg, c_met_i ⟨Nat.le_refl _, Nat.le_refl _⟩ (by decide +kernel) rfl (fun X hl hin T hR e => ?_)⟩
  have T : cOK X E cX0_lights RX0 3 (some .int) _ _ _ _ := T
  have hX := T.1
  show cW X _ _ s 0 [(0, .ref x0)] []
  refine cw (k_iconst (v := 0) hX dX0_lights_0 (by decide)) ?_
  refine cw (k_istore_n [(1, .int 0), (0, .ref x0)] hX dX0_lights_1 rfl rfl rfl) ?_
  refine cw (k_iconst (v := 0) hX dX0_lights_2 (by decide)) ?_
  refine cw (k_istore_n [(2, .int 0), (1, .int 0), (0, .ref x0)] hX dX0_lights_3 rfl rfl rfl) ?_
  refine cw (k_lv (lv' := [(0, .ref x0), (1, .int 0), (2, .int 0)]) [2, 1, 0] rfl) ?_
  exact FX0_lights_b4_ok T hR e _ _ _ _ h
theorem FX0_unknown_b4_s_ok {X : KC CS} {E : CE} {z : Int32} {z0 l0 z1 l1 : Nat} {s : CS} (T : cOK X E cX0_unknown RX0 3 (some .int) z0 l0 z1 l1) (hR : cRoom X 2 41) (e : cE_i X E z0 l0 z1 l1 z s) {nf : Nat} {k4 : Nat → Int32 → Int32 → Option Int32} (hk4 : ∀ (x0 : Nat) (x1 : Int32) (x2 : Int32), k4 x0 x1 x2 = some z → cW X z1 l1 s 4 [(0, .ref x0), (1, .int x1), (2, .int x2)] []) {x0 : Nat} {x1 : Int32} {x2 : Int32} (h : FX0_unknown_b4_s nf s k4 x0 x1 x2 = some z) : cW X z1 l1 s 4 [(0, .ref x0), (1, .int x1), (2, .int x2)] [] := by
  unfold FX0_unknown_b4_s at h
  have hX := T.1
  refine cw (k_iload_n hX dX0_unknown_4 rfl 2 rfl) ?_
  refine cw (k_bipush (v := 54) hX dX0_unknown_5 (by decide)) ?_
  refine c_br h (k_icmp_ge (tgt := 27) hX h dX0_unknown_7 (by decide)) (fun h => ?_) (fun h => ?_)
  · refine cw (k_iload_n hX dX0_unknown_27 rfl 1 rfl) ?_
    exact c_ret_ir T e h dX0_unknown_28
  · refine cw (k_aload_n hX dX0_unknown_10 rfl 0 rfl) ?_
    refine cw (k_iload_n hX dX0_unknown_11 rfl 2 rfl) ?_
    refine cX_X0_222 T met_FX0_isUnknown (c_room hR rfl rfl) h rfl dX0_unknown_12 (fun v1 h => ?_)
    refine c_br h (k_if_eq (tgt := 21) hX h dX0_unknown_15 (by decide)) (fun h => ?_) (fun h => ?_)
    · refine cw (k_iinc (j := 2) [(2, .int (x2 + 1)), (0, .ref x0), (1, .int x1)] hX dX0_unknown_21 rfl rfl rfl rfl) ?_
      refine cw (k_goto (tgt := 4) hX dX0_unknown_24 (by decide)) ?_
      refine cw (k_lv (lv' := [(0, .ref x0), (1, .int x1), (2, .int (x2 + 1))]) [1, 2, 0] rfl) ?_
      exact hk4 _ _ _ h
    · refine cw (k_iinc (j := 1) [(1, .int (x1 + 1)), (0, .ref x0), (2, .int x2)] hX dX0_unknown_18 rfl rfl rfl rfl) ?_
      refine cw (k_iinc (j := 2) [(2, .int (x2 + 1)), (1, .int (x1 + 1)), (0, .ref x0)] hX dX0_unknown_21 rfl rfl rfl rfl) ?_
      refine cw (k_goto (tgt := 4) hX dX0_unknown_24 (by decide)) ?_
      refine cw (k_lv (lv' := [(0, .ref x0), (1, .int (x1 + 1)), (2, .int (x2 + 1))]) [2, 1, 0] rfl) ?_
      exact hk4 _ _ _ h
theorem FX0_unknown_b4_ok {X : KC CS} {E : CE} {z : Int32} {z0 l0 z1 l1 : Nat} {s : CS} (T : cOK X E cX0_unknown RX0 3 (some .int) z0 l0 z1 l1) (hR : cRoom X 2 41) (e : cE_i X E z0 l0 z1 l1 z s) {nf : Nat} : ∀ (n : Nat) (x0 : Nat) (x1 : Int32) (x2 : Int32), FX0_unknown_b4 nf s n x0 x1 x2 = some z → cW X z1 l1 s 4 [(0, .ref x0), (1, .int x1), (2, .int x2)] [] := by
  intro n
  induction n with
  | zero => intro x0 x1 x2 h; exact (nomatch (show (none : Option Int32) = some z from h))
  | succ n ih =>
    intro x0 x1 x2 h
    have h : FX0_unknown_b4_s nf s (FX0_unknown_b4 nf s n) x0 x1 x2 = some z := h
    exact FX0_unknown_b4_s_ok T hR e ih h
theorem met_FX0_unknown {l : Launch} {E : CE} {nf : Nat} {s : CS} : ∀ (x0 : Nat) (z : Int32), FX0_unknown nf s x0 = some z → (isK s x0 [0] = true ∧ cMet_i l E yX0_unknown (ws_ yX0_unknown cX0_unknown 3 (some .int)) 2 41 [.ref x0] s z s) := by
  intro x0 z h
  unfold FX0_unknown at h
  obtain ⟨hg, h⟩ := gd_of h
  refine ⟨hg, c_met_i ⟨Nat.le_refl _, Nat.le_refl _⟩ (by decide +kernel) rfl (fun X hl hin T hR e => ?_)⟩
  have T : cOK X E cX0_unknown RX0 3 (some .int) _ _ _ _ := T
  have hX := T.1
  show cW X _ _ s 0 [(0, .ref x0)] []
  refine cw (k_iconst (v := 0) hX dX0_unknown_0 (by decide)) ?_
  refine cw (k_istore_n [(1, .int 0), (0, .ref x0)] hX dX0_unknown_1 rfl rfl rfl) ?_
  refine cw (k_iconst (v := 0) hX dX0_unknown_2 (by decide)) ?_
  refine cw (k_istore_n [(2, .int 0), (1, .int 0), (0, .ref x0)] hX dX0_unknown_3 rfl rfl rfl) ?_
  refine cw (k_lv (lv' := [(0, .ref x0), (1, .int 0), (2, .int 0)]) [2, 1, 0] rfl) ?_
  exact FX0_unknown_b4_ok T hR e _ _ _ _ h
theorem met_FX0_count {l : Launch} {E : CE} {nf : Nat} {s : CS} : ∀ (x0 : Nat) (x1 : Int32) (z : Int32), FX0_count nf s x0 x1 = some z → (isK s x0 [0] = true ∧ cMet_i l E yX0_count (ws_ yX0_count cX0_count 2 (some .int)) 3 63 [.ref x0, .int x1] s z s) := by
  intro x0 x1 z h
  unfold FX0_count at h
  obtain ⟨hg, h⟩ := gd_of h
  refine ⟨hg, c_met_i ⟨Nat.le_refl _, Nat.le_refl _⟩ (by decide +kernel) rfl (fun X hl hin T hR e => ?_)⟩
  have T : cOK X E cX0_count RX0 2 (some .int) _ _ _ _ := T
  have hX := T.1
  show cW X _ _ s 0 [(0, .ref x0), (1, .int x1)] []
  refine cw (k_iload_n hX dX0_count_0 rfl 1 rfl) ?_
  refine k_sw (c := 0) h (fun c_0 h => ?_) (fun c_0 h => ?_)
  · refine cw (k_tabEq (tgt := 76) c_0 hX dX0_count_1 (by decide) (by decide) rfl (by decide)) ?_
    refine cw (k_aload_n hX dX0_count_76 rfl 0 rfl) ?_
    refine cg_X0_35 T h dX0_count_77 (fun r1 h => ?_)
    obtain ⟨p2, e_p2, hq_p2⟩ := nn_of h
    subst e_p2
    have h := hq_p2
    show cW X _ _ _ 80 [(0, .ref x0), (1, .int x1)] [.ref p2]
    refine cg_X0_131 T h dX0_count_80 (fun v3 h => ?_)
    exact c_ret_ir T e h dX0_count_83
  refine k_sw (c := 1) h (fun c_1 h => ?_) (fun c_1 h => ?_)
  · refine cw (k_tabEq (tgt := 84) c_1 hX dX0_count_1 (by decide) (by decide) rfl (by decide)) ?_
    refine cw (k_aload_n hX dX0_count_84 rfl 0 rfl) ?_
    refine cg_X0_35 T h dX0_count_85 (fun r4 h => ?_)
    obtain ⟨p5, e_p5, hq_p5⟩ := nn_of h
    subst e_p5
    have h := hq_p5
    show cW X _ _ _ 88 [(0, .ref x0), (1, .int x1)] [.ref p5]
    refine cg_X0_134 T h dX0_count_88 (fun v6 h => ?_)
    exact c_ret_ir T e h dX0_count_91
  refine k_sw (c := 2) h (fun c_2 h => ?_) (fun c_2 h => ?_)
  · refine cw (k_tabEq (tgt := 92) c_2 hX dX0_count_1 (by decide) (by decide) rfl (by decide)) ?_
    refine cw (k_aload_n hX dX0_count_92 rfl 0 rfl) ?_
    refine cX_X0_460 T met_FX0_lights (c_room hR rfl rfl) h rfl dX0_count_93 (fun v7 h => ?_)
    exact c_ret_ir T e h dX0_count_96
  refine k_sw (c := 3) h (fun c_3 h => ?_) (fun c_3 h => ?_)
  · refine cw (k_tabEq (tgt := 97) c_3 hX dX0_count_1 (by decide) (by decide) rfl (by decide)) ?_
    refine cw (k_aload_n hX dX0_count_97 rfl 0 rfl) ?_
    refine cg_X0_35 T h dX0_count_98 (fun r8 h => ?_)
    obtain ⟨p9, e_p9, hq_p9⟩ := nn_of h
    subst e_p9
    have h := hq_p9
    show cW X _ _ _ 101 [(0, .ref x0), (1, .int x1)] [.ref p9]
    refine cg_X0_345 T h dX0_count_101 (fun r10 h => ?_)
    obtain ⟨p11, e_p11, hq_p11⟩ := nn_of h
    subst e_p11
    have h := hq_p11
    show cW X _ _ _ 104 [(0, .ref x0), (1, .int x1)] [.ref p11]
    refine cX_X0_326 T met_FJ2_size (c_room hR rfl rfl) h rfl dX0_count_104 (fun v12 h => ?_)
    exact c_ret_ir T e h dX0_count_107
  refine k_sw (c := 4) h (fun c_4 h => ?_) (fun c_4 h => ?_)
  · refine cw (k_tabEq (tgt := 108) c_4 hX dX0_count_1 (by decide) (by decide) rfl (by decide)) ?_
    refine cw (k_aload_n hX dX0_count_108 rfl 0 rfl) ?_
    refine cg_X0_42 T h dX0_count_109 (fun r13 h => ?_)
    obtain ⟨p14, e_p14, hq_p14⟩ := nn_of h
    subst e_p14
    have h := hq_p14
    show cW X _ _ _ 112 [(0, .ref x0), (1, .int x1)] [.ref p14]
    refine cg_X0_225 T h dX0_count_112 (fun v15 h => ?_)
    exact c_ret_ir T e h dX0_count_115
  refine k_sw (c := 5) h (fun c_5 h => ?_) (fun c_5 h => ?_)
  · refine cw (k_tabEq (tgt := 116) c_5 hX dX0_count_1 (by decide) (by decide) rfl (by decide)) ?_
    refine cw (k_aload_n hX dX0_count_116 rfl 0 rfl) ?_
    refine cg_X0_49 T h dX0_count_117 (fun r16 h => ?_)
    obtain ⟨p17, e_p17, hq_p17⟩ := nn_of h
    subst e_p17
    have h := hq_p17
    show cW X _ _ _ 120 [(0, .ref x0), (1, .int x1)] [.ref p17]
    refine cg_X0_197 T h dX0_count_120 (fun v18 h => ?_)
    exact c_ret_ir T e h dX0_count_123
  refine k_sw (c := 6) h (fun c_6 h => ?_) (fun c_6 h => ?_)
  · refine cw (k_tabEq (tgt := 124) c_6 hX dX0_count_1 (by decide) (by decide) rfl (by decide)) ?_
    refine cw (k_aload_n hX dX0_count_124 rfl 0 rfl) ?_
    refine cg_X0_49 T h dX0_count_125 (fun r19 h => ?_)
    obtain ⟨p20, e_p20, hq_p20⟩ := nn_of h
    subst e_p20
    have h := hq_p20
    show cW X _ _ _ 128 [(0, .ref x0), (1, .int x1)] [.ref p20]
    refine cg_X0_200 T h dX0_count_128 (fun v21 h => ?_)
    exact c_ret_ir T e h dX0_count_131
  refine k_sw (c := 7) h (fun c_7 h => ?_) (fun c_7 h => ?_)
  · refine cw (k_tabEq (tgt := 132) c_7 hX dX0_count_1 (by decide) (by decide) rfl (by decide)) ?_
    refine cw (k_aload_n hX dX0_count_132 rfl 0 rfl) ?_
    refine cg_X0_49 T h dX0_count_133 (fun r22 h => ?_)
    obtain ⟨p23, e_p23, hq_p23⟩ := nn_of h
    subst e_p23
    have h := hq_p23
    show cW X _ _ _ 136 [(0, .ref x0), (1, .int x1)] [.ref p23]
    refine cg_X0_203 T h dX0_count_136 (fun v24 h => ?_)
    exact c_ret_ir T e h dX0_count_139
  refine k_sw (c := 8) h (fun c_8 h => ?_) (fun c_8 h => ?_)
  · refine cw (k_tabEq (tgt := 140) c_8 hX dX0_count_1 (by decide) (by decide) rfl (by decide)) ?_
    refine cw (k_aload_n hX dX0_count_140 rfl 0 rfl) ?_
    refine cg_X0_35 T h dX0_count_141 (fun r25 h => ?_)
    obtain ⟨p26, e_p26, hq_p26⟩ := nn_of h
    subst e_p26
    have h := hq_p26
    show cW X _ _ _ 144 [(0, .ref x0), (1, .int x1)] [.ref p26]
    refine cX_X0_209 T met_FX2_runs (c_room hR rfl rfl) h rfl dX0_count_144 (fun v27 h => ?_)
    refine cw (k_aload_n hX dX0_count_147 rfl 0 rfl) ?_
    refine cg_X0_49 T h dX0_count_148 (fun r28 h => ?_)
    obtain ⟨p29, e_p29, hq_p29⟩ := nn_of h
    subst e_p29
    have h := hq_p29
    show cW X _ _ _ 151 [(0, .ref x0), (1, .int x1)] [.ref p29, .int v27]
    refine cg_X0_206 T h dX0_count_151 (fun v30 h => ?_)
    refine cw (k_isub hX dX0_count_154) ?_
    exact c_ret_ir T e h dX0_count_155
  refine k_sw (c := 9) h (fun c_9 h => ?_) (fun c_9 h => ?_)
  · refine cw (k_tabEq (tgt := 156) c_9 hX dX0_count_1 (by decide) (by decide) rfl (by decide)) ?_
    refine cw (k_aload_n hX dX0_count_156 rfl 0 rfl) ?_
    refine cX_X0_463 T met_FX0_unknown (c_room hR rfl rfl) h rfl dX0_count_157 (fun v31 h => ?_)
    exact c_ret_ir T e h dX0_count_160
  refine k_sw (c := 10) h (fun c_10 h => ?_) (fun c_10 h => ?_)
  · refine cw (k_tabEq (tgt := 161) c_10 hX dX0_count_1 (by decide) (by decide) rfl (by decide)) ?_
    refine cw (k_aload_n hX dX0_count_161 rfl 0 rfl) ?_
    refine cg_X0_49 T h dX0_count_162 (fun r32 h => ?_)
    obtain ⟨p33, e_p33, hq_p33⟩ := nn_of h
    subst e_p33
    have h := hq_p33
    show cW X _ _ _ 165 [(0, .ref x0), (1, .int x1)] [.ref p33]
    refine cg_X0_376 T h dX0_count_165 (fun v34 h => ?_)
    exact c_ret_ir T e h dX0_count_168
  refine k_sw (c := 11) h (fun c_11 h => ?_) (fun c_11 h => ?_)
  · refine cw (k_tabEq (tgt := 169) c_11 hX dX0_count_1 (by decide) (by decide) rfl (by decide)) ?_
    refine cw (k_aload_n hX dX0_count_169 rfl 0 rfl) ?_
    refine cg_X0_49 T h dX0_count_170 (fun r35 h => ?_)
    obtain ⟨p36, e_p36, hq_p36⟩ := nn_of h
    subst e_p36
    have h := hq_p36
    show cW X _ _ _ 173 [(0, .ref x0), (1, .int x1)] [.ref p36]
    refine cg_X0_410 T h dX0_count_173 (fun v37 h => ?_)
    exact c_ret_ir T e h dX0_count_176
  refine k_sw (c := 12) h (fun c_12 h => ?_) (fun c_12 h => ?_)
  · refine cw (k_tabEq (tgt := 177) c_12 hX dX0_count_1 (by decide) (by decide) rfl (by decide)) ?_
    refine cw (k_aload_n hX dX0_count_177 rfl 0 rfl) ?_
    refine cg_X0_35 T h dX0_count_178 (fun r38 h => ?_)
    obtain ⟨p39, e_p39, hq_p39⟩ := nn_of h
    subst e_p39
    have h := hq_p39
    show cW X _ _ _ 181 [(0, .ref x0), (1, .int x1)] [.ref p39]
    refine cg_X0_241 T h dX0_count_181 (fun v40 h => ?_)
    exact c_ret_ir T e h dX0_count_184
  refine k_sw (c := 13) h (fun c_13 h => ?_) (fun c_13 h => ?_)
  · refine cw (k_tabEq (tgt := 185) c_13 hX dX0_count_1 (by decide) (by decide) rfl (by decide)) ?_
    refine cw (k_aload_n hX dX0_count_185 rfl 0 rfl) ?_
    refine cg_X0_116 T h dX0_count_186 (fun v41 h => ?_)
    exact c_ret_ir T e h dX0_count_189
  refine k_sw (c := 14) h (fun c_14 h => ?_) (fun c_14 h => ?_)
  · refine cw (k_tabEq (tgt := 190) c_14 hX dX0_count_1 (by decide) (by decide) rfl (by decide)) ?_
    refine cw (k_aload_n hX dX0_count_190 rfl 0 rfl) ?_
    refine cg_X0_96 T h dX0_count_191 (fun v42 h => ?_)
    exact c_ret_ir T e h dX0_count_194
  refine cw (k_tabOut (tgt := 195) hX dX0_count_1 (tab_out (lo := 0) (hi := 14) [0, 1, 2, 3, 4, 5, 6, 7, 8, 9, 10, 11, 12, 13, 14] (by simp only [List.forall_mem_cons]; exact ⟨c_0, c_1, c_2, c_3, c_4, c_5, c_6, c_7, c_8, c_9, c_10, c_11, c_12, c_13, c_14, fun _ h => absurd h List.not_mem_nil⟩) (by decide)) (by decide)) ?_
  refine cw (k_iconst (v := (-1)) hX dX0_count_195 (by decide)) ?_
  exact c_ret_ir T e h dX0_count_196
theorem met_FX0_gcd_2_s {l : Launch} {E : CE} {rc : Int64 → Int64 → Option Int64} {Fr Lr : Nat} {s : CS} (hrc : ∀ (a0 : Int64) (a1 : Int64) (v : Int64), rc a0 a1 = some v → cMet_l l E yX0_gcd_2 (ws_ yX0_gcd_2 cX0_gcd_2 4 (some .long)) Fr Lr [.long a0, .long a1] s v s) (hN : 0 ≤ Fr) (hM : 0 ≤ Lr) : ∀ (x0 : Int64) (x2 : Int64) (z : Int64), FX0_gcd_2_s rc s x0 x2 = some z → cMet_l l E yX0_gcd_2 (ws_ yX0_gcd_2 cX0_gcd_2 4 (some .long)) (Fr + 1) (Lr + 49) [.long x0, .long x2] s z s := by
  intro x0 x2 z h
  unfold FX0_gcd_2_s at h
  refine c_met_l ⟨Nat.le_refl _, Nat.le_refl _⟩ (by decide +kernel) rfl (fun X hl hin T hR e => ?_)
  have T : cOK X E cX0_gcd_2 RX0 4 (some .long) _ _ _ _ := T
  have hX := T.1
  show cW X _ _ s 0 [(0, .long x0), (2, .long x2)] []
  subst hl
  refine cw (k_lload_n hX dX0_gcd_2_0 rfl 1 rfl) ?_
  refine cw (k_lconst (v := 0) hX dX0_gcd_2_1 (by decide)) ?_
  refine c_brn h (k_lcmp_ne (tgt := 10) hX h dX0_gcd_2_2 dX0_gcd_2_3 (by decide)) (fun h => ?_) (fun h => ?_)
  · refine cw (k_lload_n hX dX0_gcd_2_10 rfl 1 rfl) ?_
    refine cw (k_lload_n hX dX0_gcd_2_11 rfl 0 rfl) ?_
    refine cw (k_lload_n hX dX0_gcd_2_12 rfl 1 rfl) ?_
    refine c_d64 h (k_lrem hX h dX0_gcd_2_13) (fun h => ?_)
    refine cX_X0_9 T hrc (c_roomo hR (by omega) (by omega)) h rfl dX0_gcd_2_14 (fun v1 h => ?_)
    exact c_ret_lr T e h dX0_gcd_2_17
  · refine cw (k_lload_n hX dX0_gcd_2_6 rfl 0 rfl) ?_
    refine cw (k_goto (tgt := 17) hX dX0_gcd_2_7 (by decide)) ?_
    exact c_ret_lr T e h dX0_gcd_2_17
theorem met_FX0_gcd_2 {l : Launch} {E : CE} {s : CS} : ∀ (dp : Nat) (x0 : Int64) (x2 : Int64) (z : Int64), FX0_gcd_2 s dp x0 x2 = some z → cMet_l l E yX0_gcd_2 (ws_ yX0_gcd_2 cX0_gcd_2 4 (some .long)) (1 * dp + 0) (49 * dp + 0) [.long x0, .long x2] s z s := by
  intro dp
  induction dp with
  | zero => intro x0 x2 z h; exact (nomatch (show (none : Option Int64) = some z from h))
  | succ dp ih =>
    intro x0 x2 z h
    have h : FX0_gcd_2_s (FX0_gcd_2 s dp) s x0 x2 = some z := h
    rw [show 1 * (dp + 1) + 0 = (1 * dp + 0) + 1 by omega, show 49 * (dp + 1) + 0 = (49 * dp + 0) + 49 by omega]
    exact met_FX0_gcd_2_s ih (Nat.le_add_left _ _) (Nat.le_add_left _ _) _ _ _ h
theorem met_V11_isButton {l : Launch} {E : CE} {s : CS} : ∀ (o : Nat) (v : Int32), V11_isButton s o = some v → (isK s o [12, 13, 15] = true ∧ ∃ F' L' : Nat, F' ≤ 0 ∧ L' ≤ 0 ∧ cMet_i l E yX11_isButton (ws_ yX11_isButton cX11_isButton 1 (some .boolean)) F' L' [.ref o] s v s) ∨ (isK s o [14] = true ∧ ∃ F' L' : Nat, F' ≤ 0 ∧ L' ≤ 0 ∧ cMet_i l E yX14_isButton (ws_ yX14_isButton cX14_isButton 1 (some .boolean)) F' L' [.ref o] s v s) := by
  intro o v h
  unfold V11_isButton at h
  by_cases q0 : isK s o [12, 13, 15] = true
  · rw [if_pos q0] at h
    exact Or.inl ⟨q0, _, _, by decide, by decide, (met_FX11_isButton _ _ h).2⟩
  rw [if_neg q0] at h
  by_cases q1 : isK s o [14] = true
  · rw [if_pos q1] at h
    exact Or.inr (⟨q1, _, _, by decide, by decide, (met_FX14_isButton _ _ h).2⟩)
  rw [if_neg q1] at h
  cases h
theorem met_FX0_isButton {l : Launch} {E : CE} {s : CS} : ∀ (x0 : Nat) (x1 : Int32) (x2 : Int32) (z : Int32), FX0_isButton s x0 x1 x2 = some z → (isK s x0 [0] = true ∧ cMet_i l E yX0_isButton (ws_ yX0_isButton cX0_isButton 3 (some .boolean)) 2 44 [.ref x0, .int x1, .int x2] s z s) := by
  intro x0 x1 x2 z h
  unfold FX0_isButton at h
  obtain ⟨hg, h⟩ := gd_of h
  refine ⟨hg, c_met_i ⟨Nat.le_refl _, Nat.le_refl _⟩ (by decide +kernel) rfl (fun X hl hin T hR e => ?_)⟩
  have T : cOK X E cX0_isButton RX0 3 (some .boolean) _ _ _ _ := T
  have hX := T.1
  show cW X _ _ s 0 [(0, .ref x0), (1, .int x1), (2, .int x2)] []
  refine cw (k_aload_n hX dX0_isButton_0 rfl 0 rfl) ?_
  refine cg_X0_35 T h dX0_isButton_1 (fun r1 h => ?_)
  refine cw (k_iload_n hX dX0_isButton_4 rfl 1 rfl) ?_
  refine cw (k_iload_n hX dX0_isButton_5 rfl 2 rfl) ?_
  obtain ⟨p2, e_p2, hq_p2⟩ := nn_of h
  subst e_p2
  have h := hq_p2
  show cW X _ _ _ 6 [(0, .ref x0), (1, .int x1), (2, .int x2)] [.int x2, .int x1, .ref p2]
  refine cX_X0_149 T met_FX2_isCorner (c_room hR rfl rfl) h rfl dX0_isButton_6 (fun v3 h => ?_)
  refine c_br h (k_if_eq (tgt := 37) hX h dX0_isButton_9 (by decide)) (fun h => ?_) (fun h => ?_)
  · refine cw (k_iconst (v := 0) hX dX0_isButton_37 (by decide)) ?_
    exact c_ret_zrc T e rfl h dX0_isButton_38
  · refine cw (k_aload_n hX dX0_isButton_12 rfl 0 rfl) ?_
    refine cw (k_iload_n hX dX0_isButton_13 rfl 1 rfl) ?_
    refine cw (k_iload_n hX dX0_isButton_14 rfl 2 rfl) ?_
    refine cX_X0_140 T met_FX0_lightAt (c_room hR rfl rfl) h rfl dX0_isButton_15 (fun r4 h => ?_)
    rcases r4 with _ | p5
    · replace h := nul_n h
      show cW X _ _ _ 18 [(0, .ref x0), (1, .int x1), (2, .int x2)] [.null]
      refine cw (k_ifnullN (tgt := 37) hX dX0_isButton_18 (by decide)) ?_
      refine cw (k_iconst (v := 0) hX dX0_isButton_37 (by decide)) ?_
      exact c_ret_zrc T e rfl h dX0_isButton_38
    · replace h := nul_s h
      show cW X _ _ _ 18 [(0, .ref x0), (1, .int x1), (2, .int x2)] [.ref p5]
      refine cw (k_ifnullS hX dX0_isButton_18) ?_
      refine cw (k_aload_n hX dX0_isButton_21 rfl 0 rfl) ?_
      refine cw (k_iload_n hX dX0_isButton_22 rfl 1 rfl) ?_
      refine cw (k_iload_n hX dX0_isButton_23 rfl 2 rfl) ?_
      refine cX_X0_140 T met_FX0_lightAt (c_room hR rfl rfl) h rfl dX0_isButton_24 (fun r6 h => ?_)
      obtain ⟨p7, e_p7, hq_p7⟩ := nn_of h
      subst e_p7
      have h := hq_p7
      show cW X _ _ _ 27 [(0, .ref x0), (1, .int x1), (2, .int x2)] [.ref p7]
      refine cX_X0_181 T met_V11_isButton (fun k hk => c_room hR rfl (Nat.ble_eq.mpr (by omega))) h rfl dX0_isButton_27 (fun v8 h => ?_)
      refine c_br h (k_if_eq (tgt := 37) hX h dX0_isButton_30 (by decide)) (fun h => ?_) (fun h => ?_)
      · refine cw (k_iconst (v := 0) hX dX0_isButton_37 (by decide)) ?_
        exact c_ret_zrc T e rfl h dX0_isButton_38
      · refine cw (k_iconst (v := 1) hX dX0_isButton_33 (by decide)) ?_
        refine cw (k_goto (tgt := 38) hX dX0_isButton_34 (by decide)) ?_
        exact c_ret_zrc T e rfl h dX0_isButton_38
theorem FX0_does_b191_ok {X : KC CS} {E : CE} {z : Int64} {z0 l0 z1 l1 : Nat} {s : CS} (T : cOK X E cX0_does RX0 11 (some .long) z0 l0 z1 l1) (hR : cRoom X 101 4923) (e : cE_l X E z0 l0 z1 l1 z s) {nf : Nat} {x5 : Int64} {x9 : Int64} {s_0 : Int64} (h : FX0_does_b191 nf s x5 x9 s_0 = some z) : cW X z1 l1 s 191 [(5, .long x5), (9, .long x9)] [.long s_0] := by
  unfold FX0_does_b191 at h
  have hX := T.1
  refine cw (k_lload hX dX0_does_191 1 rfl) ?_
  refine cw (k_lload hX dX0_does_193 0 rfl) ?_
  refine cX_X0_9 T (met_FX0_gcd_2 100) (c_room hR rfl rfl) h rfl dX0_does_195 (fun v1 h => ?_)
  refine c_d64 h (k_ldiv hX h dX0_does_198) (fun h => ?_)
  exact c_ret_lr T e h dX0_does_199
theorem FX0_does_b116_ok {X : KC CS} {E : CE} {z : Int64} {z0 l0 z1 l1 : Nat} {s : CS} (T : cOK X E cX0_does RX0 11 (some .long) z0 l0 z1 l1) (hR : cRoom X 101 4923) (e : cE_l X E z0 l0 z1 l1 z s) {nf : Nat} {k39 : Nat → Int32 → Int32 → Int32 → (Option Nat) → Int64 → Int64 → Int32 → Option Int64} (hk39 : ∀ (x0 : Nat) (x1 : Int32) (x2 : Int32) (x3 : Int32) (x4 : (Option Nat)) (x5 : Int64) (x7 : Int64) (x9 : Int32), k39 x0 x1 x2 x3 x4 x5 x7 x9 = some z → cW X z1 l1 s 39 [(0, .ref x0), (1, .int x1), (2, .int x2), (3, .int x3), (4, va_rf x4), (5, .long x5), (7, .long x7), (9, .int x9)] []) {x0 : Nat} {x1 : Int32} {x2 : Int32} {x3 : Int32} {x4 : Nat} {x7 : Int64} {x9 : Int32} {s_0 : Int64} {s_1 : Int64} (h : FX0_does_b116 nf s k39 x0 x1 x2 x3 x4 x7 x9 s_0 s_1 = some z) : cW X z1 l1 s 116 [(0, .ref x0), (1, .int x1), (2, .int x2), (3, .int x3), (4, .ref x4), (7, .long x7), (9, .int x9)] [.long s_0, .long s_1] := by
  unfold FX0_does_b116 at h
  have hX := T.1
  refine cw (k_lmul hX dX0_does_116) ?_
  refine c_nml h (fun v1 h => ?_)
  refine cw (k_lstore [(5, .long v1), (0, .ref x0), (1, .int x1), (2, .int x2), (3, .int x3), (4, .ref x4), (7, .long x7), (9, .int x9)] hX dX0_does_117 rfl rfl) ?_
  refine cw (k_lload hX dX0_does_119 6 rfl) ?_
  refine cw (k_aload_n hX dX0_does_121 rfl 1 rfl) ?_
  refine cg_X0_49 T h dX0_does_122 (fun r2 h => ?_)
  obtain ⟨p3, e_p3, hq_p3⟩ := nn_of h
  subst e_p3
  have h := hq_p3
  show cW X z1 l1 _ 125 [(5, .long v1), (0, .ref x0), (1, .int x1), (2, .int x2), (3, .int x3), (4, .ref x4), (7, .long x7), (9, .int x9)] [.ref p3, .long x7]
  refine cg_X0_385 T h dX0_does_125 (fun r4 h => ?_)
  refine cw (k_iload hX dX0_does_128 7 rfl) ?_
  obtain ⟨p5, e_p5, hq_p5⟩ := nn_of h
  subst e_p5
  have h := hq_p5
  show cW X z1 l1 _ 130 [(5, .long v1), (0, .ref x0), (1, .int x1), (2, .int x2), (3, .int x3), (4, .ref x4), (7, .long x7), (9, .int x9)] [.int x9, .ref p5, .long x7]
  refine ca_ild T h dX0_does_130 (fun v6 h => ?_)
  refine cw (k_aload hX dX0_does_131 5 rfl) ?_
  refine cg_X0_160 T h dX0_does_133 (fun v7 h => ?_)
  refine c_br h (k_icmp_lt (tgt := 143) hX h dX0_does_136 (by decide)) (fun h => ?_) (fun h => ?_)
  · refine cw (k_aload hX dX0_does_143 5 rfl) ?_
    refine cg_X0_163 T h dX0_does_145 (fun v8 h => ?_)
    refine cw (k_iconst (v := 1) hX dX0_does_148 (by decide)) ?_
    refine cw (k_iadd hX dX0_does_149) ?_
    refine cw (k_i2l hX dX0_does_150) ?_
    refine cw (k_lmul hX dX0_does_151) ?_
    refine c_nml h (fun v9 h => ?_)
    refine cw (k_lstore [(7, .long v9), (5, .long v1), (0, .ref x0), (1, .int x1), (2, .int x2), (3, .int x3), (4, .ref x4), (9, .int x9)] hX dX0_does_152 rfl rfl) ?_
    refine cw (k_iinc (j := 7) [(9, .int (x9 + 1)), (7, .long v9), (5, .long v1), (0, .ref x0), (1, .int x1), (2, .int x2), (3, .int x3), (4, .ref x4)] hX dX0_does_154 rfl rfl rfl rfl) ?_
    refine cw (k_goto (tgt := 39) hX dX0_does_157 (by decide)) ?_
    refine cw (k_lv (lv' := [(0, .ref x0), (1, .int x1), (2, .int x2), (3, .int x3), (4, va_rf (some x4)), (5, .long v1), (7, .long v9), (9, .int (x9 + 1))]) [3, 4, 5, 6, 7, 2, 1, 0] rfl) ?_
    exact hk39 _ _ _ _ _ _ _ _ h
  · refine cw (k_lconst (v := 0) hX dX0_does_139 (by decide)) ?_
    refine cw (k_goto (tgt := 151) hX dX0_does_140 (by decide)) ?_
    refine cw (k_lmul hX dX0_does_151) ?_
    refine c_nml h (fun v10 h => ?_)
    refine cw (k_lstore [(7, .long v10), (5, .long v1), (0, .ref x0), (1, .int x1), (2, .int x2), (3, .int x3), (4, .ref x4), (9, .int x9)] hX dX0_does_152 rfl rfl) ?_
    refine cw (k_iinc (j := 7) [(9, .int (x9 + 1)), (7, .long v10), (5, .long v1), (0, .ref x0), (1, .int x1), (2, .int x2), (3, .int x3), (4, .ref x4)] hX dX0_does_154 rfl rfl rfl rfl) ?_
    refine cw (k_goto (tgt := 39) hX dX0_does_157 (by decide)) ?_
    refine cw (k_lv (lv' := [(0, .ref x0), (1, .int x1), (2, .int x2), (3, .int x3), (4, va_rf (some x4)), (5, .long v1), (7, .long v10), (9, .int (x9 + 1))]) [3, 4, 5, 6, 7, 2, 1, 0] rfl) ?_
    exact hk39 _ _ _ _ _ _ _ _ h
theorem FX0_does_b39_s_ok {X : KC CS} {E : CE} {z : Int64} {z0 l0 z1 l1 : Nat} {s : CS} (T : cOK X E cX0_does RX0 11 (some .long) z0 l0 z1 l1) (hR : cRoom X 101 4923) (e : cE_l X E z0 l0 z1 l1 z s) {nf : Nat} {k39 : Nat → Int32 → Int32 → Int32 → (Option Nat) → Int64 → Int64 → Int32 → Option Int64} (hk39 : ∀ (x0 : Nat) (x1 : Int32) (x2 : Int32) (x3 : Int32) (x4 : (Option Nat)) (x5 : Int64) (x7 : Int64) (x9 : Int32), k39 x0 x1 x2 x3 x4 x5 x7 x9 = some z → cW X z1 l1 s 39 [(0, .ref x0), (1, .int x1), (2, .int x2), (3, .int x3), (4, va_rf x4), (5, .long x5), (7, .long x7), (9, .int x9)] []) {x0 : Nat} {x1 : Int32} {x2 : Int32} {x3 : Int32} {x4 : (Option Nat)} {x5 : Int64} {x7 : Int64} {x9 : Int32} (h : FX0_does_b39_s nf s k39 x0 x1 x2 x3 x4 x5 x7 x9 = some z) : cW X z1 l1 s 39 [(0, .ref x0), (1, .int x1), (2, .int x2), (3, .int x3), (4, va_rf x4), (5, .long x5), (7, .long x7), (9, .int x9)] [] := by
  unfold FX0_does_b39_s at h
  have hX := T.1
  refine cw (k_iload hX dX0_does_39 7 rfl) ?_
  refine cw (k_aload_n hX dX0_does_41 rfl 0 rfl) ?_
  refine cg_X0_49 T h dX0_does_42 (fun r1 h => ?_)
  obtain ⟨p2, e_p2, hq_p2⟩ := nn_of h
  subst e_p2
  have h := hq_p2
  show cW X z1 l1 _ 45 [(0, .ref x0), (1, .int x1), (2, .int x2), (3, .int x3), (4, va_rf x4), (5, .long x5), (7, .long x7), (9, .int x9)] [.ref p2, .int x9]
  refine cg_X0_376 T h dX0_does_45 (fun v3 h => ?_)
  refine c_br h (k_icmp_ge (tgt := 160) hX h dX0_does_48 (by decide)) (fun h => ?_) (fun h => ?_)
  · refine cw (k_lload hX dX0_does_160 5 rfl) ?_
    refine cw (k_lload hX dX0_does_162 6 rfl) ?_
    refine cw (k_ladd hX dX0_does_164) ?_
    refine c_nml h (fun v4 h => ?_)
    refine cw (k_lstore [(9, .long v4), (0, .ref x0), (1, .int x1), (2, .int x2), (3, .int x3), (4, va_rf x4), (5, .long x5), (7, .long x7)] hX dX0_does_165 rfl rfl) ?_
    refine cw (k_lload hX dX0_does_167 0 rfl) ?_
    refine cw (k_lconst (v := 0) hX dX0_does_169 (by decide)) ?_
    refine c_brn h (k_lcmp_ne (tgt := 180) hX h dX0_does_170 dX0_does_171 (by decide)) (fun h => ?_) (fun h => ?_)
    · refine cw (k_iload_n hX dX0_does_180 rfl 4 rfl) ?_
      refine c_brn h (k_if_ne (tgt := 189) hX h dX0_does_181 (by decide)) (fun h => ?_) (fun h => ?_)
      · refine cw (k_lload hX dX0_does_189 0 rfl) ?_
        refine cw (k_lv (lv' := [(5, .long x5), (9, .long v4)]) [6, 0] rfl) ?_
        exact FX0_does_b191_ok T hR e h
      · refine cw (k_lload hX dX0_does_184 6 rfl) ?_
        refine cw (k_goto (tgt := 191) hX dX0_does_186 (by decide)) ?_
        refine cw (k_lv (lv' := [(5, .long x5), (9, .long v4)]) [6, 0] rfl) ?_
        exact FX0_does_b191_ok T hR e h
    · refine cw (k_ldc2 (v := (-1)) hX q1538 dX0_does_174) ?_
      refine cw (k_goto (tgt := 199) hX dX0_does_177 (by decide)) ?_
      exact c_ret_lr T e h dX0_does_199
  · refine cw (k_aload_n hX dX0_does_51 rfl 0 rfl) ?_
    refine cg_X0_49 T h dX0_does_52 (fun r5 h => ?_)
    obtain ⟨p6, e_p6, hq_p6⟩ := nn_of h
    subst e_p6
    have h := hq_p6
    show cW X z1 l1 _ 55 [(0, .ref x0), (1, .int x1), (2, .int x2), (3, .int x3), (4, va_rf x4), (5, .long x5), (7, .long x7), (9, .int x9)] [.ref p6]
    refine cg_X0_379 T h dX0_does_55 (fun r7 h => ?_)
    refine cw (k_iload hX dX0_does_58 7 rfl) ?_
    obtain ⟨p8, e_p8, hq_p8⟩ := nn_of h
    subst e_p8
    have h := hq_p8
    show cW X z1 l1 _ 60 [(0, .ref x0), (1, .int x1), (2, .int x2), (3, .int x3), (4, va_rf x4), (5, .long x5), (7, .long x7), (9, .int x9)] [.int x9, .ref p8]
    refine ca_ild T h dX0_does_60 (fun v9 h => ?_)
    refine cw (k_iload_n hX dX0_does_61 rfl 2 rfl) ?_
    refine cw (k_bipush (v := 6) hX dX0_does_62 (by decide)) ?_
    refine cw (k_imul hX dX0_does_64) ?_
    refine cw (k_iload_n hX dX0_does_65 rfl 1 rfl) ?_
    refine cw (k_iadd hX dX0_does_66) ?_
    refine c_brn h (k_icmp_ne (tgt := 154) hX h dX0_does_67 (by decide)) (fun h => ?_) (fun h => ?_)
    · refine cw (k_iinc (j := 7) [(9, .int (x9 + 1)), (0, .ref x0), (1, .int x1), (2, .int x2), (3, .int x3), (4, va_rf x4), (5, .long x5), (7, .long x7)] hX dX0_does_154 rfl rfl rfl rfl) ?_
      refine cw (k_goto (tgt := 39) hX dX0_does_157 (by decide)) ?_
      refine cw (k_lv (lv' := [(0, .ref x0), (1, .int x1), (2, .int x2), (3, .int x3), (4, va_rf x4), (5, .long x5), (7, .long x7), (9, .int (x9 + 1))]) [1, 2, 3, 4, 5, 6, 7, 0] rfl) ?_
      exact hk39 _ _ _ _ _ _ _ _ h
    · refine cw (k_aload_n hX dX0_does_70 rfl 0 rfl) ?_
      refine cg_X0_49 T h dX0_does_71 (fun r10 h => ?_)
      obtain ⟨p11, e_p11, hq_p11⟩ := nn_of h
      subst e_p11
      have h := hq_p11
      show cW X z1 l1 _ 74 [(0, .ref x0), (1, .int x1), (2, .int x2), (3, .int x3), (4, va_rf x4), (5, .long x5), (7, .long x7), (9, .int x9)] [.ref p11]
      refine cg_X0_382 T h dX0_does_74 (fun r12 h => ?_)
      refine cw (k_iload hX dX0_does_77 7 rfl) ?_
      obtain ⟨p13, e_p13, hq_p13⟩ := nn_of h
      subst e_p13
      have h := hq_p13
      show cW X z1 l1 _ 79 [(0, .ref x0), (1, .int x1), (2, .int x2), (3, .int x3), (4, va_rf x4), (5, .long x5), (7, .long x7), (9, .int x9)] [.int x9, .ref p13]
      refine ca_zld T h dX0_does_79 (fun v14 h => ?_)
      refine c_brn h (k_if_ne (tgt := 86) hX h dX0_does_80 (by decide)) (fun h => ?_) (fun h => ?_)
      · refine cw (k_lload hX dX0_does_86 5 rfl) ?_
        refine cw (k_aload_n hX dX0_does_88 rfl 0 rfl) ?_
        refine cg_X0_49 T h dX0_does_89 (fun r15 h => ?_)
        obtain ⟨p16, e_p16, hq_p16⟩ := nn_of h
        subst e_p16
        have h := hq_p16
        show cW X z1 l1 _ 92 [(0, .ref x0), (1, .int x1), (2, .int x2), (3, .int x3), (4, va_rf x4), (5, .long x5), (7, .long x7), (9, .int x9)] [.ref p16, .long x5]
        refine cg_X0_385 T h dX0_does_92 (fun r17 h => ?_)
        refine cw (k_iload hX dX0_does_95 7 rfl) ?_
        obtain ⟨p18, e_p18, hq_p18⟩ := nn_of h
        subst e_p18
        have h := hq_p18
        show cW X z1 l1 _ 97 [(0, .ref x0), (1, .int x1), (2, .int x2), (3, .int x3), (4, va_rf x4), (5, .long x5), (7, .long x7), (9, .int x9)] [.int x9, .ref p18, .long x5]
        refine ca_ild T h dX0_does_97 (fun v19 h => ?_)
        refine cw (k_aloadO hX dX0_does_98 4 rfl) ?_
        obtain ⟨p20, e_p20, hq_p20⟩ := nn_of h
        subst e_p20
        have h := hq_p20
        show cW X z1 l1 _ 100 [(0, .ref x0), (1, .int x1), (2, .int x2), (3, .int x3), (4, .ref p20), (5, .long x5), (7, .long x7), (9, .int x9)] [.ref p20, .int v19, .long x5]
        refine cg_X0_163 T h dX0_does_100 (fun v21 h => ?_)
        refine c_br h (k_icmp_le (tgt := 110) hX h dX0_does_103 (by decide)) (fun h => ?_) (fun h => ?_)
        · refine cw (k_aload hX dX0_does_110 4 rfl) ?_
          refine cg_X0_160 T h dX0_does_112 (fun v22 h => ?_)
          refine cw (k_i2l hX dX0_does_115) ?_
          refine cw (k_lv (lv' := [(0, .ref x0), (1, .int x1), (2, .int x2), (3, .int x3), (4, .ref p20), (7, .long x7), (9, .int x9)]) [0, 1, 2, 3, 4, 6, 7] rfl) ?_
          exact FX0_does_b116_ok T hR e hk39 h
        · refine cw (k_lconst (v := 0) hX dX0_does_106 (by decide)) ?_
          refine cw (k_goto (tgt := 116) hX dX0_does_107 (by decide)) ?_
          refine cw (k_lv (lv' := [(0, .ref x0), (1, .int x1), (2, .int x2), (3, .int x3), (4, .ref p20), (7, .long x7), (9, .int x9)]) [0, 1, 2, 3, 4, 6, 7] rfl) ?_
          exact FX0_does_b116_ok T hR e hk39 h
      · refine cw (k_goto (tgt := 154) hX dX0_does_83 (by decide)) ?_
        refine cw (k_iinc (j := 7) [(9, .int (x9 + 1)), (0, .ref x0), (1, .int x1), (2, .int x2), (3, .int x3), (4, va_rf x4), (5, .long x5), (7, .long x7)] hX dX0_does_154 rfl rfl rfl rfl) ?_
        refine cw (k_goto (tgt := 39) hX dX0_does_157 (by decide)) ?_
        refine cw (k_lv (lv' := [(0, .ref x0), (1, .int x1), (2, .int x2), (3, .int x3), (4, va_rf x4), (5, .long x5), (7, .long x7), (9, .int (x9 + 1))]) [1, 2, 3, 4, 5, 6, 7, 0] rfl) ?_
        exact hk39 _ _ _ _ _ _ _ _ h
theorem FX0_does_b39_ok {X : KC CS} {E : CE} {z : Int64} {z0 l0 z1 l1 : Nat} {s : CS} (T : cOK X E cX0_does RX0 11 (some .long) z0 l0 z1 l1) (hR : cRoom X 101 4923) (e : cE_l X E z0 l0 z1 l1 z s) {nf : Nat} : ∀ (n : Nat) (x0 : Nat) (x1 : Int32) (x2 : Int32) (x3 : Int32) (x4 : (Option Nat)) (x5 : Int64) (x7 : Int64) (x9 : Int32), FX0_does_b39 nf s n x0 x1 x2 x3 x4 x5 x7 x9 = some z → cW X z1 l1 s 39 [(0, .ref x0), (1, .int x1), (2, .int x2), (3, .int x3), (4, va_rf x4), (5, .long x5), (7, .long x7), (9, .int x9)] [] := by
  intro n
  induction n with
  | zero => intro x0 x1 x2 x3 x4 x5 x7 x9 h; exact (nomatch (show (none : Option Int64) = some z from h))
  | succ n ih =>
    intro x0 x1 x2 x3 x4 x5 x7 x9 h
    have h : FX0_does_b39_s nf s (FX0_does_b39 nf s n) x0 x1 x2 x3 x4 x5 x7 x9 = some z := h
    exact FX0_does_b39_s_ok T hR e ih h
theorem met_FX0_does {l : Launch} {E : CE} {nf : Nat} {s : CS} : ∀ (x0 : Nat) (x1 : Int32) (x2 : Int32) (x3 : Int32) (z : Int64), FX0_does nf s x0 x1 x2 x3 = some z → (isK s x0 [0] = true ∧ cMet_l l E yX0_does (ws_ yX0_does cX0_does 11 (some .long)) 101 4923 [.ref x0, .int x1, .int x2, .int x3] s z s) := by
  intro x0 x1 x2 x3 z h
  unfold FX0_does at h
  obtain ⟨hg, h⟩ := gd_of h
  refine ⟨hg, c_met_l ⟨Nat.le_refl _, Nat.le_refl _⟩ (by decide +kernel) rfl (fun X hl hin T hR e => ?_)⟩
  have T : cOK X E cX0_does RX0 11 (some .long) _ _ _ _ := T
  have hX := T.1
  show cW X _ _ s 0 [(0, .ref x0), (1, .int x1), (2, .int x2), (3, .int x3)] []
  refine cw (k_aload_n hX dX0_does_0 rfl 0 rfl) ?_
  refine cw (k_iload_n hX dX0_does_1 rfl 1 rfl) ?_
  refine cw (k_iload_n hX dX0_does_2 rfl 2 rfl) ?_
  refine cX_X0_374 T met_FX0_isButton (c_room hR rfl rfl) h rfl dX0_does_3 (fun v1 h => ?_)
  refine c_br h (k_if_eq (tgt := 18) hX h dX0_does_6 (by decide)) (fun h => ?_) (fun h => ?_)
  · refine cw (k_ldc2 (v := (-1)) hX q1538 dX0_does_18) ?_
    exact c_ret_lr T e h dX0_does_21
  · refine cw (k_iload_n hX dX0_does_9 rfl 3 rfl) ?_
    refine cw (k_iconst (v := 0) hX dX0_does_10 (by decide)) ?_
    refine cw (k_iconst (v := 1) hX dX0_does_11 (by decide)) ?_
    refine cX_X0_127 T met_FX0_in (c_room hR rfl rfl) h rfl dX0_does_12 (fun v2 h => ?_)
    refine c_brn h (k_if_ne (tgt := 22) hX h dX0_does_15 (by decide)) (fun h => ?_) (fun h => ?_)
    · refine cw (k_aload_n hX dX0_does_22 rfl 0 rfl) ?_
      refine cw (k_iload_n hX dX0_does_23 rfl 1 rfl) ?_
      refine cw (k_iload_n hX dX0_does_24 rfl 2 rfl) ?_
      refine cX_X0_140 T met_FX0_lightAt (c_room hR rfl rfl) h rfl dX0_does_25 (fun r3 h => ?_)
      refine cw (k_astoreO [(4, va_rf r3), (0, .ref x0), (1, .int x1), (2, .int x2), (3, .int x3)] hX dX0_does_28 rfl rfl) ?_
      refine cw (k_lconst (v := 1) hX dX0_does_30 (by decide)) ?_
      refine cw (k_lstore [(5, .long 1), (4, va_rf r3), (0, .ref x0), (1, .int x1), (2, .int x2), (3, .int x3)] hX dX0_does_31 rfl (by cases r3 <;> rfl)) ?_
      refine cw (k_lconst (v := 1) hX dX0_does_33 (by decide)) ?_
      refine cw (k_lstore [(7, .long 1), (5, .long 1), (4, va_rf r3), (0, .ref x0), (1, .int x1), (2, .int x2), (3, .int x3)] hX dX0_does_34 rfl rfl) ?_
      refine cw (k_iconst (v := 0) hX dX0_does_36 (by decide)) ?_
      refine cw (k_istore [(9, .int 0), (7, .long 1), (5, .long 1), (4, va_rf r3), (0, .ref x0), (1, .int x1), (2, .int x2), (3, .int x3)] hX dX0_does_37 rfl rfl) ?_
      refine cw (k_lv (lv' := [(0, .ref x0), (1, .int x1), (2, .int x2), (3, .int x3), (4, va_rf r3), (5, .long 1), (7, .long 1), (9, .int 0)]) [4, 5, 6, 7, 3, 2, 1, 0] rfl) ?_
      exact FX0_does_b39_ok T hR e _ _ _ _ _ _ _ _ _ h
    · refine cw (k_ldc2 (v := (-1)) hX q1538 dX0_does_18) ?_
      exact c_ret_lr T e h dX0_does_21
theorem met_FX0_draws {l : Launch} {E : CE} : ∀ (x0 : Nat) (x1 : Int32) (s : CS) (z : (Int32 × CS)), FX0_draws x0 x1 s = some z → (isK s x0 [0] = true ∧ cMet_i l E yX0_draws (ws_ yX0_draws cX0_draws 2 (some .int)) 0 0 [.ref x0, .int x1] s z.1 z.2) := by
  intro x0 x1 s z h
  unfold FX0_draws at h
  obtain ⟨hm, h⟩ := mz_of h
  obtain ⟨hg, h⟩ := gd_of h
  refine ⟨hg, c_met_i hm (by decide +kernel) rfl (fun X hl hin T hR e => ?_)⟩
  have T : cOK X E cX0_draws RX0 2 (some .int) _ _ _ _ := T
  have hX := T.1
  show cW X _ _ s 0 [(0, .ref x0), (1, .int x1)] []
  refine cw (k_aload_n hX dX0_draws_0 rfl 0 rfl) ?_
  refine cw (k_aload_n hX dX0_draws_1 rfl 0 rfl) ?_
  refine cg_X0_439 T h dX0_draws_2 (fun v1 h => ?_)
  refine cw (k_ldc2 (v := 1103515245) hX q1597 dX0_draws_5) ?_
  refine cw (k_lmul hX dX0_draws_8) ?_
  refine cw (k_ldc2 (v := 12345) hX q1598 dX0_draws_9) ?_
  refine cw (k_ladd hX dX0_draws_12) ?_
  refine cw (k_ldc2 (v := 2147483648) hX q1599 dX0_draws_13) ?_
  refine cw (k_lremc hX (by decide) dX0_draws_16) ?_
  refine cp_X0_439 T h dX0_draws_17 (fun s2 h => ?_)
  refine cw (k_aload_n hX dX0_draws_20 rfl 0 rfl) ?_
  refine cg_X0_439 T h dX0_draws_21 (fun v3 h => ?_)
  refine cw (k_ldc2 (v := 65536) hX q1600 dX0_draws_24) ?_
  refine cw (k_ldivc hX (by decide) dX0_draws_27) ?_
  refine cw (k_iload_n hX dX0_draws_28 rfl 1 rfl) ?_
  refine cw (k_i2l hX dX0_draws_29) ?_
  refine c_d64 h (k_lrem hX h dX0_draws_30) (fun h => ?_)
  refine cw (k_l2i hX dX0_draws_31) ?_
  exact c_ret_i T e h dX0_draws_32
theorem met_FX0_fast {l : Launch} {E : CE} {s : CS} : ∀ (x0 : Nat) (z : Int32), FX0_fast s x0 = some z → (isK s x0 [0] = true ∧ cMet_i l E yX0_fast (ws_ yX0_fast cX0_fast 1 (some .int)) 2 40 [.ref x0] s z s) := by
  intro x0 z h
  unfold FX0_fast at h
  obtain ⟨hg, h⟩ := gd_of h
  refine ⟨hg, c_met_i ⟨Nat.le_refl _, Nat.le_refl _⟩ (by decide +kernel) rfl (fun X hl hin T hR e => ?_)⟩
  have T : cOK X E cX0_fast RX0 1 (some .int) _ _ _ _ := T
  have hX := T.1
  show cW X _ _ s 0 [(0, .ref x0)] []
  refine cw (k_aload_n hX dX0_fast_0 rfl 0 rfl) ?_
  refine cg_X0_35 T h dX0_fast_1 (fun r1 h => ?_)
  obtain ⟨p2, e_p2, hq_p2⟩ := nn_of h
  subst e_p2
  have h := hq_p2
  show cW X _ _ _ 4 [(0, .ref x0)] [.ref p2]
  refine cX_X0_214 T met_FX2_run (c_room hR rfl rfl) h rfl dX0_fast_4 (fun v3 h => ?_)
  refine cw (k_aload_n hX dX0_fast_7 rfl 0 rfl) ?_
  refine cg_X0_35 T h dX0_fast_8 (fun r4 h => ?_)
  obtain ⟨p5, e_p5, hq_p5⟩ := nn_of h
  subst e_p5
  have h := hq_p5
  show cW X _ _ _ 11 [(0, .ref x0)] [.ref p5, .int v3]
  refine cX_X0_348 T met_FX2_slow (c_room hR rfl rfl) h rfl dX0_fast_11 (fun v6 h => ?_)
  refine c_br h (k_icmp_le (tgt := 27) hX h dX0_fast_14 (by decide)) (fun h => ?_) (fun h => ?_)
  · refine cw (k_aload_n hX dX0_fast_27 rfl 0 rfl) ?_
    refine cg_X0_35 T h dX0_fast_28 (fun r7 h => ?_)
    obtain ⟨p8, e_p8, hq_p8⟩ := nn_of h
    subst e_p8
    have h := hq_p8
    show cW X _ _ _ 31 [(0, .ref x0)] [.ref p8]
    refine cX_X0_214 T met_FX2_run (c_room hR rfl rfl) h rfl dX0_fast_31 (fun v9 h => ?_)
    exact c_ret_ir T e h dX0_fast_34
  · refine cw (k_aload_n hX dX0_fast_17 rfl 0 rfl) ?_
    refine cg_X0_35 T h dX0_fast_18 (fun r10 h => ?_)
    obtain ⟨p11, e_p11, hq_p11⟩ := nn_of h
    subst e_p11
    have h := hq_p11
    show cW X _ _ _ 21 [(0, .ref x0)] [.ref p11]
    refine cX_X0_217 T met_FX2_walk (c_room hR rfl rfl) h rfl dX0_fast_21 (fun v12 h => ?_)
    refine cw (k_goto (tgt := 34) hX dX0_fast_24 (by decide)) ?_
    exact c_ret_ir T e h dX0_fast_34
theorem FX0_feed_b74_ok {X : KC CS} {E : CE} {z : (Int32 × CS)} {z0 l0 z1 l1 : Nat} (T : cOK X E cX0_feed RX0 9 (some .int) z0 l0 z1 l1) (hR : cRoom X 0 0) (e : cE_i X E z0 l0 z1 l1 z.1 z.2) {nf : Nat} {k3 : Nat → Int64 → Int64 → Int64 → Int32 → CS → Option (Int32 × CS)} (hk3 : ∀ (x0 : Nat) (x1 : Int64) (x3 : Int64) (x5 : Int64) (x7 : Int32) (s : CS), k3 x0 x1 x3 x5 x7 s = some z → cW X z1 l1 s 3 [(0, .ref x0), (1, .long x1), (3, .long x3), (5, .long x5), (7, .int x7)] []) {x0 : Nat} {x1 : Int64} {x3 : Int64} {x5 : Int64} {x7 : Int32} {x8 : Int32} {s : CS} (h : FX0_feed_b74 nf k3 x0 x1 x3 x5 x7 x8 s = some z) : cW X z1 l1 s 74 [(0, .ref x0), (1, .long x1), (3, .long x3), (5, .long x5), (7, .int x7), (8, .int x8)] [] := by
  unfold FX0_feed_b74 at h
  have hX := T.1
  refine cw (k_aload_n hX dX0_feed_74 rfl 0 rfl) ?_
  refine cg_X0_96 T h dX0_feed_75 (fun v1 h => ?_)
  refine cw (k_sipush (v := 1000) hX dX0_feed_78 (by decide)) ?_
  refine c_br h (k_icmp_ge (tgt := 103) hX h dX0_feed_81 (by decide)) (fun h => ?_) (fun h => ?_)
  · refine cw (k_iinc (j := 4) [(7, .int (x7 + 1)), (0, .ref x0), (1, .long x1), (3, .long x3), (5, .long x5), (8, .int x8)] hX dX0_feed_103 rfl rfl rfl rfl) ?_
    refine cw (k_goto (tgt := 3) hX dX0_feed_106 (by decide)) ?_
    refine cw (k_lv (lv' := [(0, .ref x0), (1, .long x1), (3, .long x3), (5, .long x5), (7, .int (x7 + 1))]) [1, 2, 3, 4, 0] rfl) ?_
    exact hk3 _ _ _ _ _ _ h
  · refine cw (k_aload_n hX dX0_feed_84 rfl 0 rfl) ?_
    refine cg_X0_21 T h dX0_feed_85 (fun r2 h => ?_)
    refine cw (k_aload_n hX dX0_feed_88 rfl 0 rfl) ?_
    refine cw (k_dup hX dX0_feed_89 rfl) ?_
    refine cg_X0_96 T h dX0_feed_90 (fun v3 h => ?_)
    refine cw (k_dup_x1 hX dX0_feed_93 (by first | rfl | exact rf_cat _) (by first | rfl | exact rf_cat _)) ?_
    refine cw (k_iconst (v := 1) hX dX0_feed_94 (by decide)) ?_
    refine cw (k_iadd hX dX0_feed_95) ?_
    refine cp_X0_96 T h dX0_feed_96 (fun s4 h => ?_)
    refine cw (k_iload hX dX0_feed_99 5 rfl) ?_
    refine cw (k_i2b hX dX0_feed_101) ?_
    obtain ⟨p5, e_p5, hq_p5⟩ := nn_of h
    subst e_p5
    have h := hq_p5
    show cW X z1 l1 _ 102 [(0, .ref x0), (1, .long x1), (3, .long x3), (5, .long x5), (7, .int x7), (8, .int x8)] [.int (i2b x8), .int v3, .ref p5]
    refine ca_bst T h dX0_feed_102 (fun s6 h => ?_)
    refine cw (k_iinc (j := 4) [(7, .int (x7 + 1)), (0, .ref x0), (1, .long x1), (3, .long x3), (5, .long x5), (8, .int x8)] hX dX0_feed_103 rfl rfl rfl rfl) ?_
    refine cw (k_goto (tgt := 3) hX dX0_feed_106 (by decide)) ?_
    refine cw (k_lv (lv' := [(0, .ref x0), (1, .long x1), (3, .long x3), (5, .long x5), (7, .int (x7 + 1))]) [1, 2, 3, 4, 0] rfl) ?_
    exact hk3 _ _ _ _ _ _ h
theorem FX0_feed_b34_ok {X : KC CS} {E : CE} {z : (Int32 × CS)} {z0 l0 z1 l1 : Nat} (T : cOK X E cX0_feed RX0 9 (some .int) z0 l0 z1 l1) (hR : cRoom X 0 0) (e : cE_i X E z0 l0 z1 l1 z.1 z.2) {nf : Nat} {k3 : Nat → Int64 → Int64 → Int64 → Int32 → CS → Option (Int32 × CS)} (hk3 : ∀ (x0 : Nat) (x1 : Int64) (x3 : Int64) (x5 : Int64) (x7 : Int32) (s : CS), k3 x0 x1 x3 x5 x7 s = some z → cW X z1 l1 s 3 [(0, .ref x0), (1, .long x1), (3, .long x3), (5, .long x5), (7, .int x7)] []) {x0 : Nat} {x1 : Int64} {x3 : Int64} {x5 : Int64} {x7 : Int32} {s_0 : Int64} {s : CS} (h : FX0_feed_b34 nf k3 x0 x1 x3 x5 x7 s_0 s = some z) : cW X z1 l1 s 34 [(0, .ref x0), (1, .long x1), (3, .long x3), (5, .long x5), (7, .int x7)] [.long s_0] := by
  unfold FX0_feed_b34 at h
  have hX := T.1
  refine cw (k_bipush (v := 56) hX dX0_feed_34 (by decide)) ?_
  refine cw (k_bipush (v := 8) hX dX0_feed_36 (by decide)) ?_
  refine cw (k_iload hX dX0_feed_38 4 rfl) ?_
  refine cw (k_bipush (v := 8) hX dX0_feed_40 (by decide)) ?_
  refine cw (k_iremc hX (by decide) dX0_feed_42) ?_
  refine cw (k_imul hX dX0_feed_43) ?_
  refine cw (k_isub hX dX0_feed_44) ?_
  refine cw (k_lshr hX dX0_feed_45) ?_
  refine cw (k_l2i hX dX0_feed_46) ?_
  refine cw (k_sipush (v := 255) hX dX0_feed_47 (by decide)) ?_
  refine cw (k_iand hX dX0_feed_50) ?_
  refine c_nm h (fun v1 h => ?_)
  refine cw (k_istore [(8, .int v1), (0, .ref x0), (1, .long x1), (3, .long x3), (5, .long x5), (7, .int x7)] hX dX0_feed_51 rfl rfl) ?_
  refine cw (k_iload hX dX0_feed_53 0 rfl) ?_
  refine cw (k_bipush (v := 10) hX dX0_feed_55 (by decide)) ?_
  refine c_br h (k_icmp_eq (tgt := 74) hX h dX0_feed_57 (by decide)) (fun h => ?_) (fun h => ?_)
  · refine cw (k_lv (lv' := [(0, .ref x0), (1, .long x1), (3, .long x3), (5, .long x5), (7, .int x7), (8, .int v1)]) [1, 2, 3, 4, 5, 0] rfl) ?_
    exact FX0_feed_b74_ok T hR e hk3 h
  · refine cw (k_iload hX dX0_feed_60 0 rfl) ?_
    refine cw (k_bipush (v := 32) hX dX0_feed_62 (by decide)) ?_
    refine c_br h (k_icmp_lt (tgt := 103) hX h dX0_feed_64 (by decide)) (fun h => ?_) (fun h => ?_)
    · refine cw (k_iinc (j := 5) [(7, .int (x7 + 1)), (8, .int v1), (0, .ref x0), (1, .long x1), (3, .long x3), (5, .long x5)] hX dX0_feed_103 rfl rfl rfl rfl) ?_
      refine cw (k_goto (tgt := 3) hX dX0_feed_106 (by decide)) ?_
      refine cw (k_lv (lv' := [(0, .ref x0), (1, .long x1), (3, .long x3), (5, .long x5), (7, .int (x7 + 1))]) [2, 3, 4, 5, 0] rfl) ?_
      exact hk3 _ _ _ _ _ _ h
    · refine cw (k_iload hX dX0_feed_67 0 rfl) ?_
      refine cw (k_bipush (v := 126) hX dX0_feed_69 (by decide)) ?_
      refine c_br h (k_icmp_gt (tgt := 103) hX h dX0_feed_71 (by decide)) (fun h => ?_) (fun h => ?_)
      · refine cw (k_iinc (j := 5) [(7, .int (x7 + 1)), (8, .int v1), (0, .ref x0), (1, .long x1), (3, .long x3), (5, .long x5)] hX dX0_feed_103 rfl rfl rfl rfl) ?_
        refine cw (k_goto (tgt := 3) hX dX0_feed_106 (by decide)) ?_
        refine cw (k_lv (lv' := [(0, .ref x0), (1, .long x1), (3, .long x3), (5, .long x5), (7, .int (x7 + 1))]) [2, 3, 4, 5, 0] rfl) ?_
        exact hk3 _ _ _ _ _ _ h
      · refine cw (k_lv (lv' := [(0, .ref x0), (1, .long x1), (3, .long x3), (5, .long x5), (7, .int x7), (8, .int v1)]) [1, 2, 3, 4, 5, 0] rfl) ?_
        exact FX0_feed_b74_ok T hR e hk3 h
theorem FX0_feed_b3_s_ok {X : KC CS} {E : CE} {z : (Int32 × CS)} {z0 l0 z1 l1 : Nat} (T : cOK X E cX0_feed RX0 9 (some .int) z0 l0 z1 l1) (hR : cRoom X 0 0) (e : cE_i X E z0 l0 z1 l1 z.1 z.2) {nf : Nat} {k3 : Nat → Int64 → Int64 → Int64 → Int32 → CS → Option (Int32 × CS)} (hk3 : ∀ (x0 : Nat) (x1 : Int64) (x3 : Int64) (x5 : Int64) (x7 : Int32) (s : CS), k3 x0 x1 x3 x5 x7 s = some z → cW X z1 l1 s 3 [(0, .ref x0), (1, .long x1), (3, .long x3), (5, .long x5), (7, .int x7)] []) {x0 : Nat} {x1 : Int64} {x3 : Int64} {x5 : Int64} {x7 : Int32} {s : CS} (h : FX0_feed_b3_s nf k3 x0 x1 x3 x5 x7 s = some z) : cW X z1 l1 s 3 [(0, .ref x0), (1, .long x1), (3, .long x3), (5, .long x5), (7, .int x7)] [] := by
  unfold FX0_feed_b3_s at h
  have hX := T.1
  refine cw (k_iload hX dX0_feed_3 4 rfl) ?_
  refine cw (k_bipush (v := 24) hX dX0_feed_5 (by decide)) ?_
  refine c_br h (k_icmp_ge (tgt := 109) hX h dX0_feed_7 (by decide)) (fun h => ?_) (fun h => ?_)
  · refine cw (k_aload_n hX dX0_feed_109 rfl 0 rfl) ?_
    refine cg_X0_96 T h dX0_feed_110 (fun v1 h => ?_)
    exact c_ret_i T e h dX0_feed_113
  · refine cw (k_iload hX dX0_feed_10 4 rfl) ?_
    refine cw (k_bipush (v := 8) hX dX0_feed_12 (by decide)) ?_
    refine c_br h (k_icmp_ge (tgt := 21) hX h dX0_feed_14 (by decide)) (fun h => ?_) (fun h => ?_)
    · refine cw (k_iload hX dX0_feed_21 4 rfl) ?_
      refine cw (k_bipush (v := 16) hX dX0_feed_23 (by decide)) ?_
      refine c_br h (k_icmp_ge (tgt := 32) hX h dX0_feed_25 (by decide)) (fun h => ?_) (fun h => ?_)
      · refine cw (k_lload hX dX0_feed_32 3 rfl) ?_
        refine cw (k_lv (lv' := [(0, .ref x0), (1, .long x1), (3, .long x3), (5, .long x5), (7, .int x7)]) [0, 1, 2, 3, 4] rfl) ?_
        exact FX0_feed_b34_ok T hR e hk3 h
      · refine cw (k_lload_n hX dX0_feed_28 rfl 2 rfl) ?_
        refine cw (k_goto (tgt := 34) hX dX0_feed_29 (by decide)) ?_
        refine cw (k_lv (lv' := [(0, .ref x0), (1, .long x1), (3, .long x3), (5, .long x5), (7, .int x7)]) [0, 1, 2, 3, 4] rfl) ?_
        exact FX0_feed_b34_ok T hR e hk3 h
    · refine cw (k_lload_n hX dX0_feed_17 rfl 1 rfl) ?_
      refine cw (k_goto (tgt := 34) hX dX0_feed_18 (by decide)) ?_
      refine cw (k_lv (lv' := [(0, .ref x0), (1, .long x1), (3, .long x3), (5, .long x5), (7, .int x7)]) [0, 1, 2, 3, 4] rfl) ?_
      exact FX0_feed_b34_ok T hR e hk3 h
theorem FX0_feed_b3_ok {X : KC CS} {E : CE} {z : (Int32 × CS)} {z0 l0 z1 l1 : Nat} (T : cOK X E cX0_feed RX0 9 (some .int) z0 l0 z1 l1) (hR : cRoom X 0 0) (e : cE_i X E z0 l0 z1 l1 z.1 z.2) {nf : Nat} : ∀ (n : Nat) (x0 : Nat) (x1 : Int64) (x3 : Int64) (x5 : Int64) (x7 : Int32) (s : CS), FX0_feed_b3 nf n x0 x1 x3 x5 x7 s = some z → cW X z1 l1 s 3 [(0, .ref x0), (1, .long x1), (3, .long x3), (5, .long x5), (7, .int x7)] [] := by
  intro n
  induction n with
  | zero => intro x0 x1 x3 x5 x7 s h; exact (nomatch (show (none : Option (Int32 × CS)) = some z from h))
  | succ n ih =>
    intro x0 x1 x3 x5 x7 s h
    have h : FX0_feed_b3_s nf (FX0_feed_b3 nf n) x0 x1 x3 x5 x7 s = some z := h
    exact FX0_feed_b3_s_ok T hR e ih h
theorem met_FX0_feed {l : Launch} {E : CE} {nf : Nat} : ∀ (x0 : Nat) (x1 : Int64) (x3 : Int64) (x5 : Int64) (s : CS) (z : (Int32 × CS)), FX0_feed nf x0 x1 x3 x5 s = some z → (isK s x0 [0] = true ∧ cMet_i l E yX0_feed (ws_ yX0_feed cX0_feed 9 (some .int)) 0 0 [.ref x0, .long x1, .long x3, .long x5] s z.1 z.2) := by
  intro x0 x1 x3 x5 s z h
  unfold FX0_feed at h
  obtain ⟨hm, h⟩ := mz_of h
  obtain ⟨hg, h⟩ := gd_of h
  refine ⟨hg, c_met_i hm (by decide +kernel) rfl (fun X hl hin T hR e => ?_)⟩
  have T : cOK X E cX0_feed RX0 9 (some .int) _ _ _ _ := T
  have hX := T.1
  show cW X _ _ s 0 [(0, .ref x0), (1, .long x1), (3, .long x3), (5, .long x5)] []
  refine cw (k_iconst (v := 0) hX dX0_feed_0 (by decide)) ?_
  refine cw (k_istore [(7, .int 0), (0, .ref x0), (1, .long x1), (3, .long x3), (5, .long x5)] hX dX0_feed_1 rfl rfl) ?_
  refine cw (k_lv (lv' := [(0, .ref x0), (1, .long x1), (3, .long x3), (5, .long x5), (7, .int 0)]) [1, 2, 3, 4, 0] rfl) ?_
  exact FX0_feed_b3_ok T hR e _ _ _ _ _ _ _ h
theorem FX0_toldAt_b6_s_ok {X : KC CS} {E : CE} {z : Int32} {z0 l0 z1 l1 : Nat} {s : CS} (T : cOK X E cX0_toldAt RX0 7 (some .int) z0 l0 z1 l1) (hR : cRoom X 1 22) (e : cE_i X E z0 l0 z1 l1 z s) {nf : Nat} {k6 : Nat → Int32 → Int32 → Int32 → Int32 → Int32 → Int32 → Option Int32} (hk6 : ∀ (x0 : Nat) (x1 : Int32) (x2 : Int32) (x3 : Int32) (x4 : Int32) (x5 : Int32) (x6 : Int32), k6 x0 x1 x2 x3 x4 x5 x6 = some z → cW X z1 l1 s 6 [(0, .ref x0), (1, .int x1), (2, .int x2), (3, .int x3), (4, .int x4), (5, .int x5), (6, .int x6)] []) {x0 : Nat} {x1 : Int32} {x2 : Int32} {x3 : Int32} {x4 : Int32} {x5 : Int32} {x6 : Int32} (h : FX0_toldAt_b6_s nf s k6 x0 x1 x2 x3 x4 x5 x6 = some z) : cW X z1 l1 s 6 [(0, .ref x0), (1, .int x1), (2, .int x2), (3, .int x3), (4, .int x4), (5, .int x5), (6, .int x6)] [] := by
  unfold FX0_toldAt_b6_s at h
  have hX := T.1
  refine cw (k_iload hX dX0_toldAt_6 6 rfl) ?_
  refine cw (k_aload_n hX dX0_toldAt_8 rfl 0 rfl) ?_
  refine cg_X0_49 T h dX0_toldAt_9 (fun r1 h => ?_)
  obtain ⟨p2, e_p2, hq_p2⟩ := nn_of h
  subst e_p2
  have h := hq_p2
  show cW X z1 l1 _ 12 [(0, .ref x0), (1, .int x1), (2, .int x2), (3, .int x3), (4, .int x4), (5, .int x5), (6, .int x6)] [.ref p2, .int x6]
  refine cg_X0_410 T h dX0_toldAt_12 (fun v3 h => ?_)
  refine c_br h (k_icmp_ge (tgt := 65) hX h dX0_toldAt_15 (by decide)) (fun h => ?_) (fun h => ?_)
  · refine cw (k_iload hX dX0_toldAt_65 5 rfl) ?_
    exact c_ret_ir T e h dX0_toldAt_67
  · refine cw (k_aload_n hX dX0_toldAt_18 rfl 0 rfl) ?_
    refine cg_X0_49 T h dX0_toldAt_19 (fun r4 h => ?_)
    obtain ⟨p5, e_p5, hq_p5⟩ := nn_of h
    subst e_p5
    have h := hq_p5
    show cW X z1 l1 _ 22 [(0, .ref x0), (1, .int x1), (2, .int x2), (3, .int x3), (4, .int x4), (5, .int x5), (6, .int x6)] [.ref p5]
    refine cg_X0_413 T h dX0_toldAt_22 (fun r6 h => ?_)
    refine cw (k_iload hX dX0_toldAt_25 6 rfl) ?_
    obtain ⟨p7, e_p7, hq_p7⟩ := nn_of h
    subst e_p7
    have h := hq_p7
    show cW X z1 l1 _ 27 [(0, .ref x0), (1, .int x1), (2, .int x2), (3, .int x3), (4, .int x4), (5, .int x5), (6, .int x6)] [.int x6, .ref p7]
    refine ca_ild T h dX0_toldAt_27 (fun v8 h => ?_)
    refine cw (k_iload_n hX dX0_toldAt_28 rfl 2 rfl) ?_
    refine cw (k_bipush (v := 6) hX dX0_toldAt_29 (by decide)) ?_
    refine cw (k_imul hX dX0_toldAt_31) ?_
    refine cw (k_iload_n hX dX0_toldAt_32 rfl 1 rfl) ?_
    refine cw (k_iadd hX dX0_toldAt_33) ?_
    refine c_brn h (k_icmp_ne (tgt := 59) hX h dX0_toldAt_34 (by decide)) (fun h => ?_) (fun h => ?_)
    · refine cw (k_iinc (j := 6) [(6, .int (x6 + 1)), (0, .ref x0), (1, .int x1), (2, .int x2), (3, .int x3), (4, .int x4), (5, .int x5)] hX dX0_toldAt_59 rfl rfl rfl rfl) ?_
      refine cw (k_goto (tgt := 6) hX dX0_toldAt_62 (by decide)) ?_
      refine cw (k_lv (lv' := [(0, .ref x0), (1, .int x1), (2, .int x2), (3, .int x3), (4, .int x4), (5, .int x5), (6, .int (x6 + 1))]) [1, 2, 3, 4, 5, 6, 0] rfl) ?_
      exact hk6 _ _ _ _ _ _ _ h
    · refine cw (k_aload_n hX dX0_toldAt_37 rfl 0 rfl) ?_
      refine cg_X0_49 T h dX0_toldAt_38 (fun r9 h => ?_)
      obtain ⟨p10, e_p10, hq_p10⟩ := nn_of h
      subst e_p10
      have h := hq_p10
      show cW X z1 l1 _ 41 [(0, .ref x0), (1, .int x1), (2, .int x2), (3, .int x3), (4, .int x4), (5, .int x5), (6, .int x6)] [.ref p10]
      refine cg_X0_416 T h dX0_toldAt_41 (fun r11 h => ?_)
      refine cw (k_iload hX dX0_toldAt_44 6 rfl) ?_
      obtain ⟨p12, e_p12, hq_p12⟩ := nn_of h
      subst e_p12
      have h := hq_p12
      show cW X z1 l1 _ 46 [(0, .ref x0), (1, .int x1), (2, .int x2), (3, .int x3), (4, .int x4), (5, .int x5), (6, .int x6)] [.int x6, .ref p12]
      refine ca_ild T h dX0_toldAt_46 (fun v13 h => ?_)
      refine cw (k_iload_n hX dX0_toldAt_47 rfl 3 rfl) ?_
      refine cw (k_iload hX dX0_toldAt_48 4 rfl) ?_
      refine cX_X0_127 T met_FX0_in (c_room hR rfl rfl) h rfl dX0_toldAt_50 (fun v14 h => ?_)
      refine c_br h (k_if_eq (tgt := 59) hX h dX0_toldAt_53 (by decide)) (fun h => ?_) (fun h => ?_)
      · refine cw (k_iinc (j := 6) [(6, .int (x6 + 1)), (0, .ref x0), (1, .int x1), (2, .int x2), (3, .int x3), (4, .int x4), (5, .int x5)] hX dX0_toldAt_59 rfl rfl rfl rfl) ?_
        refine cw (k_goto (tgt := 6) hX dX0_toldAt_62 (by decide)) ?_
        refine cw (k_lv (lv' := [(0, .ref x0), (1, .int x1), (2, .int x2), (3, .int x3), (4, .int x4), (5, .int x5), (6, .int (x6 + 1))]) [1, 2, 3, 4, 5, 6, 0] rfl) ?_
        exact hk6 _ _ _ _ _ _ _ h
      · refine cw (k_iinc (j := 5) [(5, .int (x5 + 1)), (0, .ref x0), (1, .int x1), (2, .int x2), (3, .int x3), (4, .int x4), (6, .int x6)] hX dX0_toldAt_56 rfl rfl rfl rfl) ?_
        refine cw (k_iinc (j := 6) [(6, .int (x6 + 1)), (5, .int (x5 + 1)), (0, .ref x0), (1, .int x1), (2, .int x2), (3, .int x3), (4, .int x4)] hX dX0_toldAt_59 rfl rfl rfl rfl) ?_
        refine cw (k_goto (tgt := 6) hX dX0_toldAt_62 (by decide)) ?_
        refine cw (k_lv (lv' := [(0, .ref x0), (1, .int x1), (2, .int x2), (3, .int x3), (4, .int x4), (5, .int (x5 + 1)), (6, .int (x6 + 1))]) [2, 3, 4, 5, 6, 1, 0] rfl) ?_
        exact hk6 _ _ _ _ _ _ _ h
theorem FX0_toldAt_b6_ok {X : KC CS} {E : CE} {z : Int32} {z0 l0 z1 l1 : Nat} {s : CS} (T : cOK X E cX0_toldAt RX0 7 (some .int) z0 l0 z1 l1) (hR : cRoom X 1 22) (e : cE_i X E z0 l0 z1 l1 z s) {nf : Nat} : ∀ (n : Nat) (x0 : Nat) (x1 : Int32) (x2 : Int32) (x3 : Int32) (x4 : Int32) (x5 : Int32) (x6 : Int32), FX0_toldAt_b6 nf s n x0 x1 x2 x3 x4 x5 x6 = some z → cW X z1 l1 s 6 [(0, .ref x0), (1, .int x1), (2, .int x2), (3, .int x3), (4, .int x4), (5, .int x5), (6, .int x6)] [] := by
  intro n
  induction n with
  | zero => intro x0 x1 x2 x3 x4 x5 x6 h; exact (nomatch (show (none : Option Int32) = some z from h))
  | succ n ih =>
    intro x0 x1 x2 x3 x4 x5 x6 h
    have h : FX0_toldAt_b6_s nf s (FX0_toldAt_b6 nf s n) x0 x1 x2 x3 x4 x5 x6 = some z := h
    exact FX0_toldAt_b6_s_ok T hR e ih h
theorem met_FX0_toldAt {l : Launch} {E : CE} {nf : Nat} {s : CS} : ∀ (x0 : Nat) (x1 : Int32) (x2 : Int32) (x3 : Int32) (x4 : Int32) (z : Int32), FX0_toldAt nf s x0 x1 x2 x3 x4 = some z → (isK s x0 [0] = true ∧ cMet_i l E yX0_toldAt (ws_ yX0_toldAt cX0_toldAt 7 (some .int)) 1 22 [.ref x0, .int x1, .int x2, .int x3, .int x4] s z s) := by
  intro x0 x1 x2 x3 x4 z h
  unfold FX0_toldAt at h
  obtain ⟨hg, h⟩ := gd_of h
  refine ⟨hg, c_met_i ⟨Nat.le_refl _, Nat.le_refl _⟩ (by decide +kernel) rfl (fun X hl hin T hR e => ?_)⟩
  have T : cOK X E cX0_toldAt RX0 7 (some .int) _ _ _ _ := T
  have hX := T.1
  show cW X _ _ s 0 [(0, .ref x0), (1, .int x1), (2, .int x2), (3, .int x3), (4, .int x4)] []
  refine cw (k_iconst (v := 0) hX dX0_toldAt_0 (by decide)) ?_
  refine cw (k_istore [(5, .int 0), (0, .ref x0), (1, .int x1), (2, .int x2), (3, .int x3), (4, .int x4)] hX dX0_toldAt_1 rfl rfl) ?_
  refine cw (k_iconst (v := 0) hX dX0_toldAt_3 (by decide)) ?_
  refine cw (k_istore [(6, .int 0), (5, .int 0), (0, .ref x0), (1, .int x1), (2, .int x2), (3, .int x3), (4, .int x4)] hX dX0_toldAt_4 rfl rfl) ?_
  refine cw (k_lv (lv' := [(0, .ref x0), (1, .int x1), (2, .int x2), (3, .int x3), (4, .int x4), (5, .int 0), (6, .int 0)]) [2, 3, 4, 5, 6, 1, 0] rfl) ?_
  exact FX0_toldAt_b6_ok T hR e _ _ _ _ _ _ _ _ h
theorem FX0_ways_b178_ok {X : KC CS} {E : CE} {z : CS} {z0 l0 z1 l1 : Nat} (T : cOK X E cX0_ways RX0 18 none z0 l0 z1 l1) {Fr Lr : Nat} (hR : cRoom X (Fr + 1) (Lr + 49)) (e : cE_v X E z0 l0 z1 l1 z) {nf : Nat} {rc : Nat → Int32 → Int32 → Int32 → Int32 → Int32 → Int64 → Int64 → Int32 → CS → Option CS} (hrc : ∀ (o : Nat) (a0 : Int32) (a1 : Int32) (a2 : Int32) (a3 : Int32) (a4 : Int32) (a5 : Int64) (a6 : Int64) (a7 : Int32) (s : CS) (v : CS), rc o a0 a1 a2 a3 a4 a5 a6 a7 s = some v → (isK s o [0] = true ∧ cMet_v X.1.2.1 E yX0_ways (ws_ yX0_ways cX0_ways 18 none) Fr Lr [.ref o, .int a0, .int a1, .int a2, .int a3, .int a4, .long a5, .long a6, .int a7] s v)) (hN : 2 ≤ Fr) (hM : 56 ≤ Lr) {k122 : Nat → Int32 → Int32 → Int32 → Int32 → Int32 → Int32 → Int64 → Int64 → Int32 → CS → Option CS} (hk122 : ∀ (x0 : Nat) (x1 : Int32) (x2 : Int32) (x3 : Int32) (x4 : Int32) (x5 : Int32) (x10 : Int32) (x11 : Int64) (x13 : Int64) (x15 : Int32) (s : CS), k122 x0 x1 x2 x3 x4 x5 x10 x11 x13 x15 s = some z → cW X z1 l1 s 122 [(0, .ref x0), (1, .int x1), (2, .int x2), (3, .int x3), (4, .int x4), (5, .int x5), (10, .int x10), (11, .long x11), (13, .long x13), (15, .int x15)] []) {x0 : Nat} {x1 : Int32} {x2 : Int32} {x3 : Int32} {x4 : Int32} {x5 : Int32} {x10 : Int32} {x11 : Int64} {x13 : Int64} {x15 : Int32} {x17 : Int32} {s_0 : Int32} {s_1 : Int32} {s_2 : Nat} {s : CS} (h : FX0_ways_b178 nf rc k122 x0 x1 x2 x3 x4 x5 x10 x11 x13 x15 x17 s_0 s_1 s_2 s = some z) : cW X z1 l1 s 178 [(0, .ref x0), (1, .int x1), (2, .int x2), (3, .int x3), (4, .int x4), (5, .int x5), (10, .int x10), (11, .long x11), (13, .long x13), (15, .int x15), (17, .int x17)] [.int s_0, .int s_1, .ref s_2] := by
  unfold FX0_ways_b178 at h
  have hX := T.1
  refine cw (k_iload hX dX0_ways_178 10 rfl) ?_
  refine cw (k_aload_n hX dX0_ways_180 rfl 0 rfl) ?_
  refine cg_X0_35 T h dX0_ways_181 (fun r1 h => ?_)
  obtain ⟨p2, e_p2, hq_p2⟩ := nn_of h
  subst e_p2
  have h := hq_p2
  show cW X z1 l1 _ 184 [(0, .ref x0), (1, .int x1), (2, .int x2), (3, .int x3), (4, .int x4), (5, .int x5), (10, .int x10), (11, .long x11), (13, .long x13), (15, .int x15), (17, .int x17)] [.ref p2, .int x17, .int s_0, .int s_1, .ref s_2]
  refine cX_X0_217 T met_FX2_walk (c_roomo hR (by omega) (by omega)) h rfl dX0_ways_184 (fun v3 h => ?_)
  refine cw (k_iadd hX dX0_ways_187) ?_
  refine cw (k_iload hX dX0_ways_188 4 rfl) ?_
  refine cw (k_iconst (v := 1) hX dX0_ways_190 (by decide)) ?_
  refine cw (k_iadd hX dX0_ways_191) ?_
  refine cw (k_iload hX dX0_ways_192 5 rfl) ?_
  refine cw (k_iload hX dX0_ways_194 9 rfl) ?_
  refine cw (k_iload hX dX0_ways_196 4 rfl) ?_
  refine cw (k_ishl hX dX0_ways_198) ?_
  refine cw (k_ior hX dX0_ways_199) ?_
  refine cw (k_lload hX dX0_ways_200 7 rfl) ?_
  refine cw (k_lload hX dX0_ways_202 8 rfl) ?_
  refine cw (k_iload hX dX0_ways_204 6 rfl) ?_
  refine cw (k_aload_n hX dX0_ways_206 rfl 0 rfl) ?_
  refine cw (k_iload_n hX dX0_ways_207 rfl 1 rfl) ?_
  refine cw (k_iload_n hX dX0_ways_208 rfl 2 rfl) ?_
  refine cw (k_iload_n hX dX0_ways_209 rfl 3 rfl) ?_
  refine cw (k_iload hX dX0_ways_210 10 rfl) ?_
  refine cX_X0_419d T met_FX0_toldAt (c_roomo16 hR (by omega) (by omega)) h rfl dX0_ways_212 (fun v4 h => ?_)
  refine cw (k_iadd hX dX0_ways_215) ?_
  refine cX_X0_435 T hrc (c_roomo hR (by omega) (by omega)) h rfl dX0_ways_216 (fun s5 h => ?_)
  refine cw (k_iinc (j := 9) [(15, .int (x15 + 1)), (0, .ref x0), (1, .int x1), (2, .int x2), (3, .int x3), (4, .int x4), (5, .int x5), (10, .int x10), (11, .long x11), (13, .long x13), (17, .int x17)] hX dX0_ways_219 rfl rfl rfl rfl) ?_
  refine cw (k_goto (tgt := 122) hX dX0_ways_222 (by decide)) ?_
  refine cw (k_lv (lv' := [(0, .ref x0), (1, .int x1), (2, .int x2), (3, .int x3), (4, .int x4), (5, .int x5), (10, .int x10), (11, .long x11), (13, .long x13), (15, .int (x15 + 1))]) [1, 2, 3, 4, 5, 6, 7, 8, 9, 0] rfl) ?_
  exact hk122 _ _ _ _ _ _ _ _ _ _ _ h
theorem FX0_ways_b166_ok {X : KC CS} {E : CE} {z : CS} {z0 l0 z1 l1 : Nat} (T : cOK X E cX0_ways RX0 18 none z0 l0 z1 l1) {Fr Lr : Nat} (hR : cRoom X (Fr + 1) (Lr + 49)) (e : cE_v X E z0 l0 z1 l1 z) {nf : Nat} {rc : Nat → Int32 → Int32 → Int32 → Int32 → Int32 → Int64 → Int64 → Int32 → CS → Option CS} (hrc : ∀ (o : Nat) (a0 : Int32) (a1 : Int32) (a2 : Int32) (a3 : Int32) (a4 : Int32) (a5 : Int64) (a6 : Int64) (a7 : Int32) (s : CS) (v : CS), rc o a0 a1 a2 a3 a4 a5 a6 a7 s = some v → (isK s o [0] = true ∧ cMet_v X.1.2.1 E yX0_ways (ws_ yX0_ways cX0_ways 18 none) Fr Lr [.ref o, .int a0, .int a1, .int a2, .int a3, .int a4, .long a5, .long a6, .int a7] s v)) (hN : 2 ≤ Fr) (hM : 56 ≤ Lr) {k122 : Nat → Int32 → Int32 → Int32 → Int32 → Int32 → Int32 → Int64 → Int64 → Int32 → CS → Option CS} (hk122 : ∀ (x0 : Nat) (x1 : Int32) (x2 : Int32) (x3 : Int32) (x4 : Int32) (x5 : Int32) (x10 : Int32) (x11 : Int64) (x13 : Int64) (x15 : Int32) (s : CS), k122 x0 x1 x2 x3 x4 x5 x10 x11 x13 x15 s = some z → cW X z1 l1 s 122 [(0, .ref x0), (1, .int x1), (2, .int x2), (3, .int x3), (4, .int x4), (5, .int x5), (10, .int x10), (11, .long x11), (13, .long x13), (15, .int x15)] []) {x0 : Nat} {x1 : Int32} {x2 : Int32} {x3 : Int32} {x4 : Int32} {x5 : Int32} {x10 : Int32} {x11 : Int64} {x13 : Int64} {x15 : Int32} {x17 : Int32} {s_0 : Int32} {s_1 : Nat} {s : CS} (h : FX0_ways_b166 nf rc k122 x0 x1 x2 x3 x4 x5 x10 x11 x13 x15 x17 s_0 s_1 s = some z) : cW X z1 l1 s 166 [(0, .ref x0), (1, .int x1), (2, .int x2), (3, .int x3), (4, .int x4), (5, .int x5), (10, .int x10), (11, .long x11), (13, .long x13), (15, .int x15), (17, .int x17)] [.int s_0, .ref s_1] := by
  unfold FX0_ways_b166 at h
  have hX := T.1
  refine cw (k_iload hX dX0_ways_166 9 rfl) ?_
  refine c_brn h (k_if_ne (tgt := 175) hX h dX0_ways_168 (by decide)) (fun h => ?_) (fun h => ?_)
  · refine cw (k_iload_n hX dX0_ways_175 rfl 2 rfl) ?_
    refine cw (k_iconst (v := 1) hX dX0_ways_176 (by decide)) ?_
    refine cw (k_iadd hX dX0_ways_177) ?_
    refine cw (k_lv (lv' := [(0, .ref x0), (1, .int x1), (2, .int x2), (3, .int x3), (4, .int x4), (5, .int x5), (10, .int x10), (11, .long x11), (13, .long x13), (15, .int x15), (17, .int x17)]) [0, 1, 2, 3, 4, 5, 6, 7, 8, 9, 10] rfl) ?_
    exact FX0_ways_b178_ok T hR e hrc hN hM hk122 h
  · refine cw (k_iload_n hX dX0_ways_171 rfl 2 rfl) ?_
    refine cw (k_goto (tgt := 178) hX dX0_ways_172 (by decide)) ?_
    refine cw (k_lv (lv' := [(0, .ref x0), (1, .int x1), (2, .int x2), (3, .int x3), (4, .int x4), (5, .int x5), (10, .int x10), (11, .long x11), (13, .long x13), (15, .int x15), (17, .int x17)]) [0, 1, 2, 3, 4, 5, 6, 7, 8, 9, 10] rfl) ?_
    exact FX0_ways_b178_ok T hR e hrc hN hM hk122 h
theorem FX0_ways_b122_s_ok {X : KC CS} {E : CE} {z : CS} {z0 l0 z1 l1 : Nat} (T : cOK X E cX0_ways RX0 18 none z0 l0 z1 l1) {Fr Lr : Nat} (hR : cRoom X (Fr + 1) (Lr + 49)) (e : cE_v X E z0 l0 z1 l1 z) {nf : Nat} {rc : Nat → Int32 → Int32 → Int32 → Int32 → Int32 → Int64 → Int64 → Int32 → CS → Option CS} (hrc : ∀ (o : Nat) (a0 : Int32) (a1 : Int32) (a2 : Int32) (a3 : Int32) (a4 : Int32) (a5 : Int64) (a6 : Int64) (a7 : Int32) (s : CS) (v : CS), rc o a0 a1 a2 a3 a4 a5 a6 a7 s = some v → (isK s o [0] = true ∧ cMet_v X.1.2.1 E yX0_ways (ws_ yX0_ways cX0_ways 18 none) Fr Lr [.ref o, .int a0, .int a1, .int a2, .int a3, .int a4, .long a5, .long a6, .int a7] s v)) (hN : 2 ≤ Fr) (hM : 56 ≤ Lr) {k122 : Nat → Int32 → Int32 → Int32 → Int32 → Int32 → Int32 → Int64 → Int64 → Int32 → CS → Option CS} (hk122 : ∀ (x0 : Nat) (x1 : Int32) (x2 : Int32) (x3 : Int32) (x4 : Int32) (x5 : Int32) (x10 : Int32) (x11 : Int64) (x13 : Int64) (x15 : Int32) (s : CS), k122 x0 x1 x2 x3 x4 x5 x10 x11 x13 x15 s = some z → cW X z1 l1 s 122 [(0, .ref x0), (1, .int x1), (2, .int x2), (3, .int x3), (4, .int x4), (5, .int x5), (10, .int x10), (11, .long x11), (13, .long x13), (15, .int x15)] []) {x0 : Nat} {x1 : Int32} {x2 : Int32} {x3 : Int32} {x4 : Int32} {x5 : Int32} {x10 : Int32} {x11 : Int64} {x13 : Int64} {x15 : Int32} {s : CS} (h : FX0_ways_b122_s nf rc k122 x0 x1 x2 x3 x4 x5 x10 x11 x13 x15 s = some z) : cW X z1 l1 s 122 [(0, .ref x0), (1, .int x1), (2, .int x2), (3, .int x3), (4, .int x4), (5, .int x5), (10, .int x10), (11, .long x11), (13, .long x13), (15, .int x15)] [] := by
  unfold FX0_ways_b122_s at h
  have hX := T.1
  refine cw (k_iload hX dX0_ways_122 9 rfl) ?_
  refine cw (k_iconst (v := 1) hX dX0_ways_124 (by decide)) ?_
  refine c_br h (k_icmp_gt (tgt := 225) hX h dX0_ways_125 (by decide)) (fun h => ?_) (fun h => ?_)
  · exact c_ret_v T e h dX0_ways_225
  · refine cw (k_aload_n hX dX0_ways_128 rfl 0 rfl) ?_
    refine cw (k_iload_n hX dX0_ways_129 rfl 1 rfl) ?_
    refine cw (k_iload_n hX dX0_ways_130 rfl 2 rfl) ?_
    refine cw (k_iload hX dX0_ways_131 9 rfl) ?_
    refine cw (k_iload_n hX dX0_ways_133 rfl 3 rfl) ?_
    refine cX_X0_191 T met_FX0_waits (c_roomo hR (by omega) (by omega)) h rfl dX0_ways_134 (fun v1 h => ?_)
    refine cw (k_istore [(16, .int v1), (0, .ref x0), (1, .int x1), (2, .int x2), (3, .int x3), (4, .int x4), (5, .int x5), (10, .int x10), (11, .long x11), (13, .long x13), (15, .int x15)] hX dX0_ways_137 rfl rfl) ?_
    refine cw (k_iload hX dX0_ways_139 0 rfl) ?_
    refine c_br h (k_if_ge (tgt := 147) hX h dX0_ways_141 (by decide)) (fun h => ?_) (fun h => ?_)
    · refine cw (k_iload_n hX dX0_ways_147 rfl 4 rfl) ?_
      refine cw (k_iload hX dX0_ways_148 0 rfl) ?_
      refine cw (k_iadd hX dX0_ways_150) ?_
      refine c_nm h (fun v2 h => ?_)
      refine cw (k_istore [(17, .int v2), (16, .int v1), (0, .ref x0), (1, .int x1), (2, .int x2), (3, .int x3), (4, .int x4), (5, .int x5), (10, .int x10), (11, .long x11), (13, .long x13), (15, .int x15)] hX dX0_ways_151 rfl rfl) ?_
      refine cw (k_aload_n hX dX0_ways_153 rfl 2 rfl) ?_
      refine cw (k_iload hX dX0_ways_154 11 rfl) ?_
      refine c_brn h (k_if_ne (tgt := 165) hX h dX0_ways_156 (by decide)) (fun h => ?_) (fun h => ?_)
      · refine cw (k_iload_n hX dX0_ways_165 rfl 3 rfl) ?_
        refine cw (k_lv (lv' := [(0, .ref x0), (1, .int x1), (2, .int x2), (3, .int x3), (4, .int x4), (5, .int x5), (10, .int x10), (11, .long x11), (13, .long x13), (15, .int x15), (17, .int v2)]) [2, 3, 4, 5, 6, 7, 8, 9, 10, 11, 0] rfl) ?_
        exact FX0_ways_b166_ok T hR e hrc hN hM hk122 h
      · refine cw (k_iload_n hX dX0_ways_159 rfl 3 rfl) ?_
        refine cw (k_iconst (v := 1) hX dX0_ways_160 (by decide)) ?_
        refine cw (k_iadd hX dX0_ways_161) ?_
        refine cw (k_goto (tgt := 166) hX dX0_ways_162 (by decide)) ?_
        refine cw (k_lv (lv' := [(0, .ref x0), (1, .int x1), (2, .int x2), (3, .int x3), (4, .int x4), (5, .int x5), (10, .int x10), (11, .long x11), (13, .long x13), (15, .int x15), (17, .int v2)]) [2, 3, 4, 5, 6, 7, 8, 9, 10, 11, 0] rfl) ?_
        exact FX0_ways_b166_ok T hR e hrc hN hM hk122 h
    · refine cw (k_goto (tgt := 219) hX dX0_ways_144 (by decide)) ?_
      refine cw (k_iinc (j := 10) [(15, .int (x15 + 1)), (16, .int v1), (0, .ref x0), (1, .int x1), (2, .int x2), (3, .int x3), (4, .int x4), (5, .int x5), (10, .int x10), (11, .long x11), (13, .long x13)] hX dX0_ways_219 rfl rfl rfl rfl) ?_
      refine cw (k_goto (tgt := 122) hX dX0_ways_222 (by decide)) ?_
      refine cw (k_lv (lv' := [(0, .ref x0), (1, .int x1), (2, .int x2), (3, .int x3), (4, .int x4), (5, .int x5), (10, .int x10), (11, .long x11), (13, .long x13), (15, .int (x15 + 1))]) [2, 3, 4, 5, 6, 7, 8, 9, 10, 0] rfl) ?_
      exact hk122 _ _ _ _ _ _ _ _ _ _ _ h
theorem FX0_ways_b122_ok {X : KC CS} {E : CE} {z : CS} {z0 l0 z1 l1 : Nat} (T : cOK X E cX0_ways RX0 18 none z0 l0 z1 l1) {Fr Lr : Nat} (hR : cRoom X (Fr + 1) (Lr + 49)) (e : cE_v X E z0 l0 z1 l1 z) {nf : Nat} {rc : Nat → Int32 → Int32 → Int32 → Int32 → Int32 → Int64 → Int64 → Int32 → CS → Option CS} (hrc : ∀ (o : Nat) (a0 : Int32) (a1 : Int32) (a2 : Int32) (a3 : Int32) (a4 : Int32) (a5 : Int64) (a6 : Int64) (a7 : Int32) (s : CS) (v : CS), rc o a0 a1 a2 a3 a4 a5 a6 a7 s = some v → (isK s o [0] = true ∧ cMet_v X.1.2.1 E yX0_ways (ws_ yX0_ways cX0_ways 18 none) Fr Lr [.ref o, .int a0, .int a1, .int a2, .int a3, .int a4, .long a5, .long a6, .int a7] s v)) (hN : 2 ≤ Fr) (hM : 56 ≤ Lr) : ∀ (n : Nat) (x0 : Nat) (x1 : Int32) (x2 : Int32) (x3 : Int32) (x4 : Int32) (x5 : Int32) (x10 : Int32) (x11 : Int64) (x13 : Int64) (x15 : Int32) (s : CS), FX0_ways_b122 nf rc n x0 x1 x2 x3 x4 x5 x10 x11 x13 x15 s = some z → cW X z1 l1 s 122 [(0, .ref x0), (1, .int x1), (2, .int x2), (3, .int x3), (4, .int x4), (5, .int x5), (10, .int x10), (11, .long x11), (13, .long x13), (15, .int x15)] [] := by
  intro n
  induction n with
  | zero => intro x0 x1 x2 x3 x4 x5 x10 x11 x13 x15 s h; exact (nomatch (show (none : Option CS) = some z from h))
  | succ n ih =>
    intro x0 x1 x2 x3 x4 x5 x10 x11 x13 x15 s h
    have h : FX0_ways_b122_s nf rc (FX0_ways_b122 nf rc n) x0 x1 x2 x3 x4 x5 x10 x11 x13 x15 s = some z := h
    exact FX0_ways_b122_s_ok T hR e hrc hN hM ih h
theorem FX0_ways_b96_ok {X : KC CS} {E : CE} {z : CS} {z0 l0 z1 l1 : Nat} (T : cOK X E cX0_ways RX0 18 none z0 l0 z1 l1) {Fr Lr : Nat} (hR : cRoom X (Fr + 1) (Lr + 49)) (e : cE_v X E z0 l0 z1 l1 z) {nf : Nat} {rc : Nat → Int32 → Int32 → Int32 → Int32 → Int32 → Int64 → Int64 → Int32 → CS → Option CS} (hrc : ∀ (o : Nat) (a0 : Int32) (a1 : Int32) (a2 : Int32) (a3 : Int32) (a4 : Int32) (a5 : Int64) (a6 : Int64) (a7 : Int32) (s : CS) (v : CS), rc o a0 a1 a2 a3 a4 a5 a6 a7 s = some v → (isK s o [0] = true ∧ cMet_v X.1.2.1 E yX0_ways (ws_ yX0_ways cX0_ways 18 none) Fr Lr [.ref o, .int a0, .int a1, .int a2, .int a3, .int a4, .long a5, .long a6, .int a7] s v)) (hN : 2 ≤ Fr) (hM : 56 ≤ Lr) {x0 : Nat} {x11 : Int64} {x13 : Int64} {s : CS} (h : FX0_ways_b96 nf rc x0 x11 x13 s = some z) : cW X z1 l1 s 96 [(0, .ref x0), (11, .long x11), (13, .long x13)] [] := by
  unfold FX0_ways_b96 at h
  have hX := T.1
  refine cw (k_aload_n hX dX0_ways_96 rfl 0 rfl) ?_
  refine cw (k_dup hX dX0_ways_97 rfl) ?_
  refine cg_X0_428 T h dX0_ways_98 (fun v1 h => ?_)
  refine cw (k_lload hX dX0_ways_101 1 rfl) ?_
  refine cw (k_land hX dX0_ways_103) ?_
  refine cp_X0_428 T h dX0_ways_104 (fun s2 h => ?_)
  refine cw (k_aload_n hX dX0_ways_107 rfl 0 rfl) ?_
  refine cw (k_dup hX dX0_ways_108 rfl) ?_
  refine cg_X0_432 T h dX0_ways_109 (fun v3 h => ?_)
  refine cw (k_lload hX dX0_ways_112 2 rfl) ?_
  refine cw (k_land hX dX0_ways_114) ?_
  refine cp_X0_432 T h dX0_ways_115 (fun s4 h => ?_)
  exact c_ret_v T e h dX0_ways_118
theorem FX0_ways_b41_ok {X : KC CS} {E : CE} {z : CS} {z0 l0 z1 l1 : Nat} (T : cOK X E cX0_ways RX0 18 none z0 l0 z1 l1) {Fr Lr : Nat} (hR : cRoom X (Fr + 1) (Lr + 49)) (e : cE_v X E z0 l0 z1 l1 z) {nf : Nat} {rc : Nat → Int32 → Int32 → Int32 → Int32 → Int32 → Int64 → Int64 → Int32 → CS → Option CS} (hrc : ∀ (o : Nat) (a0 : Int32) (a1 : Int32) (a2 : Int32) (a3 : Int32) (a4 : Int32) (a5 : Int64) (a6 : Int64) (a7 : Int32) (s : CS) (v : CS), rc o a0 a1 a2 a3 a4 a5 a6 a7 s = some v → (isK s o [0] = true ∧ cMet_v X.1.2.1 E yX0_ways (ws_ yX0_ways cX0_ways 18 none) Fr Lr [.ref o, .int a0, .int a1, .int a2, .int a3, .int a4, .long a5, .long a6, .int a7] s v)) (hN : 2 ≤ Fr) (hM : 56 ≤ Lr) {x0 : Nat} {x1 : Int32} {x2 : Int32} {x3 : Int32} {x4 : Int32} {x5 : Int32} {x10 : Int32} {x11 : Int64} {s_0 : Int64} {s : CS} (h : FX0_ways_b41 nf rc x0 x1 x2 x3 x4 x5 x10 x11 s_0 s = some z) : cW X z1 l1 s 41 [(0, .ref x0), (1, .int x1), (2, .int x2), (3, .int x3), (4, .int x4), (5, .int x5), (10, .int x10), (11, .long x11)] [.long s_0] := by
  unfold FX0_ways_b41 at h
  have hX := T.1
  refine cw (k_lstore [(13, .long s_0), (0, .ref x0), (1, .int x1), (2, .int x2), (3, .int x3), (4, .int x4), (5, .int x5), (10, .int x10), (11, .long x11)] hX dX0_ways_41 rfl rfl) ?_
  refine cw (k_aload_n hX dX0_ways_43 rfl 1 rfl) ?_
  refine cw (k_iload_n hX dX0_ways_44 rfl 2 rfl) ?_
  refine cw (k_iload_n hX dX0_ways_45 rfl 3 rfl) ?_
  refine cX_X0_278 T met_FX0_isHome (c_roomo hR (by omega) (by omega)) h rfl dX0_ways_46 (fun v1 h => ?_)
  refine c_br h (k_if_eq (tgt := 119) hX h dX0_ways_49 (by decide)) (fun h => ?_) (fun h => ?_)
  · refine cw (k_iconst (v := 0) hX dX0_ways_119 (by decide)) ?_
    refine cw (k_istore [(15, .int 0), (13, .long s_0), (0, .ref x0), (1, .int x1), (2, .int x2), (3, .int x3), (4, .int x4), (5, .int x5), (10, .int x10), (11, .long x11)] hX dX0_ways_120 rfl rfl) ?_
    refine cw (k_lv (lv' := [(0, .ref x0), (1, .int x1), (2, .int x2), (3, .int x3), (4, .int x4), (5, .int x5), (10, .int x10), (11, .long x11), (13, .long s_0), (15, .int 0)]) [2, 3, 4, 5, 6, 7, 8, 9, 1, 0] rfl) ?_
    exact FX0_ways_b122_ok T hR e hrc hN hM _ _ _ _ _ _ _ _ _ _ _ _ h
  · refine cw (k_iload hX dX0_ways_52 7 rfl) ?_
    refine cw (k_aload_n hX dX0_ways_54 rfl 1 rfl) ?_
    refine cw (k_iload_n hX dX0_ways_55 rfl 2 rfl) ?_
    refine cw (k_iload_n hX dX0_ways_56 rfl 3 rfl) ?_
    refine cw (k_iload_n hX dX0_ways_57 rfl 4 rfl) ?_
    refine cw (k_ldcw (v := 2147483647) hX q1427 dX0_ways_58) ?_
    refine cX_X0_419 T met_FX0_toldAt (c_roomo hR (by omega) (by omega)) h rfl dX0_ways_61 (fun v2 h => ?_)
    refine cw (k_iadd hX dX0_ways_64) ?_
    refine cw (k_aload_n hX dX0_ways_65 rfl 1 rfl) ?_
    refine cg_X0_49 T h dX0_ways_66 (fun r3 h => ?_)
    obtain ⟨p4, e_p4, hq_p4⟩ := nn_of h
    subst e_p4
    have h := hq_p4
    show cW X z1 l1 _ 69 [(13, .long s_0), (0, .ref x0), (1, .int x1), (2, .int x2), (3, .int x3), (4, .int x4), (5, .int x5), (10, .int x10), (11, .long x11)] [.ref p4, .int (x10 + v2)]
    refine cg_X0_410 T h dX0_ways_69 (fun v5 h => ?_)
    refine c_br h (k_icmp_ge (tgt := 76) hX h dX0_ways_72 (by decide)) (fun h => ?_) (fun h => ?_)
    · refine cw (k_aload_n hX dX0_ways_76 rfl 1 rfl) ?_
      refine cw (k_dup hX dX0_ways_77 rfl) ?_
      refine cg_X0_422 T h dX0_ways_78 (fun v6 h => ?_)
      refine cw (k_dup_x1 hX dX0_ways_81 (by first | rfl | exact rf_cat _) (by first | rfl | exact rf_cat _)) ?_
      refine cw (k_iconst (v := 1) hX dX0_ways_82 (by decide)) ?_
      refine cw (k_iadd hX dX0_ways_83) ?_
      refine cp_X0_422 T h dX0_ways_84 (fun s7 h => ?_)
      refine c_brn h (k_if_ne (tgt := 96) hX h dX0_ways_87 (by decide)) (fun h => ?_) (fun h => ?_)
      · refine cw (k_lv (lv' := [(0, .ref x0), (11, .long x11), (13, .long s_0)]) [1, 8, 0] rfl) ?_
        exact FX0_ways_b96_ok T hR e hrc hN hM h
      · refine cw (k_aload_n hX dX0_ways_90 rfl 1 rfl) ?_
        refine cw (k_iload hX dX0_ways_91 6 rfl) ?_
        refine cp_X0_425 T h dX0_ways_93 (fun s8 h => ?_)
        refine cw (k_lv (lv' := [(0, .ref x0), (11, .long x11), (13, .long s_0)]) [1, 8, 0] rfl) ?_
        exact FX0_ways_b96_ok T hR e hrc hN hM h
    · exact c_ret_v T e h dX0_ways_75
theorem FX0_ways_b22_ok {X : KC CS} {E : CE} {z : CS} {z0 l0 z1 l1 : Nat} (T : cOK X E cX0_ways RX0 18 none z0 l0 z1 l1) {Fr Lr : Nat} (hR : cRoom X (Fr + 1) (Lr + 49)) (e : cE_v X E z0 l0 z1 l1 z) {nf : Nat} {rc : Nat → Int32 → Int32 → Int32 → Int32 → Int32 → Int64 → Int64 → Int32 → CS → Option CS} (hrc : ∀ (o : Nat) (a0 : Int32) (a1 : Int32) (a2 : Int32) (a3 : Int32) (a4 : Int32) (a5 : Int64) (a6 : Int64) (a7 : Int32) (s : CS) (v : CS), rc o a0 a1 a2 a3 a4 a5 a6 a7 s = some v → (isK s o [0] = true ∧ cMet_v X.1.2.1 E yX0_ways (ws_ yX0_ways cX0_ways 18 none) Fr Lr [.ref o, .int a0, .int a1, .int a2, .int a3, .int a4, .long a5, .long a6, .int a7] s v)) (hN : 2 ≤ Fr) (hM : 56 ≤ Lr) {x0 : Nat} {x1 : Int32} {x2 : Int32} {x3 : Int32} {x4 : Int32} {x5 : Int32} {x8 : Int64} {x10 : Int32} {s_0 : Int64} {s : CS} (h : FX0_ways_b22 nf rc x0 x1 x2 x3 x4 x5 x8 x10 s_0 s = some z) : cW X z1 l1 s 22 [(0, .ref x0), (1, .int x1), (2, .int x2), (3, .int x3), (4, .int x4), (5, .int x5), (8, .long x8), (10, .int x10)] [.long s_0] := by
  unfold FX0_ways_b22 at h
  have hX := T.1
  refine cw (k_lstore [(11, .long s_0), (0, .ref x0), (1, .int x1), (2, .int x2), (3, .int x3), (4, .int x4), (5, .int x5), (8, .long x8), (10, .int x10)] hX dX0_ways_22 rfl rfl) ?_
  refine cw (k_iload_n hX dX0_ways_24 rfl 3 rfl) ?_
  refine cw (k_bipush (v := 8) hX dX0_ways_25 (by decide)) ?_
  refine c_br h (k_icmp_ge (tgt := 35) hX h dX0_ways_27 (by decide)) (fun h => ?_) (fun h => ?_)
  · refine cw (k_lload hX dX0_ways_35 7 rfl) ?_
    refine cw (k_lconst (v := 1) hX dX0_ways_37 (by decide)) ?_
    refine cw (k_iload_n hX dX0_ways_38 rfl 2 rfl) ?_
    refine cw (k_lshl hX dX0_ways_39) ?_
    refine cw (k_lor hX dX0_ways_40) ?_
    refine cw (k_lv (lv' := [(0, .ref x0), (1, .int x1), (2, .int x2), (3, .int x3), (4, .int x4), (5, .int x5), (10, .int x10), (11, .long s_0)]) [1, 2, 3, 4, 5, 6, 8, 0] rfl) ?_
    exact FX0_ways_b41_ok T hR e hrc hN hM h
  · refine cw (k_lload hX dX0_ways_30 7 rfl) ?_
    refine cw (k_goto (tgt := 41) hX dX0_ways_32 (by decide)) ?_
    refine cw (k_lv (lv' := [(0, .ref x0), (1, .int x1), (2, .int x2), (3, .int x3), (4, .int x4), (5, .int x5), (10, .int x10), (11, .long s_0)]) [1, 2, 3, 4, 5, 6, 8, 0] rfl) ?_
    exact FX0_ways_b41_ok T hR e hrc hN hM h
theorem met_FX0_ways_s {l : Launch} {E : CE} {nf : Nat} {rc : Nat → Int32 → Int32 → Int32 → Int32 → Int32 → Int64 → Int64 → Int32 → CS → Option CS} {Fr Lr : Nat} (hrc : ∀ (o : Nat) (a0 : Int32) (a1 : Int32) (a2 : Int32) (a3 : Int32) (a4 : Int32) (a5 : Int64) (a6 : Int64) (a7 : Int32) (s : CS) (v : CS), rc o a0 a1 a2 a3 a4 a5 a6 a7 s = some v → (isK s o [0] = true ∧ cMet_v l E yX0_ways (ws_ yX0_ways cX0_ways 18 none) Fr Lr [.ref o, .int a0, .int a1, .int a2, .int a3, .int a4, .long a5, .long a6, .int a7] s v)) (hN : 2 ≤ Fr) (hM : 56 ≤ Lr) : ∀ (x0 : Nat) (x1 : Int32) (x2 : Int32) (x3 : Int32) (x4 : Int32) (x5 : Int32) (x6 : Int64) (x8 : Int64) (x10 : Int32) (s : CS) (z : CS), FX0_ways_s nf rc x0 x1 x2 x3 x4 x5 x6 x8 x10 s = some z → (isK s x0 [0] = true ∧ cMet_v l E yX0_ways (ws_ yX0_ways cX0_ways 18 none) (Fr + 1) (Lr + 49) [.ref x0, .int x1, .int x2, .int x3, .int x4, .int x5, .long x6, .long x8, .int x10] s z) := by
  intro x0 x1 x2 x3 x4 x5 x6 x8 x10 s z h
  unfold FX0_ways_s at h
  obtain ⟨hm, h⟩ := mz_of h
  obtain ⟨hg, h⟩ := gd_of h
  refine ⟨hg, c_met_v hm (by decide +kernel) rfl (fun X hl hin T hR e => ?_)⟩
  have T : cOK X E cX0_ways RX0 18 none _ _ _ _ := T
  have hX := T.1
  show cW X _ _ s 0 [(0, .ref x0), (1, .int x1), (2, .int x2), (3, .int x3), (4, .int x4), (5, .int x5), (6, .long x6), (8, .long x8), (10, .int x10)] []
  subst hl
  refine cw (k_iload_n hX dX0_ways_0 rfl 2 rfl) ?_
  refine cw (k_bipush (v := 8) hX dX0_ways_1 (by decide)) ?_
  refine c_br h (k_icmp_ge (tgt := 20) hX h dX0_ways_3 (by decide)) (fun h => ?_) (fun h => ?_)
  · refine cw (k_lload hX dX0_ways_20 6 rfl) ?_
    refine cw (k_lv (lv' := [(0, .ref x0), (1, .int x1), (2, .int x2), (3, .int x3), (4, .int x4), (5, .int x5), (8, .long x8), (10, .int x10)]) [0, 1, 2, 3, 4, 5, 7, 8] rfl) ?_
    exact FX0_ways_b22_ok T hR e hrc hN hM h
  · refine cw (k_lload hX dX0_ways_6 6 rfl) ?_
    refine cw (k_lconst (v := 1) hX dX0_ways_8 (by decide)) ?_
    refine cw (k_bipush (v := 8) hX dX0_ways_9 (by decide)) ?_
    refine cw (k_iload_n hX dX0_ways_11 rfl 2 rfl) ?_
    refine cw (k_imul hX dX0_ways_12) ?_
    refine cw (k_iload_n hX dX0_ways_13 rfl 1 rfl) ?_
    refine cw (k_iadd hX dX0_ways_14) ?_
    refine cw (k_lshl hX dX0_ways_15) ?_
    refine cw (k_lor hX dX0_ways_16) ?_
    refine cw (k_goto (tgt := 22) hX dX0_ways_17 (by decide)) ?_
    refine cw (k_lv (lv' := [(0, .ref x0), (1, .int x1), (2, .int x2), (3, .int x3), (4, .int x4), (5, .int x5), (8, .long x8), (10, .int x10)]) [0, 1, 2, 3, 4, 5, 7, 8] rfl) ?_
    exact FX0_ways_b22_ok T hR e hrc hN hM h
theorem met_FX0_ways {l : Launch} {E : CE} {nf : Nat} : ∀ (dp : Nat) (x0 : Nat) (x1 : Int32) (x2 : Int32) (x3 : Int32) (x4 : Int32) (x5 : Int32) (x6 : Int64) (x8 : Int64) (x10 : Int32) (s : CS) (z : CS), FX0_ways nf dp x0 x1 x2 x3 x4 x5 x6 x8 x10 s = some z → (isK s x0 [0] = true ∧ cMet_v l E yX0_ways (ws_ yX0_ways cX0_ways 18 none) (1 * dp + 2) (49 * dp + 56) [.ref x0, .int x1, .int x2, .int x3, .int x4, .int x5, .long x6, .long x8, .int x10] s z) := by
  intro dp
  induction dp with
  | zero => intro x0 x1 x2 x3 x4 x5 x6 x8 x10 s z h; exact (nomatch (show (none : Option CS) = some z from h))
  | succ dp ih =>
    intro x0 x1 x2 x3 x4 x5 x6 x8 x10 s z h
    have h : FX0_ways_s nf (FX0_ways nf dp) x0 x1 x2 x3 x4 x5 x6 x8 x10 s = some z := h
    rw [show 1 * (dp + 1) + 2 = (1 * dp + 2) + 1 by omega, show 49 * (dp + 1) + 56 = (49 * dp + 56) + 49 by omega]
    exact met_FX0_ways_s ih (Nat.le_add_left _ _) (Nat.le_add_left _ _) _ _ _ _ _ _ _ _ _ _ _ h
theorem met_FX0_fits {l : Launch} {E : CE} {nf : Nat} : ∀ (x0 : Nat) (x1 : Int32) (s : CS) (z : (Int64 × CS)), FX0_fits nf x0 x1 s = some z → (isK s x0 [0] = true ∧ cMet_l l E yX0_fits (ws_ yX0_fits cX0_fits 2 (some .long)) 23 1073 [.ref x0, .int x1] s z.1 z.2) := by
  intro x0 x1 s z h
  unfold FX0_fits at h
  obtain ⟨hm, h⟩ := mz_of h
  obtain ⟨hg, h⟩ := gd_of h
  refine ⟨hg, c_met_l hm (by decide +kernel) rfl (fun X hl hin T hR e => ?_)⟩
  have T : cOK X E cX0_fits RX0 2 (some .long) _ _ _ _ := T
  have hX := T.1
  show cW X _ _ s 0 [(0, .ref x0), (1, .int x1)] []
  refine cw (k_iload_n hX dX0_fits_0 rfl 1 rfl) ?_
  refine cw (k_iconst (v := 0) hX dX0_fits_1 (by decide)) ?_
  refine cw (k_iconst (v := 3) hX dX0_fits_2 (by decide)) ?_
  refine cX_X0_127 T met_FX0_in (c_room hR rfl rfl) h rfl dX0_fits_3 (fun v1 h => ?_)
  refine c_brn h (k_if_ne (tgt := 13) hX h dX0_fits_6 (by decide)) (fun h => ?_) (fun h => ?_)
  · refine cw (k_aload_n hX dX0_fits_13 rfl 0 rfl) ?_
    refine cw (k_iconst (v := 0) hX dX0_fits_14 (by decide)) ?_
    refine cp_X0_422 T h dX0_fits_15 (fun s2 h => ?_)
    refine cw (k_aload_n hX dX0_fits_18 rfl 0 rfl) ?_
    refine cw (k_ldc2 (v := (-1)) hX q1538 dX0_fits_19) ?_
    refine cp_X0_428 T h dX0_fits_22 (fun s3 h => ?_)
    refine cw (k_aload_n hX dX0_fits_25 rfl 0 rfl) ?_
    refine cw (k_ldc2 (v := (-1)) hX q1538 dX0_fits_26) ?_
    refine cp_X0_432 T h dX0_fits_29 (fun s4 h => ?_)
    refine cw (k_aload_n hX dX0_fits_32 rfl 0 rfl) ?_
    refine cw (k_iconst (v := 0) hX dX0_fits_33 (by decide)) ?_
    refine cw (k_iconst (v := 0) hX dX0_fits_34 (by decide)) ?_
    refine cw (k_iconst (v := 0) hX dX0_fits_35 (by decide)) ?_
    refine cw (k_iconst (v := 0) hX dX0_fits_36 (by decide)) ?_
    refine cw (k_iconst (v := 0) hX dX0_fits_37 (by decide)) ?_
    refine cw (k_lconst (v := 0) hX dX0_fits_38 (by decide)) ?_
    refine cw (k_lconst (v := 0) hX dX0_fits_39 (by decide)) ?_
    refine cw (k_iconst (v := 0) hX dX0_fits_40 (by decide)) ?_
    refine cX_X0_435 T (met_FX0_ways 20) (c_room hR rfl rfl) h rfl dX0_fits_41 (fun s5 h => ?_)
    refine cw (k_iload_n hX dX0_fits_44 rfl 1 rfl) ?_
    refine c_brn h (k_if_ne (tgt := 56) hX h dX0_fits_45 (by decide)) (fun h => ?_) (fun h => ?_)
    · refine cw (k_aload_n hX dX0_fits_56 rfl 0 rfl) ?_
      refine cg_X0_422 T h dX0_fits_57 (fun v6 h => ?_)
      refine c_brn h (k_if_ne (tgt := 69) hX h dX0_fits_60 (by decide)) (fun h => ?_) (fun h => ?_)
      · refine cw (k_iload_n hX dX0_fits_69 rfl 1 rfl) ?_
        refine cw (k_iconst (v := 1) hX dX0_fits_70 (by decide)) ?_
        refine c_brn h (k_icmp_ne (tgt := 82) hX h dX0_fits_71 (by decide)) (fun h => ?_) (fun h => ?_)
        · refine cw (k_iload_n hX dX0_fits_82 rfl 1 rfl) ?_
          refine cw (k_iconst (v := 2) hX dX0_fits_83 (by decide)) ?_
          refine c_brn h (k_icmp_ne (tgt := 94) hX h dX0_fits_84 (by decide)) (fun h => ?_) (fun h => ?_)
          · refine cw (k_aload_n hX dX0_fits_94 rfl 0 rfl) ?_
            refine cg_X0_432 T h dX0_fits_95 (fun v7 h => ?_)
            exact c_ret_l T e h dX0_fits_98
          · refine cw (k_aload_n hX dX0_fits_87 rfl 0 rfl) ?_
            refine cg_X0_428 T h dX0_fits_88 (fun v8 h => ?_)
            refine cw (k_goto (tgt := 98) hX dX0_fits_91 (by decide)) ?_
            exact c_ret_l T e h dX0_fits_98
        · refine cw (k_aload_n hX dX0_fits_74 rfl 0 rfl) ?_
          refine cg_X0_425 T h dX0_fits_75 (fun v9 h => ?_)
          refine cw (k_i2l hX dX0_fits_78) ?_
          refine cw (k_goto (tgt := 98) hX dX0_fits_79 (by decide)) ?_
          exact c_ret_l T e h dX0_fits_98
      · refine cw (k_ldc2 (v := (-1)) hX q1538 dX0_fits_63) ?_
        refine cw (k_goto (tgt := 98) hX dX0_fits_66 (by decide)) ?_
        exact c_ret_l T e h dX0_fits_98
    · refine cw (k_aload_n hX dX0_fits_48 rfl 0 rfl) ?_
      refine cg_X0_422 T h dX0_fits_49 (fun v10 h => ?_)
      refine cw (k_i2l hX dX0_fits_52) ?_
      refine cw (k_goto (tgt := 98) hX dX0_fits_53 (by decide)) ?_
      exact c_ret_l T e h dX0_fits_98
  · refine cw (k_ldc2 (v := (-1)) hX q1538 dX0_fits_9) ?_
    exact c_ret_l T e h dX0_fits_12
theorem met_FX0_isGoer {l : Launch} {E : CE} {s : CS} : ∀ (x0 : Nat) (x1 : Int32) (z : Int32), FX0_isGoer s x0 x1 = some z → (isK s x0 [0] = true ∧ cMet_i l E yX0_isGoer (ws_ yX0_isGoer cX0_isGoer 2 (some .boolean)) 1 22 [.ref x0, .int x1] s z s) := by
  intro x0 x1 z h
  unfold FX0_isGoer at h
  obtain ⟨hg, h⟩ := gd_of h
  refine ⟨hg, c_met_i ⟨Nat.le_refl _, Nat.le_refl _⟩ (by decide +kernel) rfl (fun X hl hin T hR e => ?_)⟩
  have T : cOK X E cX0_isGoer RX0 2 (some .boolean) _ _ _ _ := T
  have hX := T.1
  show cW X _ _ s 0 [(0, .ref x0), (1, .int x1)] []
  refine cw (k_iload_n hX dX0_isGoer_0 rfl 1 rfl) ?_
  refine cw (k_iconst (v := 0) hX dX0_isGoer_1 (by decide)) ?_
  refine cw (k_aload_n hX dX0_isGoer_2 rfl 0 rfl) ?_
  refine cg_X0_35 T h dX0_isGoer_3 (fun r1 h => ?_)
  obtain ⟨p2, e_p2, hq_p2⟩ := nn_of h
  subst e_p2
  have h := hq_p2
  show cW X _ _ _ 6 [(0, .ref x0), (1, .int x1)] [.ref p2, .int 0, .int x1]
  refine cg_X0_291 T h dX0_isGoer_6 (fun r3 h => ?_)
  obtain ⟨p4, e_p4, hq_p4⟩ := nn_of h
  subst e_p4
  have h := hq_p4
  show cW X _ _ _ 9 [(0, .ref x0), (1, .int x1)] [.ref p4, .int 0, .int x1]
  refine cX_X0_326 T met_FJ2_size (c_room hR rfl rfl) h rfl dX0_isGoer_9 (fun v5 h => ?_)
  refine cw (k_iconst (v := 1) hX dX0_isGoer_12 (by decide)) ?_
  refine cw (k_isub hX dX0_isGoer_13) ?_
  refine cX_X0_127 T met_FX0_in (c_room hR rfl rfl) h rfl dX0_isGoer_14 (fun v6 h => ?_)
  exact c_ret_zr T e h dX0_isGoer_17
theorem met_FX0_mean {l : Launch} {E : CE} {nf : Nat} : ∀ (x0 : Nat) (x1 : Int32) (x2 : Int32) (x3 : Int32) (x4 : Int32) (s : CS) (z : (Int32 × CS)), FX0_mean nf x0 x1 x2 x3 x4 s = some z → (isK s x0 [0] = true ∧ cMet_i l E yX0_mean (ws_ yX0_mean cX0_mean 5 (some .int)) 607 29583 [.ref x0, .int x1, .int x2, .int x3, .int x4] s z.1 z.2) := by
  intro x0 x1 x2 x3 x4 s z h
  unfold FX0_mean at h
  obtain ⟨hm, h⟩ := mz_of h
  obtain ⟨hg, h⟩ := gd_of h
  refine ⟨hg, c_met_i hm (by decide +kernel) rfl (fun X hl hin T hR e => ?_)⟩
  have T : cOK X E cX0_mean RX0 5 (some .int) _ _ _ _ := T
  have hX := T.1
  show cW X _ _ s 0 [(0, .ref x0), (1, .int x1), (2, .int x2), (3, .int x3), (4, .int x4)] []
  refine cw (k_aload_n hX dX0_mean_0 rfl 0 rfl) ?_
  refine cw (k_iload_n hX dX0_mean_1 rfl 1 rfl) ?_
  refine cX_X0_329 T met_FX0_isGoer (c_room hR rfl rfl) h rfl dX0_mean_2 (fun v1 h => ?_)
  refine c_br h (k_if_eq (tgt := 19) hX h dX0_mean_5 (by decide)) (fun h => ?_) (fun h => ?_)
  · refine cw (k_iconst (v := (-1)) hX dX0_mean_19 (by decide)) ?_
    exact c_ret_i T e h dX0_mean_20
  · refine cw (k_aload_n hX dX0_mean_8 rfl 0 rfl) ?_
    refine cw (k_iload_n hX dX0_mean_9 rfl 2 rfl) ?_
    refine cw (k_iload_n hX dX0_mean_10 rfl 3 rfl) ?_
    refine cw (k_iload hX dX0_mean_11 4 rfl) ?_
    refine cX_X0_185 T met_FX0_isAsked (c_room hR rfl rfl) h rfl dX0_mean_13 (fun v2 h => ?_)
    refine c_brn h (k_if_ne (tgt := 21) hX h dX0_mean_16 (by decide)) (fun h => ?_) (fun h => ?_)
    · refine cw (k_aload_n hX dX0_mean_21 rfl 0 rfl) ?_
      refine cw (k_iload_n hX dX0_mean_22 rfl 1 rfl) ?_
      refine cw (k_iconst (v := 0) hX dX0_mean_23 (by decide)) ?_
      refine cw (k_iconst (v := 0) hX dX0_mean_24 (by decide)) ?_
      refine cX_X0_305 T met_FX0_tables (c_room hR rfl rfl) h rfl dX0_mean_25 (fun s3 h => ?_)
      refine cw (k_aload_n hX dX0_mean_28 rfl 0 rfl) ?_
      refine cw (k_iload_n hX dX0_mean_29 rfl 2 rfl) ?_
      refine cw (k_iload_n hX dX0_mean_30 rfl 3 rfl) ?_
      refine cw (k_iload hX dX0_mean_31 4 rfl) ?_
      refine cX_X0_244 T met_FX0_takesAt (c_room hR rfl rfl) h rfl dX0_mean_33 (fun v4 h => ?_)
      exact c_ret_i T e h dX0_mean_36
    · refine cw (k_iconst (v := (-1)) hX dX0_mean_19 (by decide)) ?_
      exact c_ret_i T e h dX0_mean_20
theorem met_FX0_gap {l : Launch} {E : CE} {nf : Nat} : ∀ (x0 : Nat) (x1 : Int32) (x2 : Int32) (x3 : Int32) (s : CS) (z : (Int32 × CS)), FX0_gap nf x0 x1 x2 x3 s = some z → (isK s x0 [0] = true ∧ cMet_i l E yX0_gap (ws_ yX0_gap cX0_gap 6 (some .int)) 608 29607 [.ref x0, .int x1, .int x2, .int x3] s z.1 z.2) := by
  intro x0 x1 x2 x3 s z h
  unfold FX0_gap at h
  obtain ⟨hm, h⟩ := mz_of h
  obtain ⟨hg, h⟩ := gd_of h
  refine ⟨hg, c_met_i hm (by decide +kernel) rfl (fun X hl hin T hR e => ?_)⟩
  have T : cOK X E cX0_gap RX0 6 (some .int) _ _ _ _ := T
  have hX := T.1
  show cW X _ _ s 0 [(0, .ref x0), (1, .int x1), (2, .int x2), (3, .int x3)] []
  refine cw (k_aload_n hX dX0_gap_0 rfl 0 rfl) ?_
  refine cw (k_iconst (v := 2) hX dX0_gap_1 (by decide)) ?_
  refine cw (k_iload_n hX dX0_gap_2 rfl 1 rfl) ?_
  refine cw (k_iload_n hX dX0_gap_3 rfl 2 rfl) ?_
  refine cw (k_iload_n hX dX0_gap_4 rfl 3 rfl) ?_
  refine cX_X0_332 T met_FX0_mean (c_room hR rfl rfl) h rfl dX0_gap_5 (fun v2 s1 h => ?_)
  refine cw (k_istore [(4, .int v2), (0, .ref x0), (1, .int x1), (2, .int x2), (3, .int x3)] hX dX0_gap_8 rfl rfl) ?_
  refine cw (k_aload_n hX dX0_gap_10 rfl 1 rfl) ?_
  refine cw (k_iconst (v := 3) hX dX0_gap_11 (by decide)) ?_
  refine cw (k_iload_n hX dX0_gap_12 rfl 2 rfl) ?_
  refine cw (k_iload_n hX dX0_gap_13 rfl 3 rfl) ?_
  refine cw (k_iload_n hX dX0_gap_14 rfl 4 rfl) ?_
  refine cX_X0_332 T met_FX0_mean (c_room hR rfl rfl) h rfl dX0_gap_15 (fun v4 s3 h => ?_)
  refine cw (k_istore [(5, .int v4), (4, .int v2), (0, .ref x0), (1, .int x1), (2, .int x2), (3, .int x3)] hX dX0_gap_18 rfl rfl) ?_
  refine cw (k_iload hX dX0_gap_20 1 rfl) ?_
  refine c_br h (k_if_lt (tgt := 30) hX h dX0_gap_22 (by decide)) (fun h => ?_) (fun h => ?_)
  · refine cw (k_iconst (v := (-1)) hX dX0_gap_30 (by decide)) ?_
    refine cw (k_goto (tgt := 39) hX dX0_gap_31 (by decide)) ?_
    exact c_ret_i T e h dX0_gap_39
  · refine cw (k_iload hX dX0_gap_25 0 rfl) ?_
    refine c_br h (k_if_ge (tgt := 34) hX h dX0_gap_27 (by decide)) (fun h => ?_) (fun h => ?_)
    · refine cw (k_iload hX dX0_gap_34 1 rfl) ?_
      refine cw (k_iload hX dX0_gap_36 0 rfl) ?_
      refine cw (k_isub hX dX0_gap_38) ?_
      exact c_ret_i T e h dX0_gap_39
    · refine cw (k_iconst (v := (-1)) hX dX0_gap_30 (by decide)) ?_
      refine cw (k_goto (tgt := 39) hX dX0_gap_31 (by decide)) ?_
      exact c_ret_i T e h dX0_gap_39
theorem met_FX0_isWay {l : Launch} {E : CE} {s : CS} : ∀ (x0 : Int32) (z : Int32), FX0_isWay s x0 = some z → cMet_i l E yX0_isWay (ws_ yX0_isWay cX0_isWay 1 (some .boolean)) 1 22 [.int x0] s z s := by
  intro x0 z h
  unfold FX0_isWay at h
  refine c_met_i ⟨Nat.le_refl _, Nat.le_refl _⟩ (by decide +kernel) rfl (fun X hl hin T hR e => ?_)
  have T : cOK X E cX0_isWay RX0 1 (some .boolean) _ _ _ _ := T
  have hX := T.1
  show cW X _ _ s 0 [(0, .int x0)] []
  refine cw (k_iload_n hX dX0_isWay_0 rfl 0 rfl) ?_
  refine cw (k_iconst (v := 0) hX dX0_isWay_1 (by decide)) ?_
  refine cw (k_iconst (v := 1) hX dX0_isWay_2 (by decide)) ?_
  refine cX_X0_127 T met_FX0_in (c_room hR rfl rfl) h rfl dX0_isWay_3 (fun v1 h => ?_)
  exact c_ret_zr T e h dX0_isWay_6
theorem FX0_keeps_b92_ok {X : KC CS} {E : CE} {z : CS} {z0 l0 z1 l1 : Nat} (T : cOK X E cX0_keeps RX0 3 none z0 l0 z1 l1) (hR : cRoom X 2 60) (e : cE_v X E z0 l0 z1 l1 z) {nf : Nat} {x0 : Nat} {s : CS} (h : FX0_keeps_b92 nf x0 s = some z) : cW X z1 l1 s 92 [(0, .ref x0)] [] := by
  unfold FX0_keeps_b92 at h
  have hX := T.1
  refine cw (k_aload_n hX dX0_keeps_92 rfl 0 rfl) ?_
  refine cg_X0_53 T h dX0_keeps_93 (fun r1 h => ?_)
  refine cw (k_aload_n hX dX0_keeps_96 rfl 0 rfl) ?_
  refine cw (k_dup hX dX0_keeps_97 rfl) ?_
  refine cg_X0_116 T h dX0_keeps_98 (fun v2 h => ?_)
  refine cw (k_dup_x1 hX dX0_keeps_101 (by first | rfl | exact rf_cat _) (by first | rfl | exact rf_cat _)) ?_
  refine cw (k_iconst (v := 1) hX dX0_keeps_102 (by decide)) ?_
  refine cw (k_iadd hX dX0_keeps_103) ?_
  refine cp_X0_116 T h dX0_keeps_104 (fun s3 h => ?_)
  obtain ⟨p4, e_p4, hq_p4⟩ := nn_of h
  subst e_p4
  have h := hq_p4
  show cW X z1 l1 _ 107 [(0, .ref x0)] [.int v2, .ref p4]
  refine ca_qld105 T h dX0_keeps_107 (fun r5 h => ?_)
  refine cw (k_aload_n hX dX0_keeps_108 rfl 0 rfl) ?_
  refine cg_X0_49 T h dX0_keeps_109 (fun r6 h => ?_)
  obtain ⟨p7, e_p7, hq_p7⟩ := nn_of h
  subst e_p7
  have h := hq_p7
  show cW X z1 l1 _ 112 [(0, .ref x0)] [va_rf r6, .ref p7]
  obtain ⟨p8, e_p8, hq_p8⟩ := nn_of h
  subst e_p8
  have h := hq_p8
  show cW X z1 l1 _ 112 [(0, .ref x0)] [.ref p8, .ref p7]
  refine cX_X0_193 T met_FX8_go (c_room hR rfl rfl) h rfl dX0_keeps_112 (fun s9 h => ?_)
  exact c_ret_v T e h dX0_keeps_115
theorem FX0_keeps_b64_ok {X : KC CS} {E : CE} {z : CS} {z0 l0 z1 l1 : Nat} (T : cOK X E cX0_keeps RX0 3 none z0 l0 z1 l1) (hR : cRoom X 2 60) (e : cE_v X E z0 l0 z1 l1 z) {nf : Nat} {x0 : Nat} {s : CS} (h : FX0_keeps_b64 nf x0 s = some z) : cW X z1 l1 s 64 [(0, .ref x0)] [] := by
  unfold FX0_keeps_b64 at h
  have hX := T.1
  refine cw (k_aload_n hX dX0_keeps_64 rfl 0 rfl) ?_
  refine cg_X0_53 T h dX0_keeps_65 (fun r1 h => ?_)
  refine cw (k_aload_n hX dX0_keeps_68 rfl 0 rfl) ?_
  refine cg_X0_116 T h dX0_keeps_69 (fun v2 h => ?_)
  obtain ⟨p3, e_p3, hq_p3⟩ := nn_of h
  subst e_p3
  have h := hq_p3
  show cW X z1 l1 _ 72 [(0, .ref x0)] [.int v2, .ref p3]
  refine ca_qld105 T h dX0_keeps_72 (fun r4 h => ?_)
  rcases r4 with _ | p5
  · replace h := nul_n h
    show cW X z1 l1 _ 73 [(0, .ref x0)] [.null]
    refine cw (k_ifnonnullN hX dX0_keeps_73) ?_
    refine cw (k_aload_n hX dX0_keeps_76 rfl 0 rfl) ?_
    refine cg_X0_53 T h dX0_keeps_77 (fun r6 h => ?_)
    refine cw (k_aload_n hX dX0_keeps_80 rfl 0 rfl) ?_
    refine cg_X0_116 T h dX0_keeps_81 (fun v7 h => ?_)
    refine c_newO kX8 q430 q431 q151 (nd8 _) T h dX0_keeps_84 (fun o8 s9 h => ?_)
    refine cw (k_dup hX dX0_keeps_87 rfl) ?_
    refine cX_X0_48 T met_FX8_init (c_room hR rfl rfl) h (by cases r6 <;> rfl) dX0_keeps_88 (fun s10 h => ?_)
    obtain ⟨p11, e_p11, hq_p11⟩ := nn_of h
    subst e_p11
    have h := hq_p11
    show cW X z1 l1 _ 91 [(0, .ref x0)] [.ref o8, .int v7, .ref p11]
    refine ca_ast105 T h dX0_keeps_91 (fun s12 h => ?_)
    refine cw (k_lv (lv' := [(0, .ref x0)]) [0] rfl) ?_
    exact FX0_keeps_b92_ok T hR e h
  · replace h := nul_s h
    show cW X z1 l1 _ 73 [(0, .ref x0)] [.ref p5]
    refine cw (k_ifnonnullS (tgt := 92) hX dX0_keeps_73 (by decide)) ?_
    refine cw (k_lv (lv' := [(0, .ref x0)]) [0] rfl) ?_
    exact FX0_keeps_b92_ok T hR e h
theorem FX0_keeps_b18_s_ok {X : KC CS} {E : CE} {z : CS} {z0 l0 z1 l1 : Nat} (T : cOK X E cX0_keeps RX0 3 none z0 l0 z1 l1) (hR : cRoom X 2 60) (e : cE_v X E z0 l0 z1 l1 z) {nf : Nat} {k18 : Nat → (Option Nat) → Int32 → CS → Option CS} (hk18 : ∀ (x0 : Nat) (x1 : (Option Nat)) (x2 : Int32) (s : CS), k18 x0 x1 x2 s = some z → cW X z1 l1 s 18 [(0, .ref x0), (1, va_rf x1), (2, .int x2)] []) {x0 : Nat} {x1 : (Option Nat)} {x2 : Int32} {s : CS} (h : FX0_keeps_b18_s nf k18 x0 x1 x2 s = some z) : cW X z1 l1 s 18 [(0, .ref x0), (1, va_rf x1), (2, .int x2)] [] := by
  unfold FX0_keeps_b18_s at h
  have hX := T.1
  refine cw (k_iload_n hX dX0_keeps_18 rfl 2 rfl) ?_
  refine cw (k_iconst (v := 1) hX dX0_keeps_19 (by decide)) ?_
  refine cw (k_iadd hX dX0_keeps_20) ?_
  refine cw (k_bipush (v := 16) hX dX0_keeps_21 (by decide)) ?_
  refine c_br h (k_icmp_ge (tgt := 46) hX h dX0_keeps_23 (by decide)) (fun h => ?_) (fun h => ?_)
  · refine cw (k_aload_n hX dX0_keeps_46 rfl 0 rfl) ?_
    refine cg_X0_53 T h dX0_keeps_47 (fun r1 h => ?_)
    refine cw (k_bipush (v := 15) hX dX0_keeps_50 (by decide)) ?_
    refine cw (k_aload_nO hX dX0_keeps_52 rfl 1 rfl) ?_
    obtain ⟨p2, e_p2, hq_p2⟩ := nn_of h
    subst e_p2
    have h := hq_p2
    show cW X z1 l1 _ 53 [(0, .ref x0), (1, va_rf x1), (2, .int x2)] [va_rf x1, .int 15, .ref p2]
    obtain ⟨p3, e_p3, hq_p3⟩ := nn_of h
    subst e_p3
    have h := hq_p3
    show cW X z1 l1 _ 53 [(0, .ref x0), (1, .ref p3), (2, .int x2)] [.ref p3, .int 15, .ref p2]
    refine ca_ast105 T h dX0_keeps_53 (fun s4 h => ?_)
    refine cw (k_aload_n hX dX0_keeps_54 rfl 0 rfl) ?_
    refine cw (k_dup hX dX0_keeps_55 rfl) ?_
    refine cg_X0_116 T h dX0_keeps_56 (fun v5 h => ?_)
    refine cw (k_iconst (v := 1) hX dX0_keeps_59 (by decide)) ?_
    refine cw (k_isub hX dX0_keeps_60) ?_
    refine cp_X0_116 T h dX0_keeps_61 (fun s6 h => ?_)
    refine cw (k_lv (lv' := [(0, .ref x0)]) [0] rfl) ?_
    exact FX0_keeps_b64_ok T hR e h
  · refine cw (k_aload_n hX dX0_keeps_26 rfl 0 rfl) ?_
    refine cg_X0_53 T h dX0_keeps_27 (fun r7 h => ?_)
    refine cw (k_iload_n hX dX0_keeps_30 rfl 2 rfl) ?_
    refine cw (k_aload_n hX dX0_keeps_31 rfl 0 rfl) ?_
    refine cg_X0_53 T h dX0_keeps_32 (fun r8 h => ?_)
    refine cw (k_iload_n hX dX0_keeps_35 rfl 2 rfl) ?_
    refine cw (k_iconst (v := 1) hX dX0_keeps_36 (by decide)) ?_
    refine cw (k_iadd hX dX0_keeps_37) ?_
    obtain ⟨p9, e_p9, hq_p9⟩ := nn_of h
    subst e_p9
    have h := hq_p9
    show cW X z1 l1 _ 38 [(0, .ref x0), (1, va_rf x1), (2, .int x2)] [.int (x2 + 1), .ref p9, .int x2, va_rf r7]
    refine ca_qld105 T h dX0_keeps_38 (fun r10 h => ?_)
    obtain ⟨p11, e_p11, hq_p11⟩ := nn_of h
    subst e_p11
    have h := hq_p11
    show cW X z1 l1 _ 39 [(0, .ref x0), (1, va_rf x1), (2, .int x2)] [va_rf r10, .int x2, .ref p11]
    obtain ⟨p12, e_p12, hq_p12⟩ := nn_of h
    subst e_p12
    have h := hq_p12
    show cW X z1 l1 _ 39 [(0, .ref x0), (1, va_rf x1), (2, .int x2)] [.ref p12, .int x2, .ref p11]
    refine ca_ast105 T h dX0_keeps_39 (fun s13 h => ?_)
    refine cw (k_iinc (j := 2) [(2, .int (x2 + 1)), (0, .ref x0), (1, va_rf x1)] hX dX0_keeps_40 rfl rfl rfl (by cases x1 <;> rfl)) ?_
    refine cw (k_goto (tgt := 18) hX dX0_keeps_43 (by decide)) ?_
    refine cw (k_lv (lv' := [(0, .ref x0), (1, va_rf x1), (2, .int (x2 + 1))]) [1, 2, 0] rfl) ?_
    exact hk18 _ _ _ _ h
theorem FX0_keeps_b18_ok {X : KC CS} {E : CE} {z : CS} {z0 l0 z1 l1 : Nat} (T : cOK X E cX0_keeps RX0 3 none z0 l0 z1 l1) (hR : cRoom X 2 60) (e : cE_v X E z0 l0 z1 l1 z) {nf : Nat} : ∀ (n : Nat) (x0 : Nat) (x1 : (Option Nat)) (x2 : Int32) (s : CS), FX0_keeps_b18 nf n x0 x1 x2 s = some z → cW X z1 l1 s 18 [(0, .ref x0), (1, va_rf x1), (2, .int x2)] [] := by
  intro n
  induction n with
  | zero => intro x0 x1 x2 s h; exact (nomatch (show (none : Option CS) = some z from h))
  | succ n ih =>
    intro x0 x1 x2 s h
    have h : FX0_keeps_b18_s nf (FX0_keeps_b18 nf n) x0 x1 x2 s = some z := h
    exact FX0_keeps_b18_s_ok T hR e ih h
theorem met_FX0_keeps {l : Launch} {E : CE} {nf : Nat} : ∀ (x0 : Nat) (s : CS) (z : CS), FX0_keeps nf x0 s = some z → (isK s x0 [0] = true ∧ cMet_v l E yX0_keeps (ws_ yX0_keeps cX0_keeps 3 none) 2 60 [.ref x0] s z) := by
  intro x0 s z h
  unfold FX0_keeps at h
  obtain ⟨hm, h⟩ := mz_of h
  obtain ⟨hg, h⟩ := gd_of h
  refine ⟨hg, c_met_v hm (by decide +kernel) rfl (fun X hl hin T hR e => ?_)⟩
  have T : cOK X E cX0_keeps RX0 3 none _ _ _ _ := T
  have hX := T.1
  show cW X _ _ s 0 [(0, .ref x0)] []
  refine cw (k_aload_n hX dX0_keeps_0 rfl 0 rfl) ?_
  refine cg_X0_116 T h dX0_keeps_1 (fun v1 h => ?_)
  refine cw (k_bipush (v := 16) hX dX0_keeps_4 (by decide)) ?_
  refine c_brn h (k_icmp_ne (tgt := 64) hX h dX0_keeps_6 (by decide)) (fun h => ?_) (fun h => ?_)
  · refine cw (k_lv (lv' := [(0, .ref x0)]) [0] rfl) ?_
    exact FX0_keeps_b64_ok T hR e h
  · refine cw (k_aload_n hX dX0_keeps_9 rfl 0 rfl) ?_
    refine cg_X0_53 T h dX0_keeps_10 (fun r2 h => ?_)
    refine cw (k_iconst (v := 0) hX dX0_keeps_13 (by decide)) ?_
    obtain ⟨p3, e_p3, hq_p3⟩ := nn_of h
    subst e_p3
    have h := hq_p3
    show cW X _ _ _ 14 [(0, .ref x0)] [.int 0, .ref p3]
    refine ca_qld105 T h dX0_keeps_14 (fun r4 h => ?_)
    refine cw (k_astore_nO [(1, va_rf r4), (0, .ref x0)] hX dX0_keeps_15 rfl rfl rfl) ?_
    refine cw (k_iconst (v := 0) hX dX0_keeps_16 (by decide)) ?_
    refine cw (k_istore_n [(2, .int 0), (1, va_rf r4), (0, .ref x0)] hX dX0_keeps_17 rfl rfl (by cases r4 <;> rfl)) ?_
    refine cw (k_lv (lv' := [(0, .ref x0), (1, va_rf r4), (2, .int 0)]) [2, 1, 0] rfl) ?_
    exact FX0_keeps_b18_ok T hR e _ _ _ _ _ h
theorem FX0_go_b121_ok {X : KC CS} {E : CE} {z : (Int32 × CS)} {z0 l0 z1 l1 : Nat} (T : cOK X E cX0_go RX0 4 (some .int) z0 l0 z1 l1) (hR : cRoom X 3 82) (e : cE_i X E z0 l0 z1 l1 z.1 z.2) {nf : Nat} {x0 : Nat} {x1 : Int32} {s : CS} (h : FX0_go_b121 nf x0 x1 s = some z) : cW X z1 l1 s 121 [(0, .ref x0), (1, .int x1)] [] := by
  unfold FX0_go_b121 at h
  have hX := T.1
  refine cw (k_iload_n hX dX0_go_121 rfl 1 rfl) ?_
  refine c_brn h (k_if_ne (tgt := 141) hX h dX0_go_122 (by decide)) (fun h => ?_) (fun h => ?_)
  · refine cw (k_aload_n hX dX0_go_141 rfl 0 rfl) ?_
    refine cg_X0_49 T h dX0_go_142 (fun r1 h => ?_)
    refine cw (k_dup hX dX0_go_145 (rf_cat _)) ?_
    obtain ⟨p2, e_p2, hq_p2⟩ := nn_of h
    subst e_p2
    have h := hq_p2
    show cW X z1 l1 _ 146 [(0, .ref x0), (1, .int x1)] [.ref p2, .ref p2]
    refine cg_X0_200 T h dX0_go_146 (fun v3 h => ?_)
    refine cw (k_iconst (v := 1) hX dX0_go_149 (by decide)) ?_
    refine cw (k_iadd hX dX0_go_150) ?_
    refine cp_X0_200 T h dX0_go_151 (fun s4 h => ?_)
    refine cw (k_aload_n hX dX0_go_154 rfl 0 rfl) ?_
    refine cg_X0_49 T h dX0_go_155 (fun r5 h => ?_)
    obtain ⟨p6, e_p6, hq_p6⟩ := nn_of h
    subst e_p6
    have h := hq_p6
    show cW X z1 l1 _ 158 [(0, .ref x0), (1, .int x1)] [.ref p6]
    refine cg_X0_203 T h dX0_go_158 (fun v7 h => ?_)
    exact c_ret_i T e h dX0_go_161
  · refine cw (k_aload_n hX dX0_go_125 rfl 0 rfl) ?_
    refine cg_X0_49 T h dX0_go_126 (fun r8 h => ?_)
    refine cw (k_dup hX dX0_go_129 (rf_cat _)) ?_
    obtain ⟨p9, e_p9, hq_p9⟩ := nn_of h
    subst e_p9
    have h := hq_p9
    show cW X z1 l1 _ 130 [(0, .ref x0), (1, .int x1)] [.ref p9, .ref p9]
    refine cg_X0_197 T h dX0_go_130 (fun v10 h => ?_)
    refine cw (k_iconst (v := 1) hX dX0_go_133 (by decide)) ?_
    refine cw (k_iadd hX dX0_go_134) ?_
    refine cp_X0_197 T h dX0_go_135 (fun s11 h => ?_)
    refine cw (k_goto (tgt := 154) hX dX0_go_138 (by decide)) ?_
    refine cw (k_aload_n hX dX0_go_154 rfl 0 rfl) ?_
    refine cg_X0_49 T h dX0_go_155 (fun r12 h => ?_)
    obtain ⟨p13, e_p13, hq_p13⟩ := nn_of h
    subst e_p13
    have h := hq_p13
    show cW X z1 l1 _ 158 [(0, .ref x0), (1, .int x1)] [.ref p13]
    refine cg_X0_203 T h dX0_go_158 (fun v14 h => ?_)
    exact c_ret_i T e h dX0_go_161
theorem FX0_go_b99_ok {X : KC CS} {E : CE} {z : (Int32 × CS)} {z0 l0 z1 l1 : Nat} (T : cOK X E cX0_go RX0 4 (some .int) z0 l0 z1 l1) (hR : cRoom X 3 82) (e : cE_i X E z0 l0 z1 l1 z.1 z.2) {nf : Nat} {x0 : Nat} {x1 : Int32} {x2 : Int32} {s_0 : Int32} {s_1 : Int32} {s_2 : Int32} {s_3 : Nat} {s : CS} (h : FX0_go_b99 nf x0 x1 x2 s_0 s_1 s_2 s_3 s = some z) : cW X z1 l1 s 99 [(0, .ref x0), (1, .int x1), (2, .int x2)] [.int s_0, .int s_1, .int s_2, .ref s_3] := by
  unfold FX0_go_b99 at h
  have hX := T.1
  refine cw (k_iadd hX dX0_go_99) ?_
  refine cw (k_iadd hX dX0_go_100) ?_
  refine cp_X0_203 T h dX0_go_101 (fun s1 h => ?_)
  refine cw (k_iload_n hX dX0_go_104 rfl 2 rfl) ?_
  refine c_br h (k_if_eq (tgt := 121) hX h dX0_go_105 (by decide)) (fun h => ?_) (fun h => ?_)
  · refine cw (k_lv (lv' := [(0, .ref x0), (1, .int x1)]) [0, 1] rfl) ?_
    exact FX0_go_b121_ok T hR e h
  · refine cw (k_aload_n hX dX0_go_108 rfl 0 rfl) ?_
    refine cg_X0_49 T h dX0_go_109 (fun r2 h => ?_)
    refine cw (k_dup hX dX0_go_112 (rf_cat _)) ?_
    obtain ⟨p3, e_p3, hq_p3⟩ := nn_of h
    subst e_p3
    have h := hq_p3
    show cW X z1 l1 _ 113 [(0, .ref x0), (1, .int x1), (2, .int x2)] [.ref p3, .ref p3]
    refine cg_X0_206 T h dX0_go_113 (fun v4 h => ?_)
    refine cw (k_iconst (v := 1) hX dX0_go_116 (by decide)) ?_
    refine cw (k_iadd hX dX0_go_117) ?_
    refine cp_X0_206 T h dX0_go_118 (fun s5 h => ?_)
    refine cw (k_lv (lv' := [(0, .ref x0), (1, .int x1)]) [0, 1] rfl) ?_
    exact FX0_go_b121_ok T hR e h
theorem FX0_go_b65_ok {X : KC CS} {E : CE} {z : (Int32 × CS)} {z0 l0 z1 l1 : Nat} (T : cOK X E cX0_go RX0 4 (some .int) z0 l0 z1 l1) (hR : cRoom X 3 82) (e : cE_i X E z0 l0 z1 l1 z.1 z.2) {nf : Nat} {x0 : Nat} {x1 : Int32} {x2 : Int32} {x3 : Int32} {s : CS} (h : FX0_go_b65 nf x0 x1 x2 x3 s = some z) : cW X z1 l1 s 65 [(0, .ref x0), (1, .int x1), (2, .int x2), (3, .int x3)] [] := by
  unfold FX0_go_b65 at h
  have hX := T.1
  refine cw (k_aload_n hX dX0_go_65 rfl 0 rfl) ?_
  refine cX_X0_211 T met_FX0_keeps (c_room hR rfl rfl) h rfl dX0_go_66 (fun s1 h => ?_)
  refine cw (k_aload_n hX dX0_go_69 rfl 0 rfl) ?_
  refine cg_X0_49 T h dX0_go_70 (fun r2 h => ?_)
  refine cw (k_dup hX dX0_go_73 (rf_cat _)) ?_
  obtain ⟨p3, e_p3, hq_p3⟩ := nn_of h
  subst e_p3
  have h := hq_p3
  show cW X z1 l1 _ 74 [(0, .ref x0), (1, .int x1), (2, .int x2), (3, .int x3)] [.ref p3, .ref p3]
  refine cg_X0_203 T h dX0_go_74 (fun v4 h => ?_)
  refine cw (k_iload_n hX dX0_go_77 rfl 3 rfl) ?_
  refine cw (k_iload_n hX dX0_go_78 rfl 2 rfl) ?_
  refine c_br h (k_if_eq (tgt := 92) hX h dX0_go_79 (by decide)) (fun h => ?_) (fun h => ?_)
  · refine cw (k_aload_n hX dX0_go_92 rfl 0 rfl) ?_
    refine cg_X0_35 T h dX0_go_93 (fun r5 h => ?_)
    obtain ⟨p6, e_p6, hq_p6⟩ := nn_of h
    subst e_p6
    have h := hq_p6
    show cW X z1 l1 _ 96 [(0, .ref x0), (1, .int x1), (2, .int x2), (3, .int x3)] [.ref p6, .int x3, .int v4, .ref p3]
    refine cX_X0_217 T met_FX2_walk (c_room hR rfl rfl) h rfl dX0_go_96 (fun v7 h => ?_)
    refine cw (k_lv (lv' := [(0, .ref x0), (1, .int x1), (2, .int x2)]) [0, 1, 2] rfl) ?_
    exact FX0_go_b99_ok T hR e h
  · refine cw (k_aload_n hX dX0_go_82 rfl 0 rfl) ?_
    refine cg_X0_35 T h dX0_go_83 (fun r8 h => ?_)
    obtain ⟨p9, e_p9, hq_p9⟩ := nn_of h
    subst e_p9
    have h := hq_p9
    show cW X z1 l1 _ 86 [(0, .ref x0), (1, .int x1), (2, .int x2), (3, .int x3)] [.ref p9, .int x3, .int v4, .ref p3]
    refine cX_X0_214 T met_FX2_run (c_room hR rfl rfl) h rfl dX0_go_86 (fun v10 h => ?_)
    refine cw (k_goto (tgt := 99) hX dX0_go_89 (by decide)) ?_
    refine cw (k_lv (lv' := [(0, .ref x0), (1, .int x1), (2, .int x2)]) [0, 1, 2] rfl) ?_
    exact FX0_go_b99_ok T hR e h
theorem FX0_go_b37_ok {X : KC CS} {E : CE} {z : (Int32 × CS)} {z0 l0 z1 l1 : Nat} (T : cOK X E cX0_go RX0 4 (some .int) z0 l0 z1 l1) (hR : cRoom X 3 82) (e : cE_i X E z0 l0 z1 l1 z.1 z.2) {nf : Nat} {x0 : Nat} {x1 : Int32} {x2 : Int32} {s_0 : Int32} {s : CS} (h : FX0_go_b37 nf x0 x1 x2 s_0 s = some z) : cW X z1 l1 s 37 [(0, .ref x0), (1, .int x1), (2, .int x2)] [.int s_0] := by
  unfold FX0_go_b37 at h
  have hX := T.1
  refine cw (k_istore_n [(3, .int s_0), (0, .ref x0), (1, .int x1), (2, .int x2)] hX dX0_go_37 rfl rfl rfl) ?_
  refine cw (k_iload_n hX dX0_go_38 rfl 0 rfl) ?_
  refine c_br h (k_if_lt (tgt := 63) hX h dX0_go_39 (by decide)) (fun h => ?_) (fun h => ?_)
  · refine cw (k_iconst (v := (-1)) hX dX0_go_63 (by decide)) ?_
    exact c_ret_i T e h dX0_go_64
  · refine cw (k_iload_n hX dX0_go_42 rfl 3 rfl) ?_
    refine c_br h (k_if_eq (tgt := 65) hX h dX0_go_43 (by decide)) (fun h => ?_) (fun h => ?_)
    · refine cw (k_lv (lv' := [(0, .ref x0), (1, .int x1), (2, .int x2), (3, .int s_0)]) [1, 2, 3, 0] rfl) ?_
      exact FX0_go_b65_ok T hR e h
    · refine cw (k_aload_n hX dX0_go_46 rfl 1 rfl) ?_
      refine cg_X0_49 T h dX0_go_47 (fun r1 h => ?_)
      obtain ⟨p2, e_p2, hq_p2⟩ := nn_of h
      subst e_p2
      have h := hq_p2
      show cW X z1 l1 _ 50 [(3, .int s_0), (0, .ref x0), (1, .int x1), (2, .int x2)] [.ref p2]
      refine cg_X0_206 T h dX0_go_50 (fun v3 h => ?_)
      refine cw (k_aload_n hX dX0_go_53 rfl 1 rfl) ?_
      refine cg_X0_35 T h dX0_go_54 (fun r4 h => ?_)
      obtain ⟨p5, e_p5, hq_p5⟩ := nn_of h
      subst e_p5
      have h := hq_p5
      show cW X z1 l1 _ 57 [(3, .int s_0), (0, .ref x0), (1, .int x1), (2, .int x2)] [.ref p5, .int v3]
      refine cX_X0_209 T met_FX2_runs (c_room hR rfl rfl) h rfl dX0_go_57 (fun v6 h => ?_)
      refine c_br h (k_icmp_lt (tgt := 65) hX h dX0_go_60 (by decide)) (fun h => ?_) (fun h => ?_)
      · refine cw (k_lv (lv' := [(0, .ref x0), (1, .int x1), (2, .int x2), (3, .int s_0)]) [1, 2, 3, 0] rfl) ?_
        exact FX0_go_b65_ok T hR e h
      · refine cw (k_iconst (v := (-1)) hX dX0_go_63 (by decide)) ?_
        exact c_ret_i T e h dX0_go_64
theorem met_FX0_go {l : Launch} {E : CE} {nf : Nat} : ∀ (x0 : Nat) (x1 : Int32) (x2 : Int32) (s : CS) (z : (Int32 × CS)), FX0_go nf x0 x1 x2 s = some z → (isK s x0 [0] = true ∧ cMet_i l E yX0_go (ws_ yX0_go cX0_go 4 (some .int)) 3 82 [.ref x0, .int x1, .int x2] s z.1 z.2) := by
  intro x0 x1 x2 s z h
  unfold FX0_go at h
  obtain ⟨hm, h⟩ := mz_of h
  obtain ⟨hg, h⟩ := gd_of h
  refine ⟨hg, c_met_i hm (by decide +kernel) rfl (fun X hl hin T hR e => ?_)⟩
  have T : cOK X E cX0_go RX0 4 (some .int) _ _ _ _ := T
  have hX := T.1
  show cW X _ _ s 0 [(0, .ref x0), (1, .int x1), (2, .int x2)] []
  refine cw (k_iload_n hX dX0_go_0 rfl 1 rfl) ?_
  refine cX_X0_188 T met_FX0_isWay (c_room hR rfl rfl) h rfl dX0_go_1 (fun v1 h => ?_)
  refine c_br h (k_if_eq (tgt := 36) hX h dX0_go_4 (by decide)) (fun h => ?_) (fun h => ?_)
  · refine cw (k_iconst (v := (-1)) hX dX0_go_36 (by decide)) ?_
    refine cw (k_lv (lv' := [(0, .ref x0), (1, .int x1), (2, .int x2)]) [0, 1, 2] rfl) ?_
    exact FX0_go_b37_ok T hR e h
  · refine cw (k_aload_n hX dX0_go_7 rfl 0 rfl) ?_
    refine cw (k_aload_n hX dX0_go_8 rfl 0 rfl) ?_
    refine cg_X0_49 T h dX0_go_9 (fun r2 h => ?_)
    obtain ⟨p3, e_p3, hq_p3⟩ := nn_of h
    subst e_p3
    have h := hq_p3
    show cW X _ _ _ 12 [(0, .ref x0), (1, .int x1), (2, .int x2)] [.ref p3, .ref x0]
    refine cg_X0_197 T h dX0_go_12 (fun v4 h => ?_)
    refine cw (k_aload_n hX dX0_go_15 rfl 0 rfl) ?_
    refine cg_X0_49 T h dX0_go_16 (fun r5 h => ?_)
    obtain ⟨p6, e_p6, hq_p6⟩ := nn_of h
    subst e_p6
    have h := hq_p6
    show cW X _ _ _ 19 [(0, .ref x0), (1, .int x1), (2, .int x2)] [.ref p6, .int v4, .ref x0]
    refine cg_X0_200 T h dX0_go_19 (fun v7 h => ?_)
    refine cw (k_iload_n hX dX0_go_22 rfl 1 rfl) ?_
    refine cw (k_aload_n hX dX0_go_23 rfl 0 rfl) ?_
    refine cg_X0_49 T h dX0_go_24 (fun r8 h => ?_)
    obtain ⟨p9, e_p9, hq_p9⟩ := nn_of h
    subst e_p9
    have h := hq_p9
    show cW X _ _ _ 27 [(0, .ref x0), (1, .int x1), (2, .int x2)] [.ref p9, .int x1, .int v7, .int v4, .ref x0]
    refine cg_X0_203 T h dX0_go_27 (fun v10 h => ?_)
    refine cX_X0_191 T met_FX0_waits (c_room hR rfl rfl) h rfl dX0_go_30 (fun v11 h => ?_)
    refine cw (k_goto (tgt := 37) hX dX0_go_33 (by decide)) ?_
    refine cw (k_lv (lv' := [(0, .ref x0), (1, .int x1), (2, .int x2)]) [0, 1, 2] rfl) ?_
    exact FX0_go_b37_ok T hR e h
theorem met_FX0_until {l : Launch} {E : CE} {s : CS} : ∀ (x0 : Nat) (x1 : Int32) (x2 : Int32) (x3 : Int32) (x4 : Int32) (z : Int32), FX0_until s x0 x1 x2 x3 x4 = some z → (isK s x0 [0] = true ∧ cMet_i l E yX0_until (ws_ yX0_until cX0_until 5 (some .int)) 3 67 [.ref x0, .int x1, .int x2, .int x3, .int x4] s z s) := by
  intro x0 x1 x2 x3 x4 z h
  unfold FX0_until at h
  obtain ⟨hg, h⟩ := gd_of h
  refine ⟨hg, c_met_i ⟨Nat.le_refl _, Nat.le_refl _⟩ (by decide +kernel) rfl (fun X hl hin T hR e => ?_)⟩
  have T : cOK X E cX0_until RX0 5 (some .int) _ _ _ _ := T
  have hX := T.1
  show cW X _ _ s 0 [(0, .ref x0), (1, .int x1), (2, .int x2), (3, .int x3), (4, .int x4)] []
  refine cw (k_aload_n hX dX0_until_0 rfl 0 rfl) ?_
  refine cw (k_iload_n hX dX0_until_1 rfl 1 rfl) ?_
  refine cw (k_iload_n hX dX0_until_2 rfl 2 rfl) ?_
  refine cw (k_iload hX dX0_until_3 4 rfl) ?_
  refine cX_X0_185 T met_FX0_isAsked (c_room hR rfl rfl) h rfl dX0_until_5 (fun v1 h => ?_)
  refine c_br h (k_if_eq (tgt := 30) hX h dX0_until_8 (by decide)) (fun h => ?_) (fun h => ?_)
  · refine cw (k_iconst (v := (-1)) hX dX0_until_30 (by decide)) ?_
    exact c_ret_ir T e h dX0_until_31
  · refine cw (k_iload_n hX dX0_until_11 rfl 3 rfl) ?_
    refine cX_X0_188 T met_FX0_isWay (c_room hR rfl rfl) h rfl dX0_until_12 (fun v2 h => ?_)
    refine c_br h (k_if_eq (tgt := 30) hX h dX0_until_15 (by decide)) (fun h => ?_) (fun h => ?_)
    · refine cw (k_iconst (v := (-1)) hX dX0_until_30 (by decide)) ?_
      exact c_ret_ir T e h dX0_until_31
    · refine cw (k_aload_n hX dX0_until_18 rfl 0 rfl) ?_
      refine cw (k_iload_n hX dX0_until_19 rfl 1 rfl) ?_
      refine cw (k_iload_n hX dX0_until_20 rfl 2 rfl) ?_
      refine cw (k_iload_n hX dX0_until_21 rfl 3 rfl) ?_
      refine cw (k_iload hX dX0_until_22 4 rfl) ?_
      refine cX_X0_191 T met_FX0_waits (c_room hR rfl rfl) h rfl dX0_until_24 (fun v3 h => ?_)
      refine cw (k_goto (tgt := 31) hX dX0_until_27 (by decide)) ?_
      exact c_ret_ir T e h dX0_until_31
theorem met_FX0_green {l : Launch} {E : CE} {s : CS} : ∀ (x0 : Nat) (x1 : Int32) (x2 : Int32) (x3 : Int32) (x4 : Int32) (z : Int32), FX0_green s x0 x1 x2 x3 x4 = some z → (isK s x0 [0] = true ∧ cMet_i l E yX0_green (ws_ yX0_green cX0_green 7 (some .int)) 4 91 [.ref x0, .int x1, .int x2, .int x3, .int x4] s z s) := by
  intro x0 x1 x2 x3 x4 z h
  unfold FX0_green at h
  obtain ⟨hg, h⟩ := gd_of h
  refine ⟨hg, c_met_i ⟨Nat.le_refl _, Nat.le_refl _⟩ (by decide +kernel) rfl (fun X hl hin T hR e => ?_)⟩
  have T : cOK X E cX0_green RX0 7 (some .int) _ _ _ _ := T
  have hX := T.1
  show cW X _ _ s 0 [(0, .ref x0), (1, .int x1), (2, .int x2), (3, .int x3), (4, .int x4)] []
  refine cw (k_aload_n hX dX0_green_0 rfl 0 rfl) ?_
  refine cw (k_iload_n hX dX0_green_1 rfl 1 rfl) ?_
  refine cw (k_iload_n hX dX0_green_2 rfl 2 rfl) ?_
  refine cw (k_iload_n hX dX0_green_3 rfl 3 rfl) ?_
  refine cw (k_iload hX dX0_green_4 4 rfl) ?_
  refine cX_X0_177 T met_FX0_until (c_room hR rfl rfl) h rfl dX0_green_6 (fun v1 h => ?_)
  refine cw (k_istore [(5, .int v1), (0, .ref x0), (1, .int x1), (2, .int x2), (3, .int x3), (4, .int x4)] hX dX0_green_9 rfl rfl) ?_
  refine cw (k_iload hX dX0_green_11 0 rfl) ?_
  refine c_br h (k_if_ge (tgt := 18) hX h dX0_green_13 (by decide)) (fun h => ?_) (fun h => ?_)
  · refine cw (k_aload_n hX dX0_green_18 rfl 1 rfl) ?_
    refine cw (k_iload_n hX dX0_green_19 rfl 2 rfl) ?_
    refine cw (k_iload_n hX dX0_green_20 rfl 3 rfl) ?_
    refine cX_X0_140 T met_FX0_lightAt (c_room hR rfl rfl) h rfl dX0_green_21 (fun r2 h => ?_)
    refine cw (k_astoreO [(6, va_rf r2), (5, .int v1), (0, .ref x0), (1, .int x1), (2, .int x2), (3, .int x3), (4, .int x4)] hX dX0_green_24 rfl rfl) ?_
    refine cw (k_aloadO hX dX0_green_26 0 rfl) ?_
    rcases r2 with _ | p3
    · replace h := nul_n h
      show cW X _ _ _ 28 [(6, .null), (5, .int v1), (0, .ref x0), (1, .int x1), (2, .int x2), (3, .int x3), (4, .int x4)] [.null]
      refine cw (k_ifnullN (tgt := 43) hX dX0_green_28 (by decide)) ?_
      refine cw (k_iload hX dX0_green_43 1 rfl) ?_
      refine c_brn h (k_if_ne (tgt := 52) hX h dX0_green_45 (by decide)) (fun h => ?_) (fun h => ?_)
      · refine cw (k_iconst (v := 0) hX dX0_green_52 (by decide)) ?_
        exact c_ret_ir T e h dX0_green_53
      · refine cw (k_iconst (v := 1) hX dX0_green_48 (by decide)) ?_
        refine cw (k_goto (tgt := 53) hX dX0_green_49 (by decide)) ?_
        exact c_ret_ir T e h dX0_green_53
    · replace h := nul_s h
      show cW X _ _ _ 28 [(6, .ref p3), (5, .int v1), (0, .ref x0), (1, .int x1), (2, .int x2), (3, .int x3), (4, .int x4)] [.ref p3]
      refine cw (k_ifnullS hX dX0_green_28) ?_
      refine cw (k_aload hX dX0_green_31 0 rfl) ?_
      refine cX_X0_181 T met_V11_isButton (fun k hk => c_room hR rfl (Nat.ble_eq.mpr (by omega))) h rfl dX0_green_33 (fun v4 h => ?_)
      refine c_br h (k_if_eq (tgt := 43) hX h dX0_green_36 (by decide)) (fun h => ?_) (fun h => ?_)
      · refine cw (k_iload hX dX0_green_43 1 rfl) ?_
        refine c_brn h (k_if_ne (tgt := 52) hX h dX0_green_45 (by decide)) (fun h => ?_) (fun h => ?_)
        · refine cw (k_iconst (v := 0) hX dX0_green_52 (by decide)) ?_
          exact c_ret_ir T e h dX0_green_53
        · refine cw (k_iconst (v := 1) hX dX0_green_48 (by decide)) ?_
          refine cw (k_goto (tgt := 53) hX dX0_green_49 (by decide)) ?_
          exact c_ret_ir T e h dX0_green_53
      · refine cw (k_iload_n hX dX0_green_39 rfl 5 rfl) ?_
        refine cw (k_goto (tgt := 53) hX dX0_green_40 (by decide)) ?_
        exact c_ret_ir T e h dX0_green_53
  · refine cw (k_iconst (v := (-1)) hX dX0_green_16 (by decide)) ?_
    exact c_ret_ir T e h dX0_green_17
theorem FX0_greenFrom_b44_ok {X : KC CS} {E : CE} {z : Int64} {z0 l0 z1 l1 : Nat} {s : CS} (T : cOK X E cX0_greenFrom RX0 7 (some .long) z0 l0 z1 l1) (hR : cRoom X 0 0) (e : cE_l X E z0 l0 z1 l1 z s) {nf : Nat} {k5 : Nat → Int32 → Int32 → Int64 → Int32 → Option Int64} (hk5 : ∀ (x0 : Nat) (x1 : Int32) (x2 : Int32) (x3 : Int64) (x5 : Int32), k5 x0 x1 x2 x3 x5 = some z → cW X z1 l1 s 5 [(0, .ref x0), (1, .int x1), (2, .int x2), (3, .long x3), (5, .int x5)] []) {x0 : Nat} {x1 : Int32} {x2 : Int32} {x3 : Int64} {x5 : Int32} {s_0 : Int32} (h : FX0_greenFrom_b44 nf s k5 x0 x1 x2 x3 x5 s_0 = some z) : cW X z1 l1 s 44 [(0, .ref x0), (1, .int x1), (2, .int x2), (3, .long x3), (5, .int x5)] [.int s_0] := by
  unfold FX0_greenFrom_b44 at h
  have hX := T.1
  refine cw (k_aload_n hX dX0_greenFrom_44 rfl 0 rfl) ?_
  refine cg_X0_160 T h dX0_greenFrom_45 (fun v1 h => ?_)
  refine cw (k_aload_n hX dX0_greenFrom_48 rfl 0 rfl) ?_
  refine cg_X0_166 T h dX0_greenFrom_49 (fun v2 h => ?_)
  refine cw (k_isub hX dX0_greenFrom_52) ?_
  refine c_br h (k_icmp_ge (tgt := 63) hX h dX0_greenFrom_53 (by decide)) (fun h => ?_) (fun h => ?_)
  · refine cw (k_iinc (j := 4) [(5, .int (x5 + 1)), (0, .ref x0), (1, .int x1), (2, .int x2), (3, .long x3)] hX dX0_greenFrom_63 rfl rfl rfl rfl) ?_
    refine cw (k_goto (tgt := 5) hX dX0_greenFrom_66 (by decide)) ?_
    refine cw (k_lv (lv' := [(0, .ref x0), (1, .int x1), (2, .int x2), (3, .long x3), (5, .int (x5 + 1))]) [1, 2, 3, 4, 0] rfl) ?_
    exact hk5 _ _ _ _ _ h
  · refine cw (k_lload_n hX dX0_greenFrom_56 rfl 3 rfl) ?_
    refine cw (k_lconst (v := 1) hX dX0_greenFrom_57 (by decide)) ?_
    refine cw (k_iload hX dX0_greenFrom_58 4 rfl) ?_
    refine cw (k_lshl hX dX0_greenFrom_60) ?_
    refine cw (k_lor hX dX0_greenFrom_61) ?_
    refine c_nml h (fun v3 h => ?_)
    refine cw (k_lstore_n [(3, .long v3), (0, .ref x0), (1, .int x1), (2, .int x2), (5, .int x5)] hX dX0_greenFrom_62 rfl rfl rfl) ?_
    refine cw (k_iinc (j := 4) [(5, .int (x5 + 1)), (3, .long v3), (0, .ref x0), (1, .int x1), (2, .int x2)] hX dX0_greenFrom_63 rfl rfl rfl rfl) ?_
    refine cw (k_goto (tgt := 5) hX dX0_greenFrom_66 (by decide)) ?_
    refine cw (k_lv (lv' := [(0, .ref x0), (1, .int x1), (2, .int x2), (3, .long v3), (5, .int (x5 + 1))]) [2, 3, 4, 1, 0] rfl) ?_
    exact hk5 _ _ _ _ _ h
theorem FX0_greenFrom_b5_s_ok {X : KC CS} {E : CE} {z : Int64} {z0 l0 z1 l1 : Nat} {s : CS} (T : cOK X E cX0_greenFrom RX0 7 (some .long) z0 l0 z1 l1) (hR : cRoom X 0 0) (e : cE_l X E z0 l0 z1 l1 z s) {nf : Nat} {k5 : Nat → Int32 → Int32 → Int64 → Int32 → Option Int64} (hk5 : ∀ (x0 : Nat) (x1 : Int32) (x2 : Int32) (x3 : Int64) (x5 : Int32), k5 x0 x1 x2 x3 x5 = some z → cW X z1 l1 s 5 [(0, .ref x0), (1, .int x1), (2, .int x2), (3, .long x3), (5, .int x5)] []) {x0 : Nat} {x1 : Int32} {x2 : Int32} {x3 : Int64} {x5 : Int32} (h : FX0_greenFrom_b5_s nf s k5 x0 x1 x2 x3 x5 = some z) : cW X z1 l1 s 5 [(0, .ref x0), (1, .int x1), (2, .int x2), (3, .long x3), (5, .int x5)] [] := by
  unfold FX0_greenFrom_b5_s at h
  have hX := T.1
  refine cw (k_iload hX dX0_greenFrom_5 4 rfl) ?_
  refine cw (k_aload_n hX dX0_greenFrom_7 rfl 0 rfl) ?_
  refine cg_X0_160 T h dX0_greenFrom_8 (fun v1 h => ?_)
  refine c_br h (k_icmp_ge (tgt := 69) hX h dX0_greenFrom_11 (by decide)) (fun h => ?_) (fun h => ?_)
  · refine cw (k_lload_n hX dX0_greenFrom_69 rfl 3 rfl) ?_
    exact c_ret_lr T e h dX0_greenFrom_70
  · refine cw (k_iload hX dX0_greenFrom_14 4 rfl) ?_
    refine cw (k_iload_n hX dX0_greenFrom_16 rfl 2 rfl) ?_
    refine cw (k_iadd hX dX0_greenFrom_17) ?_
    refine cw (k_iload_n hX dX0_greenFrom_18 rfl 1 rfl) ?_
    refine cw (k_isub hX dX0_greenFrom_19) ?_
    refine cw (k_aload_n hX dX0_greenFrom_20 rfl 0 rfl) ?_
    refine cg_X0_160 T h dX0_greenFrom_21 (fun v2 h => ?_)
    refine c_d32 h (k_irem hX h dX0_greenFrom_24) (fun h => ?_)
    refine c_nm h (fun v3 h => ?_)
    refine cw (k_istore [(6, .int v3), (0, .ref x0), (1, .int x1), (2, .int x2), (3, .long x3), (5, .int x5)] hX dX0_greenFrom_25 rfl rfl) ?_
    refine cw (k_iload hX dX0_greenFrom_27 0 rfl) ?_
    refine c_br h (k_if_ge (tgt := 42) hX h dX0_greenFrom_29 (by decide)) (fun h => ?_) (fun h => ?_)
    · refine cw (k_iload hX dX0_greenFrom_42 0 rfl) ?_
      refine cw (k_lv (lv' := [(0, .ref x0), (1, .int x1), (2, .int x2), (3, .long x3), (5, .int x5)]) [1, 2, 3, 4, 5] rfl) ?_
      exact FX0_greenFrom_b44_ok T hR e hk5 h
    · refine cw (k_iload hX dX0_greenFrom_32 0 rfl) ?_
      refine cw (k_aload_n hX dX0_greenFrom_34 rfl 1 rfl) ?_
      refine cg_X0_160 T h dX0_greenFrom_35 (fun v4 h => ?_)
      refine cw (k_iadd hX dX0_greenFrom_38) ?_
      refine cw (k_goto (tgt := 44) hX dX0_greenFrom_39 (by decide)) ?_
      refine cw (k_lv (lv' := [(0, .ref x0), (1, .int x1), (2, .int x2), (3, .long x3), (5, .int x5)]) [1, 2, 3, 4, 5] rfl) ?_
      exact FX0_greenFrom_b44_ok T hR e hk5 h
theorem FX0_greenFrom_b5_ok {X : KC CS} {E : CE} {z : Int64} {z0 l0 z1 l1 : Nat} {s : CS} (T : cOK X E cX0_greenFrom RX0 7 (some .long) z0 l0 z1 l1) (hR : cRoom X 0 0) (e : cE_l X E z0 l0 z1 l1 z s) {nf : Nat} : ∀ (n : Nat) (x0 : Nat) (x1 : Int32) (x2 : Int32) (x3 : Int64) (x5 : Int32), FX0_greenFrom_b5 nf s n x0 x1 x2 x3 x5 = some z → cW X z1 l1 s 5 [(0, .ref x0), (1, .int x1), (2, .int x2), (3, .long x3), (5, .int x5)] [] := by
  intro n
  induction n with
  | zero => intro x0 x1 x2 x3 x5 h; exact (nomatch (show (none : Option Int64) = some z from h))
  | succ n ih =>
    intro x0 x1 x2 x3 x5 h
    have h : FX0_greenFrom_b5_s nf s (FX0_greenFrom_b5 nf s n) x0 x1 x2 x3 x5 = some z := h
    exact FX0_greenFrom_b5_s_ok T hR e ih h
theorem met_FX0_greenFrom {l : Launch} {E : CE} {nf : Nat} {s : CS} : ∀ (x0 : Nat) (x1 : Int32) (x2 : Int32) (z : Int64), FX0_greenFrom nf s x0 x1 x2 = some z → cMet_l l E yX0_greenFrom (ws_ yX0_greenFrom cX0_greenFrom 7 (some .long)) 0 0 [.ref x0, .int x1, .int x2] s z s := by
  intro x0 x1 x2 z h
  unfold FX0_greenFrom at h
  refine c_met_l ⟨Nat.le_refl _, Nat.le_refl _⟩ (by decide +kernel) rfl (fun X hl hin T hR e => ?_)
  have T : cOK X E cX0_greenFrom RX0 7 (some .long) _ _ _ _ := T
  have hX := T.1
  show cW X _ _ s 0 [(0, .ref x0), (1, .int x1), (2, .int x2)] []
  refine cw (k_lconst (v := 0) hX dX0_greenFrom_0 (by decide)) ?_
  refine cw (k_lstore_n [(3, .long 0), (0, .ref x0), (1, .int x1), (2, .int x2)] hX dX0_greenFrom_1 rfl rfl rfl) ?_
  refine cw (k_iconst (v := 0) hX dX0_greenFrom_2 (by decide)) ?_
  refine cw (k_istore [(5, .int 0), (3, .long 0), (0, .ref x0), (1, .int x1), (2, .int x2)] hX dX0_greenFrom_3 rfl rfl) ?_
  refine cw (k_lv (lv' := [(0, .ref x0), (1, .int x1), (2, .int x2), (3, .long 0), (5, .int 0)]) [2, 3, 4, 1, 0] rfl) ?_
  exact FX0_greenFrom_b5_ok T hR e _ _ _ _ _ _ h
theorem met_FX0_isSo {l : Launch} {E : CE} {s : CS} : ∀ (x0 : Nat) (x1 : Int32) (x2 : Int32) (x3 : Int32) (x4 : Int32) (x5 : Int32) (z : Int32), FX0_isSo s x0 x1 x2 x3 x4 x5 = some z → (isK s x0 [0] = true ∧ cMet_i l E yX0_isSo (ws_ yX0_isSo cX0_isSo 7 (some .boolean)) 2 48 [.ref x0, .int x1, .int x2, .int x3, .int x4, .int x5] s z s) := by
  intro x0 x1 x2 x3 x4 x5 z h
  unfold FX0_isSo at h
  obtain ⟨hg, h⟩ := gd_of h
  refine ⟨hg, c_met_i ⟨Nat.le_refl _, Nat.le_refl _⟩ (by decide +kernel) rfl (fun X hl hin T hR e => ?_)⟩
  have T : cOK X E cX0_isSo RX0 7 (some .boolean) _ _ _ _ := T
  have hX := T.1
  show cW X _ _ s 0 [(0, .ref x0), (1, .int x1), (2, .int x2), (3, .int x3), (4, .int x4), (5, .int x5)] []
  refine cw (k_iload hX dX0_isSo_0 5 rfl) ?_
  refine cw (k_iload hX dX0_isSo_2 4 rfl) ?_
  refine c_br h (k_icmp_lt (tgt := 19) hX h dX0_isSo_4 (by decide)) (fun h => ?_) (fun h => ?_)
  · refine cw (k_iconst (v := 0) hX dX0_isSo_19 (by decide)) ?_
    exact c_ret_zrc T e rfl h dX0_isSo_20
  · refine cw (k_aload_n hX dX0_isSo_7 rfl 0 rfl) ?_
    refine cw (k_iload_n hX dX0_isSo_8 rfl 1 rfl) ?_
    refine cw (k_iload_n hX dX0_isSo_9 rfl 2 rfl) ?_
    refine cw (k_iload_n hX dX0_isSo_10 rfl 3 rfl) ?_
    refine cw (k_iload hX dX0_isSo_11 5 rfl) ?_
    refine cX_X0_191 T met_FX0_waits (c_room hR rfl rfl) h rfl dX0_isSo_13 (fun v1 h => ?_)
    refine c_br h (k_if_ge (tgt := 21) hX h dX0_isSo_16 (by decide)) (fun h => ?_) (fun h => ?_)
    · refine cw (k_aload_n hX dX0_isSo_21 rfl 0 rfl) ?_
      refine cw (k_iload_n hX dX0_isSo_22 rfl 1 rfl) ?_
      refine cw (k_iload_n hX dX0_isSo_23 rfl 2 rfl) ?_
      refine cX_X0_140 T met_FX0_lightAt (c_room hR rfl rfl) h rfl dX0_isSo_24 (fun r2 h => ?_)
      refine cw (k_astoreO [(6, va_rf r2), (0, .ref x0), (1, .int x1), (2, .int x2), (3, .int x3), (4, .int x4), (5, .int x5)] hX dX0_isSo_27 rfl rfl) ?_
      refine cw (k_aloadO hX dX0_isSo_29 0 rfl) ?_
      rcases r2 with _ | p3
      · replace h := nul_n h
        show cW X _ _ _ 31 [(6, .null), (0, .ref x0), (1, .int x1), (2, .int x2), (3, .int x3), (4, .int x4), (5, .int x5)] [.null]
        refine cw (k_ifnullN (tgt := 72) hX dX0_isSo_31 (by decide)) ?_
        refine cw (k_iconst (v := 1) hX dX0_isSo_72 (by decide)) ?_
        refine cw (k_goto (tgt := 77) hX dX0_isSo_73 (by decide)) ?_
        exact c_ret_zrc T e rfl h dX0_isSo_77
      · replace h := nul_s h
        show cW X _ _ _ 31 [(6, .ref p3), (0, .ref x0), (1, .int x1), (2, .int x2), (3, .int x3), (4, .int x4), (5, .int x5)] [.ref p3]
        refine cw (k_ifnullS hX dX0_isSo_31) ?_
        refine cw (k_aload hX dX0_isSo_34 0 rfl) ?_
        refine cX_X0_181 T met_V11_isButton (fun k hk => c_room hR rfl (Nat.ble_eq.mpr (by omega))) h rfl dX0_isSo_36 (fun v4 h => ?_)
        refine c_br h (k_if_eq (tgt := 61) hX h dX0_isSo_39 (by decide)) (fun h => ?_) (fun h => ?_)
        · refine cw (k_aload hX dX0_isSo_61 0 rfl) ?_
          refine cw (k_iload_n hX dX0_isSo_63 rfl 4 rfl) ?_
          refine cw (k_iload hX dX0_isSo_64 6 rfl) ?_
          refine cX_X0_144 T met_V11_waits (fun k hk => c_room hR rfl (Nat.ble_eq.mpr (by omega))) h rfl dX0_isSo_66 (fun v5 h => ?_)
          refine c_brn h (k_if_ne (tgt := 76) hX h dX0_isSo_69 (by decide)) (fun h => ?_) (fun h => ?_)
          · refine cw (k_iconst (v := 0) hX dX0_isSo_76 (by decide)) ?_
            exact c_ret_zrc T e rfl h dX0_isSo_77
          · refine cw (k_iconst (v := 1) hX dX0_isSo_72 (by decide)) ?_
            refine cw (k_goto (tgt := 77) hX dX0_isSo_73 (by decide)) ?_
            exact c_ret_zrc T e rfl h dX0_isSo_77
        · refine cw (k_iload hX dX0_isSo_42 6 rfl) ?_
          refine cw (k_iload hX dX0_isSo_44 5 rfl) ?_
          refine cw (k_isub hX dX0_isSo_46) ?_
          refine cw (k_aload hX dX0_isSo_47 0 rfl) ?_
          refine cw (k_iload_n hX dX0_isSo_49 rfl 4 rfl) ?_
          refine cw (k_iload hX dX0_isSo_50 5 rfl) ?_
          refine cX_X0_144 T met_V11_waits (fun k hk => c_room hR rfl (Nat.ble_eq.mpr (by omega))) h rfl dX0_isSo_52 (fun v6 h => ?_)
          refine c_br h (k_icmp_lt (tgt := 76) hX h dX0_isSo_55 (by decide)) (fun h => ?_) (fun h => ?_)
          · refine cw (k_iconst (v := 0) hX dX0_isSo_76 (by decide)) ?_
            exact c_ret_zrc T e rfl h dX0_isSo_77
          · refine cw (k_goto (tgt := 72) hX dX0_isSo_58 (by decide)) ?_
            refine cw (k_iconst (v := 1) hX dX0_isSo_72 (by decide)) ?_
            refine cw (k_goto (tgt := 77) hX dX0_isSo_73 (by decide)) ?_
            exact c_ret_zrc T e rfl h dX0_isSo_77
    · refine cw (k_iconst (v := 0) hX dX0_isSo_19 (by decide)) ?_
      exact c_ret_zrc T e rfl h dX0_isSo_20
