/-! THE COMPONENT's walks and contracts (printed by gen/gen_c.py) -/
set_option maxRecDepth 100000
theorem FX0_turning_b138_s_ok {X : KC CS} {E : CE} {z : (Int32 × CS)} {z0 l0 z1 l1 : Nat} (T : cOK X E cX0_turning RX0 6 (some .int) z0 l0 z1 l1) (hR : cRoom X 4 101) (e : cE_i X E z0 l0 z1 l1 z.1 z.2) {nf : Nat} {k129 : Nat → Int32 → Int32 → Int32 → CS → Option (Int32 × CS)} (hk129 : ∀ (x0 : Nat) (x2 : Int32) (x3 : Int32) (x4 : Int32) (s : CS), k129 x0 x2 x3 x4 s = some z → cW X z1 l1 s 129 [(0, .ref x0), (2, .int x2), (3, .int x3), (4, .int x4)] []) {k138 : Nat → Int32 → Int32 → Int32 → Int32 → CS → Option (Int32 × CS)} (hk138 : ∀ (x0 : Nat) (x2 : Int32) (x3 : Int32) (x4 : Int32) (x5 : Int32) (s : CS), k138 x0 x2 x3 x4 x5 s = some z → cW X z1 l1 s 138 [(0, .ref x0), (2, .int x2), (3, .int x3), (4, .int x4), (5, .int x5)] []) {x0 : Nat} {x2 : Int32} {x3 : Int32} {x4 : Int32} {x5 : Int32} {s : CS} (h : FX0_turning_b138_s nf k129 k138 x0 x2 x3 x4 x5 s = some z) : cW X z1 l1 s 138 [(0, .ref x0), (2, .int x2), (3, .int x3), (4, .int x4), (5, .int x5)] [] := by
  unfold FX0_turning_b138_s at h
  have hX := T.1
  refine cw (k_iload hX dX0_turning_138 4 rfl) ?_
  refine cw (k_iload_n hX dX0_turning_140 rfl 1 rfl) ?_
  refine c_br h (k_icmp_gt (tgt := 186) hX h dX0_turning_141 (by decide)) (fun h => ?_) (fun h => ?_)
  · refine cw (k_iinc (j := 3) [(4, .int (x4 + 1)), (0, .ref x0), (2, .int x2), (3, .int x3), (5, .int x5)] hX dX0_turning_186 rfl rfl rfl rfl) ?_
    refine cw (k_goto (tgt := 129) hX dX0_turning_189 (by decide)) ?_
    refine cw (k_lv (lv' := [(0, .ref x0), (2, .int x2), (3, .int x3), (4, .int (x4 + 1))]) [1, 2, 3, 0] rfl) ?_
    exact hk129 _ _ _ _ _ h
  · refine cw (k_iload_n hX dX0_turning_144 rfl 2 rfl) ?_
    refine cw (k_aload_n hX dX0_turning_145 rfl 0 rfl) ?_
    refine cg_X0_66 T h dX0_turning_146 (fun r1 h => ?_)
    refine cw (k_aload_n hX dX0_turning_149 rfl 0 rfl) ?_
    refine cw (k_aload_n hX dX0_turning_150 rfl 0 rfl) ?_
    refine cg_X0_35 T h dX0_turning_151 (fun r2 h => ?_)
    obtain ⟨p3, e_p3, hq_p3⟩ := nn_of h
    subst e_p3
    have h := hq_p3
    show cW X z1 l1 _ 154 [(0, .ref x0), (2, .int x2), (3, .int x3), (4, .int x4), (5, .int x5)] [.ref p3, .ref x0, va_rf r1, .int x3]
    refine cg_X0_131 T h dX0_turning_154 (fun v4 h => ?_)
    refine cw (k_iconst (v := 1) hX dX0_turning_157 (by decide)) ?_
    refine cw (k_isub hX dX0_turning_158) ?_
    refine cw (k_aload_n hX dX0_turning_159 rfl 0 rfl) ?_
    refine cg_X0_35 T h dX0_turning_160 (fun r5 h => ?_)
    obtain ⟨p6, e_p6, hq_p6⟩ := nn_of h
    subst e_p6
    have h := hq_p6
    show cW X z1 l1 _ 163 [(0, .ref x0), (2, .int x2), (3, .int x3), (4, .int x4), (5, .int x5)] [.ref p6, .int (v4 - 1), .ref x0, va_rf r1, .int x3]
    refine cg_X0_134 T h dX0_turning_163 (fun v7 h => ?_)
    refine cw (k_iconst (v := 1) hX dX0_turning_166 (by decide)) ?_
    refine cw (k_isub hX dX0_turning_167) ?_
    refine cw (k_iload hX dX0_turning_168 3 rfl) ?_
    refine cw (k_iload hX dX0_turning_170 4 rfl) ?_
    refine cX_X0_311 T met_FX0_comesAt (c_room hR rfl rfl) h (by cases r1 <;> rfl) dX0_turning_172 (fun v8 h => ?_)
    obtain ⟨p9, e_p9, hq_p9⟩ := nn_of h
    subst e_p9
    have h := hq_p9
    show cW X z1 l1 _ 175 [(0, .ref x0), (2, .int x2), (3, .int x3), (4, .int x4), (5, .int x5)] [.int v8, .ref p9, .int x3]
    refine ca_ild T h dX0_turning_175 (fun v10 h => ?_)
    refine c_mmin T hR q1436 q330 q145 q331 rfl dX0_turning_176 ?_
    refine c_nm h (fun v11 h => ?_)
    refine cw (k_istore_n [(3, .int v11), (0, .ref x0), (2, .int x2), (4, .int x4), (5, .int x5)] hX dX0_turning_179 rfl rfl rfl) ?_
    refine cw (k_iinc (j := 4) [(5, .int (x5 + 1)), (3, .int v11), (0, .ref x0), (2, .int x2), (4, .int x4)] hX dX0_turning_180 rfl rfl rfl rfl) ?_
    refine cw (k_goto (tgt := 138) hX dX0_turning_183 (by decide)) ?_
    refine cw (k_lv (lv' := [(0, .ref x0), (2, .int x2), (3, .int v11), (4, .int x4), (5, .int (x5 + 1))]) [2, 3, 1, 4, 0] rfl) ?_
    exact hk138 _ _ _ _ _ _ h
theorem FX0_turning_b138_ok {X : KC CS} {E : CE} {z : (Int32 × CS)} {z0 l0 z1 l1 : Nat} (T : cOK X E cX0_turning RX0 6 (some .int) z0 l0 z1 l1) (hR : cRoom X 4 101) (e : cE_i X E z0 l0 z1 l1 z.1 z.2) {nf : Nat} {k129 : Nat → Int32 → Int32 → Int32 → CS → Option (Int32 × CS)} (hk129 : ∀ (x0 : Nat) (x2 : Int32) (x3 : Int32) (x4 : Int32) (s : CS), k129 x0 x2 x3 x4 s = some z → cW X z1 l1 s 129 [(0, .ref x0), (2, .int x2), (3, .int x3), (4, .int x4)] []) : ∀ (n : Nat) (x0 : Nat) (x2 : Int32) (x3 : Int32) (x4 : Int32) (x5 : Int32) (s : CS), FX0_turning_b138 nf k129 n x0 x2 x3 x4 x5 s = some z → cW X z1 l1 s 138 [(0, .ref x0), (2, .int x2), (3, .int x3), (4, .int x4), (5, .int x5)] [] := by
  intro n
  induction n with
  | zero => intro x0 x2 x3 x4 x5 s h; exact (nomatch (show (none : Option (Int32 × CS)) = some z from h))
  | succ n ih =>
    intro x0 x2 x3 x4 x5 s h
    have h : FX0_turning_b138_s nf k129 (FX0_turning_b138 nf k129 n) x0 x2 x3 x4 x5 s = some z := h
    exact FX0_turning_b138_s_ok T hR e hk129 ih h
theorem FX0_turning_b129_s_ok {X : KC CS} {E : CE} {z : (Int32 × CS)} {z0 l0 z1 l1 : Nat} (T : cOK X E cX0_turning RX0 6 (some .int) z0 l0 z1 l1) (hR : cRoom X 4 101) (e : cE_i X E z0 l0 z1 l1 z.1 z.2) {nf : Nat} {k129 : Nat → Int32 → Int32 → Int32 → CS → Option (Int32 × CS)} (hk129 : ∀ (x0 : Nat) (x2 : Int32) (x3 : Int32) (x4 : Int32) (s : CS), k129 x0 x2 x3 x4 s = some z → cW X z1 l1 s 129 [(0, .ref x0), (2, .int x2), (3, .int x3), (4, .int x4)] []) {x0 : Nat} {x2 : Int32} {x3 : Int32} {x4 : Int32} {s : CS} (h : FX0_turning_b129_s nf k129 x0 x2 x3 x4 s = some z) : cW X z1 l1 s 129 [(0, .ref x0), (2, .int x2), (3, .int x3), (4, .int x4)] [] := by
  unfold FX0_turning_b129_s at h
  have hX := T.1
  refine cw (k_iload hX dX0_turning_129 3 rfl) ?_
  refine cw (k_iconst (v := 1) hX dX0_turning_131 (by decide)) ?_
  refine c_br h (k_icmp_gt (tgt := 192) hX h dX0_turning_132 (by decide)) (fun h => ?_) (fun h => ?_)
  · refine cw (k_iload_n hX dX0_turning_192 rfl 2 rfl) ?_
    refine cw (k_ldcw (v := 2147483647) hX q1427 dX0_turning_193) ?_
    refine c_brn h (k_icmp_ne (tgt := 203) hX h dX0_turning_196 (by decide)) (fun h => ?_) (fun h => ?_)
    · refine cw (k_iload_n hX dX0_turning_203 rfl 2 rfl) ?_
      exact c_ret_i T e h dX0_turning_204
    · refine cw (k_iconst (v := (-1)) hX dX0_turning_199 (by decide)) ?_
      refine cw (k_goto (tgt := 204) hX dX0_turning_200 (by decide)) ?_
      exact c_ret_i T e h dX0_turning_204
  · refine cw (k_iconst (v := 0) hX dX0_turning_135 (by decide)) ?_
    refine cw (k_istore [(5, .int 0), (0, .ref x0), (2, .int x2), (3, .int x3), (4, .int x4)] hX dX0_turning_136 rfl rfl) ?_
    refine cw (k_lv (lv' := [(0, .ref x0), (2, .int x2), (3, .int x3), (4, .int x4), (5, .int 0)]) [1, 2, 3, 4, 0] rfl) ?_
    exact FX0_turning_b138_ok T hR e hk129 _ _ _ _ _ _ _ h
theorem FX0_turning_b129_ok {X : KC CS} {E : CE} {z : (Int32 × CS)} {z0 l0 z1 l1 : Nat} (T : cOK X E cX0_turning RX0 6 (some .int) z0 l0 z1 l1) (hR : cRoom X 4 101) (e : cE_i X E z0 l0 z1 l1 z.1 z.2) {nf : Nat} : ∀ (n : Nat) (x0 : Nat) (x2 : Int32) (x3 : Int32) (x4 : Int32) (s : CS), FX0_turning_b129 nf n x0 x2 x3 x4 s = some z → cW X z1 l1 s 129 [(0, .ref x0), (2, .int x2), (3, .int x3), (4, .int x4)] [] := by
  intro n
  induction n with
  | zero => intro x0 x2 x3 x4 s h; exact (nomatch (show (none : Option (Int32 × CS)) = some z from h))
  | succ n ih =>
    intro x0 x2 x3 x4 s h
    have h : FX0_turning_b129_s nf (FX0_turning_b129 nf n) x0 x2 x3 x4 s = some z := h
    exact FX0_turning_b129_s_ok T hR e ih h
theorem FX0_turning_b90_s_ok {X : KC CS} {E : CE} {z : (Int32 × CS)} {z0 l0 z1 l1 : Nat} (T : cOK X E cX0_turning RX0 6 (some .int) z0 l0 z1 l1) (hR : cRoom X 4 101) (e : cE_i X E z0 l0 z1 l1 z.1 z.2) {nf : Nat} {k76 : Nat → Int32 → Int32 → CS → Option (Int32 × CS)} (hk76 : ∀ (x0 : Nat) (x2 : Int32) (x3 : Int32) (s : CS), k76 x0 x2 x3 s = some z → cW X z1 l1 s 76 [(0, .ref x0), (2, .int x2), (3, .int x3)] []) {k90 : Nat → Int32 → Int32 → Int32 → CS → Option (Int32 × CS)} (hk90 : ∀ (x0 : Nat) (x2 : Int32) (x3 : Int32) (x4 : Int32) (s : CS), k90 x0 x2 x3 x4 s = some z → cW X z1 l1 s 90 [(0, .ref x0), (2, .int x2), (3, .int x3), (4, .int x4)] []) {x0 : Nat} {x2 : Int32} {x3 : Int32} {x4 : Int32} {s : CS} (h : FX0_turning_b90_s nf k76 k90 x0 x2 x3 x4 s = some z) : cW X z1 l1 s 90 [(0, .ref x0), (2, .int x2), (3, .int x3), (4, .int x4)] [] := by
  unfold FX0_turning_b90_s at h
  have hX := T.1
  refine cw (k_iload hX dX0_turning_90 3 rfl) ?_
  refine cw (k_aload_n hX dX0_turning_92 rfl 0 rfl) ?_
  refine cg_X0_35 T h dX0_turning_93 (fun r1 h => ?_)
  obtain ⟨p2, e_p2, hq_p2⟩ := nn_of h
  subst e_p2
  have h := hq_p2
  show cW X z1 l1 _ 96 [(0, .ref x0), (2, .int x2), (3, .int x3), (4, .int x4)] [.ref p2, .int x4]
  refine cg_X0_131 T h dX0_turning_96 (fun v3 h => ?_)
  refine c_br h (k_icmp_ge (tgt := 116) hX h dX0_turning_99 (by decide)) (fun h => ?_) (fun h => ?_)
  · refine cw (k_iinc (j := 2) [(3, .int (x3 + 1)), (0, .ref x0), (2, .int x2), (4, .int x4)] hX dX0_turning_116 rfl rfl rfl rfl) ?_
    refine cw (k_goto (tgt := 76) hX dX0_turning_119 (by decide)) ?_
    refine cw (k_lv (lv' := [(0, .ref x0), (2, .int x2), (3, .int (x3 + 1))]) [1, 2, 0] rfl) ?_
    exact hk76 _ _ _ _ h
  · refine cw (k_aload_n hX dX0_turning_102 rfl 0 rfl) ?_
    refine cw (k_iload hX dX0_turning_103 3 rfl) ?_
    refine cw (k_iload_n hX dX0_turning_105 rfl 2 rfl) ?_
    refine cw (k_iload_n hX dX0_turning_106 rfl 1 rfl) ?_
    refine cX_X0_322 T met_FX0_turnsFrom (c_room hR rfl rfl) h rfl dX0_turning_107 (fun s4 h => ?_)
    refine cw (k_iinc (j := 3) [(4, .int (x4 + 1)), (0, .ref x0), (2, .int x2), (3, .int x3)] hX dX0_turning_110 rfl rfl rfl rfl) ?_
    refine cw (k_goto (tgt := 90) hX dX0_turning_113 (by decide)) ?_
    refine cw (k_lv (lv' := [(0, .ref x0), (2, .int x2), (3, .int x3), (4, .int (x4 + 1))]) [1, 2, 3, 0] rfl) ?_
    exact hk90 _ _ _ _ _ h
theorem FX0_turning_b90_ok {X : KC CS} {E : CE} {z : (Int32 × CS)} {z0 l0 z1 l1 : Nat} (T : cOK X E cX0_turning RX0 6 (some .int) z0 l0 z1 l1) (hR : cRoom X 4 101) (e : cE_i X E z0 l0 z1 l1 z.1 z.2) {nf : Nat} {k76 : Nat → Int32 → Int32 → CS → Option (Int32 × CS)} (hk76 : ∀ (x0 : Nat) (x2 : Int32) (x3 : Int32) (s : CS), k76 x0 x2 x3 s = some z → cW X z1 l1 s 76 [(0, .ref x0), (2, .int x2), (3, .int x3)] []) : ∀ (n : Nat) (x0 : Nat) (x2 : Int32) (x3 : Int32) (x4 : Int32) (s : CS), FX0_turning_b90 nf k76 n x0 x2 x3 x4 s = some z → cW X z1 l1 s 90 [(0, .ref x0), (2, .int x2), (3, .int x3), (4, .int x4)] [] := by
  intro n
  induction n with
  | zero => intro x0 x2 x3 x4 s h; exact (nomatch (show (none : Option (Int32 × CS)) = some z from h))
  | succ n ih =>
    intro x0 x2 x3 x4 s h
    have h : FX0_turning_b90_s nf k76 (FX0_turning_b90 nf k76 n) x0 x2 x3 x4 s = some z := h
    exact FX0_turning_b90_s_ok T hR e hk76 ih h
theorem FX0_turning_b76_s_ok {X : KC CS} {E : CE} {z : (Int32 × CS)} {z0 l0 z1 l1 : Nat} (T : cOK X E cX0_turning RX0 6 (some .int) z0 l0 z1 l1) (hR : cRoom X 4 101) (e : cE_i X E z0 l0 z1 l1 z.1 z.2) {nf : Nat} {k76 : Nat → Int32 → Int32 → CS → Option (Int32 × CS)} (hk76 : ∀ (x0 : Nat) (x2 : Int32) (x3 : Int32) (s : CS), k76 x0 x2 x3 s = some z → cW X z1 l1 s 76 [(0, .ref x0), (2, .int x2), (3, .int x3)] []) {x0 : Nat} {x2 : Int32} {x3 : Int32} {s : CS} (h : FX0_turning_b76_s nf k76 x0 x2 x3 s = some z) : cW X z1 l1 s 76 [(0, .ref x0), (2, .int x2), (3, .int x3)] [] := by
  unfold FX0_turning_b76_s at h
  have hX := T.1
  refine cw (k_iload_n hX dX0_turning_76 rfl 2 rfl) ?_
  refine cw (k_aload_n hX dX0_turning_77 rfl 0 rfl) ?_
  refine cg_X0_35 T h dX0_turning_78 (fun r1 h => ?_)
  obtain ⟨p2, e_p2, hq_p2⟩ := nn_of h
  subst e_p2
  have h := hq_p2
  show cW X z1 l1 _ 81 [(0, .ref x0), (2, .int x2), (3, .int x3)] [.ref p2, .int x3]
  refine cg_X0_134 T h dX0_turning_81 (fun v3 h => ?_)
  refine c_br h (k_icmp_ge (tgt := 122) hX h dX0_turning_84 (by decide)) (fun h => ?_) (fun h => ?_)
  · refine cw (k_ldcw (v := 2147483647) hX q1427 dX0_turning_122) ?_
    refine cw (k_istore_n [(3, .int 2147483647), (0, .ref x0), (2, .int x2)] hX dX0_turning_125 rfl rfl rfl) ?_
    refine cw (k_iconst (v := 0) hX dX0_turning_126 (by decide)) ?_
    refine cw (k_istore [(4, .int 0), (3, .int 2147483647), (0, .ref x0), (2, .int x2)] hX dX0_turning_127 rfl rfl) ?_
    refine cw (k_lv (lv' := [(0, .ref x0), (2, .int x2), (3, .int 2147483647), (4, .int 0)]) [2, 3, 1, 0] rfl) ?_
    exact FX0_turning_b129_ok T hR e _ _ _ _ _ _ h
  · refine cw (k_iconst (v := 0) hX dX0_turning_87 (by decide)) ?_
    refine cw (k_istore [(4, .int 0), (0, .ref x0), (2, .int x2), (3, .int x3)] hX dX0_turning_88 rfl rfl) ?_
    refine cw (k_lv (lv' := [(0, .ref x0), (2, .int x2), (3, .int x3), (4, .int 0)]) [1, 2, 3, 0] rfl) ?_
    exact FX0_turning_b90_ok T hR e hk76 _ _ _ _ _ _ h
theorem FX0_turning_b76_ok {X : KC CS} {E : CE} {z : (Int32 × CS)} {z0 l0 z1 l1 : Nat} (T : cOK X E cX0_turning RX0 6 (some .int) z0 l0 z1 l1) (hR : cRoom X 4 101) (e : cE_i X E z0 l0 z1 l1 z.1 z.2) {nf : Nat} : ∀ (n : Nat) (x0 : Nat) (x2 : Int32) (x3 : Int32) (s : CS), FX0_turning_b76 nf n x0 x2 x3 s = some z → cW X z1 l1 s 76 [(0, .ref x0), (2, .int x2), (3, .int x3)] [] := by
  intro n
  induction n with
  | zero => intro x0 x2 x3 s h; exact (nomatch (show (none : Option (Int32 × CS)) = some z from h))
  | succ n ih =>
    intro x0 x2 x3 s h
    have h : FX0_turning_b76_s nf (FX0_turning_b76 nf n) x0 x2 x3 s = some z := h
    exact FX0_turning_b76_s_ok T hR e ih h
theorem FX0_turning_b32_s_ok {X : KC CS} {E : CE} {z : (Int32 × CS)} {z0 l0 z1 l1 : Nat} (T : cOK X E cX0_turning RX0 6 (some .int) z0 l0 z1 l1) (hR : cRoom X 4 101) (e : cE_i X E z0 l0 z1 l1 z.1 z.2) {nf : Nat} {k32 : Nat → Int32 → Int32 → Int32 → CS → Option (Int32 × CS)} (hk32 : ∀ (x0 : Nat) (x1 : Int32) (x2 : Int32) (x3 : Int32) (s : CS), k32 x0 x1 x2 x3 s = some z → cW X z1 l1 s 32 [(0, .ref x0), (1, .int x1), (2, .int x2), (3, .int x3)] []) {x0 : Nat} {x1 : Int32} {x2 : Int32} {x3 : Int32} {s : CS} (h : FX0_turning_b32_s nf k32 x0 x1 x2 x3 s = some z) : cW X z1 l1 s 32 [(0, .ref x0), (1, .int x1), (2, .int x2), (3, .int x3)] [] := by
  unfold FX0_turning_b32_s at h
  have hX := T.1
  refine cw (k_iload_n hX dX0_turning_32 rfl 3 rfl) ?_
  refine cw (k_aload_n hX dX0_turning_33 rfl 0 rfl) ?_
  refine cg_X0_66 T h dX0_turning_34 (fun r1 h => ?_)
  obtain ⟨p2, e_p2, hq_p2⟩ := nn_of h
  subst e_p2
  have h := hq_p2
  show cW X z1 l1 _ 37 [(0, .ref x0), (1, .int x1), (2, .int x2), (3, .int x3)] [.ref p2, .int x3]
  refine ca_len T h dX0_turning_37 (fun v3 h => ?_)
  refine c_br h (k_icmp_ge (tgt := 56) hX h dX0_turning_38 (by decide)) (fun h => ?_) (fun h => ?_)
  · refine cw (k_aload_n hX dX0_turning_56 rfl 0 rfl) ?_
    refine cw (k_iconst (v := 0) hX dX0_turning_57 (by decide)) ?_
    refine cw (k_iconst (v := 0) hX dX0_turning_58 (by decide)) ?_
    refine cw (k_iconst (v := 0) hX dX0_turning_59 (by decide)) ?_
    refine cw (k_iload_n hX dX0_turning_60 rfl 1 rfl) ?_
    refine cw (k_iconst (v := 0) hX dX0_turning_61 (by decide)) ?_
    refine cX_X0_318 T met_FX0_turnsOn (c_room hR rfl rfl) h rfl dX0_turning_62 (fun s4 h => ?_)
    refine cw (k_aload_n hX dX0_turning_65 rfl 0 rfl) ?_
    refine cw (k_iconst (v := 0) hX dX0_turning_66 (by decide)) ?_
    refine cw (k_iconst (v := 0) hX dX0_turning_67 (by decide)) ?_
    refine cw (k_iconst (v := 1) hX dX0_turning_68 (by decide)) ?_
    refine cw (k_iload_n hX dX0_turning_69 rfl 1 rfl) ?_
    refine cw (k_iconst (v := 0) hX dX0_turning_70 (by decide)) ?_
    refine cX_X0_318 T met_FX0_turnsOn (c_room hR rfl rfl) h rfl dX0_turning_71 (fun s5 h => ?_)
    refine cw (k_iconst (v := 0) hX dX0_turning_74 (by decide)) ?_
    refine cw (k_istore_n [(3, .int 0), (0, .ref x0), (1, .int x1), (2, .int x2)] hX dX0_turning_75 rfl rfl rfl) ?_
    refine cw (k_lv (lv' := [(0, .ref x0), (2, .int x2), (3, .int 0)]) [1, 3, 0] rfl) ?_
    exact FX0_turning_b76_ok T hR e _ _ _ _ _ h
  · refine cw (k_aload_n hX dX0_turning_41 rfl 0 rfl) ?_
    refine cg_X0_66 T h dX0_turning_42 (fun r6 h => ?_)
    refine cw (k_iload_n hX dX0_turning_45 rfl 3 rfl) ?_
    refine cw (k_ldcw (v := 2147483647) hX q1427 dX0_turning_46) ?_
    obtain ⟨p7, e_p7, hq_p7⟩ := nn_of h
    subst e_p7
    have h := hq_p7
    show cW X z1 l1 _ 49 [(0, .ref x0), (1, .int x1), (2, .int x2), (3, .int x3)] [.int 2147483647, .int x3, .ref p7]
    refine ca_ist T h dX0_turning_49 (fun s8 h => ?_)
    refine cw (k_iinc (j := 3) [(3, .int (x3 + 1)), (0, .ref x0), (1, .int x1), (2, .int x2)] hX dX0_turning_50 rfl rfl rfl rfl) ?_
    refine cw (k_goto (tgt := 32) hX dX0_turning_53 (by decide)) ?_
    refine cw (k_lv (lv' := [(0, .ref x0), (1, .int x1), (2, .int x2), (3, .int (x3 + 1))]) [1, 2, 3, 0] rfl) ?_
    exact hk32 _ _ _ _ _ h
theorem FX0_turning_b32_ok {X : KC CS} {E : CE} {z : (Int32 × CS)} {z0 l0 z1 l1 : Nat} (T : cOK X E cX0_turning RX0 6 (some .int) z0 l0 z1 l1) (hR : cRoom X 4 101) (e : cE_i X E z0 l0 z1 l1 z.1 z.2) {nf : Nat} : ∀ (n : Nat) (x0 : Nat) (x1 : Int32) (x2 : Int32) (x3 : Int32) (s : CS), FX0_turning_b32 nf n x0 x1 x2 x3 s = some z → cW X z1 l1 s 32 [(0, .ref x0), (1, .int x1), (2, .int x2), (3, .int x3)] [] := by
  intro n
  induction n with
  | zero => intro x0 x1 x2 x3 s h; exact (nomatch (show (none : Option (Int32 × CS)) = some z from h))
  | succ n ih =>
    intro x0 x1 x2 x3 s h
    have h : FX0_turning_b32_s nf (FX0_turning_b32 nf n) x0 x1 x2 x3 s = some z := h
    exact FX0_turning_b32_s_ok T hR e ih h
theorem met_FX0_turning {l : Launch} {E : CE} {nf : Nat} : ∀ (x0 : Nat) (x1 : Int32) (x2 : Int32) (s : CS) (z : (Int32 × CS)), FX0_turning nf x0 x1 x2 s = some z → (isK s x0 [0] = true ∧ cMet_i l E yX0_turning (ws_ yX0_turning cX0_turning 6 (some .int)) 4 101 [.ref x0, .int x1, .int x2] s z.1 z.2) := by
  intro x0 x1 x2 s z h
  unfold FX0_turning at h
  obtain ⟨hm, h⟩ := mz_of h
  obtain ⟨hg, h⟩ := gd_of h
  refine ⟨hg, c_met_i hm (by decide +kernel) rfl (fun X hl hin T hR e => ?_)⟩
  have T : cOK X E cX0_turning RX0 6 (some .int) _ _ _ _ := T
  have hX := T.1
  show cW X _ _ s 0 [(0, .ref x0), (1, .int x1), (2, .int x2)] []
  refine cw (k_iload_n hX dX0_turning_0 rfl 1 rfl) ?_
  refine cX_X0_173 T met_FX0_isSecond (c_room hR rfl rfl) h rfl dX0_turning_1 (fun v1 h => ?_)
  refine c_br h (k_if_eq (tgt := 17) hX h dX0_turning_4 (by decide)) (fun h => ?_) (fun h => ?_)
  · refine cw (k_iconst (v := (-1)) hX dX0_turning_17 (by decide)) ?_
    exact c_ret_i T e h dX0_turning_18
  · refine cw (k_iload_n hX dX0_turning_7 rfl 2 rfl) ?_
    refine cw (k_iconst (v := 0) hX dX0_turning_8 (by decide)) ?_
    refine cw (k_bipush (v := 12) hX dX0_turning_9 (by decide)) ?_
    refine cX_X0_127 T met_FX0_in (c_room hR rfl rfl) h rfl dX0_turning_11 (fun v2 h => ?_)
    refine c_brn h (k_if_ne (tgt := 19) hX h dX0_turning_14 (by decide)) (fun h => ?_) (fun h => ?_)
    · refine cw (k_aload_n hX dX0_turning_19 rfl 0 rfl) ?_
      refine cw (k_iconst (v := 0) hX dX0_turning_20 (by decide)) ?_
      refine cw (k_iconst (v := 0) hX dX0_turning_21 (by decide)) ?_
      refine cX_X0_278 T met_FX0_isHome (c_room hR rfl rfl) h rfl dX0_turning_22 (fun v3 h => ?_)
      refine c_br h (k_if_eq (tgt := 30) hX h dX0_turning_25 (by decide)) (fun h => ?_) (fun h => ?_)
      · refine cw (k_iconst (v := 0) hX dX0_turning_30 (by decide)) ?_
        refine cw (k_istore_n [(3, .int 0), (0, .ref x0), (1, .int x1), (2, .int x2)] hX dX0_turning_31 rfl rfl rfl) ?_
        refine cw (k_lv (lv' := [(0, .ref x0), (1, .int x1), (2, .int x2), (3, .int 0)]) [1, 2, 3, 0] rfl) ?_
        exact FX0_turning_b32_ok T hR e _ _ _ _ _ _ h
      · refine cw (k_iload_n hX dX0_turning_28 rfl 1 rfl) ?_
        exact c_ret_i T e h dX0_turning_29
    · refine cw (k_iconst (v := (-1)) hX dX0_turning_17 (by decide)) ?_
      exact c_ret_i T e h dX0_turning_18
theorem met_FX0_undo {l : Launch} {E : CE} {nf : Nat} : ∀ (x0 : Nat) (s : CS) (z : (Int32 × CS)), FX0_undo nf x0 s = some z → (isK s x0 [0] = true ∧ cMet_i l E yX0_undo (ws_ yX0_undo cX0_undo 1 (some .boolean)) 1 22 [.ref x0] s z.1 z.2) := by
  intro x0 s z h
  unfold FX0_undo at h
  obtain ⟨hm, h⟩ := mz_of h
  obtain ⟨hg, h⟩ := gd_of h
  refine ⟨hg, c_met_i hm (by decide +kernel) rfl (fun X hl hin T hR e => ?_)⟩
  have T : cOK X E cX0_undo RX0 1 (some .boolean) _ _ _ _ := T
  have hX := T.1
  show cW X _ _ s 0 [(0, .ref x0)] []
  refine cw (k_aload_n hX dX0_undo_0 rfl 0 rfl) ?_
  refine cg_X0_116 T h dX0_undo_1 (fun v1 h => ?_)
  refine c_brn h (k_if_ne (tgt := 9) hX h dX0_undo_4 (by decide)) (fun h => ?_) (fun h => ?_)
  · refine cw (k_aload_n hX dX0_undo_9 rfl 0 rfl) ?_
    refine cg_X0_49 T h dX0_undo_10 (fun r2 h => ?_)
    refine cw (k_aload_n hX dX0_undo_13 rfl 0 rfl) ?_
    refine cg_X0_53 T h dX0_undo_14 (fun r3 h => ?_)
    refine cw (k_aload_n hX dX0_undo_17 rfl 0 rfl) ?_
    refine cw (k_dup hX dX0_undo_18 rfl) ?_
    refine cg_X0_116 T h dX0_undo_19 (fun v4 h => ?_)
    refine cw (k_iconst (v := 1) hX dX0_undo_22 (by decide)) ?_
    refine cw (k_isub hX dX0_undo_23) ?_
    refine c_nm h (fun v5 h => ?_)
    refine cw (k_dup_x1 hX dX0_undo_24 (by first | rfl | exact rf_cat _) (by first | rfl | exact rf_cat _)) ?_
    refine cp_X0_116 T h dX0_undo_25 (fun s6 h => ?_)
    obtain ⟨p7, e_p7, hq_p7⟩ := nn_of h
    subst e_p7
    have h := hq_p7
    show cW X _ _ _ 28 [(0, .ref x0)] [.int v5, .ref p7, va_rf r2]
    refine ca_qld105 T h dX0_undo_28 (fun r8 h => ?_)
    obtain ⟨p9, e_p9, hq_p9⟩ := nn_of h
    subst e_p9
    have h := hq_p9
    show cW X _ _ _ 29 [(0, .ref x0)] [va_rf r8, .ref p9]
    obtain ⟨p10, e_p10, hq_p10⟩ := nn_of h
    subst e_p10
    have h := hq_p10
    show cW X _ _ _ 29 [(0, .ref x0)] [.ref p10, .ref p9]
    refine cX_X0_193 T met_FX8_go (c_room hR rfl rfl) h rfl dX0_undo_29 (fun s11 h => ?_)
    refine cw (k_iconst (v := 1) hX dX0_undo_32 (by decide)) ?_
    exact c_ret_zc T e rfl h dX0_undo_33
  · refine cw (k_iconst (v := 0) hX dX0_undo_7 (by decide)) ?_
    exact c_ret_zc T e rfl h dX0_undo_8
theorem met_FX0_walk {l : Launch} {E : CE} {nf : Nat} : ∀ (x0 : Nat) (s : CS) (z : (Int32 × CS)), FX0_walk E.2.2.2 nf x0 s = some z → (isK s x0 [0] = true ∧ xMet_i l E yX0_walk (wsW_ yX0_walk cX0_walk 2 (some .int) [(4, 19, 22, 109)]) 8 203 [.ref x0] s (.inr z.1) z.2) := by
  intro x0 s z h
  unfold FX0_walk at h
  obtain ⟨hm, h⟩ := mz_of h
  obtain ⟨hg, h⟩ := gd_of h
  refine ⟨hg, x_hmet_i hm (by decide +kernel) rfl (fun X hl hin T hR e => ?_)⟩
  have T : cOK X E cX0_walk RX0 2 (some .int) _ _ _ _ := T
  have hX := T.1
  show cW X _ _ s 0 [(0, .ref x0)] []
  refine cw (k_aload_n hX dX0_walk_0 rfl 0 rfl) ?_
  refine cX_X0_103 T met_FX0_reads (c_room hR rfl rfl) h rfl dX0_walk_1 (fun s1 h => ?_)
  refine cw (k_aload_n hX dX0_walk_4 rfl 0 rfl) ?_
  refine cw (k_aload_n hX dX0_walk_5 rfl 0 rfl) ?_
  refine cg_X0_28 T h dX0_walk_6 (fun r2 h => ?_)
  refine cw (k_aload_n hX dX0_walk_9 rfl 0 rfl) ?_
  refine cg_X0_35 T h dX0_walk_10 (fun r3 h => ?_)
  obtain ⟨p4, e_p4, hq_p4⟩ := nn_of h
  subst e_p4
  have h := hq_p4
  show cW X _ _ _ 13 [(0, .ref x0)] [va_rf r3, .ref p4, .ref x0]
  obtain ⟨p5, e_p5, hq_p5⟩ := nn_of h
  subst e_p5
  have h := hq_p5
  show cW X _ _ _ 13 [(0, .ref x0)] [.ref p5, .ref p4, .ref x0]
  refine cX_X0_119 T met_FX1_walk (c_room hR rfl rfl) e rfl h rfl dX0_walk_13 (fun q8 s9 h => ?_) (fun r7 s6 h => ?_)
  · refine cw (k_astore_n [(1, .ref q8), (0, .ref x0)] hX dX0_walk_22 rfl rfl rfl) ?_
    refine cw (k_aload_n hX dX0_walk_23 rfl 0 rfl) ?_
    refine cg_X0_111 T h dX0_walk_24 (fun v10 h => ?_)
    exact x_hret_i T e h dX0_walk_27
  · refine cp_X0_42o T h dX0_walk_16 (fun s11 h => ?_)
    refine cw (k_goto (tgt := 28) hX dX0_walk_19 (by decide)) ?_
    refine cw (k_iconst (v := 0) hX dX0_walk_28 (by decide)) ?_
    exact x_hret_i T e h dX0_walk_29
theorem met_FX0_was {l : Launch} {E : CE} : ∀ (x0 : Nat) (x1 : Int32) (x2 : Int32) (x3 : Int32) (s : CS) (z : (Int32 × CS)), FX0_was x0 x1 x2 x3 s = some z → (isK s x0 [0] = true ∧ cMet_i l E yX0_was (ws_ yX0_was cX0_was 4 (some .boolean)) 2 44 [.ref x0, .int x1, .int x2, .int x3] s z.1 z.2) := by
  intro x0 x1 x2 x3 s z h
  unfold FX0_was at h
  obtain ⟨hm, h⟩ := mz_of h
  obtain ⟨hg, h⟩ := gd_of h
  refine ⟨hg, c_met_i hm (by decide +kernel) rfl (fun X hl hin T hR e => ?_)⟩
  have T : cOK X E cX0_was RX0 4 (some .boolean) _ _ _ _ := T
  have hX := T.1
  show cW X _ _ s 0 [(0, .ref x0), (1, .int x1), (2, .int x2), (3, .int x3)] []
  refine cw (k_aload_n hX dX0_was_0 rfl 0 rfl) ?_
  refine cg_X0_35 T h dX0_was_1 (fun r1 h => ?_)
  refine cw (k_iload_n hX dX0_was_4 rfl 1 rfl) ?_
  refine cw (k_iload_n hX dX0_was_5 rfl 2 rfl) ?_
  obtain ⟨p2, e_p2, hq_p2⟩ := nn_of h
  subst e_p2
  have h := hq_p2
  show cW X _ _ _ 6 [(0, .ref x0), (1, .int x1), (2, .int x2), (3, .int x3)] [.int x2, .int x1, .ref p2]
  refine cX_X0_149 T met_FX2_isCorner (c_room hR rfl rfl) h rfl dX0_was_6 (fun v3 h => ?_)
  refine c_br h (k_if_eq (tgt := 35) hX h dX0_was_9 (by decide)) (fun h => ?_) (fun h => ?_)
  · refine cw (k_iconst (v := 0) hX dX0_was_35 (by decide)) ?_
    exact c_ret_zc T e rfl h dX0_was_36
  · refine cw (k_iload_n hX dX0_was_12 rfl 3 rfl) ?_
    refine cw (k_iconst (v := 0) hX dX0_was_13 (by decide)) ?_
    refine cw (k_sipush (v := 9999) hX dX0_was_14 (by decide)) ?_
    refine cX_X0_127 T met_FX0_in (c_room hR rfl rfl) h rfl dX0_was_17 (fun v4 h => ?_)
    refine c_br h (k_if_eq (tgt := 35) hX h dX0_was_20 (by decide)) (fun h => ?_) (fun h => ?_)
    · refine cw (k_iconst (v := 0) hX dX0_was_35 (by decide)) ?_
      exact c_ret_zc T e rfl h dX0_was_36
    · refine cw (k_aload_n hX dX0_was_23 rfl 0 rfl) ?_
      refine cg_X0_49 T h dX0_was_24 (fun r5 h => ?_)
      obtain ⟨p6, e_p6, hq_p6⟩ := nn_of h
      subst e_p6
      have h := hq_p6
      show cW X _ _ _ 27 [(0, .ref x0), (1, .int x1), (2, .int x2), (3, .int x3)] [.ref p6]
      refine cg_X0_410 T h dX0_was_27 (fun v7 h => ?_)
      refine cw (k_bipush (v := 8) hX dX0_was_30 (by decide)) ?_
      refine c_brn h (k_icmp_ne (tgt := 37) hX h dX0_was_32 (by decide)) (fun h => ?_) (fun h => ?_)
      · refine cw (k_aload_n hX dX0_was_37 rfl 0 rfl) ?_
        refine cg_X0_49 T h dX0_was_38 (fun r8 h => ?_)
        obtain ⟨p9, e_p9, hq_p9⟩ := nn_of h
        subst e_p9
        have h := hq_p9
        show cW X _ _ _ 41 [(0, .ref x0), (1, .int x1), (2, .int x2), (3, .int x3)] [.ref p9]
        refine cg_X0_413 T h dX0_was_41 (fun r10 h => ?_)
        refine cw (k_aload_n hX dX0_was_44 rfl 0 rfl) ?_
        refine cg_X0_49 T h dX0_was_45 (fun r11 h => ?_)
        obtain ⟨p12, e_p12, hq_p12⟩ := nn_of h
        subst e_p12
        have h := hq_p12
        show cW X _ _ _ 48 [(0, .ref x0), (1, .int x1), (2, .int x2), (3, .int x3)] [.ref p12, va_rf r10]
        refine cg_X0_410 T h dX0_was_48 (fun v13 h => ?_)
        refine cw (k_iload_n hX dX0_was_51 rfl 2 rfl) ?_
        refine cw (k_bipush (v := 6) hX dX0_was_52 (by decide)) ?_
        refine cw (k_imul hX dX0_was_54) ?_
        refine cw (k_iload_n hX dX0_was_55 rfl 1 rfl) ?_
        refine cw (k_iadd hX dX0_was_56) ?_
        obtain ⟨p14, e_p14, hq_p14⟩ := nn_of h
        subst e_p14
        have h := hq_p14
        show cW X _ _ _ 57 [(0, .ref x0), (1, .int x1), (2, .int x2), (3, .int x3)] [.int ((x2 * 6) + x1), .int v13, .ref p14]
        refine ca_ist T h dX0_was_57 (fun s15 h => ?_)
        refine cw (k_aload_n hX dX0_was_58 rfl 0 rfl) ?_
        refine cg_X0_49 T h dX0_was_59 (fun r16 h => ?_)
        obtain ⟨p17, e_p17, hq_p17⟩ := nn_of h
        subst e_p17
        have h := hq_p17
        show cW X _ _ _ 62 [(0, .ref x0), (1, .int x1), (2, .int x2), (3, .int x3)] [.ref p17]
        refine cg_X0_416 T h dX0_was_62 (fun r18 h => ?_)
        refine cw (k_aload_n hX dX0_was_65 rfl 0 rfl) ?_
        refine cg_X0_49 T h dX0_was_66 (fun r19 h => ?_)
        refine cw (k_dup hX dX0_was_69 (rf_cat _)) ?_
        obtain ⟨p20, e_p20, hq_p20⟩ := nn_of h
        subst e_p20
        have h := hq_p20
        show cW X _ _ _ 70 [(0, .ref x0), (1, .int x1), (2, .int x2), (3, .int x3)] [.ref p20, .ref p20, va_rf r18]
        refine cg_X0_410 T h dX0_was_70 (fun v21 h => ?_)
        refine cw (k_dup_x1 hX dX0_was_73 (by first | rfl | exact rf_cat _) (by first | rfl | exact rf_cat _)) ?_
        refine cw (k_iconst (v := 1) hX dX0_was_74 (by decide)) ?_
        refine cw (k_iadd hX dX0_was_75) ?_
        refine cp_X0_410 T h dX0_was_76 (fun s22 h => ?_)
        refine cw (k_iload_n hX dX0_was_79 rfl 3 rfl) ?_
        obtain ⟨p23, e_p23, hq_p23⟩ := nn_of h
        subst e_p23
        have h := hq_p23
        show cW X _ _ _ 80 [(0, .ref x0), (1, .int x1), (2, .int x2), (3, .int x3)] [.int x3, .int v21, .ref p23]
        refine ca_ist T h dX0_was_80 (fun s24 h => ?_)
        refine cw (k_iconst (v := 1) hX dX0_was_81 (by decide)) ?_
        exact c_ret_zc T e rfl h dX0_was_82
      · refine cw (k_iconst (v := 0) hX dX0_was_35 (by decide)) ?_
        exact c_ret_zc T e rfl h dX0_was_36
theorem FX0_watch_b73_s_ok {X : KC CS} {E : CE} {z : (Int32 × CS)} {z0 l0 z1 l1 : Nat} (T : cOK X E cX0_watch RX0 9 (some .int) z0 l0 z1 l1) (hR : cRoom X 608 29607) (e : cE_i X E z0 l0 z1 l1 z.1 z.2) {nf : Nat} {k73 : Nat → Int32 → Int32 → Int32 → Int32 → Int32 → Int64 → CS → Option (Int32 × CS)} (hk73 : ∀ (x0 : Nat) (x1 : Int32) (x2 : Int32) (x3 : Int32) (x4 : Int32) (x5 : Int32) (x6 : Int64) (s : CS), k73 x0 x1 x2 x3 x4 x5 x6 s = some z → cW X z1 l1 s 73 [(0, .ref x0), (1, .int x1), (2, .int x2), (3, .int x3), (4, .int x4), (5, .int x5), (6, .long x6)] []) {x0 : Nat} {x1 : Int32} {x2 : Int32} {x3 : Int32} {x4 : Int32} {x5 : Int32} {x6 : Int64} {s : CS} (h : FX0_watch_b73_s nf k73 x0 x1 x2 x3 x4 x5 x6 s = some z) : cW X z1 l1 s 73 [(0, .ref x0), (1, .int x1), (2, .int x2), (3, .int x3), (4, .int x4), (5, .int x5), (6, .long x6)] [] := by
  unfold FX0_watch_b73_s at h
  have hX := T.1
  refine cw (k_aload_n hX dX0_watch_73 rfl 0 rfl) ?_
  refine cg_X0_281 T h dX0_watch_74 (fun v1 h => ?_)
  refine cw (k_iload hX dX0_watch_77 5 rfl) ?_
  refine c_br h (k_icmp_ge (tgt := 139) hX h dX0_watch_79 (by decide)) (fun h => ?_) (fun h => ?_)
  · refine cw (k_iload hX dX0_watch_139 4 rfl) ?_
    refine cw (k_lload hX dX0_watch_141 6 rfl) ?_
    refine cw (k_iload hX dX0_watch_143 5 rfl) ?_
    refine cw (k_i2l hX dX0_watch_145) ?_
    refine c_d64 h (k_ldiv hX h dX0_watch_146) (fun h => ?_)
    refine cw (k_l2i hX dX0_watch_147) ?_
    refine cw (k_isub hX dX0_watch_148) ?_
    exact c_ret_i T e h dX0_watch_149
  · refine cw (k_aload_n hX dX0_watch_82 rfl 0 rfl) ?_
    refine cw (k_aload_n hX dX0_watch_83 rfl 0 rfl) ?_
    refine cg_X0_35 T h dX0_watch_84 (fun r2 h => ?_)
    obtain ⟨p3, e_p3, hq_p3⟩ := nn_of h
    subst e_p3
    have h := hq_p3
    show cW X z1 l1 _ 87 [(0, .ref x0), (1, .int x1), (2, .int x2), (3, .int x3), (4, .int x4), (5, .int x5), (6, .long x6)] [.ref p3, .ref x0]
    refine cg_X0_291 T h dX0_watch_87 (fun r4 h => ?_)
    refine cw (k_iconst (v := 3) hX dX0_watch_90 (by decide)) ?_
    obtain ⟨p5, e_p5, hq_p5⟩ := nn_of h
    subst e_p5
    have h := hq_p5
    show cW X z1 l1 _ 91 [(0, .ref x0), (1, .int x1), (2, .int x2), (3, .int x3), (4, .int x4), (5, .int x5), (6, .long x6)] [.int 3, .ref p5, .ref x0]
    refine cX_X0_295 T met_FJ2_get (c_room hR rfl rfl) h rfl dX0_watch_91 (fun r6 h => ?_)
    obtain ⟨p7, e_p7, hq_p7⟩ := nn_of h
    subst e_p7
    have h := hq_p7
    show cW X z1 l1 _ 94 [(0, .ref x0), (1, .int x1), (2, .int x2), (3, .int x3), (4, .int x4), (5, .int x5), (6, .long x6)] [.ref p7, .ref x0]
    obtain ⟨hc_94, h⟩ := gd_of h
    refine cw (cc_X0_252 T hc_94 dX0_watch_94) ?_
    refine cw (k_iload_n hX dX0_watch_97 rfl 1 rfl) ?_
    refine cw (k_iload_n hX dX0_watch_98 rfl 2 rfl) ?_
    refine cX_X0_301 T met_FX0_tables_2 (c_room hR rfl rfl) h rfl dX0_watch_99 (fun s8 h => ?_)
    refine cw (k_aload_n hX dX0_watch_102 rfl 0 rfl) ?_
    refine cw (k_iconst (v := 0) hX dX0_watch_103 (by decide)) ?_
    refine cw (k_iconst (v := 0) hX dX0_watch_104 (by decide)) ?_
    refine cw (k_iload_n hX dX0_watch_105 rfl 3 rfl) ?_
    refine cX_X0_244 T met_FX0_takesAt (c_room hR rfl rfl) h rfl dX0_watch_106 (fun v9 h => ?_)
    refine cw (k_istore [(8, .int v9), (0, .ref x0), (1, .int x1), (2, .int x2), (3, .int x3), (4, .int x4), (5, .int x5), (6, .long x6)] hX dX0_watch_109 rfl rfl) ?_
    refine cw (k_iload hX dX0_watch_111 0 rfl) ?_
    refine c_br h (k_if_ge (tgt := 118) hX h dX0_watch_113 (by decide)) (fun h => ?_) (fun h => ?_)
    · refine cw (k_lload hX dX0_watch_118 7 rfl) ?_
      refine cw (k_iload hX dX0_watch_120 0 rfl) ?_
      refine cw (k_i2l hX dX0_watch_122) ?_
      refine cw (k_ladd hX dX0_watch_123) ?_
      refine c_nml h (fun v10 h => ?_)
      refine cw (k_lstore [(6, .long v10), (8, .int v9), (0, .ref x0), (1, .int x1), (2, .int x2), (3, .int x3), (4, .int x4), (5, .int x5)] hX dX0_watch_124 rfl rfl) ?_
      refine cw (k_aload_n hX dX0_watch_126 rfl 2 rfl) ?_
      refine cw (k_dup hX dX0_watch_127 rfl) ?_
      refine cg_X0_281 T h dX0_watch_128 (fun v11 h => ?_)
      refine cw (k_iconst (v := 1) hX dX0_watch_131 (by decide)) ?_
      refine cw (k_iadd hX dX0_watch_132) ?_
      refine cp_X0_281 T h dX0_watch_133 (fun s12 h => ?_)
      refine cw (k_goto (tgt := 73) hX dX0_watch_136 (by decide)) ?_
      refine cw (k_lv (lv' := [(0, .ref x0), (1, .int x1), (2, .int x2), (3, .int x3), (4, .int x4), (5, .int x5), (6, .long v10)]) [2, 3, 4, 5, 6, 7, 0] rfl) ?_
      exact hk73 _ _ _ _ _ _ _ _ h
    · refine cw (k_iconst (v := (-1)) hX dX0_watch_116 (by decide)) ?_
      exact c_ret_i T e h dX0_watch_117
theorem FX0_watch_b73_ok {X : KC CS} {E : CE} {z : (Int32 × CS)} {z0 l0 z1 l1 : Nat} (T : cOK X E cX0_watch RX0 9 (some .int) z0 l0 z1 l1) (hR : cRoom X 608 29607) (e : cE_i X E z0 l0 z1 l1 z.1 z.2) {nf : Nat} : ∀ (n : Nat) (x0 : Nat) (x1 : Int32) (x2 : Int32) (x3 : Int32) (x4 : Int32) (x5 : Int32) (x6 : Int64) (s : CS), FX0_watch_b73 nf n x0 x1 x2 x3 x4 x5 x6 s = some z → cW X z1 l1 s 73 [(0, .ref x0), (1, .int x1), (2, .int x2), (3, .int x3), (4, .int x4), (5, .int x5), (6, .long x6)] [] := by
  intro n
  induction n with
  | zero => intro x0 x1 x2 x3 x4 x5 x6 s h; exact (nomatch (show (none : Option (Int32 × CS)) = some z from h))
  | succ n ih =>
    intro x0 x1 x2 x3 x4 x5 x6 s h
    have h : FX0_watch_b73_s nf (FX0_watch_b73 nf n) x0 x1 x2 x3 x4 x5 x6 s = some z := h
    exact FX0_watch_b73_s_ok T hR e ih h
theorem FX0_watch_b35_ok {X : KC CS} {E : CE} {z : (Int32 × CS)} {z0 l0 z1 l1 : Nat} (T : cOK X E cX0_watch RX0 9 (some .int) z0 l0 z1 l1) (hR : cRoom X 608 29607) (e : cE_i X E z0 l0 z1 l1 z.1 z.2) {nf : Nat} {x0 : Nat} {x1 : Int32} {x2 : Int32} {x3 : Int32} {s_0 : Int32} {s : CS} (h : FX0_watch_b35 nf x0 x1 x2 x3 s_0 s = some z) : cW X z1 l1 s 35 [(0, .ref x0), (1, .int x1), (2, .int x2), (3, .int x3)] [.int s_0] := by
  unfold FX0_watch_b35 at h
  have hX := T.1
  refine cw (k_istore [(4, .int s_0), (0, .ref x0), (1, .int x1), (2, .int x2), (3, .int x3)] hX dX0_watch_35 rfl rfl) ?_
  refine cw (k_iload hX dX0_watch_37 0 rfl) ?_
  refine c_br h (k_if_ge (tgt := 44) hX h dX0_watch_39 (by decide)) (fun h => ?_) (fun h => ?_)
  · refine cw (k_aload_n hX dX0_watch_44 rfl 1 rfl) ?_
    refine cw (k_iload_n hX dX0_watch_45 rfl 2 rfl) ?_
    refine cw (k_iload_n hX dX0_watch_46 rfl 3 rfl) ?_
    refine cX_X0_140 T met_FX0_lightAt (c_room hR rfl rfl) h rfl dX0_watch_47 (fun r1 h => ?_)
    obtain ⟨p2, e_p2, hq_p2⟩ := nn_of h
    subst e_p2
    have h := hq_p2
    show cW X z1 l1 _ 50 [(4, .int s_0), (0, .ref x0), (1, .int x1), (2, .int x2), (3, .int x3)] [.ref p2]
    refine cg_X0_160 T h dX0_watch_50 (fun v3 h => ?_)
    refine cw (k_istore [(5, .int v3), (4, .int s_0), (0, .ref x0), (1, .int x1), (2, .int x2), (3, .int x3)] hX dX0_watch_53 rfl rfl) ?_
    refine cw (k_lconst (v := 0) hX dX0_watch_55 (by decide)) ?_
    refine cw (k_lstore [(6, .long 0), (5, .int v3), (4, .int s_0), (0, .ref x0), (1, .int x1), (2, .int x2), (3, .int x3)] hX dX0_watch_56 rfl rfl) ?_
    refine cw (k_aload_n hX dX0_watch_58 rfl 3 rfl) ?_
    refine cw (k_iload_n hX dX0_watch_59 rfl 5 rfl) ?_
    refine cw (k_bipush (v := 6) hX dX0_watch_60 (by decide)) ?_
    refine cw (k_imul hX dX0_watch_62) ?_
    refine cw (k_iload_n hX dX0_watch_63 rfl 4 rfl) ?_
    refine cw (k_iadd hX dX0_watch_64) ?_
    refine cp_X0_62 T h dX0_watch_65 (fun s4 h => ?_)
    refine cw (k_aload_n hX dX0_watch_68 rfl 3 rfl) ?_
    refine cw (k_iconst (v := 0) hX dX0_watch_69 (by decide)) ?_
    refine cp_X0_281 T h dX0_watch_70 (fun s5 h => ?_)
    refine cw (k_lv (lv' := [(0, .ref x0), (1, .int x1), (2, .int x2), (3, .int x3), (4, .int s_0), (5, .int v3), (6, .long 0)]) [3, 4, 5, 6, 2, 1, 0] rfl) ?_
    exact FX0_watch_b73_ok T hR e _ _ _ _ _ _ _ _ _ h
  · refine cw (k_iconst (v := (-1)) hX dX0_watch_42 (by decide)) ?_
    exact c_ret_i T e h dX0_watch_43
theorem met_FX0_watch {l : Launch} {E : CE} {nf : Nat} : ∀ (x0 : Nat) (x1 : Int32) (x2 : Int32) (x3 : Int32) (s : CS) (z : (Int32 × CS)), FX0_watch nf x0 x1 x2 x3 s = some z → (isK s x0 [0] = true ∧ cMet_i l E yX0_watch (ws_ yX0_watch cX0_watch 9 (some .int)) 608 29607 [.ref x0, .int x1, .int x2, .int x3] s z.1 z.2) := by
  intro x0 x1 x2 x3 s z h
  unfold FX0_watch at h
  obtain ⟨hm, h⟩ := mz_of h
  obtain ⟨hg, h⟩ := gd_of h
  refine ⟨hg, c_met_i hm (by decide +kernel) rfl (fun X hl hin T hR e => ?_)⟩
  have T : cOK X E cX0_watch RX0 9 (some .int) _ _ _ _ := T
  have hX := T.1
  show cW X _ _ s 0 [(0, .ref x0), (1, .int x1), (2, .int x2), (3, .int x3)] []
  refine cw (k_aload_n hX dX0_watch_0 rfl 0 rfl) ?_
  refine cw (k_iload_n hX dX0_watch_1 rfl 1 rfl) ?_
  refine cw (k_iload_n hX dX0_watch_2 rfl 2 rfl) ?_
  refine cw (k_iload_n hX dX0_watch_3 rfl 3 rfl) ?_
  refine cX_X0_185 T met_FX0_isAsked (c_room hR rfl rfl) h rfl dX0_watch_4 (fun v1 h => ?_)
  refine c_br h (k_if_eq (tgt := 34) hX h dX0_watch_7 (by decide)) (fun h => ?_) (fun h => ?_)
  · refine cw (k_iconst (v := (-1)) hX dX0_watch_34 (by decide)) ?_
    refine cw (k_lv (lv' := [(0, .ref x0), (1, .int x1), (2, .int x2), (3, .int x3)]) [0, 1, 2, 3] rfl) ?_
    exact FX0_watch_b35_ok T hR e h
  · refine cw (k_aload_n hX dX0_watch_10 rfl 0 rfl) ?_
    refine cw (k_iload_n hX dX0_watch_11 rfl 2 rfl) ?_
    refine cw (k_bipush (v := 6) hX dX0_watch_12 (by decide)) ?_
    refine cw (k_imul hX dX0_watch_14) ?_
    refine cw (k_iload_n hX dX0_watch_15 rfl 1 rfl) ?_
    refine cw (k_iadd hX dX0_watch_16) ?_
    refine cX_X0_222 T met_FX0_isUnknown (c_room hR rfl rfl) h rfl dX0_watch_17 (fun v2 h => ?_)
    refine c_br h (k_if_eq (tgt := 34) hX h dX0_watch_20 (by decide)) (fun h => ?_) (fun h => ?_)
    · refine cw (k_iconst (v := (-1)) hX dX0_watch_34 (by decide)) ?_
      refine cw (k_lv (lv' := [(0, .ref x0), (1, .int x1), (2, .int x2), (3, .int x3)]) [0, 1, 2, 3] rfl) ?_
      exact FX0_watch_b35_ok T hR e h
    · refine cw (k_aload_n hX dX0_watch_23 rfl 0 rfl) ?_
      refine cw (k_iconst (v := 3) hX dX0_watch_24 (by decide)) ?_
      refine cw (k_iconst (v := 0) hX dX0_watch_25 (by decide)) ?_
      refine cw (k_iconst (v := 0) hX dX0_watch_26 (by decide)) ?_
      refine cw (k_iload_n hX dX0_watch_27 rfl 3 rfl) ?_
      refine cX_X0_332 T met_FX0_mean (c_room hR rfl rfl) h rfl dX0_watch_28 (fun v4 s3 h => ?_)
      refine cw (k_goto (tgt := 35) hX dX0_watch_31 (by decide)) ?_
      refine cw (k_lv (lv' := [(0, .ref x0), (1, .int x1), (2, .int x2), (3, .int x3)]) [0, 1, 2, 3] rfl) ?_
      exact FX0_watch_b35_ok T hR e h
theorem met_FJ17_bitCount {l : Launch} {E : CE} {s : CS} : ∀ (x0 : Int64) (z : Int32), FJ17_bitCount s x0 = some z → cMet_i l E yJ17_bitCount (ws_ yJ17_bitCount cJ17_bitCount 2 (some .int)) 0 0 [.long x0] s z s := by
  intro x0 z h
  unfold FJ17_bitCount at h
  refine c_met_i ⟨Nat.le_refl _, Nat.le_refl _⟩ (by decide +kernel) rfl (fun X hl hin T hR e => ?_)
  have T : cOK X E cJ17_bitCount RJ17 2 (some .int) _ _ _ _ := T
  have hX := T.1
  show cW X _ _ s 0 [(0, .long x0)] []
  refine cw (k_lload_n hX dJ17_bitCount_0 rfl 0 rfl) ?_
  refine cw (k_lload_n hX dJ17_bitCount_1 rfl 0 rfl) ?_
  refine cw (k_iconst (v := 1) hX dJ17_bitCount_2 (by decide)) ?_
  refine cw (k_lushr hX dJ17_bitCount_3) ?_
  refine cw (k_ldc2 (v := 6148914691236517205) hX q1566 dJ17_bitCount_4) ?_
  refine cw (k_land hX dJ17_bitCount_7) ?_
  refine cw (k_lsub hX dJ17_bitCount_8) ?_
  refine c_nml h (fun v1 h => ?_)
  refine cw (k_lstore_n [(0, .long v1)] hX dJ17_bitCount_9 rfl rfl rfl) ?_
  refine cw (k_lload_n hX dJ17_bitCount_10 rfl 0 rfl) ?_
  refine cw (k_ldc2 (v := 3689348814741910323) hX q1567 dJ17_bitCount_11) ?_
  refine cw (k_land hX dJ17_bitCount_14) ?_
  refine cw (k_lload_n hX dJ17_bitCount_15 rfl 0 rfl) ?_
  refine cw (k_iconst (v := 2) hX dJ17_bitCount_16 (by decide)) ?_
  refine cw (k_lushr hX dJ17_bitCount_17) ?_
  refine cw (k_ldc2 (v := 3689348814741910323) hX q1567 dJ17_bitCount_18) ?_
  refine cw (k_land hX dJ17_bitCount_21) ?_
  refine cw (k_ladd hX dJ17_bitCount_22) ?_
  refine c_nml h (fun v2 h => ?_)
  refine cw (k_lstore_n [(0, .long v2)] hX dJ17_bitCount_23 rfl rfl rfl) ?_
  refine cw (k_lload_n hX dJ17_bitCount_24 rfl 0 rfl) ?_
  refine cw (k_lload_n hX dJ17_bitCount_25 rfl 0 rfl) ?_
  refine cw (k_iconst (v := 4) hX dJ17_bitCount_26 (by decide)) ?_
  refine cw (k_lushr hX dJ17_bitCount_27) ?_
  refine cw (k_ladd hX dJ17_bitCount_28) ?_
  refine cw (k_ldc2 (v := 1085102592571150095) hX q1568 dJ17_bitCount_29) ?_
  refine cw (k_land hX dJ17_bitCount_32) ?_
  refine c_nml h (fun v3 h => ?_)
  refine cw (k_lstore_n [(0, .long v3)] hX dJ17_bitCount_33 rfl rfl rfl) ?_
  refine cw (k_lload_n hX dJ17_bitCount_34 rfl 0 rfl) ?_
  refine cw (k_lload_n hX dJ17_bitCount_35 rfl 0 rfl) ?_
  refine cw (k_bipush (v := 8) hX dJ17_bitCount_36 (by decide)) ?_
  refine cw (k_lushr hX dJ17_bitCount_38) ?_
  refine cw (k_ladd hX dJ17_bitCount_39) ?_
  refine c_nml h (fun v4 h => ?_)
  refine cw (k_lstore_n [(0, .long v4)] hX dJ17_bitCount_40 rfl rfl rfl) ?_
  refine cw (k_lload_n hX dJ17_bitCount_41 rfl 0 rfl) ?_
  refine cw (k_lload_n hX dJ17_bitCount_42 rfl 0 rfl) ?_
  refine cw (k_bipush (v := 16) hX dJ17_bitCount_43 (by decide)) ?_
  refine cw (k_lushr hX dJ17_bitCount_45) ?_
  refine cw (k_ladd hX dJ17_bitCount_46) ?_
  refine c_nml h (fun v5 h => ?_)
  refine cw (k_lstore_n [(0, .long v5)] hX dJ17_bitCount_47 rfl rfl rfl) ?_
  refine cw (k_lload_n hX dJ17_bitCount_48 rfl 0 rfl) ?_
  refine cw (k_lload_n hX dJ17_bitCount_49 rfl 0 rfl) ?_
  refine cw (k_bipush (v := 32) hX dJ17_bitCount_50 (by decide)) ?_
  refine cw (k_lushr hX dJ17_bitCount_52) ?_
  refine cw (k_ladd hX dJ17_bitCount_53) ?_
  refine c_nml h (fun v6 h => ?_)
  refine cw (k_lstore_n [(0, .long v6)] hX dJ17_bitCount_54 rfl rfl rfl) ?_
  refine cw (k_lload_n hX dJ17_bitCount_55 rfl 0 rfl) ?_
  refine cw (k_l2i hX dJ17_bitCount_56) ?_
  refine cw (k_bipush (v := 127) hX dJ17_bitCount_57 (by decide)) ?_
  refine cw (k_iand hX dJ17_bitCount_59) ?_
  exact c_ret_ir T e h dJ17_bitCount_60
theorem FX0_waves_b75_s_ok {X : KC CS} {E : CE} {z : CS} {z0 l0 z1 l1 : Nat} (T : cOK X E cX0_waves RX0 11 none z0 l0 z1 l1) {Fr Lr : Nat} (hR : cRoom X (Fr + 1) (Lr + 49)) (e : cE_v X E z0 l0 z1 l1 z) {nf : Nat} {rc : Nat → Int32 → Int32 → Int64 → Int64 → Int32 → Int32 → CS → Option CS} (hrc : ∀ (o : Nat) (a0 : Int32) (a1 : Int32) (a2 : Int64) (a3 : Int64) (a4 : Int32) (a5 : Int32) (s : CS) (v : CS), rc o a0 a1 a2 a3 a4 a5 s = some v → (isK s o [0] = true ∧ cMet_v X.1.2.1 E yX0_waves (ws_ yX0_waves cX0_waves 11 none) Fr Lr [.ref o, .int a0, .int a1, .long a2, .long a3, .int a4, .int a5] s v)) (hN : 1 ≤ Fr) (hM : 21 ≤ Lr) {k75 : Nat → Int32 → Int32 → Int64 → Int64 → Int32 → Int32 → Int32 → CS → Option CS} (hk75 : ∀ (x0 : Nat) (x1 : Int32) (x2 : Int32) (x3 : Int64) (x5 : Int64) (x7 : Int32) (x8 : Int32) (x9 : Int32) (s : CS), k75 x0 x1 x2 x3 x5 x7 x8 x9 s = some z → cW X z1 l1 s 75 [(0, .ref x0), (1, .int x1), (2, .int x2), (3, .long x3), (5, .long x5), (7, .int x7), (8, .int x8), (9, .int x9)] []) {x0 : Nat} {x1 : Int32} {x2 : Int32} {x3 : Int64} {x5 : Int64} {x7 : Int32} {x8 : Int32} {x9 : Int32} {s : CS} (h : FX0_waves_b75_s nf rc k75 x0 x1 x2 x3 x5 x7 x8 x9 s = some z) : cW X z1 l1 s 75 [(0, .ref x0), (1, .int x1), (2, .int x2), (3, .long x3), (5, .long x5), (7, .int x7), (8, .int x8), (9, .int x9)] [] := by
  unfold FX0_waves_b75_s at h
  have hX := T.1
  refine cw (k_iload hX dX0_waves_75 7 rfl) ?_
  refine cw (k_iload hX dX0_waves_77 6 rfl) ?_
  refine c_br h (k_icmp_ge (tgt := 137) hX h dX0_waves_79 (by decide)) (fun h => ?_) (fun h => ?_)
  · exact c_ret_v T e h dX0_waves_137
  · refine cw (k_aload_n hX dX0_waves_82 rfl 0 rfl) ?_
    refine cg_X0_84 T h dX0_waves_83 (fun r1 h => ?_)
    refine cw (k_iload_n hX dX0_waves_86 rfl 1 rfl) ?_
    refine cw (k_iload hX dX0_waves_87 7 rfl) ?_
    obtain ⟨p2, e_p2, hq_p2⟩ := nn_of h
    subst e_p2
    have h := hq_p2
    show cW X z1 l1 _ 89 [(0, .ref x0), (1, .int x1), (2, .int x2), (3, .long x3), (5, .long x5), (7, .int x7), (8, .int x8), (9, .int x9)] [.int x9, .int x1, .ref p2]
    refine ca_ist T h dX0_waves_89 (fun s3 h => ?_)
    refine cw (k_aload_n hX dX0_waves_90 rfl 0 rfl) ?_
    refine cw (k_iload_n hX dX0_waves_91 rfl 1 rfl) ?_
    refine cw (k_iconst (v := 1) hX dX0_waves_92 (by decide)) ?_
    refine cw (k_iadd hX dX0_waves_93) ?_
    refine cw (k_iload_n hX dX0_waves_94 rfl 2 rfl) ?_
    refine cw (k_lload_n hX dX0_waves_95 rfl 3 rfl) ?_
    refine cw (k_aload_n hX dX0_waves_96 rfl 0 rfl) ?_
    refine cg_X0_77 T h dX0_waves_97 (fun r4 h => ?_)
    refine cw (k_iload_n hX dX0_waves_100 rfl 1 rfl) ?_
    refine cw (k_bipush (v := 60) hX dX0_waves_101 (by decide)) ?_
    refine cw (k_imul hX dX0_waves_103) ?_
    refine cw (k_iload hX dX0_waves_104 7 rfl) ?_
    refine cw (k_iadd hX dX0_waves_106) ?_
    obtain ⟨p5, e_p5, hq_p5⟩ := nn_of h
    subst e_p5
    have h := hq_p5
    show cW X z1 l1 _ 107 [(0, .ref x0), (1, .int x1), (2, .int x2), (3, .long x3), (5, .long x5), (7, .int x7), (8, .int x8), (9, .int x9)] [.int ((x1 * 60) + x9), .ref p5, .long x3, .int x2, .int (x1 + 1), .ref x0]
    refine ca_lld T h dX0_waves_107 (fun v6 h => ?_)
    refine cw (k_land hX dX0_waves_108) ?_
    refine cw (k_lload hX dX0_waves_109 4 rfl) ?_
    refine cw (k_aload_n hX dX0_waves_111 rfl 0 rfl) ?_
    refine cg_X0_81 T h dX0_waves_112 (fun r7 h => ?_)
    refine cw (k_iload_n hX dX0_waves_115 rfl 1 rfl) ?_
    refine cw (k_bipush (v := 60) hX dX0_waves_116 (by decide)) ?_
    refine cw (k_imul hX dX0_waves_118) ?_
    refine cw (k_iload hX dX0_waves_119 7 rfl) ?_
    refine cw (k_iadd hX dX0_waves_121) ?_
    obtain ⟨p8, e_p8, hq_p8⟩ := nn_of h
    subst e_p8
    have h := hq_p8
    show cW X z1 l1 _ 122 [(0, .ref x0), (1, .int x1), (2, .int x2), (3, .long x3), (5, .long x5), (7, .int x7), (8, .int x8), (9, .int x9)] [.int ((x1 * 60) + x9), .ref p8, .long x5, .long (x3 &&& v6), .int x2, .int (x1 + 1), .ref x0]
    refine ca_lld T h dX0_waves_122 (fun v9 h => ?_)
    refine cw (k_land hX dX0_waves_123) ?_
    refine cw (k_iload hX dX0_waves_124 5 rfl) ?_
    refine cw (k_iload hX dX0_waves_126 6 rfl) ?_
    refine cX_X0_399 T hrc (c_roomo hR (by omega) (by omega)) h rfl dX0_waves_128 (fun s10 h => ?_)
    refine cw (k_iinc (j := 7) [(9, .int (x9 + 1)), (0, .ref x0), (1, .int x1), (2, .int x2), (3, .long x3), (5, .long x5), (7, .int x7), (8, .int x8)] hX dX0_waves_131 rfl rfl rfl rfl) ?_
    refine cw (k_goto (tgt := 75) hX dX0_waves_134 (by decide)) ?_
    refine cw (k_lv (lv' := [(0, .ref x0), (1, .int x1), (2, .int x2), (3, .long x3), (5, .long x5), (7, .int x7), (8, .int x8), (9, .int (x9 + 1))]) [1, 2, 3, 4, 5, 6, 7, 0] rfl) ?_
    exact hk75 _ _ _ _ _ _ _ _ _ h
theorem FX0_waves_b75_ok {X : KC CS} {E : CE} {z : CS} {z0 l0 z1 l1 : Nat} (T : cOK X E cX0_waves RX0 11 none z0 l0 z1 l1) {Fr Lr : Nat} (hR : cRoom X (Fr + 1) (Lr + 49)) (e : cE_v X E z0 l0 z1 l1 z) {nf : Nat} {rc : Nat → Int32 → Int32 → Int64 → Int64 → Int32 → Int32 → CS → Option CS} (hrc : ∀ (o : Nat) (a0 : Int32) (a1 : Int32) (a2 : Int64) (a3 : Int64) (a4 : Int32) (a5 : Int32) (s : CS) (v : CS), rc o a0 a1 a2 a3 a4 a5 s = some v → (isK s o [0] = true ∧ cMet_v X.1.2.1 E yX0_waves (ws_ yX0_waves cX0_waves 11 none) Fr Lr [.ref o, .int a0, .int a1, .long a2, .long a3, .int a4, .int a5] s v)) (hN : 1 ≤ Fr) (hM : 21 ≤ Lr) : ∀ (n : Nat) (x0 : Nat) (x1 : Int32) (x2 : Int32) (x3 : Int64) (x5 : Int64) (x7 : Int32) (x8 : Int32) (x9 : Int32) (s : CS), FX0_waves_b75 nf rc n x0 x1 x2 x3 x5 x7 x8 x9 s = some z → cW X z1 l1 s 75 [(0, .ref x0), (1, .int x1), (2, .int x2), (3, .long x3), (5, .long x5), (7, .int x7), (8, .int x8), (9, .int x9)] [] := by
  intro n
  induction n with
  | zero => intro x0 x1 x2 x3 x5 x7 x8 x9 s h; exact (nomatch (show (none : Option CS) = some z from h))
  | succ n ih =>
    intro x0 x1 x2 x3 x5 x7 x8 x9 s h
    have h : FX0_waves_b75_s nf rc (FX0_waves_b75 nf rc n) x0 x1 x2 x3 x5 x7 x8 x9 s = some z := h
    exact FX0_waves_b75_s_ok T hR e hrc hN hM ih h
theorem FX0_waves_b45_s_ok {X : KC CS} {E : CE} {z : CS} {z0 l0 z1 l1 : Nat} (T : cOK X E cX0_waves RX0 11 none z0 l0 z1 l1) {Fr Lr : Nat} (hR : cRoom X (Fr + 1) (Lr + 49)) (e : cE_v X E z0 l0 z1 l1 z) {nf : Nat} {rc : Nat → Int32 → Int32 → Int64 → Int64 → Int32 → Int32 → CS → Option CS} (hrc : ∀ (o : Nat) (a0 : Int32) (a1 : Int32) (a2 : Int64) (a3 : Int64) (a4 : Int32) (a5 : Int32) (s : CS) (v : CS), rc o a0 a1 a2 a3 a4 a5 s = some v → (isK s o [0] = true ∧ cMet_v X.1.2.1 E yX0_waves (ws_ yX0_waves cX0_waves 11 none) Fr Lr [.ref o, .int a0, .int a1, .long a2, .long a3, .int a4, .int a5] s v)) (hN : 1 ≤ Fr) (hM : 21 ≤ Lr) {k45 : Nat → Int32 → Int32 → CS → Option CS} (hk45 : ∀ (x0 : Nat) (x2 : Int32) (x10 : Int32) (s : CS), k45 x0 x2 x10 s = some z → cW X z1 l1 s 45 [(0, .ref x0), (2, .int x2), (10, .int x10)] []) {x0 : Nat} {x2 : Int32} {x10 : Int32} {s : CS} (h : FX0_waves_b45_s nf rc k45 x0 x2 x10 s = some z) : cW X z1 l1 s 45 [(0, .ref x0), (2, .int x2), (10, .int x10)] [] := by
  unfold FX0_waves_b45_s at h
  have hX := T.1
  refine cw (k_iload hX dX0_waves_45 2 rfl) ?_
  refine cw (k_iload_n hX dX0_waves_47 rfl 1 rfl) ?_
  refine c_br h (k_icmp_ge (tgt := 71) hX h dX0_waves_48 (by decide)) (fun h => ?_) (fun h => ?_)
  · exact c_ret_v T e h dX0_waves_71
  · refine cw (k_aload_n hX dX0_waves_51 rfl 0 rfl) ?_
    refine cg_X0_87 T h dX0_waves_52 (fun r1 h => ?_)
    refine cw (k_iload hX dX0_waves_55 2 rfl) ?_
    refine cw (k_aload_n hX dX0_waves_57 rfl 0 rfl) ?_
    refine cg_X0_84 T h dX0_waves_58 (fun r2 h => ?_)
    refine cw (k_iload hX dX0_waves_61 2 rfl) ?_
    obtain ⟨p3, e_p3, hq_p3⟩ := nn_of h
    subst e_p3
    have h := hq_p3
    show cW X z1 l1 _ 63 [(0, .ref x0), (2, .int x2), (10, .int x10)] [.int x10, .ref p3, .int x10, va_rf r1]
    refine ca_ild T h dX0_waves_63 (fun v4 h => ?_)
    obtain ⟨p5, e_p5, hq_p5⟩ := nn_of h
    subst e_p5
    have h := hq_p5
    show cW X z1 l1 _ 64 [(0, .ref x0), (2, .int x2), (10, .int x10)] [.int v4, .int x10, .ref p5]
    refine ca_ist T h dX0_waves_64 (fun s6 h => ?_)
    refine cw (k_iinc (j := 2) [(10, .int (x10 + 1)), (0, .ref x0), (2, .int x2)] hX dX0_waves_65 rfl rfl rfl rfl) ?_
    refine cw (k_goto (tgt := 45) hX dX0_waves_68 (by decide)) ?_
    refine cw (k_lv (lv' := [(0, .ref x0), (2, .int x2), (10, .int (x10 + 1))]) [1, 2, 0] rfl) ?_
    exact hk45 _ _ _ _ h
theorem FX0_waves_b45_ok {X : KC CS} {E : CE} {z : CS} {z0 l0 z1 l1 : Nat} (T : cOK X E cX0_waves RX0 11 none z0 l0 z1 l1) {Fr Lr : Nat} (hR : cRoom X (Fr + 1) (Lr + 49)) (e : cE_v X E z0 l0 z1 l1 z) {nf : Nat} {rc : Nat → Int32 → Int32 → Int64 → Int64 → Int32 → Int32 → CS → Option CS} (hrc : ∀ (o : Nat) (a0 : Int32) (a1 : Int32) (a2 : Int64) (a3 : Int64) (a4 : Int32) (a5 : Int32) (s : CS) (v : CS), rc o a0 a1 a2 a3 a4 a5 s = some v → (isK s o [0] = true ∧ cMet_v X.1.2.1 E yX0_waves (ws_ yX0_waves cX0_waves 11 none) Fr Lr [.ref o, .int a0, .int a1, .long a2, .long a3, .int a4, .int a5] s v)) (hN : 1 ≤ Fr) (hM : 21 ≤ Lr) : ∀ (n : Nat) (x0 : Nat) (x2 : Int32) (x10 : Int32) (s : CS), FX0_waves_b45 nf rc n x0 x2 x10 s = some z → cW X z1 l1 s 45 [(0, .ref x0), (2, .int x2), (10, .int x10)] [] := by
  intro n
  induction n with
  | zero => intro x0 x2 x10 s h; exact (nomatch (show (none : Option CS) = some z from h))
  | succ n ih =>
    intro x0 x2 x10 s h
    have h : FX0_waves_b45_s nf rc (FX0_waves_b45 nf rc n) x0 x2 x10 s = some z := h
    exact FX0_waves_b45_s_ok T hR e hrc hN hM ih h
theorem FX0_waves_b23_ok {X : KC CS} {E : CE} {z : CS} {z0 l0 z1 l1 : Nat} (T : cOK X E cX0_waves RX0 11 none z0 l0 z1 l1) {Fr Lr : Nat} (hR : cRoom X (Fr + 1) (Lr + 49)) (e : cE_v X E z0 l0 z1 l1 z) {nf : Nat} {rc : Nat → Int32 → Int32 → Int64 → Int64 → Int32 → Int32 → CS → Option CS} (hrc : ∀ (o : Nat) (a0 : Int32) (a1 : Int32) (a2 : Int64) (a3 : Int64) (a4 : Int32) (a5 : Int32) (s : CS) (v : CS), rc o a0 a1 a2 a3 a4 a5 s = some v → (isK s o [0] = true ∧ cMet_v X.1.2.1 E yX0_waves (ws_ yX0_waves cX0_waves 11 none) Fr Lr [.ref o, .int a0, .int a1, .long a2, .long a3, .int a4, .int a5] s v)) (hN : 1 ≤ Fr) (hM : 21 ≤ Lr) {x0 : Nat} {x2 : Int32} {s_0 : Int32} {s_1 : Int32} {s : CS} (h : FX0_waves_b23 nf rc x0 x2 s_0 s_1 s = some z) : cW X z1 l1 s 23 [(0, .ref x0), (2, .int x2)] [.int s_0, .int s_1] := by
  unfold FX0_waves_b23 at h
  have hX := T.1
  refine cw (k_iadd hX dX0_waves_23) ?_
  refine c_nm h (fun v1 h => ?_)
  refine cw (k_istore [(9, .int v1), (0, .ref x0), (2, .int x2)] hX dX0_waves_24 rfl rfl) ?_
  refine cw (k_iload hX dX0_waves_26 0 rfl) ?_
  refine cw (k_aload_n hX dX0_waves_28 rfl 1 rfl) ?_
  refine cg_X0_396 T h dX0_waves_29 (fun v2 h => ?_)
  refine c_br h (k_icmp_gt (tgt := 36) hX h dX0_waves_32 (by decide)) (fun h => ?_) (fun h => ?_)
  · refine cw (k_aload_n hX dX0_waves_36 rfl 1 rfl) ?_
    refine cw (k_iload hX dX0_waves_37 0 rfl) ?_
    refine cp_X0_396 T h dX0_waves_39 (fun s3 h => ?_)
    refine cw (k_iconst (v := 0) hX dX0_waves_42 (by decide)) ?_
    refine cw (k_istore [(10, .int 0), (9, .int v1), (0, .ref x0), (2, .int x2)] hX dX0_waves_43 rfl rfl) ?_
    refine cw (k_lv (lv' := [(0, .ref x0), (2, .int x2), (10, .int 0)]) [2, 3, 0] rfl) ?_
    exact FX0_waves_b45_ok T hR e hrc hN hM _ _ _ _ _ h
  · exact c_ret_v T e h dX0_waves_35
theorem met_FX0_waves_s {l : Launch} {E : CE} {nf : Nat} {rc : Nat → Int32 → Int32 → Int64 → Int64 → Int32 → Int32 → CS → Option CS} {Fr Lr : Nat} (hrc : ∀ (o : Nat) (a0 : Int32) (a1 : Int32) (a2 : Int64) (a3 : Int64) (a4 : Int32) (a5 : Int32) (s : CS) (v : CS), rc o a0 a1 a2 a3 a4 a5 s = some v → (isK s o [0] = true ∧ cMet_v l E yX0_waves (ws_ yX0_waves cX0_waves 11 none) Fr Lr [.ref o, .int a0, .int a1, .long a2, .long a3, .int a4, .int a5] s v)) (hN : 1 ≤ Fr) (hM : 21 ≤ Lr) : ∀ (x0 : Nat) (x1 : Int32) (x2 : Int32) (x3 : Int64) (x5 : Int64) (x7 : Int32) (x8 : Int32) (s : CS) (z : CS), FX0_waves_s nf rc x0 x1 x2 x3 x5 x7 x8 s = some z → (isK s x0 [0] = true ∧ cMet_v l E yX0_waves (ws_ yX0_waves cX0_waves 11 none) (Fr + 1) (Lr + 49) [.ref x0, .int x1, .int x2, .long x3, .long x5, .int x7, .int x8] s z) := by
  intro x0 x1 x2 x3 x5 x7 x8 s z h
  unfold FX0_waves_s at h
  obtain ⟨hm, h⟩ := mz_of h
  obtain ⟨hg, h⟩ := gd_of h
  refine ⟨hg, c_met_v hm (by decide +kernel) rfl (fun X hl hin T hR e => ?_)⟩
  have T : cOK X E cX0_waves RX0 11 none _ _ _ _ := T
  have hX := T.1
  show cW X _ _ s 0 [(0, .ref x0), (1, .int x1), (2, .int x2), (3, .long x3), (5, .long x5), (7, .int x7), (8, .int x8)] []
  subst hl
  refine cw (k_iload_n hX dX0_waves_0 rfl 1 rfl) ?_
  refine cw (k_iload_n hX dX0_waves_1 rfl 2 rfl) ?_
  refine c_brn h (k_icmp_ne (tgt := 72) hX h dX0_waves_2 (by decide)) (fun h => ?_) (fun h => ?_)
  · refine cw (k_iconst (v := 0) hX dX0_waves_72 (by decide)) ?_
    refine cw (k_istore [(9, .int 0), (0, .ref x0), (1, .int x1), (2, .int x2), (3, .long x3), (5, .long x5), (7, .int x7), (8, .int x8)] hX dX0_waves_73 rfl rfl) ?_
    refine cw (k_lv (lv' := [(0, .ref x0), (1, .int x1), (2, .int x2), (3, .long x3), (5, .long x5), (7, .int x7), (8, .int x8), (9, .int 0)]) [1, 2, 3, 4, 5, 6, 7, 0] rfl) ?_
    exact FX0_waves_b75_ok T hR e hrc hN hM _ _ _ _ _ _ _ _ _ _ h
  · refine cw (k_lload_n hX dX0_waves_5 rfl 3 rfl) ?_
    refine cX_X0_390 T met_FJ17_bitCount (c_roomo hR (by omega) (by omega)) h rfl dX0_waves_6 (fun v1 h => ?_)
    refine cw (k_iload hX dX0_waves_9 5 rfl) ?_
    refine c_br h (k_if_eq (tgt := 22) hX h dX0_waves_11 (by decide)) (fun h => ?_) (fun h => ?_)
    · refine cw (k_iconst (v := 0) hX dX0_waves_22 (by decide)) ?_
      refine cw (k_lv (lv' := [(0, .ref x0), (2, .int x2)]) [0, 2] rfl) ?_
      exact FX0_waves_b23_ok T hR e hrc hN hM h
    · refine cw (k_lload hX dX0_waves_14 4 rfl) ?_
      refine cX_X0_390 T met_FJ17_bitCount (c_roomo hR (by omega) (by omega)) h rfl dX0_waves_16 (fun v2 h => ?_)
      refine cw (k_goto (tgt := 23) hX dX0_waves_19 (by decide)) ?_
      refine cw (k_lv (lv' := [(0, .ref x0), (2, .int x2)]) [0, 2] rfl) ?_
      exact FX0_waves_b23_ok T hR e hrc hN hM h
theorem met_FX0_waves {l : Launch} {E : CE} {nf : Nat} : ∀ (dp : Nat) (x0 : Nat) (x1 : Int32) (x2 : Int32) (x3 : Int64) (x5 : Int64) (x7 : Int32) (x8 : Int32) (s : CS) (z : CS), FX0_waves nf dp x0 x1 x2 x3 x5 x7 x8 s = some z → (isK s x0 [0] = true ∧ cMet_v l E yX0_waves (ws_ yX0_waves cX0_waves 11 none) (1 * dp + 1) (49 * dp + 21) [.ref x0, .int x1, .int x2, .long x3, .long x5, .int x7, .int x8] s z) := by
  intro dp
  induction dp with
  | zero => intro x0 x1 x2 x3 x5 x7 x8 s z h; exact (nomatch (show (none : Option CS) = some z from h))
  | succ dp ih =>
    intro x0 x1 x2 x3 x5 x7 x8 s z h
    have h : FX0_waves_s nf (FX0_waves nf dp) x0 x1 x2 x3 x5 x7 x8 s = some z := h
    rw [show 1 * (dp + 1) + 1 = (1 * dp + 1) + 1 by omega, show 49 * (dp + 1) + 21 = (49 * dp + 21) + 49 by omega]
    exact met_FX0_waves_s ih (Nat.le_add_left _ _) (Nat.le_add_left _ _) _ _ _ _ _ _ _ _ _ h
theorem met_V11_isClock {l : Launch} {E : CE} {s : CS} : ∀ (o : Nat) (v : Int32), V11_isClock s o = some v → (isK s o [12, 13] = true ∧ ∃ F' L' : Nat, F' ≤ 0 ∧ L' ≤ 0 ∧ cMet_i l E yX12_isClock (ws_ yX12_isClock cX12_isClock 1 (some .boolean)) F' L' [.ref o] s v s) ∨ (isK s o [14, 15] = true ∧ ∃ F' L' : Nat, F' ≤ 0 ∧ L' ≤ 0 ∧ cMet_i l E yX11_isClock (ws_ yX11_isClock cX11_isClock 1 (some .boolean)) F' L' [.ref o] s v s) := by
  intro o v h
  unfold V11_isClock at h
  by_cases q0 : isK s o [12, 13] = true
  · rw [if_pos q0] at h
    exact Or.inl ⟨q0, _, _, by decide, by decide, (met_FX12_isClock _ _ h).2⟩
  rw [if_neg q0] at h
  by_cases q1 : isK s o [14, 15] = true
  · rw [if_pos q1] at h
    exact Or.inr (⟨q1, _, _, by decide, by decide, (met_FX11_isClock _ _ h).2⟩)
  rw [if_neg q1] at h
  cases h
theorem FX0_wave_b110_s_ok {X : KC CS} {E : CE} {z : (Int32 × CS)} {z0 l0 z1 l1 : Nat} (T : cOK X E cX0_wave RX0 10 (some .int) z0 l0 z1 l1) (hR : cRoom X 12 541) (e : cE_i X E z0 l0 z1 l1 z.1 z.2) {nf : Nat} {k62 : Nat → Int32 → Int32 → Int32 → Int32 → Int32 → (Option Nat) → Int32 → CS → Option (Int32 × CS)} (hk62 : ∀ (x0 : Nat) (x1 : Int32) (x2 : Int32) (x3 : Int32) (x4 : Int32) (x5 : Int32) (x6 : (Option Nat)) (x7 : Int32) (s : CS), k62 x0 x1 x2 x3 x4 x5 x6 x7 s = some z → cW X z1 l1 s 62 [(0, .ref x0), (1, .int x1), (2, .int x2), (3, .int x3), (4, .int x4), (5, .int x5), (6, va_rf x6), (7, .int x7)] []) {k110 : Nat → Int32 → Int32 → Int32 → Int32 → Int32 → Nat → Int32 → Nat → Int32 → CS → Option (Int32 × CS)} (hk110 : ∀ (x0 : Nat) (x1 : Int32) (x2 : Int32) (x3 : Int32) (x4 : Int32) (x5 : Int32) (x6 : Nat) (x7 : Int32) (x8 : Nat) (x9 : Int32) (s : CS), k110 x0 x1 x2 x3 x4 x5 x6 x7 x8 x9 s = some z → cW X z1 l1 s 110 [(0, .ref x0), (1, .int x1), (2, .int x2), (3, .int x3), (4, .int x4), (5, .int x5), (6, .ref x6), (7, .int x7), (8, .ref x8), (9, .int x9)] []) {x0 : Nat} {x1 : Int32} {x2 : Int32} {x3 : Int32} {x4 : Int32} {x5 : Int32} {x6 : Nat} {x7 : Int32} {x8 : Nat} {x9 : Int32} {s : CS} (h : FX0_wave_b110_s nf k62 k110 x0 x1 x2 x3 x4 x5 x6 x7 x8 x9 s = some z) : cW X z1 l1 s 110 [(0, .ref x0), (1, .int x1), (2, .int x2), (3, .int x3), (4, .int x4), (5, .int x5), (6, .ref x6), (7, .int x7), (8, .ref x8), (9, .int x9)] [] := by
  unfold FX0_wave_b110_s at h
  have hX := T.1
  refine cw (k_iload hX dX0_wave_110 9 rfl) ?_
  refine cw (k_aload hX dX0_wave_112 8 rfl) ?_
  refine cg_X0_160 T h dX0_wave_114 (fun v1 h => ?_)
  refine c_br h (k_icmp_ge (tgt := 190) hX h dX0_wave_117 (by decide)) (fun h => ?_) (fun h => ?_)
  · refine cw (k_iinc (j := 7) [(7, .int (x7 + 1)), (0, .ref x0), (1, .int x1), (2, .int x2), (3, .int x3), (4, .int x4), (5, .int x5), (6, .ref x6), (8, .ref x8), (9, .int x9)] hX dX0_wave_190 rfl rfl rfl rfl) ?_
    refine cw (k_goto (tgt := 62) hX dX0_wave_193 (by decide)) ?_
    refine cw (k_lv (lv' := [(0, .ref x0), (1, .int x1), (2, .int x2), (3, .int x3), (4, .int x4), (5, .int x5), (6, va_rf (some x6)), (7, .int (x7 + 1))]) [1, 2, 3, 4, 5, 6, 7, 0] rfl) ?_
    exact hk62 _ _ _ _ _ _ _ _ _ h
  · refine cw (k_aload_n hX dX0_wave_120 rfl 0 rfl) ?_
    refine cg_X0_77 T h dX0_wave_121 (fun r2 h => ?_)
    refine cw (k_iload hX dX0_wave_124 7 rfl) ?_
    refine cw (k_bipush (v := 60) hX dX0_wave_126 (by decide)) ?_
    refine cw (k_imul hX dX0_wave_128) ?_
    refine cw (k_iload hX dX0_wave_129 9 rfl) ?_
    refine cw (k_iadd hX dX0_wave_131) ?_
    refine cw (k_aload hX dX0_wave_132 8 rfl) ?_
    refine cw (k_iload hX dX0_wave_134 9 rfl) ?_
    refine cw (k_iload hX dX0_wave_136 7 rfl) ?_
    refine cw (k_aload_n hX dX0_wave_138 rfl 0 rfl) ?_
    refine cg_X0_35 T h dX0_wave_139 (fun r3 h => ?_)
    obtain ⟨p4, e_p4, hq_p4⟩ := nn_of h
    subst e_p4
    have h := hq_p4
    show cW X z1 l1 _ 142 [(0, .ref x0), (1, .int x1), (2, .int x2), (3, .int x3), (4, .int x4), (5, .int x5), (6, .ref x6), (7, .int x7), (8, .ref x8), (9, .int x9)] [.ref p4, .int x7, .int x9, .ref x8, .int ((x7 * 60) + x9), va_rf r2]
    refine cX_X0_217 T met_FX2_walk (c_room hR rfl rfl) h (by cases r2 <;> rfl) dX0_wave_142 (fun v5 h => ?_)
    refine cw (k_imul hX dX0_wave_145) ?_
    refine cX_X0_406 T met_FX0_greenFrom (c_room hR rfl rfl) h (by cases r2 <;> rfl) dX0_wave_146 (fun v6 h => ?_)
    obtain ⟨p7, e_p7, hq_p7⟩ := nn_of h
    subst e_p7
    have h := hq_p7
    show cW X z1 l1 _ 149 [(0, .ref x0), (1, .int x1), (2, .int x2), (3, .int x3), (4, .int x4), (5, .int x5), (6, .ref x6), (7, .int x7), (8, .ref x8), (9, .int x9)] [.long v6, .int ((x7 * 60) + x9), .ref p7]
    refine ca_lst T h dX0_wave_149 (fun s8 h => ?_)
    refine cw (k_aload_n hX dX0_wave_150 rfl 0 rfl) ?_
    refine cg_X0_81 T h dX0_wave_151 (fun r9 h => ?_)
    refine cw (k_iload hX dX0_wave_154 7 rfl) ?_
    refine cw (k_bipush (v := 60) hX dX0_wave_156 (by decide)) ?_
    refine cw (k_imul hX dX0_wave_158) ?_
    refine cw (k_iload hX dX0_wave_159 9 rfl) ?_
    refine cw (k_iadd hX dX0_wave_161) ?_
    refine cw (k_aload hX dX0_wave_162 8 rfl) ?_
    refine cw (k_iload hX dX0_wave_164 9 rfl) ?_
    refine cw (k_iload_n hX dX0_wave_166 rfl 3 rfl) ?_
    refine cw (k_iconst (v := 1) hX dX0_wave_167 (by decide)) ?_
    refine cw (k_isub hX dX0_wave_168) ?_
    refine cw (k_iload hX dX0_wave_169 7 rfl) ?_
    refine cw (k_isub hX dX0_wave_171) ?_
    refine cw (k_aload_n hX dX0_wave_172 rfl 0 rfl) ?_
    refine cg_X0_35 T h dX0_wave_173 (fun r10 h => ?_)
    obtain ⟨p11, e_p11, hq_p11⟩ := nn_of h
    subst e_p11
    have h := hq_p11
    show cW X z1 l1 _ 176 [(0, .ref x0), (1, .int x1), (2, .int x2), (3, .int x3), (4, .int x4), (5, .int x5), (6, .ref x6), (7, .int x7), (8, .ref x8), (9, .int x9)] [.ref p11, .int ((x3 - 1) - x7), .int x9, .ref x8, .int ((x7 * 60) + x9), va_rf r9]
    refine cX_X0_217 T met_FX2_walk (c_room hR rfl rfl) h (by cases r9 <;> rfl) dX0_wave_176 (fun v12 h => ?_)
    refine cw (k_imul hX dX0_wave_179) ?_
    refine cX_X0_406 T met_FX0_greenFrom (c_room hR rfl rfl) h (by cases r9 <;> rfl) dX0_wave_180 (fun v13 h => ?_)
    obtain ⟨p14, e_p14, hq_p14⟩ := nn_of h
    subst e_p14
    have h := hq_p14
    show cW X z1 l1 _ 183 [(0, .ref x0), (1, .int x1), (2, .int x2), (3, .int x3), (4, .int x4), (5, .int x5), (6, .ref x6), (7, .int x7), (8, .ref x8), (9, .int x9)] [.long v13, .int ((x7 * 60) + x9), .ref p14]
    refine ca_lst T h dX0_wave_183 (fun s15 h => ?_)
    refine cw (k_iinc (j := 9) [(9, .int (x9 + 1)), (0, .ref x0), (1, .int x1), (2, .int x2), (3, .int x3), (4, .int x4), (5, .int x5), (6, .ref x6), (7, .int x7), (8, .ref x8)] hX dX0_wave_184 rfl rfl rfl rfl) ?_
    refine cw (k_goto (tgt := 110) hX dX0_wave_187 (by decide)) ?_
    refine cw (k_lv (lv' := [(0, .ref x0), (1, .int x1), (2, .int x2), (3, .int x3), (4, .int x4), (5, .int x5), (6, .ref x6), (7, .int x7), (8, .ref x8), (9, .int (x9 + 1))]) [1, 2, 3, 4, 5, 6, 7, 8, 9, 0] rfl) ?_
    exact hk110 _ _ _ _ _ _ _ _ _ _ _ h
theorem FX0_wave_b110_ok {X : KC CS} {E : CE} {z : (Int32 × CS)} {z0 l0 z1 l1 : Nat} (T : cOK X E cX0_wave RX0 10 (some .int) z0 l0 z1 l1) (hR : cRoom X 12 541) (e : cE_i X E z0 l0 z1 l1 z.1 z.2) {nf : Nat} {k62 : Nat → Int32 → Int32 → Int32 → Int32 → Int32 → (Option Nat) → Int32 → CS → Option (Int32 × CS)} (hk62 : ∀ (x0 : Nat) (x1 : Int32) (x2 : Int32) (x3 : Int32) (x4 : Int32) (x5 : Int32) (x6 : (Option Nat)) (x7 : Int32) (s : CS), k62 x0 x1 x2 x3 x4 x5 x6 x7 s = some z → cW X z1 l1 s 62 [(0, .ref x0), (1, .int x1), (2, .int x2), (3, .int x3), (4, .int x4), (5, .int x5), (6, va_rf x6), (7, .int x7)] []) : ∀ (n : Nat) (x0 : Nat) (x1 : Int32) (x2 : Int32) (x3 : Int32) (x4 : Int32) (x5 : Int32) (x6 : Nat) (x7 : Int32) (x8 : Nat) (x9 : Int32) (s : CS), FX0_wave_b110 nf k62 n x0 x1 x2 x3 x4 x5 x6 x7 x8 x9 s = some z → cW X z1 l1 s 110 [(0, .ref x0), (1, .int x1), (2, .int x2), (3, .int x3), (4, .int x4), (5, .int x5), (6, .ref x6), (7, .int x7), (8, .ref x8), (9, .int x9)] [] := by
  intro n
  induction n with
  | zero => intro x0 x1 x2 x3 x4 x5 x6 x7 x8 x9 s h; exact (nomatch (show (none : Option (Int32 × CS)) = some z from h))
  | succ n ih =>
    intro x0 x1 x2 x3 x4 x5 x6 x7 x8 x9 s h
    have h : FX0_wave_b110_s nf k62 (FX0_wave_b110 nf k62 n) x0 x1 x2 x3 x4 x5 x6 x7 x8 x9 s = some z := h
    exact FX0_wave_b110_s_ok T hR e hk62 ih h
theorem FX0_wave_b62_s_ok {X : KC CS} {E : CE} {z : (Int32 × CS)} {z0 l0 z1 l1 : Nat} (T : cOK X E cX0_wave RX0 10 (some .int) z0 l0 z1 l1) (hR : cRoom X 12 541) (e : cE_i X E z0 l0 z1 l1 z.1 z.2) {nf : Nat} {k62 : Nat → Int32 → Int32 → Int32 → Int32 → Int32 → (Option Nat) → Int32 → CS → Option (Int32 × CS)} (hk62 : ∀ (x0 : Nat) (x1 : Int32) (x2 : Int32) (x3 : Int32) (x4 : Int32) (x5 : Int32) (x6 : (Option Nat)) (x7 : Int32) (s : CS), k62 x0 x1 x2 x3 x4 x5 x6 x7 s = some z → cW X z1 l1 s 62 [(0, .ref x0), (1, .int x1), (2, .int x2), (3, .int x3), (4, .int x4), (5, .int x5), (6, va_rf x6), (7, .int x7)] []) {x0 : Nat} {x1 : Int32} {x2 : Int32} {x3 : Int32} {x4 : Int32} {x5 : Int32} {x6 : (Option Nat)} {x7 : Int32} {s : CS} (h : FX0_wave_b62_s nf k62 x0 x1 x2 x3 x4 x5 x6 x7 s = some z) : cW X z1 l1 s 62 [(0, .ref x0), (1, .int x1), (2, .int x2), (3, .int x3), (4, .int x4), (5, .int x5), (6, va_rf x6), (7, .int x7)] [] := by
  unfold FX0_wave_b62_s at h
  have hX := T.1
  refine cw (k_iload hX dX0_wave_62 7 rfl) ?_
  refine cw (k_iload_n hX dX0_wave_64 rfl 3 rfl) ?_
  refine c_br h (k_icmp_ge (tgt := 196) hX h dX0_wave_65 (by decide)) (fun h => ?_) (fun h => ?_)
  · refine cw (k_aloadO hX dX0_wave_196 6 rfl) ?_
    obtain ⟨p1, e_p1, hq_p1⟩ := nn_of h
    subst e_p1
    have h := hq_p1
    show cW X z1 l1 _ 198 [(0, .ref x0), (1, .int x1), (2, .int x2), (3, .int x3), (4, .int x4), (5, .int x5), (6, .ref p1), (7, .int x7)] [.ref p1]
    refine cg_X0_163 T h dX0_wave_198 (fun v2 h => ?_)
    refine cw (k_aload hX dX0_wave_201 6 rfl) ?_
    refine cg_X0_166 T h dX0_wave_203 (fun v3 h => ?_)
    refine cw (k_iadd hX dX0_wave_206) ?_
    refine cw (k_aload hX dX0_wave_207 6 rfl) ?_
    refine cg_X0_160 T h dX0_wave_209 (fun v4 h => ?_)
    refine c_d32 h (k_irem hX h dX0_wave_212) (fun h => ?_)
    refine c_nm h (fun v5 h => ?_)
    refine cw (k_istore [(7, .int v5), (0, .ref x0), (1, .int x1), (2, .int x2), (3, .int x3), (4, .int x4), (5, .int x5), (6, .ref p1)] hX dX0_wave_213 rfl rfl) ?_
    refine cw (k_aload_n hX dX0_wave_215 rfl 1 rfl) ?_
    refine cw (k_iconst (v := (-1)) hX dX0_wave_216 (by decide)) ?_
    refine cp_X0_396 T h dX0_wave_217 (fun s6 h => ?_)
    refine cw (k_aload_n hX dX0_wave_220 rfl 1 rfl) ?_
    refine cw (k_iconst (v := 1) hX dX0_wave_221 (by decide)) ?_
    refine cw (k_iload_n hX dX0_wave_222 rfl 4 rfl) ?_
    refine cw (k_aload_n hX dX0_wave_223 rfl 1 rfl) ?_
    refine cg_X0_77 T h dX0_wave_224 (fun r7 h => ?_)
    refine cw (k_iload hX dX0_wave_227 0 rfl) ?_
    obtain ⟨p8, e_p8, hq_p8⟩ := nn_of h
    subst e_p8
    have h := hq_p8
    show cW X z1 l1 _ 229 [(7, .int v5), (0, .ref x0), (1, .int x1), (2, .int x2), (3, .int x3), (4, .int x4), (5, .int x5), (6, .ref p1)] [.int v5, .ref p8, .int x3, .int 1, .ref x0]
    refine ca_lld T h dX0_wave_229 (fun v9 h => ?_)
    refine cw (k_aload_n hX dX0_wave_230 rfl 1 rfl) ?_
    refine cg_X0_81 T h dX0_wave_231 (fun r10 h => ?_)
    refine cw (k_iload hX dX0_wave_234 0 rfl) ?_
    obtain ⟨p11, e_p11, hq_p11⟩ := nn_of h
    subst e_p11
    have h := hq_p11
    show cW X z1 l1 _ 236 [(7, .int v5), (0, .ref x0), (1, .int x1), (2, .int x2), (3, .int x3), (4, .int x4), (5, .int x5), (6, .ref p1)] [.int v5, .ref p11, .long v9, .int x3, .int 1, .ref x0]
    refine ca_lld T h dX0_wave_236 (fun v12 h => ?_)
    refine cw (k_iload hX dX0_wave_237 5 rfl) ?_
    refine cw (k_aload hX dX0_wave_239 7 rfl) ?_
    refine cg_X0_160 T h dX0_wave_241 (fun v13 h => ?_)
    refine cX_X0_399 T (met_FX0_waves 10) (c_room hR rfl rfl) h rfl dX0_wave_244 (fun s14 h => ?_)
    refine cw (k_iload hX dX0_wave_247 6 rfl) ?_
    refine c_brn h (k_if_ne (tgt := 259) hX h dX0_wave_249 (by decide)) (fun h => ?_) (fun h => ?_)
    · refine cw (k_aload_n hX dX0_wave_259 rfl 1 rfl) ?_
      refine cg_X0_87 T h dX0_wave_260 (fun r15 h => ?_)
      refine cw (k_iload hX dX0_wave_263 6 rfl) ?_
      obtain ⟨p16, e_p16, hq_p16⟩ := nn_of h
      subst e_p16
      have h := hq_p16
      show cW X z1 l1 _ 265 [(7, .int v5), (0, .ref x0), (1, .int x1), (2, .int x2), (3, .int x3), (4, .int x4), (5, .int x5), (6, .ref p1)] [.int x5, .ref p16]
      refine ca_ild T h dX0_wave_265 (fun v17 h => ?_)
      exact c_ret_i T e h dX0_wave_266
    · refine cw (k_aload_n hX dX0_wave_252 rfl 1 rfl) ?_
      refine cg_X0_396 T h dX0_wave_253 (fun v18 h => ?_)
      refine cw (k_goto (tgt := 266) hX dX0_wave_256 (by decide)) ?_
      exact c_ret_i T e h dX0_wave_266
  · refine cw (k_aload_n hX dX0_wave_68 rfl 0 rfl) ?_
    refine cw (k_iload_n hX dX0_wave_69 rfl 1 rfl) ?_
    refine cw (k_iload_n hX dX0_wave_70 rfl 2 rfl) ?_
    refine cw (k_iload hX dX0_wave_71 7 rfl) ?_
    refine cw (k_iadd hX dX0_wave_73) ?_
    refine cX_X0_140 T met_FX0_lightAt (c_room hR rfl rfl) h rfl dX0_wave_74 (fun r19 h => ?_)
    refine cw (k_astoreO [(8, va_rf r19), (0, .ref x0), (1, .int x1), (2, .int x2), (3, .int x3), (4, .int x4), (5, .int x5), (6, va_rf x6), (7, .int x7)] hX dX0_wave_77 rfl rfl) ?_
    refine cw (k_aloadO hX dX0_wave_79 0 rfl) ?_
    rcases r19 with _ | p20
    · replace h := nul_n h
      show cW X z1 l1 _ 81 [(8, .null), (0, .ref x0), (1, .int x1), (2, .int x2), (3, .int x3), (4, .int x4), (5, .int x5), (6, va_rf x6), (7, .int x7)] [.null]
      refine cw (k_ifnullN (tgt := 105) hX dX0_wave_81 (by decide)) ?_
      refine cw (k_iconst (v := (-1)) hX dX0_wave_105 (by decide)) ?_
      exact c_ret_i T e h dX0_wave_106
    · replace h := nul_s h
      show cW X z1 l1 _ 81 [(8, .ref p20), (0, .ref x0), (1, .int x1), (2, .int x2), (3, .int x3), (4, .int x4), (5, .int x5), (6, va_rf x6), (7, .int x7)] [.ref p20]
      refine cw (k_ifnullS hX dX0_wave_81) ?_
      refine cw (k_aload hX dX0_wave_84 0 rfl) ?_
      refine cX_X0_403 T met_V11_isClock (fun k hk => c_room hR rfl (Nat.ble_eq.mpr (by omega))) h rfl dX0_wave_86 (fun v21 h => ?_)
      refine c_br h (k_if_eq (tgt := 105) hX h dX0_wave_89 (by decide)) (fun h => ?_) (fun h => ?_)
      · refine cw (k_iconst (v := (-1)) hX dX0_wave_105 (by decide)) ?_
        exact c_ret_i T e h dX0_wave_106
      · refine cw (k_aload hX dX0_wave_92 0 rfl) ?_
        refine cg_X0_160 T h dX0_wave_94 (fun v22 h => ?_)
        refine cw (k_aloadO hX dX0_wave_97 7 rfl) ?_
        obtain ⟨p23, e_p23, hq_p23⟩ := nn_of h
        subst e_p23
        have h := hq_p23
        show cW X z1 l1 _ 99 [(8, .ref p20), (0, .ref x0), (1, .int x1), (2, .int x2), (3, .int x3), (4, .int x4), (5, .int x5), (6, .ref p23), (7, .int x7)] [.ref p23, .int v22]
        refine cg_X0_160 T h dX0_wave_99 (fun v24 h => ?_)
        refine c_br h (k_icmp_eq (tgt := 107) hX h dX0_wave_102 (by decide)) (fun h => ?_) (fun h => ?_)
        · refine cw (k_iconst (v := 0) hX dX0_wave_107 (by decide)) ?_
          refine cw (k_istore [(9, .int 0), (8, .ref p20), (0, .ref x0), (1, .int x1), (2, .int x2), (3, .int x3), (4, .int x4), (5, .int x5), (6, .ref p23), (7, .int x7)] hX dX0_wave_108 rfl rfl) ?_
          refine cw (k_lv (lv' := [(0, .ref x0), (1, .int x1), (2, .int x2), (3, .int x3), (4, .int x4), (5, .int x5), (6, .ref p23), (7, .int x7), (8, .ref p20), (9, .int 0)]) [2, 3, 4, 5, 6, 7, 8, 9, 1, 0] rfl) ?_
          exact FX0_wave_b110_ok T hR e hk62 _ _ _ _ _ _ _ _ _ _ _ _ h
        · refine cw (k_iconst (v := (-1)) hX dX0_wave_105 (by decide)) ?_
          exact c_ret_i T e h dX0_wave_106
theorem FX0_wave_b62_ok {X : KC CS} {E : CE} {z : (Int32 × CS)} {z0 l0 z1 l1 : Nat} (T : cOK X E cX0_wave RX0 10 (some .int) z0 l0 z1 l1) (hR : cRoom X 12 541) (e : cE_i X E z0 l0 z1 l1 z.1 z.2) {nf : Nat} : ∀ (n : Nat) (x0 : Nat) (x1 : Int32) (x2 : Int32) (x3 : Int32) (x4 : Int32) (x5 : Int32) (x6 : (Option Nat)) (x7 : Int32) (s : CS), FX0_wave_b62 nf n x0 x1 x2 x3 x4 x5 x6 x7 s = some z → cW X z1 l1 s 62 [(0, .ref x0), (1, .int x1), (2, .int x2), (3, .int x3), (4, .int x4), (5, .int x5), (6, va_rf x6), (7, .int x7)] [] := by
  intro n
  induction n with
  | zero => intro x0 x1 x2 x3 x4 x5 x6 x7 s h; exact (nomatch (show (none : Option (Int32 × CS)) = some z from h))
  | succ n ih =>
    intro x0 x1 x2 x3 x4 x5 x6 x7 s h
    have h : FX0_wave_b62_s nf (FX0_wave_b62 nf n) x0 x1 x2 x3 x4 x5 x6 x7 s = some z := h
    exact FX0_wave_b62_s_ok T hR e ih h
theorem met_FX0_wave {l : Launch} {E : CE} {nf : Nat} : ∀ (x0 : Nat) (x1 : Int32) (x2 : Int32) (x3 : Int32) (x4 : Int32) (x5 : Int32) (s : CS) (z : (Int32 × CS)), FX0_wave nf x0 x1 x2 x3 x4 x5 s = some z → (isK s x0 [0] = true ∧ cMet_i l E yX0_wave (ws_ yX0_wave cX0_wave 10 (some .int)) 12 541 [.ref x0, .int x1, .int x2, .int x3, .int x4, .int x5] s z.1 z.2) := by
  intro x0 x1 x2 x3 x4 x5 s z h
  unfold FX0_wave at h
  obtain ⟨hm, h⟩ := mz_of h
  obtain ⟨hg, h⟩ := gd_of h
  refine ⟨hg, c_met_i hm (by decide +kernel) rfl (fun X hl hin T hR e => ?_)⟩
  have T : cOK X E cX0_wave RX0 10 (some .int) _ _ _ _ := T
  have hX := T.1
  show cW X _ _ s 0 [(0, .ref x0), (1, .int x1), (2, .int x2), (3, .int x3), (4, .int x4), (5, .int x5)] []
  refine cw (k_aload_n hX dX0_wave_0 rfl 0 rfl) ?_
  refine cg_X0_35 T h dX0_wave_1 (fun r1 h => ?_)
  refine cw (k_iload_n hX dX0_wave_4 rfl 1 rfl) ?_
  refine cw (k_iload_n hX dX0_wave_5 rfl 2 rfl) ?_
  obtain ⟨p2, e_p2, hq_p2⟩ := nn_of h
  subst e_p2
  have h := hq_p2
  show cW X _ _ _ 6 [(0, .ref x0), (1, .int x1), (2, .int x2), (3, .int x3), (4, .int x4), (5, .int x5)] [.int x2, .int x1, .ref p2]
  refine cX_X0_149 T met_FX2_isCorner (c_room hR rfl rfl) h rfl dX0_wave_6 (fun v3 h => ?_)
  refine c_br h (k_if_eq (tgt := 49) hX h dX0_wave_9 (by decide)) (fun h => ?_) (fun h => ?_)
  · refine cw (k_iconst (v := (-1)) hX dX0_wave_49 (by decide)) ?_
    exact c_ret_i T e h dX0_wave_50
  · refine cw (k_iload_n hX dX0_wave_12 rfl 3 rfl) ?_
    refine cw (k_iconst (v := 2) hX dX0_wave_13 (by decide)) ?_
    refine cw (k_iconst (v := 4) hX dX0_wave_14 (by decide)) ?_
    refine cX_X0_127 T met_FX0_in (c_room hR rfl rfl) h rfl dX0_wave_15 (fun v4 h => ?_)
    refine c_br h (k_if_eq (tgt := 49) hX h dX0_wave_18 (by decide)) (fun h => ?_) (fun h => ?_)
    · refine cw (k_iconst (v := (-1)) hX dX0_wave_49 (by decide)) ?_
      exact c_ret_i T e h dX0_wave_50
    · refine cw (k_aload_n hX dX0_wave_21 rfl 0 rfl) ?_
      refine cg_X0_35 T h dX0_wave_22 (fun r5 h => ?_)
      refine cw (k_iload_n hX dX0_wave_25 rfl 1 rfl) ?_
      refine cw (k_iload_n hX dX0_wave_26 rfl 2 rfl) ?_
      refine cw (k_iload_n hX dX0_wave_27 rfl 3 rfl) ?_
      refine cw (k_iadd hX dX0_wave_28) ?_
      refine cw (k_iconst (v := 1) hX dX0_wave_29 (by decide)) ?_
      refine cw (k_isub hX dX0_wave_30) ?_
      obtain ⟨p6, e_p6, hq_p6⟩ := nn_of h
      subst e_p6
      have h := hq_p6
      show cW X _ _ _ 31 [(0, .ref x0), (1, .int x1), (2, .int x2), (3, .int x3), (4, .int x4), (5, .int x5)] [.int ((x2 + x3) - 1), .int x1, .ref p6]
      refine cX_X0_149 T met_FX2_isCorner (c_room hR rfl rfl) h rfl dX0_wave_31 (fun v7 h => ?_)
      refine c_br h (k_if_eq (tgt := 49) hX h dX0_wave_34 (by decide)) (fun h => ?_) (fun h => ?_)
      · refine cw (k_iconst (v := (-1)) hX dX0_wave_49 (by decide)) ?_
        exact c_ret_i T e h dX0_wave_50
      · refine cw (k_iload hX dX0_wave_37 5 rfl) ?_
        refine cw (k_iconst (v := 0) hX dX0_wave_39 (by decide)) ?_
        refine cw (k_iload_n hX dX0_wave_40 rfl 3 rfl) ?_
        refine cw (k_iconst (v := 1) hX dX0_wave_41 (by decide)) ?_
        refine cw (k_isub hX dX0_wave_42) ?_
        refine cX_X0_127 T met_FX0_in (c_room hR rfl rfl) h rfl dX0_wave_43 (fun v8 h => ?_)
        refine c_brn h (k_if_ne (tgt := 51) hX h dX0_wave_46 (by decide)) (fun h => ?_) (fun h => ?_)
        · refine cw (k_aload_n hX dX0_wave_51 rfl 0 rfl) ?_
          refine cw (k_iload_n hX dX0_wave_52 rfl 1 rfl) ?_
          refine cw (k_iload_n hX dX0_wave_53 rfl 2 rfl) ?_
          refine cX_X0_140 T met_FX0_lightAt (c_room hR rfl rfl) h rfl dX0_wave_54 (fun r9 h => ?_)
          refine cw (k_astoreO [(6, va_rf r9), (0, .ref x0), (1, .int x1), (2, .int x2), (3, .int x3), (4, .int x4), (5, .int x5)] hX dX0_wave_57 rfl rfl) ?_
          refine cw (k_iconst (v := 0) hX dX0_wave_59 (by decide)) ?_
          refine cw (k_istore [(7, .int 0), (6, va_rf r9), (0, .ref x0), (1, .int x1), (2, .int x2), (3, .int x3), (4, .int x4), (5, .int x5)] hX dX0_wave_60 rfl (by cases r9 <;> rfl)) ?_
          refine cw (k_lv (lv' := [(0, .ref x0), (1, .int x1), (2, .int x2), (3, .int x3), (4, .int x4), (5, .int x5), (6, va_rf r9), (7, .int 0)]) [2, 3, 4, 5, 6, 7, 1, 0] rfl) ?_
          exact FX0_wave_b62_ok T hR e _ _ _ _ _ _ _ _ _ _ h
        · refine cw (k_iconst (v := (-1)) hX dX0_wave_49 (by decide)) ?_
          exact c_ret_i T e h dX0_wave_50
theorem met_FX0_worst {l : Launch} {E : CE} {nf : Nat} : ∀ (x0 : Nat) (x1 : Int32) (x2 : Int32) (x3 : Int32) (x4 : Int32) (s : CS) (z : (Int32 × CS)), FX0_worst nf x0 x1 x2 x3 x4 s = some z → (isK s x0 [0] = true ∧ cMet_i l E yX0_worst (ws_ yX0_worst cX0_worst 5 (some .int)) 607 29583 [.ref x0, .int x1, .int x2, .int x3, .int x4] s z.1 z.2) := by
  intro x0 x1 x2 x3 x4 s z h
  unfold FX0_worst at h
  obtain ⟨hm, h⟩ := mz_of h
  obtain ⟨hg, h⟩ := gd_of h
  refine ⟨hg, c_met_i hm (by decide +kernel) rfl (fun X hl hin T hR e => ?_)⟩
  have T : cOK X E cX0_worst RX0 5 (some .int) _ _ _ _ := T
  have hX := T.1
  show cW X _ _ s 0 [(0, .ref x0), (1, .int x1), (2, .int x2), (3, .int x3), (4, .int x4)] []
  refine cw (k_aload_n hX dX0_worst_0 rfl 0 rfl) ?_
  refine cw (k_iload_n hX dX0_worst_1 rfl 1 rfl) ?_
  refine cX_X0_329 T met_FX0_isGoer (c_room hR rfl rfl) h rfl dX0_worst_2 (fun v1 h => ?_)
  refine c_br h (k_if_eq (tgt := 19) hX h dX0_worst_5 (by decide)) (fun h => ?_) (fun h => ?_)
  · refine cw (k_iconst (v := (-1)) hX dX0_worst_19 (by decide)) ?_
    exact c_ret_i T e h dX0_worst_20
  · refine cw (k_aload_n hX dX0_worst_8 rfl 0 rfl) ?_
    refine cw (k_iload_n hX dX0_worst_9 rfl 2 rfl) ?_
    refine cw (k_iload_n hX dX0_worst_10 rfl 3 rfl) ?_
    refine cw (k_iload hX dX0_worst_11 4 rfl) ?_
    refine cX_X0_185 T met_FX0_isAsked (c_room hR rfl rfl) h rfl dX0_worst_13 (fun v2 h => ?_)
    refine c_brn h (k_if_ne (tgt := 21) hX h dX0_worst_16 (by decide)) (fun h => ?_) (fun h => ?_)
    · refine cw (k_aload_n hX dX0_worst_21 rfl 0 rfl) ?_
      refine cw (k_iload_n hX dX0_worst_22 rfl 1 rfl) ?_
      refine cw (k_iconst (v := 0) hX dX0_worst_23 (by decide)) ?_
      refine cw (k_iconst (v := 1) hX dX0_worst_24 (by decide)) ?_
      refine cX_X0_305 T met_FX0_tables (c_room hR rfl rfl) h rfl dX0_worst_25 (fun s3 h => ?_)
      refine cw (k_aload_n hX dX0_worst_28 rfl 0 rfl) ?_
      refine cw (k_iload_n hX dX0_worst_29 rfl 2 rfl) ?_
      refine cw (k_iload_n hX dX0_worst_30 rfl 3 rfl) ?_
      refine cw (k_iload hX dX0_worst_31 4 rfl) ?_
      refine cX_X0_244 T met_FX0_takesAt (c_room hR rfl rfl) h rfl dX0_worst_33 (fun v4 h => ?_)
      exact c_ret_i T e h dX0_worst_36
    · refine cw (k_iconst (v := (-1)) hX dX0_worst_19 (by decide)) ?_
      exact c_ret_i T e h dX0_worst_20
theorem FX0_worthiest_b88_ok {X : KC CS} {E : CE} {z : (Int32 × CS)} {z0 l0 z1 l1 : Nat} (T : cOK X E cX0_worthiest RX0 6 (some .int) z0 l0 z1 l1) (hR : cRoom X 609 29635) (e : cE_i X E z0 l0 z1 l1 z.1 z.2) {nf : Nat} {x2 : Int32} {s : CS} (h : FX0_worthiest_b88 nf x2 s = some z) : cW X z1 l1 s 88 [(2, .int x2)] [] := by
  unfold FX0_worthiest_b88 at h
  have hX := T.1
  refine cw (k_iload_n hX dX0_worthiest_88 rfl 0 rfl) ?_
  refine c_br h (k_if_ge (tgt := 96) hX h dX0_worthiest_89 (by decide)) (fun h => ?_) (fun h => ?_)
  · refine cw (k_iload_n hX dX0_worthiest_96 rfl 0 rfl) ?_
    refine cw (k_bipush (v := 6) hX dX0_worthiest_97 (by decide)) ?_
    refine cw (k_idivc hX (by decide) dX0_worthiest_99) ?_
    refine cw (k_bipush (v := 8) hX dX0_worthiest_100 (by decide)) ?_
    refine cw (k_imul hX dX0_worthiest_102) ?_
    refine cw (k_iload_n hX dX0_worthiest_103 rfl 0 rfl) ?_
    refine cw (k_bipush (v := 6) hX dX0_worthiest_104 (by decide)) ?_
    refine cw (k_iremc hX (by decide) dX0_worthiest_106) ?_
    refine cw (k_iadd hX dX0_worthiest_107) ?_
    exact c_ret_i T e h dX0_worthiest_108
  · refine cw (k_iconst (v := (-1)) hX dX0_worthiest_92 (by decide)) ?_
    refine cw (k_goto (tgt := 108) hX dX0_worthiest_93 (by decide)) ?_
    exact c_ret_i T e h dX0_worthiest_108
theorem FX0_worthiest_b7_s_ok {X : KC CS} {E : CE} {z : (Int32 × CS)} {z0 l0 z1 l1 : Nat} (T : cOK X E cX0_worthiest RX0 6 (some .int) z0 l0 z1 l1) (hR : cRoom X 609 29635) (e : cE_i X E z0 l0 z1 l1 z.1 z.2) {nf : Nat} {k7 : Nat → Int32 → Int32 → Int32 → Int32 → CS → Option (Int32 × CS)} (hk7 : ∀ (x0 : Nat) (x1 : Int32) (x2 : Int32) (x3 : Int32) (x4 : Int32) (s : CS), k7 x0 x1 x2 x3 x4 s = some z → cW X z1 l1 s 7 [(0, .ref x0), (1, .int x1), (2, .int x2), (3, .int x3), (4, .int x4)] []) {x0 : Nat} {x1 : Int32} {x2 : Int32} {x3 : Int32} {x4 : Int32} {s : CS} (h : FX0_worthiest_b7_s nf k7 x0 x1 x2 x3 x4 s = some z) : cW X z1 l1 s 7 [(0, .ref x0), (1, .int x1), (2, .int x2), (3, .int x3), (4, .int x4)] [] := by
  unfold FX0_worthiest_b7_s at h
  have hX := T.1
  refine cw (k_iload hX dX0_worthiest_7 4 rfl) ?_
  refine cw (k_bipush (v := 54) hX dX0_worthiest_9 (by decide)) ?_
  refine c_br h (k_icmp_ge (tgt := 88) hX h dX0_worthiest_11 (by decide)) (fun h => ?_) (fun h => ?_)
  · refine cw (k_lv (lv' := [(2, .int x2)]) [2] rfl) ?_
    exact FX0_worthiest_b88_ok T hR e h
  · refine cw (k_iload_n hX dX0_worthiest_14 rfl 1 rfl) ?_
    refine cX_X0_173 T met_FX0_isSecond (c_room hR rfl rfl) h rfl dX0_worthiest_15 (fun v1 h => ?_)
    refine c_br h (k_if_eq (tgt := 88) hX h dX0_worthiest_18 (by decide)) (fun h => ?_) (fun h => ?_)
    · refine cw (k_lv (lv' := [(2, .int x2)]) [2] rfl) ?_
      exact FX0_worthiest_b88_ok T hR e h
    · refine cw (k_aload_n hX dX0_worthiest_21 rfl 0 rfl) ?_
      refine cw (k_iload hX dX0_worthiest_22 4 rfl) ?_
      refine cX_X0_222 T met_FX0_isUnknown (c_room hR rfl rfl) h rfl dX0_worthiest_24 (fun v2 h => ?_)
      refine c_brn h (k_if_ne (tgt := 33) hX h dX0_worthiest_27 (by decide)) (fun h => ?_) (fun h => ?_)
      · refine cw (k_aload_n hX dX0_worthiest_33 rfl 0 rfl) ?_
        refine cw (k_iload hX dX0_worthiest_34 4 rfl) ?_
        refine cw (k_bipush (v := 6) hX dX0_worthiest_36 (by decide)) ?_
        refine cw (k_iremc hX (by decide) dX0_worthiest_38) ?_
        refine cw (k_iload hX dX0_worthiest_39 4 rfl) ?_
        refine cw (k_bipush (v := 6) hX dX0_worthiest_41 (by decide)) ?_
        refine cw (k_idivc hX (by decide) dX0_worthiest_43) ?_
        refine cw (k_iload_n hX dX0_worthiest_44 rfl 1 rfl) ?_
        refine cX_X0_335 T met_FX0_watch (c_room hR rfl rfl) h rfl dX0_worthiest_45 (fun v4 s3 h => ?_)
        refine cw (k_istore [(5, .int v4), (0, .ref x0), (1, .int x1), (2, .int x2), (3, .int x3), (4, .int x4)] hX dX0_worthiest_48 rfl rfl) ?_
        refine cw (k_aload_n hX dX0_worthiest_50 rfl 1 rfl) ?_
        refine cw (k_iconst (v := 3) hX dX0_worthiest_51 (by decide)) ?_
        refine cw (k_iconst (v := 0) hX dX0_worthiest_52 (by decide)) ?_
        refine cw (k_iconst (v := 0) hX dX0_worthiest_53 (by decide)) ?_
        refine cw (k_iload_n hX dX0_worthiest_54 rfl 2 rfl) ?_
        refine cX_X0_332 T met_FX0_mean (c_room hR rfl rfl) h rfl dX0_worthiest_55 (fun v6 s5 h => ?_)
        refine c_br h (k_if_ge (tgt := 63) hX h dX0_worthiest_58 (by decide)) (fun h => ?_) (fun h => ?_)
        · refine cw (k_iload_n hX dX0_worthiest_63 rfl 3 rfl) ?_
          refine c_br h (k_if_lt (tgt := 76) hX h dX0_worthiest_64 (by decide)) (fun h => ?_) (fun h => ?_)
          · refine cw (k_iload hX dX0_worthiest_76 5 rfl) ?_
            refine cw (k_istore_n [(2, .int x4), (5, .int v4), (0, .ref x0), (1, .int x1), (3, .int x3), (4, .int x4)] hX dX0_worthiest_78 rfl rfl rfl) ?_
            refine cw (k_iload hX dX0_worthiest_79 1 rfl) ?_
            refine cw (k_istore_n [(3, .int v4), (2, .int x4), (5, .int v4), (0, .ref x0), (1, .int x1), (4, .int x4)] hX dX0_worthiest_81 rfl rfl rfl) ?_
            refine cw (k_iinc (j := 5) [(4, .int (x4 + 1)), (3, .int v4), (2, .int x4), (5, .int v4), (0, .ref x0), (1, .int x1)] hX dX0_worthiest_82 rfl rfl rfl rfl) ?_
            refine cw (k_goto (tgt := 7) hX dX0_worthiest_85 (by decide)) ?_
            refine cw (k_lv (lv' := [(0, .ref x0), (1, .int x1), (2, .int x4), (3, .int v4), (4, .int (x4 + 1))]) [4, 5, 2, 1, 0] rfl) ?_
            exact hk7 _ _ _ _ _ _ h
          · refine cw (k_iload hX dX0_worthiest_67 0 rfl) ?_
            refine cw (k_iload_n hX dX0_worthiest_69 rfl 4 rfl) ?_
            refine c_br h (k_icmp_gt (tgt := 76) hX h dX0_worthiest_70 (by decide)) (fun h => ?_) (fun h => ?_)
            · refine cw (k_iload hX dX0_worthiest_76 5 rfl) ?_
              refine cw (k_istore_n [(2, .int x4), (5, .int v4), (0, .ref x0), (1, .int x1), (3, .int x3), (4, .int x4)] hX dX0_worthiest_78 rfl rfl rfl) ?_
              refine cw (k_iload hX dX0_worthiest_79 1 rfl) ?_
              refine cw (k_istore_n [(3, .int v4), (2, .int x4), (5, .int v4), (0, .ref x0), (1, .int x1), (4, .int x4)] hX dX0_worthiest_81 rfl rfl rfl) ?_
              refine cw (k_iinc (j := 5) [(4, .int (x4 + 1)), (3, .int v4), (2, .int x4), (5, .int v4), (0, .ref x0), (1, .int x1)] hX dX0_worthiest_82 rfl rfl rfl rfl) ?_
              refine cw (k_goto (tgt := 7) hX dX0_worthiest_85 (by decide)) ?_
              refine cw (k_lv (lv' := [(0, .ref x0), (1, .int x1), (2, .int x4), (3, .int v4), (4, .int (x4 + 1))]) [4, 5, 2, 1, 0] rfl) ?_
              exact hk7 _ _ _ _ _ _ h
            · refine cw (k_goto (tgt := 82) hX dX0_worthiest_73 (by decide)) ?_
              refine cw (k_iinc (j := 5) [(4, .int (x4 + 1)), (5, .int v4), (0, .ref x0), (1, .int x1), (2, .int x2), (3, .int x3)] hX dX0_worthiest_82 rfl rfl rfl rfl) ?_
              refine cw (k_goto (tgt := 7) hX dX0_worthiest_85 (by decide)) ?_
              refine cw (k_lv (lv' := [(0, .ref x0), (1, .int x1), (2, .int x2), (3, .int x3), (4, .int (x4 + 1))]) [2, 3, 4, 5, 0] rfl) ?_
              exact hk7 _ _ _ _ _ _ h
        · refine cw (k_iconst (v := (-1)) hX dX0_worthiest_61 (by decide)) ?_
          exact c_ret_i T e h dX0_worthiest_62
      · refine cw (k_goto (tgt := 82) hX dX0_worthiest_30 (by decide)) ?_
        refine cw (k_iinc (j := 4) [(4, .int (x4 + 1)), (0, .ref x0), (1, .int x1), (2, .int x2), (3, .int x3)] hX dX0_worthiest_82 rfl rfl rfl rfl) ?_
        refine cw (k_goto (tgt := 7) hX dX0_worthiest_85 (by decide)) ?_
        refine cw (k_lv (lv' := [(0, .ref x0), (1, .int x1), (2, .int x2), (3, .int x3), (4, .int (x4 + 1))]) [1, 2, 3, 4, 0] rfl) ?_
        exact hk7 _ _ _ _ _ _ h
theorem FX0_worthiest_b7_ok {X : KC CS} {E : CE} {z : (Int32 × CS)} {z0 l0 z1 l1 : Nat} (T : cOK X E cX0_worthiest RX0 6 (some .int) z0 l0 z1 l1) (hR : cRoom X 609 29635) (e : cE_i X E z0 l0 z1 l1 z.1 z.2) {nf : Nat} : ∀ (n : Nat) (x0 : Nat) (x1 : Int32) (x2 : Int32) (x3 : Int32) (x4 : Int32) (s : CS), FX0_worthiest_b7 nf n x0 x1 x2 x3 x4 s = some z → cW X z1 l1 s 7 [(0, .ref x0), (1, .int x1), (2, .int x2), (3, .int x3), (4, .int x4)] [] := by
  intro n
  induction n with
  | zero => intro x0 x1 x2 x3 x4 s h; exact (nomatch (show (none : Option (Int32 × CS)) = some z from h))
  | succ n ih =>
    intro x0 x1 x2 x3 x4 s h
    have h : FX0_worthiest_b7_s nf (FX0_worthiest_b7 nf n) x0 x1 x2 x3 x4 s = some z := h
    exact FX0_worthiest_b7_s_ok T hR e ih h
theorem met_FX0_worthiest {l : Launch} {E : CE} {nf : Nat} : ∀ (x0 : Nat) (x1 : Int32) (s : CS) (z : (Int32 × CS)), FX0_worthiest nf x0 x1 s = some z → (isK s x0 [0] = true ∧ cMet_i l E yX0_worthiest (ws_ yX0_worthiest cX0_worthiest 6 (some .int)) 609 29635 [.ref x0, .int x1] s z.1 z.2) := by
  intro x0 x1 s z h
  unfold FX0_worthiest at h
  obtain ⟨hm, h⟩ := mz_of h
  obtain ⟨hg, h⟩ := gd_of h
  refine ⟨hg, c_met_i hm (by decide +kernel) rfl (fun X hl hin T hR e => ?_)⟩
  have T : cOK X E cX0_worthiest RX0 6 (some .int) _ _ _ _ := T
  have hX := T.1
  show cW X _ _ s 0 [(0, .ref x0), (1, .int x1)] []
  refine cw (k_iconst (v := (-1)) hX dX0_worthiest_0 (by decide)) ?_
  refine cw (k_istore_n [(2, .int (-1)), (0, .ref x0), (1, .int x1)] hX dX0_worthiest_1 rfl rfl rfl) ?_
  refine cw (k_iconst (v := 0) hX dX0_worthiest_2 (by decide)) ?_
  refine cw (k_istore_n [(3, .int 0), (2, .int (-1)), (0, .ref x0), (1, .int x1)] hX dX0_worthiest_3 rfl rfl rfl) ?_
  refine cw (k_iconst (v := 0) hX dX0_worthiest_4 (by decide)) ?_
  refine cw (k_istore [(4, .int 0), (3, .int 0), (2, .int (-1)), (0, .ref x0), (1, .int x1)] hX dX0_worthiest_5 rfl rfl) ?_
  refine cw (k_lv (lv' := [(0, .ref x0), (1, .int x1), (2, .int (-1)), (3, .int 0), (4, .int 0)]) [3, 4, 2, 1, 0] rfl) ?_
  exact FX0_worthiest_b7_ok T hR e _ _ _ _ _ _ _ h
theorem FX9_begins_b45_s_ok {X : KC CS} {E : CE} {z : CS} {z0 l0 z1 l1 : Nat} (T : cOK X E cX9_begins RX9 2 none z0 l0 z1 l1) (hR : cRoom X 0 0) (e : cE_v X E z0 l0 z1 l1 z) {nf : Nat} {k45 : Nat → Int32 → CS → Option CS} (hk45 : ∀ (x0 : Nat) (x1 : Int32) (s : CS), k45 x0 x1 s = some z → cW X z1 l1 s 45 [(0, .ref x0), (1, .int x1)] []) {x0 : Nat} {x1 : Int32} {s : CS} (h : FX9_begins_b45_s nf k45 x0 x1 s = some z) : cW X z1 l1 s 45 [(0, .ref x0), (1, .int x1)] [] := by
  unfold FX9_begins_b45_s at h
  have hX := T.1
  refine cw (k_iload_n hX dX9_begins_45 rfl 1 rfl) ?_
  refine cw (k_iconst (v := 4) hX dX9_begins_46 (by decide)) ?_
  refine c_br h (k_icmp_ge (tgt := 63) hX h dX9_begins_47 (by decide)) (fun h => ?_) (fun h => ?_)
  · exact c_ret_v T e h dX9_begins_63
  · refine cw (k_aload_n hX dX9_begins_50 rfl 0 rfl) ?_
    refine cg_X9_105 T h dX9_begins_51 (fun r1 h => ?_)
    refine cw (k_iload_n hX dX9_begins_54 rfl 1 rfl) ?_
    refine cw (k_iconst (v := 0) hX dX9_begins_55 (by decide)) ?_
    obtain ⟨p2, e_p2, hq_p2⟩ := nn_of h
    subst e_p2
    have h := hq_p2
    show cW X z1 l1 _ 56 [(0, .ref x0), (1, .int x1)] [.int 0, .int x1, .ref p2]
    refine ca_zst T h dX9_begins_56 (fun s3 h => ?_)
    refine cw (k_iinc (j := 1) [(1, .int (x1 + 1)), (0, .ref x0)] hX dX9_begins_57 rfl rfl rfl rfl) ?_
    refine cw (k_goto (tgt := 45) hX dX9_begins_60 (by decide)) ?_
    refine cw (k_lv (lv' := [(0, .ref x0), (1, .int (x1 + 1))]) [1, 0] rfl) ?_
    exact hk45 _ _ _ h
theorem FX9_begins_b45_ok {X : KC CS} {E : CE} {z : CS} {z0 l0 z1 l1 : Nat} (T : cOK X E cX9_begins RX9 2 none z0 l0 z1 l1) (hR : cRoom X 0 0) (e : cE_v X E z0 l0 z1 l1 z) {nf : Nat} : ∀ (n : Nat) (x0 : Nat) (x1 : Int32) (s : CS), FX9_begins_b45 nf n x0 x1 s = some z → cW X z1 l1 s 45 [(0, .ref x0), (1, .int x1)] [] := by
  intro n
  induction n with
  | zero => intro x0 x1 s h; exact (nomatch (show (none : Option CS) = some z from h))
  | succ n ih =>
    intro x0 x1 s h
    have h : FX9_begins_b45_s nf (FX9_begins_b45 nf n) x0 x1 s = some z := h
    exact FX9_begins_b45_s_ok T hR e ih h
theorem FX9_begins_b2_s_ok {X : KC CS} {E : CE} {z : CS} {z0 l0 z1 l1 : Nat} (T : cOK X E cX9_begins RX9 2 none z0 l0 z1 l1) (hR : cRoom X 0 0) (e : cE_v X E z0 l0 z1 l1 z) {nf : Nat} {k2 : Nat → Int32 → CS → Option CS} (hk2 : ∀ (x0 : Nat) (x1 : Int32) (s : CS), k2 x0 x1 s = some z → cW X z1 l1 s 2 [(0, .ref x0), (1, .int x1)] []) {x0 : Nat} {x1 : Int32} {s : CS} (h : FX9_begins_b2_s nf k2 x0 x1 s = some z) : cW X z1 l1 s 2 [(0, .ref x0), (1, .int x1)] [] := by
  unfold FX9_begins_b2_s at h
  have hX := T.1
  refine cw (k_iload_n hX dX9_begins_2 rfl 1 rfl) ?_
  refine cw (k_bipush (v := 120) hX dX9_begins_3 (by decide)) ?_
  refine c_br h (k_icmp_ge (tgt := 21) hX h dX9_begins_5 (by decide)) (fun h => ?_) (fun h => ?_)
  · refine cw (k_aload_n hX dX9_begins_21 rfl 0 rfl) ?_
    refine cg_X9_93 T h dX9_begins_22 (fun r1 h => ?_)
    refine cw (k_iconst (v := 0) hX dX9_begins_25 (by decide)) ?_
    refine cw (k_iconst (v := 0) hX dX9_begins_26 (by decide)) ?_
    obtain ⟨p2, e_p2, hq_p2⟩ := nn_of h
    subst e_p2
    have h := hq_p2
    show cW X z1 l1 _ 27 [(0, .ref x0), (1, .int x1)] [.int 0, .int 0, .ref p2]
    refine ca_ist T h dX9_begins_27 (fun s3 h => ?_)
    refine cw (k_aload_n hX dX9_begins_28 rfl 0 rfl) ?_
    refine cw (k_iconst (v := 0) hX dX9_begins_29 (by decide)) ?_
    refine cp_X9_319 T h dX9_begins_30 (fun s4 h => ?_)
    refine cw (k_aload_n hX dX9_begins_33 rfl 0 rfl) ?_
    refine cw (k_dup hX dX9_begins_34 rfl) ?_
    refine cg_X9_322 T h dX9_begins_35 (fun v5 h => ?_)
    refine cw (k_iconst (v := 1) hX dX9_begins_38 (by decide)) ?_
    refine cw (k_iadd hX dX9_begins_39) ?_
    refine cp_X9_322 T h dX9_begins_40 (fun s6 h => ?_)
    refine cw (k_iconst (v := 0) hX dX9_begins_43 (by decide)) ?_
    refine cw (k_istore_n [(1, .int 0), (0, .ref x0)] hX dX9_begins_44 rfl rfl rfl) ?_
    refine cw (k_lv (lv' := [(0, .ref x0), (1, .int 0)]) [1, 0] rfl) ?_
    exact FX9_begins_b45_ok T hR e _ _ _ _ h
  · refine cw (k_aload_n hX dX9_begins_8 rfl 0 rfl) ?_
    refine cg_X9_102 T h dX9_begins_9 (fun r7 h => ?_)
    refine cw (k_iload_n hX dX9_begins_12 rfl 1 rfl) ?_
    refine cw (k_iconst (v := 0) hX dX9_begins_13 (by decide)) ?_
    obtain ⟨p8, e_p8, hq_p8⟩ := nn_of h
    subst e_p8
    have h := hq_p8
    show cW X z1 l1 _ 14 [(0, .ref x0), (1, .int x1)] [.int 0, .int x1, .ref p8]
    refine ca_ist T h dX9_begins_14 (fun s9 h => ?_)
    refine cw (k_iinc (j := 1) [(1, .int (x1 + 1)), (0, .ref x0)] hX dX9_begins_15 rfl rfl rfl rfl) ?_
    refine cw (k_goto (tgt := 2) hX dX9_begins_18 (by decide)) ?_
    refine cw (k_lv (lv' := [(0, .ref x0), (1, .int (x1 + 1))]) [1, 0] rfl) ?_
    exact hk2 _ _ _ h
theorem FX9_begins_b2_ok {X : KC CS} {E : CE} {z : CS} {z0 l0 z1 l1 : Nat} (T : cOK X E cX9_begins RX9 2 none z0 l0 z1 l1) (hR : cRoom X 0 0) (e : cE_v X E z0 l0 z1 l1 z) {nf : Nat} : ∀ (n : Nat) (x0 : Nat) (x1 : Int32) (s : CS), FX9_begins_b2 nf n x0 x1 s = some z → cW X z1 l1 s 2 [(0, .ref x0), (1, .int x1)] [] := by
  intro n
  induction n with
  | zero => intro x0 x1 s h; exact (nomatch (show (none : Option CS) = some z from h))
  | succ n ih =>
    intro x0 x1 s h
    have h : FX9_begins_b2_s nf (FX9_begins_b2 nf n) x0 x1 s = some z := h
    exact FX9_begins_b2_s_ok T hR e ih h
theorem met_FX9_begins {l : Launch} {E : CE} {nf : Nat} : ∀ (x0 : Nat) (s : CS) (z : CS), FX9_begins nf x0 s = some z → (isK s x0 [9] = true ∧ cMet_v l E yX9_begins (ws_ yX9_begins cX9_begins 2 none) 0 0 [.ref x0] s z) := by
  intro x0 s z h
  unfold FX9_begins at h
  obtain ⟨hm, h⟩ := mz_of h
  obtain ⟨hg, h⟩ := gd_of h
  refine ⟨hg, c_met_v hm (by decide +kernel) rfl (fun X hl hin T hR e => ?_)⟩
  have T : cOK X E cX9_begins RX9 2 none _ _ _ _ := T
  have hX := T.1
  show cW X _ _ s 0 [(0, .ref x0)] []
  refine cw (k_iconst (v := 0) hX dX9_begins_0 (by decide)) ?_
  refine cw (k_istore_n [(1, .int 0), (0, .ref x0)] hX dX9_begins_1 rfl rfl rfl) ?_
  refine cw (k_lv (lv' := [(0, .ref x0), (1, .int 0)]) [1, 0] rfl) ?_
  exact FX9_begins_b2_ok T hR e _ _ _ _ h
theorem FX9_standsAsAlways_b2_s_ok {X : KC CS} {E : CE} {z : CS} {z0 l0 z1 l1 : Nat} (T : cOK X E cX9_standsAsAlways RX9 3 none z0 l0 z1 l1) (hR : cRoom X 0 0) (e : cE_v X E z0 l0 z1 l1 z) {nf : Nat} {k2 : Nat → Int32 → Int32 → CS → Option CS} (hk2 : ∀ (x0 : Nat) (x1 : Int32) (x2 : Int32) (s : CS), k2 x0 x1 x2 s = some z → cW X z1 l1 s 2 [(0, .ref x0), (1, .int x1), (2, .int x2)] []) {x0 : Nat} {x1 : Int32} {x2 : Int32} {s : CS} (h : FX9_standsAsAlways_b2_s nf k2 x0 x1 x2 s = some z) : cW X z1 l1 s 2 [(0, .ref x0), (1, .int x1), (2, .int x2)] [] := by
  unfold FX9_standsAsAlways_b2_s at h
  have hX := T.1
  refine cw (k_iload_n hX dX9_standsAsAlways_2 rfl 2 rfl) ?_
  refine cw (k_sipush (v := 340) hX dX9_standsAsAlways_3 (by decide)) ?_
  refine c_br h (k_icmp_ge (tgt := 24) hX h dX9_standsAsAlways_6 (by decide)) (fun h => ?_) (fun h => ?_)
  · refine cw (k_aload_n hX dX9_standsAsAlways_24 rfl 0 rfl) ?_
    refine cg_X9_81 T h dX9_standsAsAlways_25 (fun r1 h => ?_)
    refine cw (k_iload_n hX dX9_standsAsAlways_28 rfl 1 rfl) ?_
    refine cw (k_iconst (v := 2) hX dX9_standsAsAlways_29 (by decide)) ?_
    refine cw (k_iadd hX dX9_standsAsAlways_30) ?_
    refine cw (k_bipush (v := 10) hX dX9_standsAsAlways_31 (by decide)) ?_
    obtain ⟨p2, e_p2, hq_p2⟩ := nn_of h
    subst e_p2
    have h := hq_p2
    show cW X z1 l1 _ 33 [(0, .ref x0), (1, .int x1), (2, .int x2)] [.int 10, .int (x1 + 2), .ref p2]
    refine ca_ist T h dX9_standsAsAlways_33 (fun s3 h => ?_)
    refine cw (k_aload_n hX dX9_standsAsAlways_34 rfl 0 rfl) ?_
    refine cg_X9_81 T h dX9_standsAsAlways_35 (fun r4 h => ?_)
    refine cw (k_iload_n hX dX9_standsAsAlways_38 rfl 1 rfl) ?_
    refine cw (k_iconst (v := 3) hX dX9_standsAsAlways_39 (by decide)) ?_
    refine cw (k_iadd hX dX9_standsAsAlways_40) ?_
    refine cw (k_iconst (v := (-1)) hX dX9_standsAsAlways_41 (by decide)) ?_
    obtain ⟨p5, e_p5, hq_p5⟩ := nn_of h
    subst e_p5
    have h := hq_p5
    show cW X z1 l1 _ 42 [(0, .ref x0), (1, .int x1), (2, .int x2)] [.int (-1), .int (x1 + 3), .ref p5]
    refine ca_ist T h dX9_standsAsAlways_42 (fun s6 h => ?_)
    refine cw (k_aload_n hX dX9_standsAsAlways_43 rfl 0 rfl) ?_
    refine cg_X9_81 T h dX9_standsAsAlways_44 (fun r7 h => ?_)
    refine cw (k_iload_n hX dX9_standsAsAlways_47 rfl 1 rfl) ?_
    refine cw (k_iconst (v := 4) hX dX9_standsAsAlways_48 (by decide)) ?_
    refine cw (k_iadd hX dX9_standsAsAlways_49) ?_
    refine cw (k_iconst (v := (-1)) hX dX9_standsAsAlways_50 (by decide)) ?_
    obtain ⟨p8, e_p8, hq_p8⟩ := nn_of h
    subst e_p8
    have h := hq_p8
    show cW X z1 l1 _ 51 [(0, .ref x0), (1, .int x1), (2, .int x2)] [.int (-1), .int (x1 + 4), .ref p8]
    refine ca_ist T h dX9_standsAsAlways_51 (fun s9 h => ?_)
    refine cw (k_aload_n hX dX9_standsAsAlways_52 rfl 0 rfl) ?_
    refine cg_X9_81 T h dX9_standsAsAlways_53 (fun r10 h => ?_)
    refine cw (k_iload_n hX dX9_standsAsAlways_56 rfl 1 rfl) ?_
    refine cw (k_bipush (v := 9) hX dX9_standsAsAlways_57 (by decide)) ?_
    refine cw (k_iadd hX dX9_standsAsAlways_59) ?_
    refine cw (k_iconst (v := 1) hX dX9_standsAsAlways_60 (by decide)) ?_
    obtain ⟨p11, e_p11, hq_p11⟩ := nn_of h
    subst e_p11
    have h := hq_p11
    show cW X z1 l1 _ 61 [(0, .ref x0), (1, .int x1), (2, .int x2)] [.int 1, .int (x1 + 9), .ref p11]
    refine ca_ist T h dX9_standsAsAlways_61 (fun s12 h => ?_)
    exact c_ret_v T e h dX9_standsAsAlways_62
  · refine cw (k_aload_n hX dX9_standsAsAlways_9 rfl 0 rfl) ?_
    refine cg_X9_81 T h dX9_standsAsAlways_10 (fun r13 h => ?_)
    refine cw (k_iload_n hX dX9_standsAsAlways_13 rfl 1 rfl) ?_
    refine cw (k_iload_n hX dX9_standsAsAlways_14 rfl 2 rfl) ?_
    refine cw (k_iadd hX dX9_standsAsAlways_15) ?_
    refine cw (k_iconst (v := 0) hX dX9_standsAsAlways_16 (by decide)) ?_
    obtain ⟨p14, e_p14, hq_p14⟩ := nn_of h
    subst e_p14
    have h := hq_p14
    show cW X z1 l1 _ 17 [(0, .ref x0), (1, .int x1), (2, .int x2)] [.int 0, .int (x1 + x2), .ref p14]
    refine ca_ist T h dX9_standsAsAlways_17 (fun s15 h => ?_)
    refine cw (k_iinc (j := 2) [(2, .int (x2 + 1)), (0, .ref x0), (1, .int x1)] hX dX9_standsAsAlways_18 rfl rfl rfl rfl) ?_
    refine cw (k_goto (tgt := 2) hX dX9_standsAsAlways_21 (by decide)) ?_
    refine cw (k_lv (lv' := [(0, .ref x0), (1, .int x1), (2, .int (x2 + 1))]) [1, 2, 0] rfl) ?_
    exact hk2 _ _ _ _ h
theorem FX9_standsAsAlways_b2_ok {X : KC CS} {E : CE} {z : CS} {z0 l0 z1 l1 : Nat} (T : cOK X E cX9_standsAsAlways RX9 3 none z0 l0 z1 l1) (hR : cRoom X 0 0) (e : cE_v X E z0 l0 z1 l1 z) {nf : Nat} : ∀ (n : Nat) (x0 : Nat) (x1 : Int32) (x2 : Int32) (s : CS), FX9_standsAsAlways_b2 nf n x0 x1 x2 s = some z → cW X z1 l1 s 2 [(0, .ref x0), (1, .int x1), (2, .int x2)] [] := by
  intro n
  induction n with
  | zero => intro x0 x1 x2 s h; exact (nomatch (show (none : Option CS) = some z from h))
  | succ n ih =>
    intro x0 x1 x2 s h
    have h : FX9_standsAsAlways_b2_s nf (FX9_standsAsAlways_b2 nf n) x0 x1 x2 s = some z := h
    exact FX9_standsAsAlways_b2_s_ok T hR e ih h
theorem met_FX9_standsAsAlways {l : Launch} {E : CE} {nf : Nat} : ∀ (x0 : Nat) (x1 : Int32) (s : CS) (z : CS), FX9_standsAsAlways nf x0 x1 s = some z → (isK s x0 [9] = true ∧ cMet_v l E yX9_standsAsAlways (ws_ yX9_standsAsAlways cX9_standsAsAlways 3 none) 0 0 [.ref x0, .int x1] s z) := by
  intro x0 x1 s z h
  unfold FX9_standsAsAlways at h
  obtain ⟨hm, h⟩ := mz_of h
  obtain ⟨hg, h⟩ := gd_of h
  refine ⟨hg, c_met_v hm (by decide +kernel) rfl (fun X hl hin T hR e => ?_)⟩
  have T : cOK X E cX9_standsAsAlways RX9 3 none _ _ _ _ := T
  have hX := T.1
  show cW X _ _ s 0 [(0, .ref x0), (1, .int x1)] []
  refine cw (k_iconst (v := 0) hX dX9_standsAsAlways_0 (by decide)) ?_
  refine cw (k_istore_n [(2, .int 0), (0, .ref x0), (1, .int x1)] hX dX9_standsAsAlways_1 rfl rfl rfl) ?_
  refine cw (k_lv (lv' := [(0, .ref x0), (1, .int x1), (2, .int 0)]) [1, 2, 0] rfl) ?_
  exact FX9_standsAsAlways_b2_ok T hR e _ _ _ _ _ h
theorem met_FX9_init {l : Launch} {E : CE} {nf : Nat} : ∀ (x0 : Nat) (s : CS) (z : CS), FX9_init nf x0 s = some z → cMet_v l E yX9_init (ws_ yX9_init cX9_init 1 none) 1 40 [.ref x0] s z := by
  intro x0 s z h
  unfold FX9_init at h
  obtain ⟨hm, h⟩ := mz_of h
  refine c_met_v hm (by decide +kernel) rfl (fun X hl hin T hR e => ?_)
  have T : cOK X E cX9_init RX9 1 none _ _ _ _ := T
  have hX := T.1
  show cW X _ _ s 0 [(0, .ref x0)] []
  refine cw (k_aload_n hX dX9_init_0 rfl 0 rfl) ?_
  refine cw (k_objInit hX hR q1635 q183 q184 rfl dX9_init_1) ?_
  refine cw (k_aload_n hX dX9_init_4 rfl 0 rfl) ?_
  refine cw (k_sipush (v := 1000) hX dX9_init_5 (by decide)) ?_
  refine c_newAi T h dX9_init_8 (fun o1 s2 h => ?_)
  refine cp_X9_14 T hin h dX9_init_10 (fun s3 h => ?_)
  refine cw (k_aload_n hX dX9_init_13 rfl 0 rfl) ?_
  refine cw (k_sipush (v := 1002) hX dX9_init_14 (by decide)) ?_
  refine c_newAi T h dX9_init_17 (fun o4 s5 h => ?_)
  refine cp_X9_24 T hin h dX9_init_19 (fun s6 h => ?_)
  refine cw (k_aload_n hX dX9_init_22 rfl 0 rfl) ?_
  refine cw (k_sipush (v := 1002) hX dX9_init_23 (by decide)) ?_
  refine c_newAi T h dX9_init_26 (fun o7 s8 h => ?_)
  refine cp_X9_27 T hin h dX9_init_28 (fun s9 h => ?_)
  refine cw (k_aload_n hX dX9_init_31 rfl 0 rfl) ?_
  refine cw (k_sipush (v := 1002) hX dX9_init_32 (by decide)) ?_
  refine c_newAl T h dX9_init_35 (fun o10 s11 h => ?_)
  refine cp_X9_30 T hin h dX9_init_37 (fun s12 h => ?_)
  refine cw (k_aload_n hX dX9_init_40 rfl 0 rfl) ?_
  refine cw (k_bipush (v := 22) hX dX9_init_41 (by decide)) ?_
  refine c_newAl T h dX9_init_43 (fun o13 s14 h => ?_)
  refine cw (k_dup hX dX9_init_45 rfl) ?_
  refine cw (k_iconst (v := 0) hX dX9_init_46 (by decide)) ?_
  refine cw (k_ldc2 (v := 1034460) hX q1636 dX9_init_47) ?_
  refine ca_lst T h dX9_init_50 (fun s15 h => ?_)
  refine cw (k_dup hX dX9_init_51 rfl) ?_
  refine cw (k_iconst (v := 1) hX dX9_init_52 (by decide)) ?_
  refine cw (k_ldc2 (v := 22955708) hX q1637 dX9_init_53) ?_
  refine ca_lst T h dX9_init_56 (fun s16 h => ?_)
  refine cw (k_dup hX dX9_init_57 rfl) ?_
  refine cw (k_iconst (v := 2) hX dX9_init_58 (by decide)) ?_
  refine cw (k_ldc2 (v := 2793) hX q1638 dX9_init_59) ?_
  refine ca_lst T h dX9_init_62 (fun s17 h => ?_)
  refine cw (k_dup hX dX9_init_63 rfl) ?_
  refine cw (k_iconst (v := 3) hX dX9_init_64 (by decide)) ?_
  refine cw (k_ldc2 (v := 940952) hX q1639 dX9_init_65) ?_
  refine ca_lst T h dX9_init_68 (fun s18 h => ?_)
  refine cw (k_dup hX dX9_init_69 rfl) ?_
  refine cw (k_iconst (v := 4) hX dX9_init_70 (by decide)) ?_
  refine cw (k_ldc2 (v := 1166843) hX q1640 dX9_init_71) ?_
  refine ca_lst T h dX9_init_74 (fun s19 h => ?_)
  refine cw (k_dup hX dX9_init_75 rfl) ?_
  refine cw (k_iconst (v := 5) hX dX9_init_76 (by decide)) ?_
  refine cw (k_ldc2 (v := 25433) hX q1641 dX9_init_77) ?_
  refine ca_lst T h dX9_init_80 (fun s20 h => ?_)
  refine cw (k_dup hX dX9_init_81 rfl) ?_
  refine cw (k_bipush (v := 6) hX dX9_init_82 (by decide)) ?_
  refine cw (k_ldc2 (v := 979413) hX q1642 dX9_init_84) ?_
  refine ca_lst T h dX9_init_87 (fun s21 h => ?_)
  refine cw (k_dup hX dX9_init_88 rfl) ?_
  refine cw (k_bipush (v := 7) hX dX9_init_89 (by decide)) ?_
  refine cw (k_ldc2 (v := 941040) hX q1643 dX9_init_91) ?_
  refine ca_lst T h dX9_init_94 (fun s22 h => ?_)
  refine cw (k_dup hX dX9_init_95 rfl) ?_
  refine cw (k_bipush (v := 8) hX dX9_init_96 (by decide)) ?_
  refine cw (k_ldc2 (v := 6040476) hX q1644 dX9_init_98) ?_
  refine ca_lst T h dX9_init_101 (fun s23 h => ?_)
  refine cw (k_dup hX dX9_init_102 rfl) ?_
  refine cw (k_bipush (v := 9) hX dX9_init_103 (by decide)) ?_
  refine cw (k_ldc2 (v := 34523964) hX q1645 dX9_init_105) ?_
  refine ca_lst T h dX9_init_108 (fun s24 h => ?_)
  refine cw (k_dup hX dX9_init_109 rfl) ?_
  refine cw (k_bipush (v := 10) hX dX9_init_110 (by decide)) ?_
  refine cw (k_ldc2 (v := 790116) hX q1646 dX9_init_112) ?_
  refine ca_lst T h dX9_init_115 (fun s25 h => ?_)
  refine cw (k_dup hX dX9_init_116 rfl) ?_
  refine cw (k_bipush (v := 11) hX dX9_init_117 (by decide)) ?_
  refine cw (k_ldc2 (v := 569) hX q1647 dX9_init_119) ?_
  refine ca_lst T h dX9_init_122 (fun s26 h => ?_)
  refine cw (k_dup hX dX9_init_123 rfl) ?_
  refine cw (k_bipush (v := 12) hX dX9_init_124 (by decide)) ?_
  refine cw (k_ldc2 (v := 8787) hX q1648 dX9_init_126) ?_
  refine ca_lst T h dX9_init_129 (fun s27 h => ?_)
  refine cw (k_dup hX dX9_init_130 rfl) ?_
  refine cw (k_bipush (v := 13) hX dX9_init_131 (by decide)) ?_
  refine cw (k_ldc2 (v := 6250976) hX q1649 dX9_init_133) ?_
  refine ca_lst T h dX9_init_136 (fun s28 h => ?_)
  refine cw (k_dup hX dX9_init_137 rfl) ?_
  refine cw (k_bipush (v := 14) hX dX9_init_138 (by decide)) ?_
  refine cw (k_ldc2 (v := 571827392) hX q1650 dX9_init_140) ?_
  refine ca_lst T h dX9_init_143 (fun s29 h => ?_)
  refine cw (k_dup hX dX9_init_144 rfl) ?_
  refine cw (k_bipush (v := 15) hX dX9_init_145 (by decide)) ?_
  refine cw (k_ldc2 (v := 179086304) hX q1651 dX9_init_147) ?_
  refine ca_lst T h dX9_init_150 (fun s30 h => ?_)
  refine cw (k_dup hX dX9_init_151 rfl) ?_
  refine cw (k_bipush (v := 16) hX dX9_init_152 (by decide)) ?_
  refine cw (k_ldc2 (v := 1138236000) hX q1652 dX9_init_154) ?_
  refine ca_lst T h dX9_init_157 (fun s31 h => ?_)
  refine cw (k_dup hX dX9_init_158 rfl) ?_
  refine cw (k_bipush (v := 17) hX dX9_init_159 (by decide)) ?_
  refine cw (k_ldc2 (v := 19741) hX q1653 dX9_init_161) ?_
  refine ca_lst T h dX9_init_164 (fun s32 h => ?_)
  refine cw (k_dup hX dX9_init_165 rfl) ?_
  refine cw (k_bipush (v := 18) hX dX9_init_166 (by decide)) ?_
  refine cw (k_ldc2 (v := 1891) hX q1654 dX9_init_168) ?_
  refine ca_lst T h dX9_init_171 (fun s33 h => ?_)
  refine cw (k_dup hX dX9_init_172 rfl) ?_
  refine cw (k_bipush (v := 19) hX dX9_init_173 (by decide)) ?_
  refine cw (k_ldc2 (v := 573) hX q1655 dX9_init_175) ?_
  refine ca_lst T h dX9_init_178 (fun s34 h => ?_)
  refine cw (k_dup hX dX9_init_179 rfl) ?_
  refine cw (k_bipush (v := 20) hX dX9_init_180 (by decide)) ?_
  refine cw (k_ldc2 (v := 614923) hX q1656 dX9_init_182) ?_
  refine ca_lst T h dX9_init_185 (fun s35 h => ?_)
  refine cw (k_dup hX dX9_init_186 rfl) ?_
  refine cw (k_bipush (v := 21) hX dX9_init_187 (by decide)) ?_
  refine cw (k_ldc2 (v := 793) hX q1657 dX9_init_189) ?_
  refine ca_lst T h dX9_init_192 (fun s36 h => ?_)
  refine cp_X9_78 T hin h dX9_init_193 (fun s37 h => ?_)
  refine cw (k_aload_n hX dX9_init_196 rfl 0 rfl) ?_
  refine cw (k_sipush (v := 680) hX dX9_init_197 (by decide)) ?_
  refine c_newAi T h dX9_init_200 (fun o38 s39 h => ?_)
  refine cp_X9_81 T hin h dX9_init_202 (fun s40 h => ?_)
  refine cw (k_aload_n hX dX9_init_205 rfl 0 rfl) ?_
  refine cw (k_sipush (v := 2200) hX dX9_init_206 (by decide)) ?_
  refine c_newAi T h dX9_init_209 (fun o41 s42 h => ?_)
  refine cp_X9_84 T hin h dX9_init_211 (fun s43 h => ?_)
  refine cw (k_aload_n hX dX9_init_214 rfl 0 rfl) ?_
  refine cw (k_sipush (v := 2200) hX dX9_init_215 (by decide)) ?_
  refine c_newAi T h dX9_init_218 (fun o44 s45 h => ?_)
  refine cp_X9_87 T hin h dX9_init_220 (fun s46 h => ?_)
  refine cw (k_aload_n hX dX9_init_223 rfl 0 rfl) ?_
  refine cw (k_iconst (v := 4) hX dX9_init_224 (by decide)) ?_
  refine c_newAl T h dX9_init_225 (fun o47 s48 h => ?_)
  refine cp_X9_90 T hin h dX9_init_227 (fun s49 h => ?_)
  refine cw (k_aload_n hX dX9_init_230 rfl 0 rfl) ?_
  refine cw (k_bipush (v := 60) hX dX9_init_231 (by decide)) ?_
  refine c_newAi T h dX9_init_233 (fun o50 s51 h => ?_)
  refine cp_X9_93 T hin h dX9_init_235 (fun s52 h => ?_)
  refine cw (k_aload_n hX dX9_init_238 rfl 0 rfl) ?_
  refine cw (k_iconst (v := 4) hX dX9_init_239 (by decide)) ?_
  refine c_newAi T h dX9_init_240 (fun o53 s54 h => ?_)
  refine cp_X9_96 T hin h dX9_init_242 (fun s55 h => ?_)
  refine cw (k_aload_n hX dX9_init_245 rfl 0 rfl) ?_
  refine cw (k_sipush (v := 1100) hX dX9_init_246 (by decide)) ?_
  refine c_newAi T h dX9_init_249 (fun o56 s57 h => ?_)
  refine cp_X9_99 T hin h dX9_init_251 (fun s58 h => ?_)
  refine cw (k_aload_n hX dX9_init_254 rfl 0 rfl) ?_
  refine cw (k_sipush (v := 2520) hX dX9_init_255 (by decide)) ?_
  refine c_newAi T h dX9_init_258 (fun o59 s60 h => ?_)
  refine cp_X9_102 T hin h dX9_init_260 (fun s61 h => ?_)
  refine cw (k_aload_n hX dX9_init_263 rfl 0 rfl) ?_
  refine cw (k_iconst (v := 4) hX dX9_init_264 (by decide)) ?_
  refine c_newAz T h dX9_init_265 (fun o62 s63 h => ?_)
  refine cp_X9_105 T hin h dX9_init_267 (fun s64 h => ?_)
  refine cw (k_aload_n hX dX9_init_270 rfl 0 rfl) ?_
  refine cw (k_ldc (v := 64800) hX q1658 dX9_init_271) ?_
  refine c_newAi T h dX9_init_273 (fun o65 s66 h => ?_)
  refine cp_X9_110 T hin h dX9_init_275 (fun s67 h => ?_)
  refine cw (k_aload_n hX dX9_init_278 rfl 0 rfl) ?_
  refine cw (k_ldc (v := 64800) hX q1658 dX9_init_279) ?_
  refine c_newAi T h dX9_init_281 (fun o68 s69 h => ?_)
  refine cp_X9_113 T hin h dX9_init_283 (fun s70 h => ?_)
  refine cw (k_aload_n hX dX9_init_286 rfl 0 rfl) ?_
  refine cw (k_iconst (v := (-1)) hX dX9_init_287 (by decide)) ?_
  refine cp_X9_116 T h dX9_init_288 (fun s71 h => ?_)
  refine cw (k_aload_n hX dX9_init_291 rfl 0 rfl) ?_
  refine cw (k_iconst (v := (-1)) hX dX9_init_292 (by decide)) ?_
  refine cp_X9_119 T h dX9_init_293 (fun s72 h => ?_)
  refine cw (k_aload_n hX dX9_init_296 rfl 0 rfl) ?_
  refine cw (k_ldc (v := 64800) hX q1658 dX9_init_297) ?_
  refine c_newAi T h dX9_init_299 (fun o73 s74 h => ?_)
  refine cp_X9_122 T hin h dX9_init_301 (fun s75 h => ?_)
  refine cw (k_aload_n hX dX9_init_304 rfl 0 rfl) ?_
  refine cw (k_ldc (v := 64800) hX q1658 dX9_init_305) ?_
  refine c_newAi T h dX9_init_307 (fun o76 s77 h => ?_)
  refine cp_X9_125 T hin h dX9_init_309 (fun s78 h => ?_)
  refine cw (k_aload_n hX dX9_init_312 rfl 0 rfl) ?_
  refine cw (k_ldc (v := 156000) hX q1659 dX9_init_313) ?_
  refine c_newAi T h dX9_init_315 (fun o79 s80 h => ?_)
  refine cp_X9_129 T hin h dX9_init_317 (fun s81 h => ?_)
  refine cw (k_aload_n hX dX9_init_320 rfl 0 rfl) ?_
  refine cw (k_sipush (v := 240) hX dX9_init_321 (by decide)) ?_
  refine c_newAl T h dX9_init_324 (fun o82 s83 h => ?_)
  refine cp_X9_132 T hin h dX9_init_326 (fun s84 h => ?_)
  refine cw (k_aload_n hX dX9_init_329 rfl 0 rfl) ?_
  refine cw (k_sipush (v := 240) hX dX9_init_330 (by decide)) ?_
  refine c_newAl T h dX9_init_333 (fun o85 s86 h => ?_)
  refine cp_X9_135 T hin h dX9_init_335 (fun s87 h => ?_)
  refine cw (k_aload_n hX dX9_init_338 rfl 0 rfl) ?_
  refine cw (k_iconst (v := 4) hX dX9_init_339 (by decide)) ?_
  refine c_newAi T h dX9_init_340 (fun o88 s89 h => ?_)
  refine cp_X9_138 T hin h dX9_init_342 (fun s90 h => ?_)
  refine cw (k_aload_n hX dX9_init_345 rfl 0 rfl) ?_
  refine cw (k_iconst (v := 4) hX dX9_init_346 (by decide)) ?_
  refine c_newAi T h dX9_init_347 (fun o91 s92 h => ?_)
  refine cp_X9_141 T hin h dX9_init_349 (fun s93 h => ?_)
  refine cw (k_aload_n hX dX9_init_352 rfl 0 rfl) ?_
  refine cw (k_bipush (v := 54) hX dX9_init_353 (by decide)) ?_
  refine c_newAi T h dX9_init_355 (fun o94 s95 h => ?_)
  refine cp_X9_144 T hin h dX9_init_357 (fun s96 h => ?_)
  refine cw (k_aload_n hX dX9_init_360 rfl 0 rfl) ?_
  refine cw (k_iconst (v := 0) hX dX9_init_361 (by decide)) ?_
  refine cX_X9_147 T met_FX9_standsAsAlways (c_room hR rfl rfl) h rfl dX9_init_362 (fun s97 h => ?_)
  refine cw (k_aload_n hX dX9_init_365 rfl 0 rfl) ?_
  refine cg_X9_81 T h dX9_init_366 (fun r98 h => ?_)
  refine cw (k_iconst (v := 0) hX dX9_init_369 (by decide)) ?_
  refine cw (k_iconst (v := 1) hX dX9_init_370 (by decide)) ?_
  obtain ⟨p99, e_p99, hq_p99⟩ := nn_of h
  subst e_p99
  have h := hq_p99
  show cW X _ _ _ 371 [(0, .ref x0)] [.int 1, .int 0, .ref p99]
  refine ca_ist T h dX9_init_371 (fun s100 h => ?_)
  refine cw (k_aload_n hX dX9_init_372 rfl 0 rfl) ?_
  refine cg_X9_81 T h dX9_init_373 (fun r101 h => ?_)
  refine cw (k_iconst (v := 1) hX dX9_init_376 (by decide)) ?_
  refine cw (k_iconst (v := 1) hX dX9_init_377 (by decide)) ?_
  obtain ⟨p102, e_p102, hq_p102⟩ := nn_of h
  subst e_p102
  have h := hq_p102
  show cW X _ _ _ 378 [(0, .ref x0)] [.int 1, .int 1, .ref p102]
  refine ca_ist T h dX9_init_378 (fun s103 h => ?_)
  refine cw (k_aload_n hX dX9_init_379 rfl 0 rfl) ?_
  refine cX_X9_151 T met_FX9_begins (c_room hR rfl rfl) h rfl dX9_init_380 (fun s104 h => ?_)
  exact c_ret_v T e h dX9_init_383
theorem FJ9_checkFromToIndex_b14_ok {X : KC CS} {E : CE} {z : Int32} {z0 l0 z1 l1 : Nat} {s : CS} (T : cOK X E cJ9_checkFromToIndex RJ9 4 (some .int) z0 l0 z1 l1) (hR : cRoom X 0 0) (e : cE_i X E z0 l0 z1 l1 z s) {x0 : Int32} {x1 : Int32} {x2 : Int32} {x3 : (Option Nat)} (h : FJ9_checkFromToIndex_b14 s x0 x1 x2 x3 = some z) : cW X z1 l1 s 14 [(0, .int x0), (1, .int x1), (2, .int x2), (3, va_rf x3)] [] := by
  unfold FJ9_checkFromToIndex_b14 at h
  have hX := T.1
  refine cw (k_aload_nO hX dJ9_checkFromToIndex_14 rfl 3 rfl) ?_
  refine cw (k_iload_n hX dJ9_checkFromToIndex_15 rfl 0 rfl) ?_
  refine cw (k_iload_n hX dJ9_checkFromToIndex_16 rfl 1 rfl) ?_
  refine cw (k_iload_n hX dJ9_checkFromToIndex_17 rfl 2 rfl) ?_
  cases h
theorem met_FJ9_checkFromToIndex {l : Launch} {E : CE} {s : CS} : ∀ (x0 : Int32) (x1 : Int32) (x2 : Int32) (x3 : (Option Nat)) (z : Int32), FJ9_checkFromToIndex s x0 x1 x2 x3 = some z → cMet_i l E yJ9_checkFromToIndex (ws_ yJ9_checkFromToIndex cJ9_checkFromToIndex 4 (some .int)) 0 0 [.int x0, .int x1, .int x2, va_rf x3] s z s := by
  intro x0 x1 x2 x3 z h
  unfold FJ9_checkFromToIndex at h
  refine c_met_i ⟨Nat.le_refl _, Nat.le_refl _⟩ (by decide +kernel) (by cases x3 <;> rfl) (fun X hl hin T hR e => ?_)
  have T : cOK X E cJ9_checkFromToIndex RJ9 4 (some .int) _ _ _ _ := T
  have hX := T.1
  show cW X _ _ s 0 [(0, .int x0), (1, .int x1), (2, .int x2), (3, va_rf x3)] []
  refine cw (k_iload_n hX dJ9_checkFromToIndex_0 rfl 0 rfl) ?_
  refine c_br h (k_if_lt (tgt := 14) hX h dJ9_checkFromToIndex_1 (by decide)) (fun h => ?_) (fun h => ?_)
  · refine cw (k_lv (lv' := [(0, .int x0), (1, .int x1), (2, .int x2), (3, va_rf x3)]) [0, 1, 2, 3] rfl) ?_
    exact FJ9_checkFromToIndex_b14_ok T hR e h
  · refine cw (k_iload_n hX dJ9_checkFromToIndex_4 rfl 0 rfl) ?_
    refine cw (k_iload_n hX dJ9_checkFromToIndex_5 rfl 1 rfl) ?_
    refine c_br h (k_icmp_gt (tgt := 14) hX h dJ9_checkFromToIndex_6 (by decide)) (fun h => ?_) (fun h => ?_)
    · refine cw (k_lv (lv' := [(0, .int x0), (1, .int x1), (2, .int x2), (3, va_rf x3)]) [0, 1, 2, 3] rfl) ?_
      exact FJ9_checkFromToIndex_b14_ok T hR e h
    · refine cw (k_iload_n hX dJ9_checkFromToIndex_9 rfl 1 rfl) ?_
      refine cw (k_iload_n hX dJ9_checkFromToIndex_10 rfl 2 rfl) ?_
      refine c_br h (k_icmp_le (tgt := 22) hX h dJ9_checkFromToIndex_11 (by decide)) (fun h => ?_) (fun h => ?_)
      · refine cw (k_iload_n hX dJ9_checkFromToIndex_22 rfl 0 rfl) ?_
        exact c_ret_ir T e h dJ9_checkFromToIndex_23
      · refine cw (k_lv (lv' := [(0, .int x0), (1, .int x1), (2, .int x2), (3, va_rf x3)]) [0, 1, 2, 3] rfl) ?_
        exact FJ9_checkFromToIndex_b14_ok T hR e h
theorem met_FJ6_checkBoundsBeginEnd {l : Launch} {E : CE} {s : CS} : ∀ (x0 : Int32) (x1 : Int32) (x2 : Int32) (z : Unit), FJ6_checkBoundsBeginEnd E.2.2.2 s x0 x1 x2 = some z → cMet_v l E yJ6_checkBoundsBeginEnd (ws_ yJ6_checkBoundsBeginEnd cJ6_checkBoundsBeginEnd 3 none) 1 23 [.int x0, .int x1, .int x2] s s := by
  intro x0 x1 x2 z h
  unfold FJ6_checkBoundsBeginEnd at h
  refine c_met_v ⟨Nat.le_refl _, Nat.le_refl _⟩ (by decide +kernel) rfl (fun X hl hin T hR e => ?_)
  have T : cOK X E cJ6_checkBoundsBeginEnd RJ6 3 none _ _ _ _ := T
  have hX := T.1
  show cW X _ _ s 0 [(0, .int x0), (1, .int x1), (2, .int x2)] []
  refine cw (k_iload_n hX dJ6_checkBoundsBeginEnd_0 rfl 0 rfl) ?_
  refine cw (k_iload_n hX dJ6_checkBoundsBeginEnd_1 rfl 1 rfl) ?_
  refine cw (k_iload_n hX dJ6_checkBoundsBeginEnd_2 rfl 2 rfl) ?_
  refine cw (k_gets T.2.1 hX T.2.2.2.2.2.2.2.2.2.2.2.2.2.1 q659 (fun _ h9 => h9) dJ6_checkBoundsBeginEnd_3) ?_
  refine cX_J6_1062 T met_FJ9_checkFromToIndex (c_room hR rfl rfl) h rfl dJ6_checkBoundsBeginEnd_6 (fun v1 h => ?_)
  refine cw (k_pop hX dJ6_checkBoundsBeginEnd_9 rfl) ?_
  exact c_ret_vr (z := ()) T e dJ6_checkBoundsBeginEnd_10
theorem FJ9_checkFromIndexSize_b15_ok {X : KC CS} {E : CE} {z : Int32} {z0 l0 z1 l1 : Nat} {s : CS} (T : cOK X E cJ9_checkFromIndexSize RJ9 4 (some .int) z0 l0 z1 l1) (hR : cRoom X 0 0) (e : cE_i X E z0 l0 z1 l1 z s) {x0 : Int32} {x1 : Int32} {x2 : Int32} {x3 : (Option Nat)} (h : FJ9_checkFromIndexSize_b15 s x0 x1 x2 x3 = some z) : cW X z1 l1 s 15 [(0, .int x0), (1, .int x1), (2, .int x2), (3, va_rf x3)] [] := by
  unfold FJ9_checkFromIndexSize_b15 at h
  have hX := T.1
  refine cw (k_aload_nO hX dJ9_checkFromIndexSize_15 rfl 3 rfl) ?_
  refine cw (k_iload_n hX dJ9_checkFromIndexSize_16 rfl 0 rfl) ?_
  refine cw (k_iload_n hX dJ9_checkFromIndexSize_17 rfl 1 rfl) ?_
  refine cw (k_iload_n hX dJ9_checkFromIndexSize_18 rfl 2 rfl) ?_
  cases h
theorem met_FJ9_checkFromIndexSize {l : Launch} {E : CE} {s : CS} : ∀ (x0 : Int32) (x1 : Int32) (x2 : Int32) (x3 : (Option Nat)) (z : Int32), FJ9_checkFromIndexSize s x0 x1 x2 x3 = some z → cMet_i l E yJ9_checkFromIndexSize (ws_ yJ9_checkFromIndexSize cJ9_checkFromIndexSize 4 (some .int)) 0 0 [.int x0, .int x1, .int x2, va_rf x3] s z s := by
  intro x0 x1 x2 x3 z h
  unfold FJ9_checkFromIndexSize at h
  refine c_met_i ⟨Nat.le_refl _, Nat.le_refl _⟩ (by decide +kernel) (by cases x3 <;> rfl) (fun X hl hin T hR e => ?_)
  have T : cOK X E cJ9_checkFromIndexSize RJ9 4 (some .int) _ _ _ _ := T
  have hX := T.1
  show cW X _ _ s 0 [(0, .int x0), (1, .int x1), (2, .int x2), (3, va_rf x3)] []
  refine cw (k_iload_n hX dJ9_checkFromIndexSize_0 rfl 2 rfl) ?_
  refine cw (k_iload_n hX dJ9_checkFromIndexSize_1 rfl 0 rfl) ?_
  refine cw (k_ior hX dJ9_checkFromIndexSize_2) ?_
  refine cw (k_iload_n hX dJ9_checkFromIndexSize_3 rfl 1 rfl) ?_
  refine cw (k_ior hX dJ9_checkFromIndexSize_4) ?_
  refine c_br h (k_if_lt (tgt := 15) hX h dJ9_checkFromIndexSize_5 (by decide)) (fun h => ?_) (fun h => ?_)
  · refine cw (k_lv (lv' := [(0, .int x0), (1, .int x1), (2, .int x2), (3, va_rf x3)]) [0, 1, 2, 3] rfl) ?_
    exact FJ9_checkFromIndexSize_b15_ok T hR e h
  · refine cw (k_iload_n hX dJ9_checkFromIndexSize_8 rfl 1 rfl) ?_
    refine cw (k_iload_n hX dJ9_checkFromIndexSize_9 rfl 2 rfl) ?_
    refine cw (k_iload_n hX dJ9_checkFromIndexSize_10 rfl 0 rfl) ?_
    refine cw (k_isub hX dJ9_checkFromIndexSize_11) ?_
    refine c_br h (k_icmp_le (tgt := 23) hX h dJ9_checkFromIndexSize_12 (by decide)) (fun h => ?_) (fun h => ?_)
    · refine cw (k_iload_n hX dJ9_checkFromIndexSize_23 rfl 0 rfl) ?_
      exact c_ret_ir T e h dJ9_checkFromIndexSize_24
    · refine cw (k_lv (lv' := [(0, .int x0), (1, .int x1), (2, .int x2), (3, va_rf x3)]) [0, 1, 2, 3] rfl) ?_
      exact FJ9_checkFromIndexSize_b15_ok T hR e h
theorem met_FJ6_checkBoundsOffCount {l : Launch} {E : CE} {s : CS} : ∀ (x0 : Int32) (x1 : Int32) (x2 : Int32) (z : Int32), FJ6_checkBoundsOffCount E.2.2.2 s x0 x1 x2 = some z → cMet_i l E yJ6_checkBoundsOffCount (ws_ yJ6_checkBoundsOffCount cJ6_checkBoundsOffCount 3 (some .int)) 1 23 [.int x0, .int x1, .int x2] s z s := by
  intro x0 x1 x2 z h
  unfold FJ6_checkBoundsOffCount at h
  refine c_met_i ⟨Nat.le_refl _, Nat.le_refl _⟩ (by decide +kernel) rfl (fun X hl hin T hR e => ?_)
  have T : cOK X E cJ6_checkBoundsOffCount RJ6 3 (some .int) _ _ _ _ := T
  have hX := T.1
  show cW X _ _ s 0 [(0, .int x0), (1, .int x1), (2, .int x2)] []
  refine cw (k_iload_n hX dJ6_checkBoundsOffCount_0 rfl 0 rfl) ?_
  refine cw (k_iload_n hX dJ6_checkBoundsOffCount_1 rfl 1 rfl) ?_
  refine cw (k_iload_n hX dJ6_checkBoundsOffCount_2 rfl 2 rfl) ?_
  refine cw (k_gets T.2.1 hX T.2.2.2.2.2.2.2.2.2.2.2.2.2.1 q659 (fun _ h9 => h9) dJ6_checkBoundsOffCount_3) ?_
  refine cX_J6_1065 T met_FJ9_checkFromIndexSize (c_room hR rfl rfl) h rfl dJ6_checkBoundsOffCount_6 (fun v1 h => ?_)
  exact c_ret_ir T e h dJ6_checkBoundsOffCount_9
theorem met_FJ11_init {l : Launch} {E : CE} : ∀ (x0 : Nat) (s : CS) (z : CS), FJ11_init E.2.2.2 x0 s = some z → cMet_v l E yJ11_init (ws_ yJ11_init cJ11_init 1 none) 1 40 [.ref x0] s z := by
  intro x0 s z h
  unfold FJ11_init at h
  obtain ⟨hm, h⟩ := mz_of h
  refine c_met_v hm (by decide +kernel) rfl (fun X hl hin T hR e => ?_)
  have T : cOK X E cJ11_init RJ11 1 none _ _ _ _ := T
  have hX := T.1
  show cW X _ _ s 0 [(0, .ref x0)] []
  refine cw (k_aload_n hX dJ11_init_0 rfl 0 rfl) ?_
  refine cw (k_objInit hX hR q760 q183 q184 rfl dJ11_init_1) ?_
  refine cw (k_aload_n hX dJ11_init_4 rfl 0 rfl) ?_
  refine cw (k_aload_n hX dJ11_init_5 rfl 0 rfl) ?_
  refine cp_J11_7 T h dJ11_init_6 (fun s1 h => ?_)
  refine cw (k_aload_n hX dJ11_init_9 rfl 0 rfl) ?_
  refine cw (k_gets T.2.1 hX T.2.2.2.2.2.2.2.2.2.2.2.1 q761 (fun _ h9 => h9) dJ11_init_10) ?_
  refine cp_J11_17o T h dJ11_init_13 (fun s2 h => ?_)
  refine cw (k_aload_n hX dJ11_init_16 rfl 0 rfl) ?_
  refine cw (k_gets T.2.1 hX T.2.2.2.2.2.2.2.2.2.2.2.2.1 q763 (fun _ h9 => h9) dJ11_init_17) ?_
  refine cp_J11_24o T h dJ11_init_20 (fun s3 h => ?_)
  refine cw (k_aload_n hX dJ11_init_23 rfl 0 rfl) ?_
  cases h
