/-! THE TWIN's walks and contracts (printed by gen/gen_t.py) -/
set_option maxRecDepth 100000
theorem T_walk_b192_s_ok {X : KC TS} {E : TE} {z : (Int32 × TS)} (T : tOK X E cX9_walk 5 (some .int)) (hR : tRoom X 3 66) (e : tE_i X E z.1 z.2) {nf : Nat} {k192 : Int32 → Int32 → TS → Option (Int32 × TS)} (hk192 : ∀ (x1 : Int32) (x4 : Int32) (τ : TS), k192 x1 x4 τ = some z → kW X τ 192 [(0, .ref (E.2.2.2.2.1 0)), (1, .int x1), (4, .int x4)] []) {x1 : Int32} {x4 : Int32} {τ : TS} (h : T_walk_b192_s nf k192 x1 x4 τ = some z) : kW X τ 192 [(0, .ref (E.2.2.2.2.1 0)), (1, .int x1), (4, .int x4)] [] := by
  unfold T_walk_b192_s at h
  have hX := T.1
  refine k_iload hX dX9_walk_192 2 rfl ?_
  refine k_iconst (v := 2) hX dX9_walk_194 (by decide) ?_
  refine k_iload_n hX dX9_walk_195 rfl 1 rfl ?_
  refine k_imul hX dX9_walk_196 ?_
  refine k_icmp_ge (tgt := 225) hX h dX9_walk_197 (by decide) (fun h => ?_) (fun h => ?_)
  · refine k_iconst (v := 0) hX dX9_walk_225 (by decide) ?_
    exact t_ret_i T e h dX9_walk_226
  · refine k_aload_n hX dX9_walk_200 rfl 0 rfl ?_
    refine tg16 T dX9_walk_201 ?_
    refine k_iconst (v := 1) hX dX9_walk_204 (by decide) ?_
    refine k_iload hX dX9_walk_205 2 rfl ?_
    refine k_iadd hX dX9_walk_207 ?_
    refine k_aload_n hX dX9_walk_208 rfl 0 rfl ?_
    refine tg16 T dX9_walk_209 ?_
    refine k_bipush (v := 30) hX dX9_walk_212 (by decide) ?_
    refine k_iload hX dX9_walk_214 2 rfl ?_
    refine k_iadd hX dX9_walk_216 ?_
    refine ta16 T h dX9_walk_217 (fun v1 h => ?_)
    refine ts16 T h dX9_walk_218 (fun τ2 h => ?_)
    refine k_iinc (j := 2) [(4, .int (x4 + 1)), (0, .ref (E.2.2.2.2.1 0)), (1, .int x1)] hX dX9_walk_219 rfl rfl rfl rfl ?_
    refine k_goto (tgt := 192) hX dX9_walk_222 (by decide) ?_
    refine k_lv [1, 2, 0] rfl ?_
    exact hk192 _ _ _ h
theorem T_walk_b192_ok {X : KC TS} {E : TE} {z : (Int32 × TS)} (T : tOK X E cX9_walk 5 (some .int)) (hR : tRoom X 3 66) (e : tE_i X E z.1 z.2) {nf : Nat} : ∀ (n : Nat) (x1 : Int32) (x4 : Int32) (τ : TS), T_walk_b192 nf n x1 x4 τ = some z → kW X τ 192 [(0, .ref (E.2.2.2.2.1 0)), (1, .int x1), (4, .int x4)] [] := by
  intro n
  induction n with
  | zero => intro x1 x4 τ h; exact (nomatch (show (none : Option (Int32 × TS)) = some z from h))
  | succ n ih =>
    intro x1 x4 τ h
    have h : T_walk_b192_s nf (T_walk_b192 nf n) x1 x4 τ = some z := h
    exact T_walk_b192_s_ok T hR e ih h
theorem T_walk_b170_ok {X : KC TS} {E : TE} {z : (Int32 × TS)} (T : tOK X E cX9_walk 5 (some .int)) (hR : tRoom X 3 66) (e : tE_i X E z.1 z.2) {nf : Nat} {x1 : Int32} {τ : TS} (h : T_walk_b170 nf x1 τ = some z) : kW X τ 170 [(0, .ref (E.2.2.2.2.1 0)), (1, .int x1)] [] := by
  unfold T_walk_b170 at h
  have hX := T.1
  refine k_aload_n hX dX9_walk_170 rfl 0 rfl ?_
  refine tg8 T dX9_walk_171 ?_
  refine k_if_le (tgt := 182) hX h dX9_walk_174 (by decide) (fun h => ?_) (fun h => ?_)
  · refine k_aload_n hX dX9_walk_182 rfl 0 rfl ?_
    refine tg16 T dX9_walk_183 ?_
    refine k_iconst (v := 0) hX dX9_walk_186 (by decide) ?_
    refine k_iload_n hX dX9_walk_187 rfl 1 rfl ?_
    refine ts16 T h dX9_walk_188 (fun τ1 h => ?_)
    refine k_iconst (v := 0) hX dX9_walk_189 (by decide) ?_
    refine k_istore [(4, .int 0), (0, .ref (E.2.2.2.2.1 0)), (1, .int x1)] hX dX9_walk_190 rfl rfl ?_
    refine k_lv [1, 2, 0] rfl ?_
    exact T_walk_b192_ok T hR e _ _ _ _ h
  · refine k_aload_n hX dX9_walk_177 rfl 0 rfl ?_
    refine tg8 T dX9_walk_178 ?_
    exact t_ret_i T e h dX9_walk_181
theorem T_walk_b161_ok {X : KC TS} {E : TE} {z : (Int32 × TS)} (T : tOK X E cX9_walk 5 (some .int)) (hR : tRoom X 3 66) (e : tE_i X E z.1 z.2) {nf : Nat} {k15 : Int32 → Int32 → Int32 → TS → Option (Int32 × TS)} (hk15 : ∀ (x1 : Int32) (x2 : Int32) (x3 : Int32) (τ : TS), k15 x1 x2 x3 τ = some z → kW X τ 15 [(0, .ref (E.2.2.2.2.1 0)), (1, .int x1), (2, .int x2), (3, .int x3)] []) {x1 : Int32} {x2 : Int32} {x3 : Int32} {τ : TS} (h : T_walk_b161 nf k15 x1 x2 x3 τ = some z) : kW X τ 161 [(0, .ref (E.2.2.2.2.1 0)), (1, .int x1), (2, .int x2), (3, .int x3)] [] := by
  unfold T_walk_b161 at h
  have hX := T.1
  refine k_aload_n hX dX9_walk_161 rfl 0 rfl ?_
  refine k_bipush (v := 59) hX dX9_walk_162 (by decide) ?_
  refine cX_takeSign T (met_takeSign T.2.1) (room_le hR rfl rfl) h rfl dX9_walk_164 (fun τ1 h => ?_)
  refine k_goto (tgt := 15) hX dX9_walk_167 (by decide) ?_
  refine k_lv [0, 1, 2, 3] rfl ?_
  exact hk15 _ _ _ _ h
theorem T_walk_b97_ok {X : KC TS} {E : TE} {z : (Int32 × TS)} (T : tOK X E cX9_walk 5 (some .int)) (hR : tRoom X 3 66) (e : tE_i X E z.1 z.2) {nf : Nat} {k15 : Int32 → Int32 → Int32 → TS → Option (Int32 × TS)} (hk15 : ∀ (x1 : Int32) (x2 : Int32) (x3 : Int32) (τ : TS), k15 x1 x2 x3 τ = some z → kW X τ 15 [(0, .ref (E.2.2.2.2.1 0)), (1, .int x1), (2, .int x2), (3, .int x3)] []) {x1 : Int32} {x2 : Int32} {x3 : Int32} {x4 : Int32} {τ : TS} (h : T_walk_b97 nf k15 x1 x2 x3 x4 τ = some z) : kW X τ 97 [(0, .ref (E.2.2.2.2.1 0)), (1, .int x1), (2, .int x2), (3, .int x3), (4, .int x4)] [] := by
  unfold T_walk_b97 at h
  have hX := T.1
  refine k_aload_n hX dX9_walk_97 rfl 0 rfl ?_
  refine tg8 T dX9_walk_98 ?_
  refine k_if_ne (tgt := 161) hX h dX9_walk_101 (by decide) (fun h => ?_) (fun h => ?_)
  · refine k_lv [0, 1, 2, 3] rfl ?_
    exact T_walk_b161_ok T hR e hk15 h
  · refine k_aload_n hX dX9_walk_104 rfl 0 rfl ?_
    refine k_dup hX dX9_walk_105 rfl ?_
    refine tg7 T dX9_walk_106 ?_
    refine k_iconst (v := 1) hX dX9_walk_109 (by decide) ?_
    refine k_iadd hX dX9_walk_110 ?_
    refine tp7 T h dX9_walk_111 (fun τ1 h => ?_)
    refine k_aload_n hX dX9_walk_114 rfl 0 rfl ?_
    refine tg16 T dX9_walk_115 ?_
    refine k_bipush (v := 30) hX dX9_walk_118 (by decide) ?_
    refine k_iconst (v := 2) hX dX9_walk_120 (by decide) ?_
    refine k_iload_n hX dX9_walk_121 rfl 1 rfl ?_
    refine k_imul hX dX9_walk_122 ?_
    refine k_iadd hX dX9_walk_123 ?_
    refine k_iload hX dX9_walk_124 4 rfl ?_
    refine ts16 T h dX9_walk_126 (fun τ2 h => ?_)
    refine k_aload_n hX dX9_walk_127 rfl 0 rfl ?_
    refine tg16 T dX9_walk_128 ?_
    refine k_bipush (v := 31) hX dX9_walk_131 (by decide) ?_
    refine k_iconst (v := 2) hX dX9_walk_133 (by decide) ?_
    refine k_iload_n hX dX9_walk_134 rfl 1 rfl ?_
    refine k_imul hX dX9_walk_135 ?_
    refine k_iadd hX dX9_walk_136 ?_
    refine k_aload_n hX dX9_walk_137 rfl 0 rfl ?_
    refine k_iconst (v := 0) hX dX9_walk_138 (by decide) ?_
    refine k_sipush (v := 9999) hX dX9_walk_139 (by decide) ?_
    refine cX_takeNumber T (met_takeNumber T.2.1) (room_le hR rfl rfl) h rfl dX9_walk_142 (fun v4 τ3 h => ?_)
    refine ts16 T h dX9_walk_145 (fun τ5 h => ?_)
    refine k_iload_n hX dX9_walk_146 rfl 2 rfl ?_
    refine k_iconst (v := 1) hX dX9_walk_147 (by decide) ?_
    refine k_iload hX dX9_walk_148 4 rfl ?_
    refine k_isub hX dX9_walk_150 ?_
    refine k_iadd hX dX9_walk_151 ?_
    refine k_nm h (fun v6 h => ?_)
    refine k_istore_n [(2, .int v6), (0, .ref (E.2.2.2.2.1 0)), (1, .int x1), (3, .int x3), (4, .int x4)] hX dX9_walk_152 rfl rfl rfl ?_
    refine k_iload_n hX dX9_walk_153 rfl 3 rfl ?_
    refine k_iload hX dX9_walk_154 4 rfl ?_
    refine k_iadd hX dX9_walk_156 ?_
    refine k_nm h (fun v7 h => ?_)
    refine k_istore_n [(3, .int v7), (2, .int v6), (0, .ref (E.2.2.2.2.1 0)), (1, .int x1), (4, .int x4)] hX dX9_walk_157 rfl rfl rfl ?_
    refine k_iinc (j := 3) [(1, .int (x1 + 1)), (3, .int v7), (2, .int v6), (0, .ref (E.2.2.2.2.1 0)), (4, .int x4)] hX dX9_walk_158 rfl rfl rfl rfl ?_
    refine k_lv [3, 0, 2, 1] rfl ?_
    exact T_walk_b161_ok T hR e hk15 h
theorem T_walk_b78_ok {X : KC TS} {E : TE} {z : (Int32 × TS)} (T : tOK X E cX9_walk 5 (some .int)) (hR : tRoom X 3 66) (e : tE_i X E z.1 z.2) {nf : Nat} {k15 : Int32 → Int32 → Int32 → TS → Option (Int32 × TS)} (hk15 : ∀ (x1 : Int32) (x2 : Int32) (x3 : Int32) (τ : TS), k15 x1 x2 x3 τ = some z → kW X τ 15 [(0, .ref (E.2.2.2.2.1 0)), (1, .int x1), (2, .int x2), (3, .int x3)] []) {x1 : Int32} {x2 : Int32} {x3 : Int32} {x4 : Int32} {τ : TS} (h : T_walk_b78 nf k15 x1 x2 x3 x4 τ = some z) : kW X τ 78 [(0, .ref (E.2.2.2.2.1 0)), (1, .int x1), (2, .int x2), (3, .int x3), (4, .int x4)] [] := by
  unfold T_walk_b78 at h
  have hX := T.1
  refine k_aload_n hX dX9_walk_78 rfl 0 rfl ?_
  refine k_iconst (v := 2) hX dX9_walk_79 (by decide) ?_
  refine cX_wrong T (met_wrong T.2.1) (room_le hR rfl rfl) h rfl dX9_walk_80 (fun τ1 h => ?_)
  refine k_goto (tgt := 97) hX dX9_walk_83 (by decide) ?_
  refine k_lv [0, 1, 2, 3, 4] rfl ?_
  exact T_walk_b97_ok T hR e hk15 h
theorem T_walk_b15_s_ok {X : KC TS} {E : TE} {z : (Int32 × TS)} (T : tOK X E cX9_walk 5 (some .int)) (hR : tRoom X 3 66) (e : tE_i X E z.1 z.2) {nf : Nat} {k15 : Int32 → Int32 → Int32 → TS → Option (Int32 × TS)} (hk15 : ∀ (x1 : Int32) (x2 : Int32) (x3 : Int32) (τ : TS), k15 x1 x2 x3 τ = some z → kW X τ 15 [(0, .ref (E.2.2.2.2.1 0)), (1, .int x1), (2, .int x2), (3, .int x3)] []) {x1 : Int32} {x2 : Int32} {x3 : Int32} {τ : TS} (h : T_walk_b15_s nf k15 x1 x2 x3 τ = some z) : kW X τ 15 [(0, .ref (E.2.2.2.2.1 0)), (1, .int x1), (2, .int x2), (3, .int x3)] [] := by
  unfold T_walk_b15_s at h
  have hX := T.1
  refine k_aload_n hX dX9_walk_15 rfl 0 rfl ?_
  refine tg8 T dX9_walk_16 ?_
  refine k_if_ne (tgt := 170) hX h dX9_walk_19 (by decide) (fun h => ?_) (fun h => ?_)
  · refine k_lv [0, 1] rfl ?_
    exact T_walk_b170_ok T hR e h
  · refine k_aload_n hX dX9_walk_22 rfl 0 rfl ?_
    refine tg4 T dX9_walk_23 ?_
    refine k_aload_n hX dX9_walk_26 rfl 0 rfl ?_
    refine tg7 T dX9_walk_27 ?_
    refine ta4 T h dX9_walk_30 (fun v1 h => ?_)
    refine k_if_eq (tgt := 170) hX h dX9_walk_31 (by decide) (fun h => ?_) (fun h => ?_)
    · refine k_lv [0, 1] rfl ?_
      exact T_walk_b170_ok T hR e h
    · refine k_aload_n hX dX9_walk_34 rfl 0 rfl ?_
      refine k_bipush (v := 10) hX dX9_walk_35 (by decide) ?_
      refine k_iconst (v := 2) hX dX9_walk_37 (by decide) ?_
      refine cX_wordHere T (met_wordHere T.2.1) (room_le hR rfl rfl) h rfl dX9_walk_38 (fun v2 h => ?_)
      refine k_istore [(4, .int v2), (0, .ref (E.2.2.2.2.1 0)), (1, .int x1), (2, .int x2), (3, .int x3)] hX dX9_walk_41 rfl rfl ?_
      refine k_iload hX dX9_walk_43 0 rfl ?_
      refine k_if_ge (tgt := 56) hX h dX9_walk_45 (by decide) (fun h => ?_) (fun h => ?_)
      · refine k_aload_n hX dX9_walk_56 rfl 1 rfl ?_
        refine k_iload_n hX dX9_walk_57 rfl 3 rfl ?_
        refine k_iload_n hX dX9_walk_58 rfl 4 rfl ?_
        refine k_iload hX dX9_walk_59 0 rfl ?_
        refine cX_isThere T (met_isThere T.2.1) (room_le hR rfl rfl) h rfl dX9_walk_61 (fun v3 h => ?_)
        refine k_if_eq (tgt := 78) hX h dX9_walk_64 (by decide) (fun h => ?_) (fun h => ?_)
        · refine k_lv [1, 2, 3, 4, 0] rfl ?_
          exact T_walk_b78_ok T hR e hk15 h
        · refine k_aload_n hX dX9_walk_67 rfl 1 rfl ?_
          refine k_iload_n hX dX9_walk_68 rfl 3 rfl ?_
          refine k_iload_n hX dX9_walk_69 rfl 4 rfl ?_
          refine k_iload hX dX9_walk_70 0 rfl ?_
          refine cX_isBarred T (met_isBarred T.2.1) (room_le hR rfl rfl) h rfl dX9_walk_72 (fun v4 h => ?_)
          refine k_if_eq (tgt := 86) hX h dX9_walk_75 (by decide) (fun h => ?_) (fun h => ?_)
          · refine k_iload_n hX dX9_walk_86 rfl 2 rfl ?_
            refine k_bipush (v := 13) hX dX9_walk_87 (by decide) ?_
            refine k_icmp_ne (tgt := 97) hX h dX9_walk_89 (by decide) (fun h => ?_) (fun h => ?_)
            · refine k_lv [1, 2, 3, 4, 0] rfl ?_
              exact T_walk_b97_ok T hR e hk15 h
            · refine k_aload_n hX dX9_walk_92 rfl 1 rfl ?_
              refine k_iconst (v := 5) hX dX9_walk_93 (by decide) ?_
              refine cX_wrong T (met_wrong T.2.1) (room_le hR rfl rfl) h rfl dX9_walk_94 (fun τ5 h => ?_)
              refine k_lv [1, 2, 3, 4, 0] rfl ?_
              exact T_walk_b97_ok T hR e hk15 h
          · refine k_lv [1, 2, 3, 4, 0] rfl ?_
            exact T_walk_b78_ok T hR e hk15 h
      · refine k_aload_n hX dX9_walk_48 rfl 1 rfl ?_
        refine k_iconst (v := 1) hX dX9_walk_49 (by decide) ?_
        refine cX_wrong T (met_wrong T.2.1) (room_le hR rfl rfl) h rfl dX9_walk_50 (fun τ6 h => ?_)
        refine k_goto (tgt := 97) hX dX9_walk_53 (by decide) ?_
        refine k_lv [1, 2, 3, 4, 0] rfl ?_
        exact T_walk_b97_ok T hR e hk15 h
theorem T_walk_b15_ok {X : KC TS} {E : TE} {z : (Int32 × TS)} (T : tOK X E cX9_walk 5 (some .int)) (hR : tRoom X 3 66) (e : tE_i X E z.1 z.2) {nf : Nat} : ∀ (n : Nat) (x1 : Int32) (x2 : Int32) (x3 : Int32) (τ : TS), T_walk_b15 nf n x1 x2 x3 τ = some z → kW X τ 15 [(0, .ref (E.2.2.2.2.1 0)), (1, .int x1), (2, .int x2), (3, .int x3)] [] := by
  intro n
  induction n with
  | zero => intro x1 x2 x3 τ h; exact (nomatch (show (none : Option (Int32 × TS)) = some z from h))
  | succ n ih =>
    intro x1 x2 x3 τ h
    have h : T_walk_b15_s nf (T_walk_b15 nf n) x1 x2 x3 τ = some z := h
    exact T_walk_b15_s_ok T hR e ih h
theorem met_walk {l : Launch} {E : TE} (hE : tEnv E) {nf : Nat} : ∀ (τ : TS) (z : (Int32 × TS)), T_walk nf τ = some z → tMet_i l E yX9_walk (ws_ yX9_walk cX9_walk 5 (some .int)) 3 66 [.ref (E.2.2.2.2.1 0)] τ z.1 z.2 := by
  intro τ z h
  refine t_met_i hE (by decide +kernel) rfl rfl (fun X hl T hR e => ?_)
  unfold T_walk at h
  have hX := T.1
  show kW X τ 0 [(0, .ref (E.2.2.2.2.1 0))] []
  refine k_aload_n hX dX9_walk_0 rfl 0 rfl ?_
  refine k_iconst (v := 0) hX dX9_walk_1 (by decide) ?_
  refine tp0 T h dX9_walk_2 (fun τ1 h => ?_)
  refine k_aload_n hX dX9_walk_5 rfl 0 rfl ?_
  refine cX_cutAll T (met_cutAll T.2.1) (room_le hR rfl rfl) h rfl dX9_walk_6 (fun τ2 h => ?_)
  refine k_iconst (v := 0) hX dX9_walk_9 (by decide) ?_
  refine k_istore_n [(1, .int 0), (0, .ref (E.2.2.2.2.1 0))] hX dX9_walk_10 rfl rfl rfl ?_
  refine k_iconst (v := 0) hX dX9_walk_11 (by decide) ?_
  refine k_istore_n [(2, .int 0), (1, .int 0), (0, .ref (E.2.2.2.2.1 0))] hX dX9_walk_12 rfl rfl rfl ?_
  refine k_iconst (v := 0) hX dX9_walk_13 (by decide) ?_
  refine k_istore_n [(3, .int 0), (2, .int 0), (1, .int 0), (0, .ref (E.2.2.2.2.1 0))] hX dX9_walk_14 rfl rfl rfl ?_
  refine k_lv [3, 2, 1, 0] rfl ?_
  exact T_walk_b15_ok T hR e _ _ _ _ _ h
theorem met_isCorner {l : Launch} {E : TE} (hE : tEnv E) {τ : TS} : ∀ (x1 : Int32) (x2 : Int32) (z : Int32), T_isCorner τ x1 x2 = some z → tMet_i l E yX9_isCorner (ws_ yX9_isCorner cX9_isCorner 3 (some .boolean)) 1 20 [.ref (E.2.2.2.2.1 0), .int x1, .int x2] τ z τ := by
  intro x1 x2 z h
  refine t_met_i hE (by decide +kernel) rfl rfl (fun X hl T hR e => ?_)
  unfold T_isCorner at h
  have hX := T.1
  show kW X τ 0 [(0, .ref (E.2.2.2.2.1 0)), (1, .int x1), (2, .int x2)] []
  refine k_iload_n hX dX9_isCorner_0 rfl 1 rfl ?_
  refine k_if_lt (tgt := 28) hX h dX9_isCorner_1 (by decide) (fun h => ?_) (fun h => ?_)
  · refine k_iconst (v := 0) hX dX9_isCorner_28 (by decide) ?_
    exact t_ret_zrc T e rfl h dX9_isCorner_29
  · refine k_iload_n hX dX9_isCorner_4 rfl 1 rfl ?_
    refine k_aload_n hX dX9_isCorner_5 rfl 0 rfl ?_
    refine cX_wide T (met_wide T.2.1) (room_le hR rfl rfl) h rfl dX9_isCorner_6 (fun v1 h => ?_)
    refine k_icmp_ge (tgt := 28) hX h dX9_isCorner_9 (by decide) (fun h => ?_) (fun h => ?_)
    · refine k_iconst (v := 0) hX dX9_isCorner_28 (by decide) ?_
      exact t_ret_zrc T e rfl h dX9_isCorner_29
    · refine k_iload_n hX dX9_isCorner_12 rfl 2 rfl ?_
      refine k_if_lt (tgt := 28) hX h dX9_isCorner_13 (by decide) (fun h => ?_) (fun h => ?_)
      · refine k_iconst (v := 0) hX dX9_isCorner_28 (by decide) ?_
        exact t_ret_zrc T e rfl h dX9_isCorner_29
      · refine k_iload_n hX dX9_isCorner_16 rfl 2 rfl ?_
        refine k_aload_n hX dX9_isCorner_17 rfl 0 rfl ?_
        refine cX_deep T (met_deep T.2.1) (room_le hR rfl rfl) h rfl dX9_isCorner_18 (fun v2 h => ?_)
        refine k_icmp_ge (tgt := 28) hX h dX9_isCorner_21 (by decide) (fun h => ?_) (fun h => ?_)
        · refine k_iconst (v := 0) hX dX9_isCorner_28 (by decide) ?_
          exact t_ret_zrc T e rfl h dX9_isCorner_29
        · refine k_iconst (v := 1) hX dX9_isCorner_24 (by decide) ?_
          refine k_goto (tgt := 29) hX dX9_isCorner_25 (by decide) ?_
          exact t_ret_zrc T e rfl h dX9_isCorner_29
theorem met_kindAt {l : Launch} {E : TE} (hE : tEnv E) {τ : TS} : ∀ (x1 : Int32) (x2 : Int32) (z : Int32), T_kindAt τ x1 x2 = some z → tMet_i l E yX9_kindAt (ws_ yX9_kindAt cX9_kindAt 3 (some .int)) 0 0 [.ref (E.2.2.2.2.1 0), .int x1, .int x2] τ z τ := by
  intro x1 x2 z h
  refine t_met_i hE (by decide +kernel) rfl rfl (fun X hl T hR e => ?_)
  unfold T_kindAt at h
  have hX := T.1
  show kW X τ 0 [(0, .ref (E.2.2.2.2.1 0)), (1, .int x1), (2, .int x2)] []
  refine k_aload_n hX dX9_kindAt_0 rfl 0 rfl ?_
  refine tg10 T dX9_kindAt_1 ?_
  refine k_bipush (v := 10) hX dX9_kindAt_4 (by decide) ?_
  refine k_iconst (v := 4) hX dX9_kindAt_6 (by decide) ?_
  refine k_bipush (v := 6) hX dX9_kindAt_7 (by decide) ?_
  refine k_iload_n hX dX9_kindAt_9 rfl 2 rfl ?_
  refine k_imul hX dX9_kindAt_10 ?_
  refine k_iload_n hX dX9_kindAt_11 rfl 1 rfl ?_
  refine k_iadd hX dX9_kindAt_12 ?_
  refine k_imul hX dX9_kindAt_13 ?_
  refine k_iadd hX dX9_kindAt_14 ?_
  refine ta10 T h dX9_kindAt_15 (fun v1 h => ?_)
  refine k_iconst (v := 1) hX dX9_kindAt_16 (by decide) ?_
  refine k_isub hX dX9_kindAt_17 ?_
  exact t_ret_ir T e h dX9_kindAt_18
theorem met_isKnown {l : Launch} {E : TE} (hE : tEnv E) {τ : TS} : ∀ (x1 : Int32) (x2 : Int32) (z : Int32), T_isKnown τ x1 x2 = some z → tMet_i l E yX9_isKnown (ws_ yX9_isKnown cX9_isKnown 3 (some .boolean)) 1 22 [.ref (E.2.2.2.2.1 0), .int x1, .int x2] τ z τ := by
  intro x1 x2 z h
  refine t_met_i hE (by decide +kernel) rfl rfl (fun X hl T hR e => ?_)
  unfold T_isKnown at h
  have hX := T.1
  show kW X τ 0 [(0, .ref (E.2.2.2.2.1 0)), (1, .int x1), (2, .int x2)] []
  refine k_aload_n hX dX9_isKnown_0 rfl 0 rfl ?_
  refine k_iload_n hX dX9_isKnown_1 rfl 1 rfl ?_
  refine k_iload_n hX dX9_isKnown_2 rfl 2 rfl ?_
  refine cX_kindAt T (met_kindAt T.2.1) (room_le hR rfl rfl) h rfl dX9_isKnown_3 (fun v1 h => ?_)
  refine k_iconst (v := 1) hX dX9_isKnown_6 (by decide) ?_
  refine k_icmp_ne (tgt := 31) hX h dX9_isKnown_7 (by decide) (fun h => ?_) (fun h => ?_)
  · refine k_iconst (v := 0) hX dX9_isKnown_31 (by decide) ?_
    exact t_ret_zrc T e rfl h dX9_isKnown_32
  · refine k_aload_n hX dX9_isKnown_10 rfl 0 rfl ?_
    refine tg19 T dX9_isKnown_11 ?_
    refine k_iconst (v := 4) hX dX9_isKnown_14 (by decide) ?_
    refine k_bipush (v := 6) hX dX9_isKnown_15 (by decide) ?_
    refine k_iload_n hX dX9_isKnown_17 rfl 2 rfl ?_
    refine k_imul hX dX9_isKnown_18 ?_
    refine k_iadd hX dX9_isKnown_19 ?_
    refine k_iload_n hX dX9_isKnown_20 rfl 1 rfl ?_
    refine k_iadd hX dX9_isKnown_21 ?_
    refine ta19 T h dX9_isKnown_22 (fun v2 h => ?_)
    refine k_iconst (v := 1) hX dX9_isKnown_23 (by decide) ?_
    refine k_icmp_ne (tgt := 31) hX h dX9_isKnown_24 (by decide) (fun h => ?_) (fun h => ?_)
    · refine k_iconst (v := 0) hX dX9_isKnown_31 (by decide) ?_
      exact t_ret_zrc T e rfl h dX9_isKnown_32
    · refine k_iconst (v := 1) hX dX9_isKnown_27 (by decide) ?_
      refine k_goto (tgt := 32) hX dX9_isKnown_28 (by decide) ?_
      exact t_ret_zrc T e rfl h dX9_isKnown_32
theorem met_lightAt {l : Launch} {E : TE} (hE : tEnv E) {τ : TS} : ∀ (x1 : Int32) (x2 : Int32) (x3 : Int32) (z : Int32), T_lightAt τ x1 x2 x3 = some z → tMet_i l E yX9_lightAt (ws_ yX9_lightAt cX9_lightAt 4 (some .int)) 0 0 [.ref (E.2.2.2.2.1 0), .int x1, .int x2, .int x3] τ z τ := by
  intro x1 x2 x3 z h
  refine t_met_i hE (by decide +kernel) rfl rfl (fun X hl T hR e => ?_)
  unfold T_lightAt at h
  have hX := T.1
  show kW X τ 0 [(0, .ref (E.2.2.2.2.1 0)), (1, .int x1), (2, .int x2), (3, .int x3)] []
  refine k_aload_n hX dX9_lightAt_0 rfl 0 rfl ?_
  refine tg10 T dX9_lightAt_1 ?_
  refine k_bipush (v := 10) hX dX9_lightAt_4 (by decide) ?_
  refine k_iconst (v := 4) hX dX9_lightAt_6 (by decide) ?_
  refine k_bipush (v := 6) hX dX9_lightAt_7 (by decide) ?_
  refine k_iload_n hX dX9_lightAt_9 rfl 2 rfl ?_
  refine k_imul hX dX9_lightAt_10 ?_
  refine k_iload_n hX dX9_lightAt_11 rfl 1 rfl ?_
  refine k_iadd hX dX9_lightAt_12 ?_
  refine k_imul hX dX9_lightAt_13 ?_
  refine k_iadd hX dX9_lightAt_14 ?_
  refine k_iload_n hX dX9_lightAt_15 rfl 3 rfl ?_
  refine k_iadd hX dX9_lightAt_16 ?_
  refine ta10 T h dX9_lightAt_17 (fun v1 h => ?_)
  exact t_ret_ir T e h dX9_lightAt_18
theorem met_within {l : Launch} {E : TE} (hE : tEnv E) {τ : TS} : ∀ (x0 : Int32) (x1 : Int32) (x2 : Int32) (z : Int32), T_within τ x0 x1 x2 = some z → tMet_i l E yX9_within (ws_ yX9_within cX9_within 3 (some .boolean)) 0 0 [.int x0, .int x1, .int x2] τ z τ := by
  intro x0 x1 x2 z h
  refine t_met_i hE (by decide +kernel) rfl rfl (fun X hl T hR e => ?_)
  unfold T_within at h
  have hX := T.1
  show kW X τ 0 [(0, .int x0), (1, .int x1), (2, .int x2)] []
  refine k_iload_n hX dX9_within_0 rfl 0 rfl ?_
  refine k_iload_n hX dX9_within_1 rfl 1 rfl ?_
  refine k_icmp_lt (tgt := 14) hX h dX9_within_2 (by decide) (fun h => ?_) (fun h => ?_)
  · refine k_iconst (v := 0) hX dX9_within_14 (by decide) ?_
    exact t_ret_zrc T e rfl h dX9_within_15
  · refine k_iload_n hX dX9_within_5 rfl 0 rfl ?_
    refine k_iload_n hX dX9_within_6 rfl 2 rfl ?_
    refine k_icmp_gt (tgt := 14) hX h dX9_within_7 (by decide) (fun h => ?_) (fun h => ?_)
    · refine k_iconst (v := 0) hX dX9_within_14 (by decide) ?_
      exact t_ret_zrc T e rfl h dX9_within_15
    · refine k_iconst (v := 1) hX dX9_within_10 (by decide) ?_
      refine k_goto (tgt := 15) hX dX9_within_11 (by decide) ?_
      exact t_ret_zrc T e rfl h dX9_within_15
theorem T_light_b39_ok {X : KC TS} {E : TE} {z : (Int32 × TS)} (T : tOK X E cX9_light 4 (some .int)) (hR : tRoom X 2 44) (e : tE_i X E z.1 z.2) {x1 : Int32} {x2 : Int32} {x3 : Int32} {τ : TS} (h : T_light_b39 x1 x2 x3 τ = some z) : kW X τ 39 [(0, .ref (E.2.2.2.2.1 0)), (1, .int x1), (2, .int x2), (3, .int x3)] [] := by
  unfold T_light_b39 at h
  have hX := T.1
  refine k_iload_n hX dX9_light_39 rfl 3 rfl ?_
  refine k_iconst (v := 5) hX dX9_light_40 (by decide) ?_
  refine k_icmp_ne (tgt := 60) hX h dX9_light_41 (by decide) (fun h => ?_) (fun h => ?_)
  · refine k_iload_n hX dX9_light_60 rfl 3 rfl ?_
    refine k_if_ne (tgt := 73) hX h dX9_light_61 (by decide) (fun h => ?_) (fun h => ?_)
    · refine k_iload_n hX dX9_light_73 rfl 3 rfl ?_
      refine k_iconst (v := 4) hX dX9_light_74 (by decide) ?_
      refine k_icmp_ge (tgt := 88) hX h dX9_light_75 (by decide) (fun h => ?_) (fun h => ?_)
      · refine k_aload_n hX dX9_light_88 rfl 0 rfl ?_
        refine k_iload_n hX dX9_light_89 rfl 1 rfl ?_
        refine k_iload_n hX dX9_light_90 rfl 2 rfl ?_
        refine cX_isKnown T (met_isKnown T.2.1) (room_le hR rfl rfl) h rfl dX9_light_91 (fun v1 h => ?_)
        refine k_if_eq (tgt := 101) hX h dX9_light_94 (by decide) (fun h => ?_) (fun h => ?_)
        · refine k_iconst (v := 0) hX dX9_light_101 (by decide) ?_
          exact t_ret_i T e h dX9_light_102
        · refine k_iconst (v := 1) hX dX9_light_97 (by decide) ?_
          refine k_goto (tgt := 102) hX dX9_light_98 (by decide) ?_
          exact t_ret_i T e h dX9_light_102
      · refine k_aload_n hX dX9_light_78 rfl 0 rfl ?_
        refine k_iload_n hX dX9_light_79 rfl 1 rfl ?_
        refine k_iload_n hX dX9_light_80 rfl 2 rfl ?_
        refine k_iload_n hX dX9_light_81 rfl 3 rfl ?_
        refine cX_lightAt T (met_lightAt T.2.1) (room_le hR rfl rfl) h rfl dX9_light_82 (fun v2 h => ?_)
        refine k_goto (tgt := 102) hX dX9_light_85 (by decide) ?_
        exact t_ret_i T e h dX9_light_102
    · refine k_aload_n hX dX9_light_64 rfl 0 rfl ?_
      refine k_iload_n hX dX9_light_65 rfl 1 rfl ?_
      refine k_iload_n hX dX9_light_66 rfl 2 rfl ?_
      refine cX_kindAt T (met_kindAt T.2.1) (room_le hR rfl rfl) h rfl dX9_light_67 (fun v3 h => ?_)
      refine k_goto (tgt := 102) hX dX9_light_70 (by decide) ?_
      exact t_ret_i T e h dX9_light_102
  · refine k_aload_n hX dX9_light_44 rfl 0 rfl ?_
    refine tg10 T dX9_light_45 ?_
    refine k_sipush (v := 226) hX dX9_light_48 (by decide) ?_
    refine k_bipush (v := 6) hX dX9_light_51 (by decide) ?_
    refine k_iload_n hX dX9_light_53 rfl 2 rfl ?_
    refine k_imul hX dX9_light_54 ?_
    refine k_iadd hX dX9_light_55 ?_
    refine k_iload_n hX dX9_light_56 rfl 1 rfl ?_
    refine k_iadd hX dX9_light_57 ?_
    refine ta10 T h dX9_light_58 (fun v4 h => ?_)
    exact t_ret_i T e h dX9_light_59
theorem met_light {l : Launch} {E : TE} (hE : tEnv E) : ∀ (x1 : Int32) (x2 : Int32) (x3 : Int32) (τ : TS) (z : (Int32 × TS)), T_light x1 x2 x3 τ = some z → tMet_i l E yX9_light (ws_ yX9_light cX9_light 4 (some .int)) 2 44 [.ref (E.2.2.2.2.1 0), .int x1, .int x2, .int x3] τ z.1 z.2 := by
  intro x1 x2 x3 τ z h
  refine t_met_i hE (by decide +kernel) rfl rfl (fun X hl T hR e => ?_)
  unfold T_light at h
  have hX := T.1
  show kW X τ 0 [(0, .ref (E.2.2.2.2.1 0)), (1, .int x1), (2, .int x2), (3, .int x3)] []
  refine k_aload_n hX dX9_light_0 rfl 0 rfl ?_
  refine k_iconst (v := 0) hX dX9_light_1 (by decide) ?_
  refine tp0 T h dX9_light_2 (fun τ1 h => ?_)
  refine k_aload_n hX dX9_light_5 rfl 0 rfl ?_
  refine k_iload_n hX dX9_light_6 rfl 1 rfl ?_
  refine k_iload_n hX dX9_light_7 rfl 2 rfl ?_
  refine cX_isCorner T (met_isCorner T.2.1) (room_le hR rfl rfl) h rfl dX9_light_8 (fun v2 h => ?_)
  refine k_if_eq (tgt := 37) hX h dX9_light_11 (by decide) (fun h => ?_) (fun h => ?_)
  · refine k_iconst (v := (-1)) hX dX9_light_37 (by decide) ?_
    exact t_ret_i T e h dX9_light_38
  · refine k_iload_n hX dX9_light_14 rfl 3 rfl ?_
    refine k_iconst (v := 0) hX dX9_light_15 (by decide) ?_
    refine k_iconst (v := 5) hX dX9_light_16 (by decide) ?_
    refine cX_within T (met_within T.2.1) (room_le hR rfl rfl) h rfl dX9_light_17 (fun v3 h => ?_)
    refine k_if_eq (tgt := 37) hX h dX9_light_20 (by decide) (fun h => ?_) (fun h => ?_)
    · refine k_iconst (v := (-1)) hX dX9_light_37 (by decide) ?_
      exact t_ret_i T e h dX9_light_38
    · refine k_iload_n hX dX9_light_23 rfl 3 rfl ?_
      refine k_iconst (v := 5) hX dX9_light_24 (by decide) ?_
      refine k_icmp_ge (tgt := 39) hX h dX9_light_25 (by decide) (fun h => ?_) (fun h => ?_)
      · refine k_lv [0, 1, 2, 3] rfl ?_
        exact T_light_b39_ok T hR e h
      · refine k_aload_n hX dX9_light_28 rfl 0 rfl ?_
        refine k_iload_n hX dX9_light_29 rfl 1 rfl ?_
        refine k_iload_n hX dX9_light_30 rfl 2 rfl ?_
        refine cX_kindAt T (met_kindAt T.2.1) (room_le hR rfl rfl) h rfl dX9_light_31 (fun v4 h => ?_)
        refine k_if_ge (tgt := 39) hX h dX9_light_34 (by decide) (fun h => ?_) (fun h => ?_)
        · refine k_lv [0, 1, 2, 3] rfl ?_
          exact T_light_b39_ok T hR e h
        · refine k_iconst (v := (-1)) hX dX9_light_37 (by decide) ?_
          exact t_ret_i T e h dX9_light_38
theorem T_isGreen_b47_ok {X : KC TS} {E : TE} {z : Int32} {τ : TS} (T : tOK X E cX9_isGreen 7 (some .boolean)) (hR : tRoom X 1 23) (e : tE_i X E z τ) {x3 : Int32} {s0 : Int32} (h : T_isGreen_b47 τ x3 s0 = some z) : kW X τ 47 [(0, .ref (E.2.2.2.2.1 0)), (3, .int x3)] [.int s0] := by
  unfold T_isGreen_b47 at h
  have hX := T.1
  refine k_iload_n hX dX9_isGreen_47 rfl 1 rfl ?_
  refine k_if_ne (tgt := 55) hX h dX9_isGreen_48 (by decide) (fun h => ?_) (fun h => ?_)
  · refine k_iconst (v := 0) hX dX9_isGreen_55 (by decide) ?_
    refine k_icmp_ne (tgt := 63) hX h dX9_isGreen_56 (by decide) (fun h => ?_) (fun h => ?_)
    · refine k_iconst (v := 0) hX dX9_isGreen_63 (by decide) ?_
      exact t_ret_zrc T e rfl h dX9_isGreen_64
    · refine k_iconst (v := 1) hX dX9_isGreen_59 (by decide) ?_
      refine k_goto (tgt := 64) hX dX9_isGreen_60 (by decide) ?_
      exact t_ret_zrc T e rfl h dX9_isGreen_64
  · refine k_iconst (v := 1) hX dX9_isGreen_51 (by decide) ?_
    refine k_goto (tgt := 56) hX dX9_isGreen_52 (by decide) ?_
    refine k_icmp_ne (tgt := 63) hX h dX9_isGreen_56 (by decide) (fun h => ?_) (fun h => ?_)
    · refine k_iconst (v := 0) hX dX9_isGreen_63 (by decide) ?_
      exact t_ret_zrc T e rfl h dX9_isGreen_64
    · refine k_iconst (v := 1) hX dX9_isGreen_59 (by decide) ?_
      refine k_goto (tgt := 64) hX dX9_isGreen_60 (by decide) ?_
      exact t_ret_zrc T e rfl h dX9_isGreen_64
theorem met_isGreen {l : Launch} {E : TE} (hE : tEnv E) {τ : TS} : ∀ (x1 : Int32) (x2 : Int32) (x3 : Int32) (x4 : Int32) (z : Int32), T_isGreen τ x1 x2 x3 x4 = some z → tMet_i l E yX9_isGreen (ws_ yX9_isGreen cX9_isGreen 7 (some .boolean)) 1 23 [.ref (E.2.2.2.2.1 0), .int x1, .int x2, .int x3, .int x4] τ z τ := by
  intro x1 x2 x3 x4 z h
  refine t_met_i hE (by decide +kernel) rfl rfl (fun X hl T hR e => ?_)
  unfold T_isGreen at h
  have hX := T.1
  show kW X τ 0 [(0, .ref (E.2.2.2.2.1 0)), (1, .int x1), (2, .int x2), (3, .int x3), (4, .int x4)] []
  refine k_aload_n hX dX9_isGreen_0 rfl 0 rfl ?_
  refine k_iload_n hX dX9_isGreen_1 rfl 1 rfl ?_
  refine k_iload_n hX dX9_isGreen_2 rfl 2 rfl ?_
  refine k_iconst (v := 1) hX dX9_isGreen_3 (by decide) ?_
  refine cX_lightAt T (met_lightAt T.2.1) (room_le hR rfl rfl) h rfl dX9_isGreen_4 (fun v1 h => ?_)
  refine k_istore [(5, .int v1), (0, .ref (E.2.2.2.2.1 0)), (1, .int x1), (2, .int x2), (3, .int x3), (4, .int x4)] hX dX9_isGreen_7 rfl rfl ?_
  refine k_iload hX dX9_isGreen_9 5 rfl ?_
  refine k_aload_n hX dX9_isGreen_11 rfl 1 rfl ?_
  refine k_iload_n hX dX9_isGreen_12 rfl 2 rfl ?_
  refine k_iload_n hX dX9_isGreen_13 rfl 3 rfl ?_
  refine k_iconst (v := 2) hX dX9_isGreen_14 (by decide) ?_
  refine cX_lightAt T (met_lightAt T.2.1) (room_le hR rfl rfl) h rfl dX9_isGreen_15 (fun v2 h => ?_)
  refine k_isub hX dX9_isGreen_18 ?_
  refine k_iload hX dX9_isGreen_19 0 rfl ?_
  refine k_irem hX h dX9_isGreen_21 (fun h => ?_)
  refine k_iload hX dX9_isGreen_22 0 rfl ?_
  refine k_iadd hX dX9_isGreen_24 ?_
  refine k_iload hX dX9_isGreen_25 0 rfl ?_
  refine k_irem hX h dX9_isGreen_27 (fun h => ?_)
  refine k_nm h (fun v3 h => ?_)
  refine k_istore [(6, .int v3), (5, .int v1), (0, .ref (E.2.2.2.2.1 0)), (1, .int x1), (2, .int x2), (3, .int x3), (4, .int x4)] hX dX9_isGreen_28 rfl rfl ?_
  refine k_iload hX dX9_isGreen_30 0 rfl ?_
  refine k_aload_n hX dX9_isGreen_32 rfl 2 rfl ?_
  refine k_iload_n hX dX9_isGreen_33 rfl 3 rfl ?_
  refine k_iload_n hX dX9_isGreen_34 rfl 4 rfl ?_
  refine k_iconst (v := 3) hX dX9_isGreen_35 (by decide) ?_
  refine cX_lightAt T (met_lightAt T.2.1) (room_le hR rfl rfl) h rfl dX9_isGreen_36 (fun v4 h => ?_)
  refine k_icmp_ge (tgt := 46) hX h dX9_isGreen_39 (by decide) (fun h => ?_) (fun h => ?_)
  · refine k_iconst (v := 0) hX dX9_isGreen_46 (by decide) ?_
    refine k_lv [2, 5] rfl ?_
    exact T_isGreen_b47_ok T hR e h
  · refine k_iconst (v := 1) hX dX9_isGreen_42 (by decide) ?_
    refine k_goto (tgt := 47) hX dX9_isGreen_43 (by decide) ?_
    refine k_lv [2, 5] rfl ?_
    exact T_isGreen_b47_ok T hR e h
theorem met_isTimed {l : Launch} {E : TE} (hE : tEnv E) {τ : TS} : ∀ (x1 : Int32) (x2 : Int32) (z : Int32), T_isTimed τ x1 x2 = some z → tMet_i l E yX9_isTimed (ws_ yX9_isTimed cX9_isTimed 3 (some .boolean)) 1 22 [.ref (E.2.2.2.2.1 0), .int x1, .int x2] τ z τ := by
  intro x1 x2 z h
  refine t_met_i hE (by decide +kernel) rfl rfl (fun X hl T hR e => ?_)
  unfold T_isTimed at h
  have hX := T.1
  show kW X τ 0 [(0, .ref (E.2.2.2.2.1 0)), (1, .int x1), (2, .int x2)] []
  refine k_aload_n hX dX9_isTimed_0 rfl 0 rfl ?_
  refine k_iload_n hX dX9_isTimed_1 rfl 1 rfl ?_
  refine k_iload_n hX dX9_isTimed_2 rfl 2 rfl ?_
  refine cX_kindAt T (met_kindAt T.2.1) (room_le hR rfl rfl) h rfl dX9_isTimed_3 (fun v1 h => ?_)
  refine k_if_eq (tgt := 19) hX h dX9_isTimed_6 (by decide) (fun h => ?_) (fun h => ?_)
  · refine k_iconst (v := 1) hX dX9_isTimed_19 (by decide) ?_
    refine k_goto (tgt := 24) hX dX9_isTimed_20 (by decide) ?_
    exact t_ret_zrc T e rfl h dX9_isTimed_24
  · refine k_aload_n hX dX9_isTimed_9 rfl 0 rfl ?_
    refine k_iload_n hX dX9_isTimed_10 rfl 1 rfl ?_
    refine k_iload_n hX dX9_isTimed_11 rfl 2 rfl ?_
    refine cX_kindAt T (met_kindAt T.2.1) (room_le hR rfl rfl) h rfl dX9_isTimed_12 (fun v2 h => ?_)
    refine k_iconst (v := 1) hX dX9_isTimed_15 (by decide) ?_
    refine k_icmp_ne (tgt := 23) hX h dX9_isTimed_16 (by decide) (fun h => ?_) (fun h => ?_)
    · refine k_iconst (v := 0) hX dX9_isTimed_23 (by decide) ?_
      exact t_ret_zrc T e rfl h dX9_isTimed_24
    · refine k_iconst (v := 1) hX dX9_isTimed_19 (by decide) ?_
      refine k_goto (tgt := 24) hX dX9_isTimed_20 (by decide) ?_
      exact t_ret_zrc T e rfl h dX9_isTimed_24
theorem T_canGo_b48_ok {X : KC TS} {E : TE} {z : Int32} {τ : TS} (T : tOK X E cX9_canGo 5 (some .boolean)) (hR : tRoom X 2 44) (e : tE_i X E z τ) {x1 : Int32} {x2 : Int32} {x3 : Int32} {s0 : Int32} (h : T_canGo_b48 τ x1 x2 x3 s0 = some z) : kW X τ 48 [(0, .ref (E.2.2.2.2.1 0)), (1, .int x1), (2, .int x2), (3, .int x3)] [.int s0] := by
  unfold T_canGo_b48 at h
  have hX := T.1
  refine k_istore [(4, .int s0), (0, .ref (E.2.2.2.2.1 0)), (1, .int x1), (2, .int x2), (3, .int x3)] hX dX9_canGo_48 rfl rfl ?_
  refine k_aload_n hX dX9_canGo_50 rfl 1 rfl ?_
  refine k_iload_n hX dX9_canGo_51 rfl 2 rfl ?_
  refine k_iload_n hX dX9_canGo_52 rfl 3 rfl ?_
  refine k_iload_n hX dX9_canGo_53 rfl 4 rfl ?_
  refine cX_isThere T (met_isThere T.2.1) (room_le hR rfl rfl) h rfl dX9_canGo_54 (fun v1 h => ?_)
  refine k_if_eq (tgt := 79) hX h dX9_canGo_57 (by decide) (fun h => ?_) (fun h => ?_)
  · refine k_iconst (v := 0) hX dX9_canGo_79 (by decide) ?_
    exact t_ret_zrc T e rfl h dX9_canGo_80
  · refine k_aload_n hX dX9_canGo_60 rfl 1 rfl ?_
    refine k_iload_n hX dX9_canGo_61 rfl 2 rfl ?_
    refine k_iload_n hX dX9_canGo_62 rfl 3 rfl ?_
    refine k_iload_n hX dX9_canGo_63 rfl 4 rfl ?_
    refine cX_isBarred T (met_isBarred T.2.1) (room_le hR rfl rfl) h rfl dX9_canGo_64 (fun v2 h => ?_)
    refine k_if_ne (tgt := 79) hX h dX9_canGo_67 (by decide) (fun h => ?_) (fun h => ?_)
    · refine k_iconst (v := 0) hX dX9_canGo_79 (by decide) ?_
      exact t_ret_zrc T e rfl h dX9_canGo_80
    · refine k_iload hX dX9_canGo_70 0 rfl ?_
      refine k_if_eq (tgt := 79) hX h dX9_canGo_72 (by decide) (fun h => ?_) (fun h => ?_)
      · refine k_iconst (v := 0) hX dX9_canGo_79 (by decide) ?_
        exact t_ret_zrc T e rfl h dX9_canGo_80
      · refine k_iconst (v := 1) hX dX9_canGo_75 (by decide) ?_
        refine k_goto (tgt := 80) hX dX9_canGo_76 (by decide) ?_
        exact t_ret_zrc T e rfl h dX9_canGo_80
theorem met_canGo {l : Launch} {E : TE} (hE : tEnv E) {τ : TS} : ∀ (x1 : Int32) (x2 : Int32) (x3 : Int32) (z : Int32), T_canGo τ x1 x2 x3 = some z → tMet_i l E yX9_canGo (ws_ yX9_canGo cX9_canGo 5 (some .boolean)) 2 44 [.ref (E.2.2.2.2.1 0), .int x1, .int x2, .int x3] τ z τ := by
  intro x1 x2 x3 z h
  refine t_met_i hE (by decide +kernel) rfl rfl (fun X hl T hR e => ?_)
  unfold T_canGo at h
  have hX := T.1
  show kW X τ 0 [(0, .ref (E.2.2.2.2.1 0)), (1, .int x1), (2, .int x2), (3, .int x3)] []
  refine k_aload_n hX dX9_canGo_0 rfl 0 rfl ?_
  refine k_iload_n hX dX9_canGo_1 rfl 1 rfl ?_
  refine k_iload_n hX dX9_canGo_2 rfl 2 rfl ?_
  refine cX_isTimed T (met_isTimed T.2.1) (room_le hR rfl rfl) h rfl dX9_canGo_3 (fun v1 h => ?_)
  refine k_if_eq (tgt := 43) hX h dX9_canGo_6 (by decide) (fun h => ?_) (fun h => ?_)
  · refine k_iconst (v := 1) hX dX9_canGo_43 (by decide) ?_
    refine k_goto (tgt := 48) hX dX9_canGo_44 (by decide) ?_
    refine k_lv [0, 1, 2, 3] rfl ?_
    exact T_canGo_b48_ok T hR e h
  · refine k_iload_n hX dX9_canGo_9 rfl 3 rfl ?_
    refine k_if_ne (tgt := 26) hX h dX9_canGo_10 (by decide) (fun h => ?_) (fun h => ?_)
    · refine k_aload_n hX dX9_canGo_26 rfl 0 rfl ?_
      refine k_iload_n hX dX9_canGo_27 rfl 1 rfl ?_
      refine k_iload_n hX dX9_canGo_28 rfl 2 rfl ?_
      refine k_iconst (v := 3) hX dX9_canGo_29 (by decide) ?_
      refine cX_lightAt T (met_lightAt T.2.1) (room_le hR rfl rfl) h rfl dX9_canGo_30 (fun v2 h => ?_)
      refine k_aload_n hX dX9_canGo_33 rfl 0 rfl ?_
      refine k_iload_n hX dX9_canGo_34 rfl 1 rfl ?_
      refine k_iload_n hX dX9_canGo_35 rfl 2 rfl ?_
      refine k_iconst (v := 1) hX dX9_canGo_36 (by decide) ?_
      refine cX_lightAt T (met_lightAt T.2.1) (room_le hR rfl rfl) h rfl dX9_canGo_37 (fun v3 h => ?_)
      refine k_icmp_ge (tgt := 47) hX h dX9_canGo_40 (by decide) (fun h => ?_) (fun h => ?_)
      · refine k_iconst (v := 0) hX dX9_canGo_47 (by decide) ?_
        refine k_lv [0, 1, 2, 3] rfl ?_
        exact T_canGo_b48_ok T hR e h
      · refine k_iconst (v := 1) hX dX9_canGo_43 (by decide) ?_
        refine k_goto (tgt := 48) hX dX9_canGo_44 (by decide) ?_
        refine k_lv [0, 1, 2, 3] rfl ?_
        exact T_canGo_b48_ok T hR e h
    · refine k_aload_n hX dX9_canGo_13 rfl 0 rfl ?_
      refine k_iload_n hX dX9_canGo_14 rfl 1 rfl ?_
      refine k_iload_n hX dX9_canGo_15 rfl 2 rfl ?_
      refine k_iconst (v := 3) hX dX9_canGo_16 (by decide) ?_
      refine cX_lightAt T (met_lightAt T.2.1) (room_le hR rfl rfl) h rfl dX9_canGo_17 (fun v4 h => ?_)
      refine k_if_le (tgt := 47) hX h dX9_canGo_20 (by decide) (fun h => ?_) (fun h => ?_)
      · refine k_iconst (v := 0) hX dX9_canGo_47 (by decide) ?_
        refine k_lv [0, 1, 2, 3] rfl ?_
        exact T_canGo_b48_ok T hR e h
      · refine k_goto (tgt := 43) hX dX9_canGo_23 (by decide) ?_
        refine k_iconst (v := 1) hX dX9_canGo_43 (by decide) ?_
        refine k_goto (tgt := 48) hX dX9_canGo_44 (by decide) ?_
        refine k_lv [0, 1, 2, 3] rfl ?_
        exact T_canGo_b48_ok T hR e h
theorem met_isSecond {l : Launch} {E : TE} (hE : tEnv E) {τ : TS} : ∀ (x1 : Int32) (z : Int32), T_isSecond τ x1 = some z → tMet_i l E yX9_isSecond (ws_ yX9_isSecond cX9_isSecond 2 (some .boolean)) 1 22 [.ref (E.2.2.2.2.1 0), .int x1] τ z τ := by
  intro x1 z h
  refine t_met_i hE (by decide +kernel) rfl rfl (fun X hl T hR e => ?_)
  unfold T_isSecond at h
  have hX := T.1
  show kW X τ 0 [(0, .ref (E.2.2.2.2.1 0)), (1, .int x1)] []
  refine k_iload_n hX dX9_isSecond_0 rfl 1 rfl ?_
  refine k_iconst (v := 0) hX dX9_isSecond_1 (by decide) ?_
  refine k_ldcw (v := 1000000) hX q1982 dX9_isSecond_2 ?_
  refine cX_within T (met_within T.2.1) (room_le hR rfl rfl) h rfl dX9_isSecond_5 (fun v1 h => ?_)
  exact t_ret_zr T e h dX9_isSecond_8
theorem met_mayAsk {l : Launch} {E : TE} (hE : tEnv E) {τ : TS} : ∀ (x1 : Int32) (x2 : Int32) (x3 : Int32) (x4 : Int32) (z : Int32), T_mayAsk τ x1 x2 x3 x4 = some z → tMet_i l E yX9_mayAsk (ws_ yX9_mayAsk cX9_mayAsk 5 (some .boolean)) 3 68 [.ref (E.2.2.2.2.1 0), .int x1, .int x2, .int x3, .int x4] τ z τ := by
  intro x1 x2 x3 x4 z h
  refine t_met_i hE (by decide +kernel) rfl rfl (fun X hl T hR e => ?_)
  unfold T_mayAsk at h
  have hX := T.1
  show kW X τ 0 [(0, .ref (E.2.2.2.2.1 0)), (1, .int x1), (2, .int x2), (3, .int x3), (4, .int x4)] []
  refine k_aload_n hX dX9_mayAsk_0 rfl 0 rfl ?_
  refine k_iload_n hX dX9_mayAsk_1 rfl 1 rfl ?_
  refine k_iload_n hX dX9_mayAsk_2 rfl 2 rfl ?_
  refine cX_isCorner T (met_isCorner T.2.1) (room_le hR rfl rfl) h rfl dX9_mayAsk_3 (fun v1 h => ?_)
  refine k_if_eq (tgt := 41) hX h dX9_mayAsk_6 (by decide) (fun h => ?_) (fun h => ?_)
  · refine k_iconst (v := 0) hX dX9_mayAsk_41 (by decide) ?_
    exact t_ret_zrc T e rfl h dX9_mayAsk_42
  · refine k_iload_n hX dX9_mayAsk_9 rfl 3 rfl ?_
    refine k_iconst (v := 0) hX dX9_mayAsk_10 (by decide) ?_
    refine k_iconst (v := 1) hX dX9_mayAsk_11 (by decide) ?_
    refine cX_within T (met_within T.2.1) (room_le hR rfl rfl) h rfl dX9_mayAsk_12 (fun v2 h => ?_)
    refine k_if_eq (tgt := 41) hX h dX9_mayAsk_15 (by decide) (fun h => ?_) (fun h => ?_)
    · refine k_iconst (v := 0) hX dX9_mayAsk_41 (by decide) ?_
      exact t_ret_zrc T e rfl h dX9_mayAsk_42
    · refine k_aload_n hX dX9_mayAsk_18 rfl 0 rfl ?_
      refine k_iload hX dX9_mayAsk_19 4 rfl ?_
      refine cX_isSecond T (met_isSecond T.2.1) (room_le hR rfl rfl) h rfl dX9_mayAsk_21 (fun v3 h => ?_)
      refine k_if_eq (tgt := 41) hX h dX9_mayAsk_24 (by decide) (fun h => ?_) (fun h => ?_)
      · refine k_iconst (v := 0) hX dX9_mayAsk_41 (by decide) ?_
        exact t_ret_zrc T e rfl h dX9_mayAsk_42
      · refine k_aload_n hX dX9_mayAsk_27 rfl 0 rfl ?_
        refine k_iload_n hX dX9_mayAsk_28 rfl 1 rfl ?_
        refine k_iload_n hX dX9_mayAsk_29 rfl 2 rfl ?_
        refine k_iload_n hX dX9_mayAsk_30 rfl 3 rfl ?_
        refine cX_canGo T (met_canGo T.2.1) (room_le hR rfl rfl) h rfl dX9_mayAsk_31 (fun v4 h => ?_)
        refine k_if_eq (tgt := 41) hX h dX9_mayAsk_34 (by decide) (fun h => ?_) (fun h => ?_)
        · refine k_iconst (v := 0) hX dX9_mayAsk_41 (by decide) ?_
          exact t_ret_zrc T e rfl h dX9_mayAsk_42
        · refine k_iconst (v := 1) hX dX9_mayAsk_37 (by decide) ?_
          refine k_goto (tgt := 42) hX dX9_mayAsk_38 (by decide) ?_
          exact t_ret_zrc T e rfl h dX9_mayAsk_42
theorem T_green_b68_ok {X : KC TS} {E : TE} {z : (Int32 × TS)} (T : tOK X E cX9_green 6 (some .int)) (hR : tRoom X 4 92) (e : tE_i X E z.1 z.2) {s0 : Int32} {τ : TS} (h : T_green_b68 s0 τ = some z) : kW X τ 68 [(0, .ref (E.2.2.2.2.1 0))] [.int s0] := by
  unfold T_green_b68 at h
  have hX := T.1
  refine k_istore [(5, .int s0), (0, .ref (E.2.2.2.2.1 0))] hX dX9_green_68 rfl rfl ?_
  refine k_iload hX dX9_green_70 0 rfl ?_
  refine k_if_eq (tgt := 79) hX h dX9_green_72 (by decide) (fun h => ?_) (fun h => ?_)
  · refine k_iconst (v := 0) hX dX9_green_79 (by decide) ?_
    exact t_ret_i T e h dX9_green_80
  · refine k_iconst (v := 1) hX dX9_green_75 (by decide) ?_
    refine k_goto (tgt := 80) hX dX9_green_76 (by decide) ?_
    exact t_ret_i T e h dX9_green_80
theorem met_green {l : Launch} {E : TE} (hE : tEnv E) : ∀ (x1 : Int32) (x2 : Int32) (x3 : Int32) (x4 : Int32) (τ : TS) (z : (Int32 × TS)), T_green x1 x2 x3 x4 τ = some z → tMet_i l E yX9_green (ws_ yX9_green cX9_green 6 (some .int)) 4 92 [.ref (E.2.2.2.2.1 0), .int x1, .int x2, .int x3, .int x4] τ z.1 z.2 := by
  intro x1 x2 x3 x4 τ z h
  refine t_met_i hE (by decide +kernel) rfl rfl (fun X hl T hR e => ?_)
  unfold T_green at h
  have hX := T.1
  show kW X τ 0 [(0, .ref (E.2.2.2.2.1 0)), (1, .int x1), (2, .int x2), (3, .int x3), (4, .int x4)] []
  refine k_aload_n hX dX9_green_0 rfl 0 rfl ?_
  refine k_iconst (v := 0) hX dX9_green_1 (by decide) ?_
  refine tp0 T h dX9_green_2 (fun τ1 h => ?_)
  refine k_aload_n hX dX9_green_5 rfl 0 rfl ?_
  refine k_iload_n hX dX9_green_6 rfl 1 rfl ?_
  refine k_iload_n hX dX9_green_7 rfl 2 rfl ?_
  refine k_iload_n hX dX9_green_8 rfl 3 rfl ?_
  refine k_iload hX dX9_green_9 4 rfl ?_
  refine cX_mayAsk T (met_mayAsk T.2.1) (room_le hR rfl rfl) h rfl dX9_green_11 (fun v2 h => ?_)
  refine k_if_ne (tgt := 19) hX h dX9_green_14 (by decide) (fun h => ?_) (fun h => ?_)
  · refine k_aload_n hX dX9_green_19 rfl 0 rfl ?_
    refine k_iload_n hX dX9_green_20 rfl 1 rfl ?_
    refine k_iload_n hX dX9_green_21 rfl 2 rfl ?_
    refine cX_kindAt T (met_kindAt T.2.1) (room_le hR rfl rfl) h rfl dX9_green_22 (fun v3 h => ?_)
    refine k_iconst (v := 2) hX dX9_green_25 (by decide) ?_
    refine k_icmp_ne (tgt := 42) hX h dX9_green_26 (by decide) (fun h => ?_) (fun h => ?_)
    · refine k_aload_n hX dX9_green_42 rfl 0 rfl ?_
      refine k_iload_n hX dX9_green_43 rfl 1 rfl ?_
      refine k_iload_n hX dX9_green_44 rfl 2 rfl ?_
      refine cX_isTimed T (met_isTimed T.2.1) (room_le hR rfl rfl) h rfl dX9_green_45 (fun v4 h => ?_)
      refine k_if_eq (tgt := 63) hX h dX9_green_48 (by decide) (fun h => ?_) (fun h => ?_)
      · refine k_iconst (v := 1) hX dX9_green_63 (by decide) ?_
        refine k_goto (tgt := 68) hX dX9_green_64 (by decide) ?_
        refine k_lv [0] rfl ?_
        exact T_green_b68_ok T hR e h
      · refine k_aload_n hX dX9_green_51 rfl 0 rfl ?_
        refine k_iload_n hX dX9_green_52 rfl 1 rfl ?_
        refine k_iload_n hX dX9_green_53 rfl 2 rfl ?_
        refine k_iload_n hX dX9_green_54 rfl 3 rfl ?_
        refine k_iload hX dX9_green_55 4 rfl ?_
        refine cX_isGreen T (met_isGreen T.2.1) (room_le hR rfl rfl) h rfl dX9_green_57 (fun v5 h => ?_)
        refine k_if_eq (tgt := 67) hX h dX9_green_60 (by decide) (fun h => ?_) (fun h => ?_)
        · refine k_iconst (v := 0) hX dX9_green_67 (by decide) ?_
          refine k_lv [0] rfl ?_
          exact T_green_b68_ok T hR e h
        · refine k_iconst (v := 1) hX dX9_green_63 (by decide) ?_
          refine k_goto (tgt := 68) hX dX9_green_64 (by decide) ?_
          refine k_lv [0] rfl ?_
          exact T_green_b68_ok T hR e h
    · refine k_iload_n hX dX9_green_29 rfl 3 rfl ?_
      refine k_iconst (v := 1) hX dX9_green_30 (by decide) ?_
      refine k_icmp_ne (tgt := 38) hX h dX9_green_31 (by decide) (fun h => ?_) (fun h => ?_)
      · refine k_iconst (v := 0) hX dX9_green_38 (by decide) ?_
        refine k_goto (tgt := 68) hX dX9_green_39 (by decide) ?_
        refine k_lv [0] rfl ?_
        exact T_green_b68_ok T hR e h
      · refine k_iconst (v := 1) hX dX9_green_34 (by decide) ?_
        refine k_goto (tgt := 68) hX dX9_green_35 (by decide) ?_
        refine k_lv [0] rfl ?_
        exact T_green_b68_ok T hR e h
  · refine k_iconst (v := (-1)) hX dX9_green_17 (by decide) ?_
    exact t_ret_i T e h dX9_green_18
theorem T_waitFor_b29_s_ok {X : KC TS} {E : TE} {z : Int32} {τ : TS} (T : tOK X E cX9_waitFor 6 (some .int)) (hR : tRoom X 2 49) (e : tE_i X E z τ) {nf : Nat} {k29 : Int32 → Int32 → Int32 → Int32 → Int32 → Option Int32} (hk29 : ∀ (x1 : Int32) (x2 : Int32) (x3 : Int32) (x4 : Int32) (x5 : Int32), k29 x1 x2 x3 x4 x5 = some z → kW X τ 29 [(0, .ref (E.2.2.2.2.1 0)), (1, .int x1), (2, .int x2), (3, .int x3), (4, .int x4), (5, .int x5)] []) {x1 : Int32} {x2 : Int32} {x3 : Int32} {x4 : Int32} {x5 : Int32} (h : T_waitFor_b29_s nf τ k29 x1 x2 x3 x4 x5 = some z) : kW X τ 29 [(0, .ref (E.2.2.2.2.1 0)), (1, .int x1), (2, .int x2), (3, .int x3), (4, .int x4), (5, .int x5)] [] := by
  unfold T_waitFor_b29_s at h
  have hX := T.1
  refine k_aload_n hX dX9_waitFor_29 rfl 0 rfl ?_
  refine k_iload_n hX dX9_waitFor_30 rfl 1 rfl ?_
  refine k_iload_n hX dX9_waitFor_31 rfl 2 rfl ?_
  refine cX_isTimed T (met_isTimed T.2.1) (room_le hR rfl rfl) h rfl dX9_waitFor_32 (fun v1 h => ?_)
  refine k_if_eq (tgt := 59) hX h dX9_waitFor_35 (by decide) (fun h => ?_) (fun h => ?_)
  · refine k_iload hX dX9_waitFor_59 5 rfl ?_
    exact t_ret_ir T e h dX9_waitFor_61
  · refine k_aload_n hX dX9_waitFor_38 rfl 0 rfl ?_
    refine k_iload_n hX dX9_waitFor_39 rfl 1 rfl ?_
    refine k_iload_n hX dX9_waitFor_40 rfl 2 rfl ?_
    refine k_iload_n hX dX9_waitFor_41 rfl 3 rfl ?_
    refine k_iload hX dX9_waitFor_42 4 rfl ?_
    refine k_iload hX dX9_waitFor_44 5 rfl ?_
    refine k_iadd hX dX9_waitFor_46 ?_
    refine cX_isGreen T (met_isGreen T.2.1) (room_le hR rfl rfl) h rfl dX9_waitFor_47 (fun v2 h => ?_)
    refine k_if_ne (tgt := 59) hX h dX9_waitFor_50 (by decide) (fun h => ?_) (fun h => ?_)
    · refine k_iload hX dX9_waitFor_59 5 rfl ?_
      exact t_ret_ir T e h dX9_waitFor_61
    · refine k_iinc (j := 5) [(5, .int (x5 + 1)), (0, .ref (E.2.2.2.2.1 0)), (1, .int x1), (2, .int x2), (3, .int x3), (4, .int x4)] hX dX9_waitFor_53 rfl rfl rfl rfl ?_
      refine k_goto (tgt := 29) hX dX9_waitFor_56 (by decide) ?_
      refine k_lv [1, 2, 3, 4, 5, 0] rfl ?_
      exact hk29 _ _ _ _ _ h
theorem T_waitFor_b29_ok {X : KC TS} {E : TE} {z : Int32} {τ : TS} (T : tOK X E cX9_waitFor 6 (some .int)) (hR : tRoom X 2 49) (e : tE_i X E z τ) {nf : Nat} : ∀ (n : Nat) (x1 : Int32) (x2 : Int32) (x3 : Int32) (x4 : Int32) (x5 : Int32), T_waitFor_b29 nf τ n x1 x2 x3 x4 x5 = some z → kW X τ 29 [(0, .ref (E.2.2.2.2.1 0)), (1, .int x1), (2, .int x2), (3, .int x3), (4, .int x4), (5, .int x5)] [] := by
  intro n
  induction n with
  | zero => intro x1 x2 x3 x4 x5 h; exact (nomatch (show (none : Option Int32) = some z from h))
  | succ n ih =>
    intro x1 x2 x3 x4 x5 h
    have h : T_waitFor_b29_s nf τ (T_waitFor_b29 nf τ n) x1 x2 x3 x4 x5 = some z := h
    exact T_waitFor_b29_s_ok T hR e ih h
theorem met_waitFor {l : Launch} {E : TE} (hE : tEnv E) {nf : Nat} {τ : TS} : ∀ (x1 : Int32) (x2 : Int32) (x3 : Int32) (x4 : Int32) (z : Int32), T_waitFor nf τ x1 x2 x3 x4 = some z → tMet_i l E yX9_waitFor (ws_ yX9_waitFor cX9_waitFor 6 (some .int)) 2 49 [.ref (E.2.2.2.2.1 0), .int x1, .int x2, .int x3, .int x4] τ z τ := by
  intro x1 x2 x3 x4 z h
  refine t_met_i hE (by decide +kernel) rfl rfl (fun X hl T hR e => ?_)
  unfold T_waitFor at h
  have hX := T.1
  show kW X τ 0 [(0, .ref (E.2.2.2.2.1 0)), (1, .int x1), (2, .int x2), (3, .int x3), (4, .int x4)] []
  refine k_aload_n hX dX9_waitFor_0 rfl 0 rfl ?_
  refine k_iload_n hX dX9_waitFor_1 rfl 1 rfl ?_
  refine k_iload_n hX dX9_waitFor_2 rfl 2 rfl ?_
  refine cX_kindAt T (met_kindAt T.2.1) (room_le hR rfl rfl) h rfl dX9_waitFor_3 (fun v1 h => ?_)
  refine k_iconst (v := 2) hX dX9_waitFor_6 (by decide) ?_
  refine k_icmp_ne (tgt := 26) hX h dX9_waitFor_7 (by decide) (fun h => ?_) (fun h => ?_)
  · refine k_iconst (v := 0) hX dX9_waitFor_26 (by decide) ?_
    refine k_istore [(5, .int 0), (0, .ref (E.2.2.2.2.1 0)), (1, .int x1), (2, .int x2), (3, .int x3), (4, .int x4)] hX dX9_waitFor_27 rfl rfl ?_
    refine k_lv [1, 2, 3, 4, 5, 0] rfl ?_
    exact T_waitFor_b29_ok T hR e _ _ _ _ _ _ h
  · refine k_iload_n hX dX9_waitFor_10 rfl 3 rfl ?_
    refine k_if_ne (tgt := 24) hX h dX9_waitFor_11 (by decide) (fun h => ?_) (fun h => ?_)
    · refine k_iconst (v := 0) hX dX9_waitFor_24 (by decide) ?_
      exact t_ret_ir T e h dX9_waitFor_25
    · refine k_aload_n hX dX9_waitFor_14 rfl 0 rfl ?_
      refine k_iload_n hX dX9_waitFor_15 rfl 1 rfl ?_
      refine k_iload_n hX dX9_waitFor_16 rfl 2 rfl ?_
      refine k_iconst (v := 2) hX dX9_waitFor_17 (by decide) ?_
      refine cX_lightAt T (met_lightAt T.2.1) (room_le hR rfl rfl) h rfl dX9_waitFor_18 (fun v2 h => ?_)
      refine k_goto (tgt := 25) hX dX9_waitFor_21 (by decide) ?_
      exact t_ret_ir T e h dX9_waitFor_25
theorem met_until {l : Launch} {E : TE} (hE : tEnv E) {nf : Nat} : ∀ (x1 : Int32) (x2 : Int32) (x3 : Int32) (x4 : Int32) (τ : TS) (z : (Int32 × TS)), T_until nf x1 x2 x3 x4 τ = some z → tMet_i l E yX9_until (ws_ yX9_until cX9_until 5 (some .int)) 4 92 [.ref (E.2.2.2.2.1 0), .int x1, .int x2, .int x3, .int x4] τ z.1 z.2 := by
  intro x1 x2 x3 x4 τ z h
  refine t_met_i hE (by decide +kernel) rfl rfl (fun X hl T hR e => ?_)
  unfold T_until at h
  have hX := T.1
  show kW X τ 0 [(0, .ref (E.2.2.2.2.1 0)), (1, .int x1), (2, .int x2), (3, .int x3), (4, .int x4)] []
  refine k_aload_n hX dX9_until_0 rfl 0 rfl ?_
  refine k_iconst (v := 0) hX dX9_until_1 (by decide) ?_
  refine tp0 T h dX9_until_2 (fun τ1 h => ?_)
  refine k_aload_n hX dX9_until_5 rfl 0 rfl ?_
  refine k_iload_n hX dX9_until_6 rfl 1 rfl ?_
  refine k_iload_n hX dX9_until_7 rfl 2 rfl ?_
  refine k_iload_n hX dX9_until_8 rfl 3 rfl ?_
  refine k_iload hX dX9_until_9 4 rfl ?_
  refine cX_mayAsk T (met_mayAsk T.2.1) (room_le hR rfl rfl) h rfl dX9_until_11 (fun v2 h => ?_)
  refine k_if_eq (tgt := 29) hX h dX9_until_14 (by decide) (fun h => ?_) (fun h => ?_)
  · refine k_iconst (v := (-1)) hX dX9_until_29 (by decide) ?_
    exact t_ret_i T e h dX9_until_30
  · refine k_aload_n hX dX9_until_17 rfl 0 rfl ?_
    refine k_iload_n hX dX9_until_18 rfl 1 rfl ?_
    refine k_iload_n hX dX9_until_19 rfl 2 rfl ?_
    refine k_iload_n hX dX9_until_20 rfl 3 rfl ?_
    refine k_iload hX dX9_until_21 4 rfl ?_
    refine cX_waitFor T (met_waitFor T.2.1) (room_le hR rfl rfl) h rfl dX9_until_23 (fun v3 h => ?_)
    refine k_goto (tgt := 30) hX dX9_until_26 (by decide) ?_
    exact t_ret_i T e h dX9_until_30
theorem T_copies_b3_s_ok {X : KC TS} {E : TE} {z : TS} (T : tOK X E cX9_copies 5 none) (hR : tRoom X 0 0) (e : tE_v X E z) {nf : Nat} {k3 : Int32 → Int32 → Int32 → Int32 → TS → Option TS} (hk3 : ∀ (x1 : Int32) (x2 : Int32) (x3 : Int32) (x4 : Int32) (τ : TS), k3 x1 x2 x3 x4 τ = some z → kW X τ 3 [(0, .ref (E.2.2.2.2.1 0)), (1, .int x1), (2, .int x2), (3, .int x3), (4, .int x4)] []) {x1 : Int32} {x2 : Int32} {x3 : Int32} {x4 : Int32} {τ : TS} (h : T_copies_b3_s nf k3 x1 x2 x3 x4 τ = some z) : kW X τ 3 [(0, .ref (E.2.2.2.2.1 0)), (1, .int x1), (2, .int x2), (3, .int x3), (4, .int x4)] [] := by
  unfold T_copies_b3_s at h
  have hX := T.1
  refine k_iload hX dX9_copies_3 4 rfl ?_
  refine k_iload_n hX dX9_copies_5 rfl 3 rfl ?_
  refine k_icmp_ge (tgt := 39) hX h dX9_copies_6 (by decide) (fun h => ?_) (fun h => ?_)
  · exact t_ret_v T e h dX9_copies_39
  · refine k_aload_n hX dX9_copies_9 rfl 0 rfl ?_
    refine tg19 T dX9_copies_10 ?_
    refine k_bipush (v := 120) hX dX9_copies_13 (by decide) ?_
    refine k_iload_n hX dX9_copies_15 rfl 2 rfl ?_
    refine k_imul hX dX9_copies_16 ?_
    refine k_iload hX dX9_copies_17 4 rfl ?_
    refine k_iadd hX dX9_copies_19 ?_
    refine k_aload_n hX dX9_copies_20 rfl 0 rfl ?_
    refine tg19 T dX9_copies_21 ?_
    refine k_bipush (v := 120) hX dX9_copies_24 (by decide) ?_
    refine k_iload_n hX dX9_copies_26 rfl 1 rfl ?_
    refine k_imul hX dX9_copies_27 ?_
    refine k_iload hX dX9_copies_28 4 rfl ?_
    refine k_iadd hX dX9_copies_30 ?_
    refine ta19 T h dX9_copies_31 (fun v1 h => ?_)
    refine ts19 T h dX9_copies_32 (fun τ2 h => ?_)
    refine k_iinc (j := 4) [(4, .int (x4 + 1)), (0, .ref (E.2.2.2.2.1 0)), (1, .int x1), (2, .int x2), (3, .int x3)] hX dX9_copies_33 rfl rfl rfl rfl ?_
    refine k_goto (tgt := 3) hX dX9_copies_36 (by decide) ?_
    refine k_lv [1, 2, 3, 4, 0] rfl ?_
    exact hk3 _ _ _ _ _ h
theorem T_copies_b3_ok {X : KC TS} {E : TE} {z : TS} (T : tOK X E cX9_copies 5 none) (hR : tRoom X 0 0) (e : tE_v X E z) {nf : Nat} : ∀ (n : Nat) (x1 : Int32) (x2 : Int32) (x3 : Int32) (x4 : Int32) (τ : TS), T_copies_b3 nf n x1 x2 x3 x4 τ = some z → kW X τ 3 [(0, .ref (E.2.2.2.2.1 0)), (1, .int x1), (2, .int x2), (3, .int x3), (4, .int x4)] [] := by
  intro n
  induction n with
  | zero => intro x1 x2 x3 x4 τ h; exact (nomatch (show (none : Option TS) = some z from h))
  | succ n ih =>
    intro x1 x2 x3 x4 τ h
    have h : T_copies_b3_s nf (T_copies_b3 nf n) x1 x2 x3 x4 τ = some z := h
    exact T_copies_b3_s_ok T hR e ih h
theorem met_copies {l : Launch} {E : TE} (hE : tEnv E) {nf : Nat} : ∀ (x1 : Int32) (x2 : Int32) (x3 : Int32) (τ : TS) (z : TS), T_copies nf x1 x2 x3 τ = some z → tMet_v l E yX9_copies (ws_ yX9_copies cX9_copies 5 none) 0 0 [.ref (E.2.2.2.2.1 0), .int x1, .int x2, .int x3] τ z := by
  intro x1 x2 x3 τ z h
  refine t_met_v hE (by decide +kernel) rfl rfl (fun X hl T hR e => ?_)
  unfold T_copies at h
  have hX := T.1
  show kW X τ 0 [(0, .ref (E.2.2.2.2.1 0)), (1, .int x1), (2, .int x2), (3, .int x3)] []
  refine k_iconst (v := 0) hX dX9_copies_0 (by decide) ?_
  refine k_istore [(4, .int 0), (0, .ref (E.2.2.2.2.1 0)), (1, .int x1), (2, .int x2), (3, .int x3)] hX dX9_copies_1 rfl rfl ?_
  refine k_lv [1, 2, 3, 4, 0] rfl ?_
  exact T_copies_b3_ok T hR e _ _ _ _ _ _ h
theorem T_keeps_b47_ok {X : KC TS} {E : TE} {z : TS} (T : tOK X E cX9_keeps 2 none) (hR : tRoom X 1 24) (e : tE_v X E z) {nf : Nat} {τ : TS} (h : T_keeps_b47 nf τ = some z) : kW X τ 47 [(0, .ref (E.2.2.2.2.1 0))] [] := by
  unfold T_keeps_b47 at h
  have hX := T.1
  refine k_aload_n hX dX9_keeps_47 rfl 0 rfl ?_
  refine k_iconst (v := 0) hX dX9_keeps_48 (by decide) ?_
  refine k_iconst (v := 5) hX dX9_keeps_49 (by decide) ?_
  refine k_aload_n hX dX9_keeps_50 rfl 0 rfl ?_
  refine tg20 T dX9_keeps_51 ?_
  refine k_iadd hX dX9_keeps_54 ?_
  refine k_bipush (v := 58) hX dX9_keeps_55 (by decide) ?_
  refine cX_copies T (met_copies T.2.1) (room_le hR rfl rfl) h rfl dX9_keeps_57 (fun τ1 h => ?_)
  refine k_aload_n hX dX9_keeps_60 rfl 0 rfl ?_
  refine k_dup hX dX9_keeps_61 rfl ?_
  refine tg20 T dX9_keeps_62 ?_
  refine k_iconst (v := 1) hX dX9_keeps_65 (by decide) ?_
  refine k_iadd hX dX9_keeps_66 ?_
  refine tp20 T h dX9_keeps_67 (fun τ2 h => ?_)
  exact t_ret_v T e h dX9_keeps_70
theorem T_keeps_b11_s_ok {X : KC TS} {E : TE} {z : TS} (T : tOK X E cX9_keeps 2 none) (hR : tRoom X 1 24) (e : tE_v X E z) {nf : Nat} {k11 : Int32 → TS → Option TS} (hk11 : ∀ (x1 : Int32) (τ : TS), k11 x1 τ = some z → kW X τ 11 [(0, .ref (E.2.2.2.2.1 0)), (1, .int x1)] []) {x1 : Int32} {τ : TS} (h : T_keeps_b11_s nf k11 x1 τ = some z) : kW X τ 11 [(0, .ref (E.2.2.2.2.1 0)), (1, .int x1)] [] := by
  unfold T_keeps_b11_s at h
  have hX := T.1
  refine k_iload_n hX dX9_keeps_11 rfl 1 rfl ?_
  refine k_bipush (v := 16) hX dX9_keeps_12 (by decide) ?_
  refine k_icmp_ge (tgt := 37) hX h dX9_keeps_14 (by decide) (fun h => ?_) (fun h => ?_)
  · refine k_aload_n hX dX9_keeps_37 rfl 0 rfl ?_
    refine k_dup hX dX9_keeps_38 rfl ?_
    refine tg20 T dX9_keeps_39 ?_
    refine k_iconst (v := 1) hX dX9_keeps_42 (by decide) ?_
    refine k_isub hX dX9_keeps_43 ?_
    refine tp20 T h dX9_keeps_44 (fun τ1 h => ?_)
    refine k_lv [0] rfl ?_
    exact T_keeps_b47_ok T hR e h
  · refine k_aload_n hX dX9_keeps_17 rfl 0 rfl ?_
    refine k_iconst (v := 5) hX dX9_keeps_18 (by decide) ?_
    refine k_iload_n hX dX9_keeps_19 rfl 1 rfl ?_
    refine k_iadd hX dX9_keeps_20 ?_
    refine k_iconst (v := 5) hX dX9_keeps_21 (by decide) ?_
    refine k_iload_n hX dX9_keeps_22 rfl 1 rfl ?_
    refine k_iadd hX dX9_keeps_23 ?_
    refine k_iconst (v := 1) hX dX9_keeps_24 (by decide) ?_
    refine k_isub hX dX9_keeps_25 ?_
    refine k_bipush (v := 58) hX dX9_keeps_26 (by decide) ?_
    refine cX_copies T (met_copies T.2.1) (room_le hR rfl rfl) h rfl dX9_keeps_28 (fun τ2 h => ?_)
    refine k_iinc (j := 1) [(1, .int (x1 + 1)), (0, .ref (E.2.2.2.2.1 0))] hX dX9_keeps_31 rfl rfl rfl rfl ?_
    refine k_goto (tgt := 11) hX dX9_keeps_34 (by decide) ?_
    refine k_lv [1, 0] rfl ?_
    exact hk11 _ _ h
theorem T_keeps_b11_ok {X : KC TS} {E : TE} {z : TS} (T : tOK X E cX9_keeps 2 none) (hR : tRoom X 1 24) (e : tE_v X E z) {nf : Nat} : ∀ (n : Nat) (x1 : Int32) (τ : TS), T_keeps_b11 nf n x1 τ = some z → kW X τ 11 [(0, .ref (E.2.2.2.2.1 0)), (1, .int x1)] [] := by
  intro n
  induction n with
  | zero => intro x1 τ h; exact (nomatch (show (none : Option TS) = some z from h))
  | succ n ih =>
    intro x1 τ h
    have h : T_keeps_b11_s nf (T_keeps_b11 nf n) x1 τ = some z := h
    exact T_keeps_b11_s_ok T hR e ih h
theorem met_keeps {l : Launch} {E : TE} (hE : tEnv E) {nf : Nat} : ∀ (τ : TS) (z : TS), T_keeps nf τ = some z → tMet_v l E yX9_keeps (ws_ yX9_keeps cX9_keeps 2 none) 1 24 [.ref (E.2.2.2.2.1 0)] τ z := by
  intro τ z h
  refine t_met_v hE (by decide +kernel) rfl rfl (fun X hl T hR e => ?_)
  unfold T_keeps at h
  have hX := T.1
  show kW X τ 0 [(0, .ref (E.2.2.2.2.1 0))] []
  refine k_aload_n hX dX9_keeps_0 rfl 0 rfl ?_
  refine tg20 T dX9_keeps_1 ?_
  refine k_bipush (v := 16) hX dX9_keeps_4 (by decide) ?_
  refine k_icmp_ne (tgt := 47) hX h dX9_keeps_6 (by decide) (fun h => ?_) (fun h => ?_)
  · refine k_lv [0] rfl ?_
    exact T_keeps_b47_ok T hR e h
  · refine k_iconst (v := 1) hX dX9_keeps_9 (by decide) ?_
    refine k_istore_n [(1, .int 1), (0, .ref (E.2.2.2.2.1 0))] hX dX9_keeps_10 rfl rfl rfl ?_
    refine k_lv [1, 0] rfl ?_
    exact T_keeps_b11_ok T hR e _ _ _ h
theorem met_runTime {l : Launch} {E : TE} (hE : tEnv E) {τ : TS} : ∀ (z : Int32), T_runTime τ = some z → tMet_i l E yX9_runTime (ws_ yX9_runTime cX9_runTime 1 (some .int)) 0 0 [.ref (E.2.2.2.2.1 0)] τ z τ := by
  intro z h
  refine t_met_i hE (by decide +kernel) rfl rfl (fun X hl T hR e => ?_)
  unfold T_runTime at h
  have hX := T.1
  show kW X τ 0 [(0, .ref (E.2.2.2.2.1 0))] []
  refine k_aload_n hX dX9_runTime_0 rfl 0 rfl ?_
  refine tg10 T dX9_runTime_1 ?_
  refine k_iconst (v := 3) hX dX9_runTime_4 (by decide) ?_
  refine ta10 T h dX9_runTime_5 (fun v1 h => ?_)
  refine k_if_ge (tgt := 18) hX h dX9_runTime_6 (by decide) (fun h => ?_) (fun h => ?_)
  · refine k_aload_n hX dX9_runTime_18 rfl 0 rfl ?_
    refine tg10 T dX9_runTime_19 ?_
    refine k_iconst (v := 3) hX dX9_runTime_22 (by decide) ?_
    refine ta10 T h dX9_runTime_23 (fun v2 h => ?_)
    exact t_ret_ir T e h dX9_runTime_24
  · refine k_aload_n hX dX9_runTime_9 rfl 0 rfl ?_
    refine tg10 T dX9_runTime_10 ?_
    refine k_iconst (v := 2) hX dX9_runTime_13 (by decide) ?_
    refine ta10 T h dX9_runTime_14 (fun v3 h => ?_)
    refine k_goto (tgt := 24) hX dX9_runTime_15 (by decide) ?_
    exact t_ret_ir T e h dX9_runTime_24
theorem T_go_b114_ok {X : KC TS} {E : TE} {z : (Int32 × TS)} (T : tOK X E cX9_go 5 (some .int)) (hR : tRoom X 3 74) (e : tE_i X E z.1 z.2) {nf : Nat} {x1 : Int32} {x2 : Int32} {s0 : Int32} {s1 : Int32} {s2 : Int32} {s3 : Int32} {τ : TS} (h : T_go_b114 nf x1 x2 s0 s1 s2 s3 τ = some z) : kW X τ 114 [(0, .ref (E.2.2.2.2.1 0)), (1, .int x1), (2, .int x2)] [.int s0, .int s1, .int s2, .int s3, .ref (E.2.2.2.2.1 13)] := by
  unfold T_go_b114 at h
  have hX := T.1
  refine k_iadd hX dX9_go_114 ?_
  refine k_iadd hX dX9_go_115 ?_
  refine ts19 T h dX9_go_116 (fun τ1 h => ?_)
  refine k_aload_n hX dX9_go_117 rfl 0 rfl ?_
  refine tg19 T dX9_go_118 ?_
  refine k_iconst (v := 0) hX dX9_go_121 (by decide) ?_
  refine k_dup2 hX dX9_go_122 rfl rfl ?_
  refine ta19 T h dX9_go_123 (fun v2 h => ?_)
  refine k_iconst (v := 1) hX dX9_go_124 (by decide) ?_
  refine k_iload_n hX dX9_go_125 rfl 1 rfl ?_
  refine k_isub hX dX9_go_126 ?_
  refine k_iadd hX dX9_go_127 ?_
  refine ts19 T h dX9_go_128 (fun τ3 h => ?_)
  refine k_aload_n hX dX9_go_129 rfl 0 rfl ?_
  refine tg19 T dX9_go_130 ?_
  refine k_iconst (v := 1) hX dX9_go_133 (by decide) ?_
  refine k_dup2 hX dX9_go_134 rfl rfl ?_
  refine ta19 T h dX9_go_135 (fun v4 h => ?_)
  refine k_iload_n hX dX9_go_136 rfl 1 rfl ?_
  refine k_iadd hX dX9_go_137 ?_
  refine ts19 T h dX9_go_138 (fun τ5 h => ?_)
  refine k_aload_n hX dX9_go_139 rfl 0 rfl ?_
  refine tg19 T dX9_go_140 ?_
  refine k_iconst (v := 3) hX dX9_go_143 (by decide) ?_
  refine k_dup2 hX dX9_go_144 rfl rfl ?_
  refine ta19 T h dX9_go_145 (fun v6 h => ?_)
  refine k_iload_n hX dX9_go_146 rfl 2 rfl ?_
  refine k_if_eq (tgt := 154) hX h dX9_go_147 (by decide) (fun h => ?_) (fun h => ?_)
  · refine k_iconst (v := 0) hX dX9_go_154 (by decide) ?_
    refine k_iadd hX dX9_go_155 ?_
    refine ts19 T h dX9_go_156 (fun τ7 h => ?_)
    refine k_aload_n hX dX9_go_157 rfl 0 rfl ?_
    refine tg19 T dX9_go_158 ?_
    refine k_iconst (v := 2) hX dX9_go_161 (by decide) ?_
    refine ta19 T h dX9_go_162 (fun v8 h => ?_)
    exact t_ret_i T e h dX9_go_163
  · refine k_iconst (v := 1) hX dX9_go_150 (by decide) ?_
    refine k_goto (tgt := 155) hX dX9_go_151 (by decide) ?_
    refine k_iadd hX dX9_go_155 ?_
    refine ts19 T h dX9_go_156 (fun τ9 h => ?_)
    refine k_aload_n hX dX9_go_157 rfl 0 rfl ?_
    refine tg19 T dX9_go_158 ?_
    refine k_iconst (v := 2) hX dX9_go_161 (by decide) ?_
    refine ta19 T h dX9_go_162 (fun v10 h => ?_)
    exact t_ret_i T e h dX9_go_163
theorem T_go_b72_ok {X : KC TS} {E : TE} {z : (Int32 × TS)} (T : tOK X E cX9_go 5 (some .int)) (hR : tRoom X 3 74) (e : tE_i X E z.1 z.2) {nf : Nat} {x1 : Int32} {x2 : Int32} {x3 : Int32} {x4 : Int32} {τ : TS} (h : T_go_b72 nf x1 x2 x3 x4 τ = some z) : kW X τ 72 [(0, .ref (E.2.2.2.2.1 0)), (1, .int x1), (2, .int x2), (3, .int x3), (4, .int x4)] [] := by
  unfold T_go_b72 at h
  have hX := T.1
  refine k_aload_n hX dX9_go_72 rfl 0 rfl ?_
  refine cX_keeps T (met_keeps T.2.1) (room_le hR rfl rfl) h rfl dX9_go_73 (fun τ1 h => ?_)
  refine k_aload_n hX dX9_go_76 rfl 0 rfl ?_
  refine tg19 T dX9_go_77 ?_
  refine k_iconst (v := 2) hX dX9_go_80 (by decide) ?_
  refine k_dup2 hX dX9_go_81 rfl rfl ?_
  refine ta19 T h dX9_go_82 (fun v2 h => ?_)
  refine k_aload_n hX dX9_go_83 rfl 0 rfl ?_
  refine k_iload_n hX dX9_go_84 rfl 3 rfl ?_
  refine k_iload hX dX9_go_85 4 rfl ?_
  refine k_iload_n hX dX9_go_87 rfl 1 rfl ?_
  refine k_aload_n hX dX9_go_88 rfl 0 rfl ?_
  refine tg19 T dX9_go_89 ?_
  refine k_iconst (v := 2) hX dX9_go_92 (by decide) ?_
  refine ta19 T h dX9_go_93 (fun v3 h => ?_)
  refine cX_waitFor T (met_waitFor T.2.1) (room_le hR rfl rfl) h rfl dX9_go_94 (fun v4 h => ?_)
  refine k_iload_n hX dX9_go_97 rfl 2 rfl ?_
  refine k_if_eq (tgt := 108) hX h dX9_go_98 (by decide) (fun h => ?_) (fun h => ?_)
  · refine k_aload_n hX dX9_go_108 rfl 0 rfl ?_
    refine tg10 T dX9_go_109 ?_
    refine k_iconst (v := 2) hX dX9_go_112 (by decide) ?_
    refine ta10 T h dX9_go_113 (fun v5 h => ?_)
    refine k_lv [0, 1, 2] rfl ?_
    exact T_go_b114_ok T hR e h
  · refine k_aload_n hX dX9_go_101 rfl 0 rfl ?_
    refine cX_runTime T (met_runTime T.2.1) (room_le hR rfl rfl) h rfl dX9_go_102 (fun v6 h => ?_)
    refine k_goto (tgt := 114) hX dX9_go_105 (by decide) ?_
    refine k_lv [0, 1, 2] rfl ?_
    exact T_go_b114_ok T hR e h
theorem met_go {l : Launch} {E : TE} (hE : tEnv E) {nf : Nat} : ∀ (x1 : Int32) (x2 : Int32) (τ : TS) (z : (Int32 × TS)), T_go nf x1 x2 τ = some z → tMet_i l E yX9_go (ws_ yX9_go cX9_go 5 (some .int)) 3 74 [.ref (E.2.2.2.2.1 0), .int x1, .int x2] τ z.1 z.2 := by
  intro x1 x2 τ z h
  refine t_met_i hE (by decide +kernel) rfl rfl (fun X hl T hR e => ?_)
  unfold T_go at h
  have hX := T.1
  show kW X τ 0 [(0, .ref (E.2.2.2.2.1 0)), (1, .int x1), (2, .int x2)] []
  refine k_aload_n hX dX9_go_0 rfl 0 rfl ?_
  refine k_iconst (v := 0) hX dX9_go_1 (by decide) ?_
  refine tp0 T h dX9_go_2 (fun τ1 h => ?_)
  refine k_aload_n hX dX9_go_5 rfl 0 rfl ?_
  refine tg19 T dX9_go_6 ?_
  refine k_iconst (v := 0) hX dX9_go_9 (by decide) ?_
  refine ta19 T h dX9_go_10 (fun v2 h => ?_)
  refine k_istore_n [(3, .int v2), (0, .ref (E.2.2.2.2.1 0)), (1, .int x1), (2, .int x2)] hX dX9_go_11 rfl rfl rfl ?_
  refine k_aload_n hX dX9_go_12 rfl 1 rfl ?_
  refine tg19 T dX9_go_13 ?_
  refine k_iconst (v := 1) hX dX9_go_16 (by decide) ?_
  refine ta19 T h dX9_go_17 (fun v3 h => ?_)
  refine k_istore [(4, .int v3), (3, .int v2), (0, .ref (E.2.2.2.2.1 0)), (1, .int x1), (2, .int x2)] hX dX9_go_18 rfl rfl ?_
  refine k_iload_n hX dX9_go_20 rfl 3 rfl ?_
  refine k_iconst (v := 0) hX dX9_go_21 (by decide) ?_
  refine k_iconst (v := 1) hX dX9_go_22 (by decide) ?_
  refine cX_within T (met_within T.2.1) (room_le hR rfl rfl) h rfl dX9_go_23 (fun v4 h => ?_)
  refine k_if_eq (tgt := 70) hX h dX9_go_26 (by decide) (fun h => ?_) (fun h => ?_)
  · refine k_iconst (v := (-1)) hX dX9_go_70 (by decide) ?_
    exact t_ret_i T e h dX9_go_71
  · refine k_aload_n hX dX9_go_29 rfl 2 rfl ?_
    refine k_iload_n hX dX9_go_30 rfl 1 rfl ?_
    refine k_iload hX dX9_go_31 0 rfl ?_
    refine k_iload_n hX dX9_go_33 rfl 3 rfl ?_
    refine cX_canGo T (met_canGo T.2.1) (room_le hR rfl rfl) h rfl dX9_go_34 (fun v5 h => ?_)
    refine k_if_eq (tgt := 70) hX h dX9_go_37 (by decide) (fun h => ?_) (fun h => ?_)
    · refine k_iconst (v := (-1)) hX dX9_go_70 (by decide) ?_
      exact t_ret_i T e h dX9_go_71
    · refine k_iload_n hX dX9_go_40 rfl 4 rfl ?_
      refine k_if_eq (tgt := 72) hX h dX9_go_41 (by decide) (fun h => ?_) (fun h => ?_)
      · refine k_lv [2, 3, 4, 1, 0] rfl ?_
        exact T_go_b72_ok T hR e h
      · refine k_aload_n hX dX9_go_44 rfl 2 rfl ?_
        refine tg10 T dX9_go_45 ?_
        refine k_bipush (v := 6) hX dX9_go_48 (by decide) ?_
        refine ta10 T h dX9_go_50 (fun v6 h => ?_)
        refine k_iconst (v := 1) hX dX9_go_51 (by decide) ?_
        refine k_icmp_eq (tgt := 70) hX h dX9_go_52 (by decide) (fun h => ?_) (fun h => ?_)
        · refine k_iconst (v := (-1)) hX dX9_go_70 (by decide) ?_
          exact t_ret_i T e h dX9_go_71
        · refine k_aload_n hX dX9_go_55 rfl 2 rfl ?_
          refine tg19 T dX9_go_56 ?_
          refine k_iconst (v := 3) hX dX9_go_59 (by decide) ?_
          refine ta19 T h dX9_go_60 (fun v7 h => ?_)
          refine k_aload_n hX dX9_go_61 rfl 2 rfl ?_
          refine tg10 T dX9_go_62 ?_
          refine k_iconst (v := 5) hX dX9_go_65 (by decide) ?_
          refine ta10 T h dX9_go_66 (fun v8 h => ?_)
          refine k_icmp_ne (tgt := 72) hX h dX9_go_67 (by decide) (fun h => ?_) (fun h => ?_)
          · refine k_lv [2, 3, 4, 1, 0] rfl ?_
            exact T_go_b72_ok T hR e h
          · refine k_iconst (v := (-1)) hX dX9_go_70 (by decide) ?_
            exact t_ret_i T e h dX9_go_71
theorem met_stay {l : Launch} {E : TE} (hE : tEnv E) {nf : Nat} : ∀ (x1 : Int32) (τ : TS) (z : (Int32 × TS)), T_stay nf x1 τ = some z → tMet_i l E yX9_stay (ws_ yX9_stay cX9_stay 2 (some .int)) 2 45 [.ref (E.2.2.2.2.1 0), .int x1] τ z.1 z.2 := by
  intro x1 τ z h
  refine t_met_i hE (by decide +kernel) rfl rfl (fun X hl T hR e => ?_)
  unfold T_stay at h
  have hX := T.1
  show kW X τ 0 [(0, .ref (E.2.2.2.2.1 0)), (1, .int x1)] []
  refine k_aload_n hX dX9_stay_0 rfl 0 rfl ?_
  refine k_iconst (v := 0) hX dX9_stay_1 (by decide) ?_
  refine tp0 T h dX9_stay_2 (fun τ1 h => ?_)
  refine k_iload_n hX dX9_stay_5 rfl 1 rfl ?_
  refine k_iconst (v := 1) hX dX9_stay_6 (by decide) ?_
  refine k_sipush (v := 1000) hX dX9_stay_7 (by decide) ?_
  refine cX_within T (met_within T.2.1) (room_le hR rfl rfl) h rfl dX9_stay_10 (fun v2 h => ?_)
  refine k_if_ne (tgt := 18) hX h dX9_stay_13 (by decide) (fun h => ?_) (fun h => ?_)
  · refine k_aload_n hX dX9_stay_18 rfl 0 rfl ?_
    refine cX_keeps T (met_keeps T.2.1) (room_le hR rfl rfl) h rfl dX9_stay_19 (fun τ3 h => ?_)
    refine k_aload_n hX dX9_stay_22 rfl 0 rfl ?_
    refine tg19 T dX9_stay_23 ?_
    refine k_iconst (v := 2) hX dX9_stay_26 (by decide) ?_
    refine k_dup2 hX dX9_stay_27 rfl rfl ?_
    refine ta19 T h dX9_stay_28 (fun v4 h => ?_)
    refine k_iload_n hX dX9_stay_29 rfl 1 rfl ?_
    refine k_iadd hX dX9_stay_30 ?_
    refine ts19 T h dX9_stay_31 (fun τ5 h => ?_)
    refine k_aload_n hX dX9_stay_32 rfl 0 rfl ?_
    refine tg19 T dX9_stay_33 ?_
    refine k_iconst (v := 2) hX dX9_stay_36 (by decide) ?_
    refine ta19 T h dX9_stay_37 (fun v6 h => ?_)
    exact t_ret_i T e h dX9_stay_38
  · refine k_iconst (v := (-1)) hX dX9_stay_16 (by decide) ?_
    exact t_ret_i T e h dX9_stay_17
theorem met_look {l : Launch} {E : TE} (hE : tEnv E) {nf : Nat} : ∀ (τ : TS) (z : (Int32 × TS)), T_look nf τ = some z → tMet_i l E yX9_look (ws_ yX9_look cX9_look 3 (some .boolean)) 2 45 [.ref (E.2.2.2.2.1 0)] τ z.1 z.2 := by
  intro τ z h
  refine t_met_i hE (by decide +kernel) rfl rfl (fun X hl T hR e => ?_)
  unfold T_look at h
  have hX := T.1
  show kW X τ 0 [(0, .ref (E.2.2.2.2.1 0))] []
  refine k_aload_n hX dX9_look_0 rfl 0 rfl ?_
  refine k_iconst (v := 0) hX dX9_look_1 (by decide) ?_
  refine tp0 T h dX9_look_2 (fun τ1 h => ?_)
  refine k_aload_n hX dX9_look_5 rfl 0 rfl ?_
  refine tg19 T dX9_look_6 ?_
  refine k_iconst (v := 0) hX dX9_look_9 (by decide) ?_
  refine ta19 T h dX9_look_10 (fun v2 h => ?_)
  refine k_istore_n [(1, .int v2), (0, .ref (E.2.2.2.2.1 0))] hX dX9_look_11 rfl rfl rfl ?_
  refine k_aload_n hX dX9_look_12 rfl 1 rfl ?_
  refine tg19 T dX9_look_13 ?_
  refine k_iconst (v := 1) hX dX9_look_16 (by decide) ?_
  refine ta19 T h dX9_look_17 (fun v3 h => ?_)
  refine k_istore_n [(2, .int v3), (1, .int v2), (0, .ref (E.2.2.2.2.1 0))] hX dX9_look_18 rfl rfl rfl ?_
  refine k_aload_n hX dX9_look_19 rfl 2 rfl ?_
  refine k_iload_n hX dX9_look_20 rfl 1 rfl ?_
  refine k_iload_n hX dX9_look_21 rfl 0 rfl ?_
  refine cX_kindAt T (met_kindAt T.2.1) (room_le hR rfl rfl) h rfl dX9_look_22 (fun v4 h => ?_)
  refine k_iconst (v := 1) hX dX9_look_25 (by decide) ?_
  refine k_icmp_ne (tgt := 38) hX h dX9_look_26 (by decide) (fun h => ?_) (fun h => ?_)
  · refine k_iconst (v := 0) hX dX9_look_38 (by decide) ?_
    exact t_ret_zc T e rfl h dX9_look_39
  · refine k_aload_n hX dX9_look_29 rfl 2 rfl ?_
    refine k_iload_n hX dX9_look_30 rfl 1 rfl ?_
    refine k_iload_n hX dX9_look_31 rfl 0 rfl ?_
    refine cX_isKnown T (met_isKnown T.2.1) (room_le hR rfl rfl) h rfl dX9_look_32 (fun v5 h => ?_)
    refine k_if_eq (tgt := 40) hX h dX9_look_35 (by decide) (fun h => ?_) (fun h => ?_)
    · refine k_aload_n hX dX9_look_40 rfl 2 rfl ?_
      refine cX_keeps T (met_keeps T.2.1) (room_le hR rfl rfl) h rfl dX9_look_41 (fun τ6 h => ?_)
      refine k_aload_n hX dX9_look_44 rfl 2 rfl ?_
      refine tg19 T dX9_look_45 ?_
      refine k_iconst (v := 4) hX dX9_look_48 (by decide) ?_
      refine k_bipush (v := 6) hX dX9_look_49 (by decide) ?_
      refine k_iload_n hX dX9_look_51 rfl 0 rfl ?_
      refine k_imul hX dX9_look_52 ?_
      refine k_iadd hX dX9_look_53 ?_
      refine k_iload_n hX dX9_look_54 rfl 1 rfl ?_
      refine k_iadd hX dX9_look_55 ?_
      refine k_iconst (v := 1) hX dX9_look_56 (by decide) ?_
      refine ts19 T h dX9_look_57 (fun τ7 h => ?_)
      refine k_aload_n hX dX9_look_58 rfl 2 rfl ?_
      refine k_dup hX dX9_look_59 rfl ?_
      refine tg22 T dX9_look_60 ?_
      refine k_iconst (v := 1) hX dX9_look_63 (by decide) ?_
      refine k_iadd hX dX9_look_64 ?_
      refine tp22 T h dX9_look_65 (fun τ8 h => ?_)
      refine k_iconst (v := 1) hX dX9_look_68 (by decide) ?_
      exact t_ret_zc T e rfl h dX9_look_69
    · refine k_iconst (v := 0) hX dX9_look_38 (by decide) ?_
      exact t_ret_zc T e rfl h dX9_look_39
theorem met_undo {l : Launch} {E : TE} (hE : tEnv E) {nf : Nat} : ∀ (τ : TS) (z : (Int32 × TS)), T_undo nf τ = some z → tMet_i l E yX9_undo (ws_ yX9_undo cX9_undo 1 (some .boolean)) 1 24 [.ref (E.2.2.2.2.1 0)] τ z.1 z.2 := by
  intro τ z h
  refine t_met_i hE (by decide +kernel) rfl rfl (fun X hl T hR e => ?_)
  unfold T_undo at h
  have hX := T.1
  show kW X τ 0 [(0, .ref (E.2.2.2.2.1 0))] []
  refine k_aload_n hX dX9_undo_0 rfl 0 rfl ?_
  refine k_iconst (v := 0) hX dX9_undo_1 (by decide) ?_
  refine tp0 T h dX9_undo_2 (fun τ1 h => ?_)
  refine k_aload_n hX dX9_undo_5 rfl 0 rfl ?_
  refine tg20 T dX9_undo_6 ?_
  refine k_if_ne (tgt := 14) hX h dX9_undo_9 (by decide) (fun h => ?_) (fun h => ?_)
  · refine k_aload_n hX dX9_undo_14 rfl 0 rfl ?_
    refine k_dup hX dX9_undo_15 rfl ?_
    refine tg20 T dX9_undo_16 ?_
    refine k_iconst (v := 1) hX dX9_undo_19 (by decide) ?_
    refine k_isub hX dX9_undo_20 ?_
    refine tp20 T h dX9_undo_21 (fun τ2 h => ?_)
    refine k_aload_n hX dX9_undo_24 rfl 0 rfl ?_
    refine k_iconst (v := 5) hX dX9_undo_25 (by decide) ?_
    refine k_aload_n hX dX9_undo_26 rfl 0 rfl ?_
    refine tg20 T dX9_undo_27 ?_
    refine k_iadd hX dX9_undo_30 ?_
    refine k_iconst (v := 0) hX dX9_undo_31 (by decide) ?_
    refine k_bipush (v := 58) hX dX9_undo_32 (by decide) ?_
    refine cX_copies T (met_copies T.2.1) (room_le hR rfl rfl) h rfl dX9_undo_34 (fun τ3 h => ?_)
    refine k_aload_n hX dX9_undo_37 rfl 0 rfl ?_
    refine k_dup hX dX9_undo_38 rfl ?_
    refine tg22 T dX9_undo_39 ?_
    refine k_iconst (v := 1) hX dX9_undo_42 (by decide) ?_
    refine k_iadd hX dX9_undo_43 ?_
    refine tp22 T h dX9_undo_44 (fun τ4 h => ?_)
    refine k_iconst (v := 1) hX dX9_undo_47 (by decide) ?_
    exact t_ret_zc T e rfl h dX9_undo_48
  · refine k_iconst (v := 0) hX dX9_undo_12 (by decide) ?_
    exact t_ret_zc T e rfl h dX9_undo_13
theorem T_judged_b113_ok {X : KC TS} {E : TE} {z : (Int32 × TS)} (T : tOK X E cX9_judged 8 (some .int)) (hR : tRoom X 2 49) (e : tE_i X E z.1 z.2) {nf : Nat} {k14 : Int32 → Int32 → Int32 → Int32 → TS → Option (Int32 × TS)} (hk14 : ∀ (x1 : Int32) (x2 : Int32) (x3 : Int32) (x4 : Int32) (τ : TS), k14 x1 x2 x3 x4 τ = some z → kW X τ 14 [(0, .ref (E.2.2.2.2.1 0)), (1, .int x1), (2, .int x2), (3, .int x3), (4, .int x4)] []) {x1 : Int32} {x2 : Int32} {x4 : Int32} {x5 : Int32} {x6 : Int32} {τ : TS} (h : T_judged_b113 nf k14 x1 x2 x4 x5 x6 τ = some z) : kW X τ 113 [(0, .ref (E.2.2.2.2.1 0)), (1, .int x1), (2, .int x2), (4, .int x4), (5, .int x5), (6, .int x6)] [] := by
  unfold T_judged_b113 at h
  have hX := T.1
  refine k_iload hX dX9_judged_113 5 rfl ?_
  refine k_aload_n hX dX9_judged_115 rfl 0 rfl ?_
  refine tg10 T dX9_judged_116 ?_
  refine k_iconst (v := 2) hX dX9_judged_119 (by decide) ?_
  refine ta10 T h dX9_judged_120 (fun v1 h => ?_)
  refine k_iadd hX dX9_judged_121 ?_
  refine k_nm h (fun v2 h => ?_)
  refine k_istore_n [(3, .int v2), (0, .ref (E.2.2.2.2.1 0)), (1, .int x1), (2, .int x2), (4, .int x4), (5, .int x5), (6, .int x6)] hX dX9_judged_122 rfl rfl rfl ?_
  refine k_iload_n hX dX9_judged_123 rfl 2 rfl ?_
  refine k_iconst (v := 1) hX dX9_judged_124 (by decide) ?_
  refine k_iload hX dX9_judged_125 5 rfl ?_
  refine k_isub hX dX9_judged_127 ?_
  refine k_iadd hX dX9_judged_128 ?_
  refine k_nm h (fun v3 h => ?_)
  refine k_istore_n [(1, .int v3), (3, .int v2), (0, .ref (E.2.2.2.2.1 0)), (2, .int x2), (4, .int x4), (5, .int x5), (6, .int x6)] hX dX9_judged_129 rfl rfl rfl ?_
  refine k_iload_n hX dX9_judged_130 rfl 3 rfl ?_
  refine k_iload hX dX9_judged_131 5 rfl ?_
  refine k_iadd hX dX9_judged_133 ?_
  refine k_nm h (fun v4 h => ?_)
  refine k_istore_n [(2, .int v4), (1, .int v3), (3, .int v2), (0, .ref (E.2.2.2.2.1 0)), (4, .int x4), (5, .int x5), (6, .int x6)] hX dX9_judged_134 rfl rfl rfl ?_
  refine k_iinc (j := 4) [(4, .int (x4 + 1)), (2, .int v4), (1, .int v3), (3, .int v2), (0, .ref (E.2.2.2.2.1 0)), (5, .int x5), (6, .int x6)] hX dX9_judged_135 rfl rfl rfl rfl ?_
  refine k_goto (tgt := 14) hX dX9_judged_138 (by decide) ?_
  refine k_lv [4, 2, 1, 3, 0] rfl ?_
  exact hk14 _ _ _ _ _ h
theorem T_judged_b79_ok {X : KC TS} {E : TE} {z : (Int32 × TS)} (T : tOK X E cX9_judged 8 (some .int)) (hR : tRoom X 2 49) (e : tE_i X E z.1 z.2) {nf : Nat} {k14 : Int32 → Int32 → Int32 → Int32 → TS → Option (Int32 × TS)} (hk14 : ∀ (x1 : Int32) (x2 : Int32) (x3 : Int32) (x4 : Int32) (τ : TS), k14 x1 x2 x3 x4 τ = some z → kW X τ 14 [(0, .ref (E.2.2.2.2.1 0)), (1, .int x1), (2, .int x2), (3, .int x3), (4, .int x4)] []) {x1 : Int32} {x2 : Int32} {x4 : Int32} {x5 : Int32} {x6 : Int32} {s0 : Int32} {τ : TS} (h : T_judged_b79 nf k14 x1 x2 x4 x5 x6 s0 τ = some z) : kW X τ 79 [(0, .ref (E.2.2.2.2.1 0)), (1, .int x1), (2, .int x2), (4, .int x4), (5, .int x5), (6, .int x6)] [.int s0] := by
  unfold T_judged_b79 at h
  have hX := T.1
  refine k_istore [(7, .int s0), (0, .ref (E.2.2.2.2.1 0)), (1, .int x1), (2, .int x2), (4, .int x4), (5, .int x5), (6, .int x6)] hX dX9_judged_79 rfl rfl ?_
  refine k_iload hX dX9_judged_81 6 rfl ?_
  refine k_iload hX dX9_judged_83 0 rfl ?_
  refine k_icmp_lt (tgt := 110) hX h dX9_judged_85 (by decide) (fun h => ?_) (fun h => ?_)
  · refine k_iload hX dX9_judged_110 4 rfl ?_
    exact t_ret_i T e h dX9_judged_112
  · refine k_aload_n hX dX9_judged_88 rfl 1 rfl ?_
    refine k_iload_n hX dX9_judged_89 rfl 2 rfl ?_
    refine k_iload_n hX dX9_judged_90 rfl 3 rfl ?_
    refine cX_isTimed T (met_isTimed T.2.1) (room_le hR rfl rfl) h rfl dX9_judged_91 (fun v1 h => ?_)
    refine k_if_eq (tgt := 113) hX h dX9_judged_94 (by decide) (fun h => ?_) (fun h => ?_)
    · refine k_lv [1, 2, 3, 4, 5, 6] rfl ?_
      exact T_judged_b113_ok T hR e hk14 h
    · refine k_aload_n hX dX9_judged_97 rfl 1 rfl ?_
      refine k_iload_n hX dX9_judged_98 rfl 2 rfl ?_
      refine k_iload_n hX dX9_judged_99 rfl 3 rfl ?_
      refine k_iload hX dX9_judged_100 5 rfl ?_
      refine k_iload hX dX9_judged_102 6 rfl ?_
      refine cX_isGreen T (met_isGreen T.2.1) (room_le hR rfl rfl) h rfl dX9_judged_104 (fun v2 h => ?_)
      refine k_if_ne (tgt := 113) hX h dX9_judged_107 (by decide) (fun h => ?_) (fun h => ?_)
      · refine k_lv [1, 2, 3, 4, 5, 6] rfl ?_
        exact T_judged_b113_ok T hR e hk14 h
      · refine k_iload hX dX9_judged_110 4 rfl ?_
        exact t_ret_i T e h dX9_judged_112
theorem T_judged_b14_s_ok {X : KC TS} {E : TE} {z : (Int32 × TS)} (T : tOK X E cX9_judged 8 (some .int)) (hR : tRoom X 2 49) (e : tE_i X E z.1 z.2) {nf : Nat} {k14 : Int32 → Int32 → Int32 → Int32 → TS → Option (Int32 × TS)} (hk14 : ∀ (x1 : Int32) (x2 : Int32) (x3 : Int32) (x4 : Int32) (τ : TS), k14 x1 x2 x3 x4 τ = some z → kW X τ 14 [(0, .ref (E.2.2.2.2.1 0)), (1, .int x1), (2, .int x2), (3, .int x3), (4, .int x4)] []) {x1 : Int32} {x2 : Int32} {x3 : Int32} {x4 : Int32} {τ : TS} (h : T_judged_b14_s nf k14 x1 x2 x3 x4 τ = some z) : kW X τ 14 [(0, .ref (E.2.2.2.2.1 0)), (1, .int x1), (2, .int x2), (3, .int x3), (4, .int x4)] [] := by
  unfold T_judged_b14_s at h
  have hX := T.1
  refine k_iload hX dX9_judged_14 4 rfl ?_
  refine k_aload_n hX dX9_judged_16 rfl 0 rfl ?_
  refine tg16 T dX9_judged_17 ?_
  refine k_iconst (v := 0) hX dX9_judged_20 (by decide) ?_
  refine ta16 T h dX9_judged_21 (fun v1 h => ?_)
  refine k_icmp_ge (tgt := 141) hX h dX9_judged_22 (by decide) (fun h => ?_) (fun h => ?_)
  · refine k_iconst (v := (-1)) hX dX9_judged_141 (by decide) ?_
    exact t_ret_i T e h dX9_judged_142
  · refine k_aload_n hX dX9_judged_25 rfl 0 rfl ?_
    refine tg16 T dX9_judged_26 ?_
    refine k_iconst (v := 1) hX dX9_judged_29 (by decide) ?_
    refine k_iconst (v := 2) hX dX9_judged_30 (by decide) ?_
    refine k_iload hX dX9_judged_31 4 rfl ?_
    refine k_imul hX dX9_judged_33 ?_
    refine k_iadd hX dX9_judged_34 ?_
    refine ta16 T h dX9_judged_35 (fun v2 h => ?_)
    refine k_istore [(5, .int v2), (0, .ref (E.2.2.2.2.1 0)), (1, .int x1), (2, .int x2), (3, .int x3), (4, .int x4)] hX dX9_judged_36 rfl rfl ?_
    refine k_aload_n hX dX9_judged_38 rfl 1 rfl ?_
    refine tg16 T dX9_judged_39 ?_
    refine k_iconst (v := 2) hX dX9_judged_42 (by decide) ?_
    refine k_iconst (v := 2) hX dX9_judged_43 (by decide) ?_
    refine k_iload hX dX9_judged_44 5 rfl ?_
    refine k_imul hX dX9_judged_46 ?_
    refine k_iadd hX dX9_judged_47 ?_
    refine ta16 T h dX9_judged_48 (fun v3 h => ?_)
    refine k_istore [(6, .int v3), (5, .int v2), (0, .ref (E.2.2.2.2.1 0)), (1, .int x1), (2, .int x2), (3, .int x3), (4, .int x4)] hX dX9_judged_49 rfl rfl ?_
    refine k_aload_n hX dX9_judged_51 rfl 2 rfl ?_
    refine k_iload_n hX dX9_judged_52 rfl 3 rfl ?_
    refine k_iload_n hX dX9_judged_53 rfl 4 rfl ?_
    refine cX_kindAt T (met_kindAt T.2.1) (room_le hR rfl rfl) h rfl dX9_judged_54 (fun v4 h => ?_)
    refine k_iconst (v := 2) hX dX9_judged_57 (by decide) ?_
    refine k_icmp_ne (tgt := 78) hX h dX9_judged_58 (by decide) (fun h => ?_) (fun h => ?_)
    · refine k_iload_n hX dX9_judged_78 rfl 5 rfl ?_
      refine k_lv [2, 3, 4, 6, 1, 0] rfl ?_
      exact T_judged_b79_ok T hR e hk14 h
    · refine k_iload hX dX9_judged_61 1 rfl ?_
      refine k_if_ne (tgt := 78) hX h dX9_judged_63 (by decide) (fun h => ?_) (fun h => ?_)
      · refine k_iload_n hX dX9_judged_78 rfl 5 rfl ?_
        refine k_lv [2, 3, 4, 6, 1, 0] rfl ?_
        exact T_judged_b79_ok T hR e hk14 h
      · refine k_iload_n hX dX9_judged_66 rfl 5 rfl ?_
        refine k_aload_n hX dX9_judged_67 rfl 2 rfl ?_
        refine k_iload_n hX dX9_judged_68 rfl 3 rfl ?_
        refine k_iload_n hX dX9_judged_69 rfl 4 rfl ?_
        refine k_iconst (v := 2) hX dX9_judged_70 (by decide) ?_
        refine cX_lightAt T (met_lightAt T.2.1) (room_le hR rfl rfl) h rfl dX9_judged_71 (fun v5 h => ?_)
        refine k_iadd hX dX9_judged_74 ?_
        refine k_goto (tgt := 79) hX dX9_judged_75 (by decide) ?_
        refine k_lv [2, 3, 4, 6, 1, 0] rfl ?_
        exact T_judged_b79_ok T hR e hk14 h
theorem T_judged_b14_ok {X : KC TS} {E : TE} {z : (Int32 × TS)} (T : tOK X E cX9_judged 8 (some .int)) (hR : tRoom X 2 49) (e : tE_i X E z.1 z.2) {nf : Nat} : ∀ (n : Nat) (x1 : Int32) (x2 : Int32) (x3 : Int32) (x4 : Int32) (τ : TS), T_judged_b14 nf n x1 x2 x3 x4 τ = some z → kW X τ 14 [(0, .ref (E.2.2.2.2.1 0)), (1, .int x1), (2, .int x2), (3, .int x3), (4, .int x4)] [] := by
  intro n
  induction n with
  | zero => intro x1 x2 x3 x4 τ h; exact (nomatch (show (none : Option (Int32 × TS)) = some z from h))
  | succ n ih =>
    intro x1 x2 x3 x4 τ h
    have h : T_judged_b14_s nf (T_judged_b14 nf n) x1 x2 x3 x4 τ = some z := h
    exact T_judged_b14_s_ok T hR e ih h
theorem met_judged {l : Launch} {E : TE} (hE : tEnv E) {nf : Nat} : ∀ (τ : TS) (z : (Int32 × TS)), T_judged nf τ = some z → tMet_i l E yX9_judged (ws_ yX9_judged cX9_judged 8 (some .int)) 2 49 [.ref (E.2.2.2.2.1 0)] τ z.1 z.2 := by
  intro τ z h
  refine t_met_i hE (by decide +kernel) rfl rfl (fun X hl T hR e => ?_)
  unfold T_judged at h
  have hX := T.1
  show kW X τ 0 [(0, .ref (E.2.2.2.2.1 0))] []
  refine k_aload_n hX dX9_judged_0 rfl 0 rfl ?_
  refine k_iconst (v := 0) hX dX9_judged_1 (by decide) ?_
  refine tp0 T h dX9_judged_2 (fun τ1 h => ?_)
  refine k_iconst (v := 0) hX dX9_judged_5 (by decide) ?_
  refine k_istore_n [(1, .int 0), (0, .ref (E.2.2.2.2.1 0))] hX dX9_judged_6 rfl rfl rfl ?_
  refine k_iconst (v := 0) hX dX9_judged_7 (by decide) ?_
  refine k_istore_n [(2, .int 0), (1, .int 0), (0, .ref (E.2.2.2.2.1 0))] hX dX9_judged_8 rfl rfl rfl ?_
  refine k_iconst (v := 0) hX dX9_judged_9 (by decide) ?_
  refine k_istore_n [(3, .int 0), (2, .int 0), (1, .int 0), (0, .ref (E.2.2.2.2.1 0))] hX dX9_judged_10 rfl rfl rfl ?_
  refine k_iconst (v := 0) hX dX9_judged_11 (by decide) ?_
  refine k_istore [(4, .int 0), (3, .int 0), (2, .int 0), (1, .int 0), (0, .ref (E.2.2.2.2.1 0))] hX dX9_judged_12 rfl rfl ?_
  refine k_lv [4, 3, 2, 1, 0] rfl ?_
  exact T_judged_b14_ok T hR e _ _ _ _ _ _ h
theorem met_isHome {l : Launch} {E : TE} (hE : tEnv E) {τ : TS} : ∀ (x1 : Int32) (x2 : Int32) (z : Int32), T_isHome τ x1 x2 = some z → tMet_i l E yX9_isHome (ws_ yX9_isHome cX9_isHome 3 (some .boolean)) 1 20 [.ref (E.2.2.2.2.1 0), .int x1, .int x2] τ z τ := by
  intro x1 x2 z h
  refine t_met_i hE (by decide +kernel) rfl rfl (fun X hl T hR e => ?_)
  unfold T_isHome at h
  have hX := T.1
  show kW X τ 0 [(0, .ref (E.2.2.2.2.1 0)), (1, .int x1), (2, .int x2)] []
  refine k_iload_n hX dX9_isHome_0 rfl 1 rfl ?_
  refine k_aload_n hX dX9_isHome_1 rfl 0 rfl ?_
  refine cX_wide T (met_wide T.2.1) (room_le hR rfl rfl) h rfl dX9_isHome_2 (fun v1 h => ?_)
  refine k_iconst (v := 1) hX dX9_isHome_5 (by decide) ?_
  refine k_isub hX dX9_isHome_6 ?_
  refine k_icmp_ne (tgt := 24) hX h dX9_isHome_7 (by decide) (fun h => ?_) (fun h => ?_)
  · refine k_iconst (v := 0) hX dX9_isHome_24 (by decide) ?_
    exact t_ret_zrc T e rfl h dX9_isHome_25
  · refine k_iload_n hX dX9_isHome_10 rfl 2 rfl ?_
    refine k_aload_n hX dX9_isHome_11 rfl 0 rfl ?_
    refine cX_deep T (met_deep T.2.1) (room_le hR rfl rfl) h rfl dX9_isHome_12 (fun v2 h => ?_)
    refine k_iconst (v := 1) hX dX9_isHome_15 (by decide) ?_
    refine k_isub hX dX9_isHome_16 ?_
    refine k_icmp_ne (tgt := 24) hX h dX9_isHome_17 (by decide) (fun h => ?_) (fun h => ?_)
    · refine k_iconst (v := 0) hX dX9_isHome_24 (by decide) ?_
      exact t_ret_zrc T e rfl h dX9_isHome_25
    · refine k_iconst (v := 1) hX dX9_isHome_20 (by decide) ?_
      refine k_goto (tgt := 25) hX dX9_isHome_21 (by decide) ?_
      exact t_ret_zrc T e rfl h dX9_isHome_25
theorem met_soonestBy {l : Launch} {E : TE} (hE : tEnv E) {nf : Nat} {rc : Int32 → Int32 → Int32 → Option Int32} {Fr Lr : Nat} {τ : TS} (hrc : ∀ (a0 : Int32) (a1 : Int32) (a2 : Int32) (v : Int32), rc a0 a1 a2 = some v → tMet_i l E yX9_soonestFrom (ws_ yX9_soonestFrom cX9_soonestFrom 7 (some .int)) Fr Lr [.ref (E.2.2.2.2.1 0), .int a0, .int a1, .int a2] τ v τ) : ∀ (x1 : Int32) (x2 : Int32) (x3 : Int32) (x4 : Int32) (z : Int32), T_soonestBy nf rc τ x1 x2 x3 x4 = some z → tMet_i l E yX9_soonestBy (ws_ yX9_soonestBy cX9_soonestBy 5 (some .int)) (Fr + 3) (Lr + 74) [.ref (E.2.2.2.2.1 0), .int x1, .int x2, .int x3, .int x4] τ z τ := by
  intro x1 x2 x3 x4 z h
  refine t_met_i hE (by decide +kernel) rfl rfl (fun X hl T hR e => ?_)
  unfold T_soonestBy at h
  have hX := T.1
  show kW X τ 0 [(0, .ref (E.2.2.2.2.1 0)), (1, .int x1), (2, .int x2), (3, .int x3), (4, .int x4)] []
  subst hl
  refine k_aload_n hX dX9_soonestBy_0 rfl 0 rfl ?_
  refine k_iload_n hX dX9_soonestBy_1 rfl 1 rfl ?_
  refine k_iconst (v := 1) hX dX9_soonestBy_2 (by decide) ?_
  refine k_iadd hX dX9_soonestBy_3 ?_
  refine k_iload_n hX dX9_soonestBy_4 rfl 3 rfl ?_
  refine k_isub hX dX9_soonestBy_5 ?_
  refine k_iload_n hX dX9_soonestBy_6 rfl 2 rfl ?_
  refine k_iload_n hX dX9_soonestBy_7 rfl 3 rfl ?_
  refine k_iadd hX dX9_soonestBy_8 ?_
  refine k_iload hX dX9_soonestBy_9 4 rfl ?_
  refine k_aload_n hX dX9_soonestBy_11 rfl 0 rfl ?_
  refine k_iload_n hX dX9_soonestBy_12 rfl 1 rfl ?_
  refine k_iload_n hX dX9_soonestBy_13 rfl 2 rfl ?_
  refine k_iload_n hX dX9_soonestBy_14 rfl 3 rfl ?_
  refine k_iload hX dX9_soonestBy_15 4 rfl ?_
  refine cX_waitFor T (met_waitFor T.2.1) (room_lo hR (by omega) (by omega)) h rfl dX9_soonestBy_17 (fun v1 h => ?_)
  refine k_iadd hX dX9_soonestBy_20 ?_
  refine k_aload_n hX dX9_soonestBy_21 rfl 0 rfl ?_
  refine tg10 T dX9_soonestBy_22 ?_
  refine k_iconst (v := 2) hX dX9_soonestBy_25 (by decide) ?_
  refine ta10 T h dX9_soonestBy_26 (fun v2 h => ?_)
  refine k_iadd hX dX9_soonestBy_27 ?_
  refine cX_soonestFrom T (hrc) (room_lo hR (by omega) (by omega)) h rfl dX9_soonestBy_28 (fun v3 h => ?_)
  exact t_ret_ir T e h dX9_soonestBy_31
theorem T_soonestFrom_b19_s_ok {X : KC TS} {E : TE} {z : Int32} {τ : TS} (T : tOK X E cX9_soonestFrom 7 (some .int)) {Fr Lr : Nat} (hR : tRoom X (Fr + 4) (Lr + 98)) (e : tE_i X E z τ) {nf : Nat} {rc : Int32 → Int32 → Int32 → Option Int32} (hrc : ∀ (a0 : Int32) (a1 : Int32) (a2 : Int32) (v : Int32), rc a0 a1 a2 = some v → tMet_i X.1.2.1 E yX9_soonestFrom (ws_ yX9_soonestFrom cX9_soonestFrom 7 (some .int)) Fr Lr [.ref (E.2.2.2.2.1 0), .int a0, .int a1, .int a2] τ v τ) {k19 : Int32 → Int32 → Int32 → Int32 → Int32 → Option Int32} (hk19 : ∀ (x1 : Int32) (x2 : Int32) (x3 : Int32) (x4 : Int32) (x5 : Int32), k19 x1 x2 x3 x4 x5 = some z → kW X τ 19 [(0, .ref (E.2.2.2.2.1 0)), (1, .int x1), (2, .int x2), (3, .int x3), (4, .int x4), (5, .int x5)] []) {x1 : Int32} {x2 : Int32} {x3 : Int32} {x4 : Int32} {x5 : Int32} (h : T_soonestFrom_b19_s nf rc τ k19 x1 x2 x3 x4 x5 = some z) : kW X τ 19 [(0, .ref (E.2.2.2.2.1 0)), (1, .int x1), (2, .int x2), (3, .int x3), (4, .int x4), (5, .int x5)] [] := by
  unfold T_soonestFrom_b19_s at h
  have hX := T.1
  refine k_iload hX dX9_soonestFrom_19 5 rfl ?_
  refine k_iconst (v := 2) hX dX9_soonestFrom_21 (by decide) ?_
  refine k_icmp_ge (tgt := 69) hX h dX9_soonestFrom_22 (by decide) (fun h => ?_) (fun h => ?_)
  · refine k_iload hX dX9_soonestFrom_69 4 rfl ?_
    exact t_ret_ir T e h dX9_soonestFrom_71
  · refine k_aload_n hX dX9_soonestFrom_25 rfl 0 rfl ?_
    refine k_iload_n hX dX9_soonestFrom_26 rfl 1 rfl ?_
    refine k_iload_n hX dX9_soonestFrom_27 rfl 2 rfl ?_
    refine k_iload hX dX9_soonestFrom_28 5 rfl ?_
    refine cX_canGo T (met_canGo T.2.1) (room_lo hR (by omega) (by omega)) h rfl dX9_soonestFrom_30 (fun v1 h => ?_)
    refine k_if_eq (tgt := 63) hX h dX9_soonestFrom_33 (by decide) (fun h => ?_) (fun h => ?_)
    · refine k_iinc (j := 5) [(5, .int (x5 + 1)), (0, .ref (E.2.2.2.2.1 0)), (1, .int x1), (2, .int x2), (3, .int x3), (4, .int x4)] hX dX9_soonestFrom_63 rfl rfl rfl rfl ?_
      refine k_goto (tgt := 19) hX dX9_soonestFrom_66 (by decide) ?_
      refine k_lv [1, 2, 3, 4, 5, 0] rfl ?_
      exact hk19 _ _ _ _ _ h
    · refine k_aload_n hX dX9_soonestFrom_36 rfl 0 rfl ?_
      refine k_iload_n hX dX9_soonestFrom_37 rfl 1 rfl ?_
      refine k_iload_n hX dX9_soonestFrom_38 rfl 2 rfl ?_
      refine k_iload hX dX9_soonestFrom_39 5 rfl ?_
      refine k_iload_n hX dX9_soonestFrom_41 rfl 3 rfl ?_
      refine cX_soonestBy T (met_soonestBy T.2.1 hrc) (room_lo hR (by omega) (by omega)) h rfl dX9_soonestFrom_42 (fun v2 h => ?_)
      refine k_istore [(6, .int v2), (0, .ref (E.2.2.2.2.1 0)), (1, .int x1), (2, .int x2), (3, .int x3), (4, .int x4), (5, .int x5)] hX dX9_soonestFrom_45 rfl rfl ?_
      refine k_iload hX dX9_soonestFrom_47 0 rfl ?_
      refine k_iload hX dX9_soonestFrom_49 5 rfl ?_
      refine k_icmp_ge (tgt := 59) hX h dX9_soonestFrom_51 (by decide) (fun h => ?_) (fun h => ?_)
      · refine k_iload hX dX9_soonestFrom_59 5 rfl ?_
        refine k_istore [(4, .int x4), (6, .int v2), (0, .ref (E.2.2.2.2.1 0)), (1, .int x1), (2, .int x2), (3, .int x3), (5, .int x5)] hX dX9_soonestFrom_61 rfl rfl ?_
        refine k_iinc (j := 6) [(5, .int (x5 + 1)), (4, .int x4), (6, .int v2), (0, .ref (E.2.2.2.2.1 0)), (1, .int x1), (2, .int x2), (3, .int x3)] hX dX9_soonestFrom_63 rfl rfl rfl rfl ?_
        refine k_goto (tgt := 19) hX dX9_soonestFrom_66 (by decide) ?_
        refine k_lv [3, 4, 5, 6, 1, 0] rfl ?_
        exact hk19 _ _ _ _ _ h
      · refine k_iload hX dX9_soonestFrom_54 0 rfl ?_
        refine k_goto (tgt := 61) hX dX9_soonestFrom_56 (by decide) ?_
        refine k_istore [(4, .int v2), (6, .int v2), (0, .ref (E.2.2.2.2.1 0)), (1, .int x1), (2, .int x2), (3, .int x3), (5, .int x5)] hX dX9_soonestFrom_61 rfl rfl ?_
        refine k_iinc (j := 6) [(5, .int (x5 + 1)), (4, .int v2), (6, .int v2), (0, .ref (E.2.2.2.2.1 0)), (1, .int x1), (2, .int x2), (3, .int x3)] hX dX9_soonestFrom_63 rfl rfl rfl rfl ?_
        refine k_goto (tgt := 19) hX dX9_soonestFrom_66 (by decide) ?_
        refine k_lv [3, 4, 5, 6, 1, 0] rfl ?_
        exact hk19 _ _ _ _ _ h
theorem T_soonestFrom_b19_ok {X : KC TS} {E : TE} {z : Int32} {τ : TS} (T : tOK X E cX9_soonestFrom 7 (some .int)) {Fr Lr : Nat} (hR : tRoom X (Fr + 4) (Lr + 98)) (e : tE_i X E z τ) {nf : Nat} {rc : Int32 → Int32 → Int32 → Option Int32} (hrc : ∀ (a0 : Int32) (a1 : Int32) (a2 : Int32) (v : Int32), rc a0 a1 a2 = some v → tMet_i X.1.2.1 E yX9_soonestFrom (ws_ yX9_soonestFrom cX9_soonestFrom 7 (some .int)) Fr Lr [.ref (E.2.2.2.2.1 0), .int a0, .int a1, .int a2] τ v τ) : ∀ (n : Nat) (x1 : Int32) (x2 : Int32) (x3 : Int32) (x4 : Int32) (x5 : Int32), T_soonestFrom_b19 nf rc τ n x1 x2 x3 x4 x5 = some z → kW X τ 19 [(0, .ref (E.2.2.2.2.1 0)), (1, .int x1), (2, .int x2), (3, .int x3), (4, .int x4), (5, .int x5)] [] := by
  intro n
  induction n with
  | zero => intro x1 x2 x3 x4 x5 h; exact (nomatch (show (none : Option Int32) = some z from h))
  | succ n ih =>
    intro x1 x2 x3 x4 x5 h
    have h : T_soonestFrom_b19_s nf rc τ (T_soonestFrom_b19 nf rc τ n) x1 x2 x3 x4 x5 = some z := h
    exact T_soonestFrom_b19_s_ok T hR e hrc ih h
theorem met_soonestFrom_s {l : Launch} {E : TE} (hE : tEnv E) {nf : Nat} {rc : Int32 → Int32 → Int32 → Option Int32} {Fr Lr : Nat} {τ : TS} (hrc : ∀ (a0 : Int32) (a1 : Int32) (a2 : Int32) (v : Int32), rc a0 a1 a2 = some v → tMet_i l E yX9_soonestFrom (ws_ yX9_soonestFrom cX9_soonestFrom 7 (some .int)) Fr Lr [.ref (E.2.2.2.2.1 0), .int a0, .int a1, .int a2] τ v τ) : ∀ (x1 : Int32) (x2 : Int32) (x3 : Int32) (z : Int32), T_soonestFrom_s nf rc τ x1 x2 x3 = some z → tMet_i l E yX9_soonestFrom (ws_ yX9_soonestFrom cX9_soonestFrom 7 (some .int)) (Fr + 4) (Lr + 98) [.ref (E.2.2.2.2.1 0), .int x1, .int x2, .int x3] τ z τ := by
  intro x1 x2 x3 z h
  refine t_met_i hE (by decide +kernel) rfl rfl (fun X hl T hR e => ?_)
  unfold T_soonestFrom_s at h
  have hX := T.1
  show kW X τ 0 [(0, .ref (E.2.2.2.2.1 0)), (1, .int x1), (2, .int x2), (3, .int x3)] []
  subst hl
  refine k_aload_n hX dX9_soonestFrom_0 rfl 0 rfl ?_
  refine k_iload_n hX dX9_soonestFrom_1 rfl 1 rfl ?_
  refine k_iload_n hX dX9_soonestFrom_2 rfl 2 rfl ?_
  refine cX_isHome T (met_isHome T.2.1) (room_lo hR (by omega) (by omega)) h rfl dX9_soonestFrom_3 (fun v1 h => ?_)
  refine k_if_eq (tgt := 11) hX h dX9_soonestFrom_6 (by decide) (fun h => ?_) (fun h => ?_)
  · refine k_ldcw (v := 2000000000) hX q2047 dX9_soonestFrom_11 ?_
    refine k_istore [(4, .int 2000000000), (0, .ref (E.2.2.2.2.1 0)), (1, .int x1), (2, .int x2), (3, .int x3)] hX dX9_soonestFrom_14 rfl rfl ?_
    refine k_iconst (v := 0) hX dX9_soonestFrom_16 (by decide) ?_
    refine k_istore [(5, .int 0), (4, .int 2000000000), (0, .ref (E.2.2.2.2.1 0)), (1, .int x1), (2, .int x2), (3, .int x3)] hX dX9_soonestFrom_17 rfl rfl ?_
    refine k_lv [2, 3, 4, 5, 1, 0] rfl ?_
    exact T_soonestFrom_b19_ok T hR e hrc _ _ _ _ _ _ h
  · refine k_iload_n hX dX9_soonestFrom_9 rfl 3 rfl ?_
    exact t_ret_ir T e h dX9_soonestFrom_10
theorem met_soonestFrom {l : Launch} {E : TE} (hE : tEnv E) {nf : Nat} {τ : TS} : ∀ (dp : Nat) (x1 : Int32) (x2 : Int32) (x3 : Int32) (z : Int32), T_soonestFrom nf τ dp x1 x2 x3 = some z → tMet_i l E yX9_soonestFrom (ws_ yX9_soonestFrom cX9_soonestFrom 7 (some .int)) (4 * dp) (98 * dp) [.ref (E.2.2.2.2.1 0), .int x1, .int x2, .int x3] τ z τ := by
  intro dp
  induction dp with
  | zero => intro x1 x2 x3 z h; exact (nomatch (show (none : Option Int32) = some z from h))
  | succ dp ih =>
    intro x1 x2 x3 z h
    have h : T_soonestFrom_s nf (T_soonestFrom nf τ dp) τ x1 x2 x3 = some z := h
    exact met_soonestFrom_s hE ih _ _ _ _ h
theorem T_soonest_b115_ok {X : KC TS} {E : TE} {z : (Int32 × TS)} (T : tOK X E cX9_soonest 11 (some .int)) (hR : tRoom X 84 2058) (e : tE_i X E z.1 z.2) {nf : Nat} {k66 : Int32 → Int32 → Int32 → Int32 → Int32 → Int32 → TS → Option (Int32 × TS)} (hk66 : ∀ (x4 : Int32) (x5 : Int32) (x6 : Int32) (x7 : Int32) (x8 : Int32) (x9 : Int32) (τ : TS), k66 x4 x5 x6 x7 x8 x9 τ = some z → kW X τ 66 [(0, .ref (E.2.2.2.2.1 0)), (4, .int x4), (5, .int x5), (6, .int x6), (7, .int x7), (8, .int x8), (9, .int x9)] []) {x4 : Int32} {x5 : Int32} {x6 : Int32} {x7 : Int32} {x8 : Int32} {x9 : Int32} {s0 : Int32} {τ : TS} (h : T_soonest_b115 nf k66 x4 x5 x6 x7 x8 x9 s0 τ = some z) : kW X τ 115 [(0, .ref (E.2.2.2.2.1 0)), (4, .int x4), (5, .int x5), (6, .int x6), (7, .int x7), (8, .int x8), (9, .int x9)] [.int s0] := by
  unfold T_soonest_b115 at h
  have hX := T.1
  refine k_istore [(10, .int s0), (0, .ref (E.2.2.2.2.1 0)), (4, .int x4), (5, .int x5), (6, .int x6), (7, .int x7), (8, .int x8), (9, .int x9)] hX dX9_soonest_115 rfl rfl ?_
  refine k_iload hX dX9_soonest_117 7 rfl ?_
  refine k_iload hX dX9_soonest_119 2 rfl ?_
  refine k_icmp_ne (tgt := 127) hX h dX9_soonest_121 (by decide) (fun h => ?_) (fun h => ?_)
  · refine k_iload hX dX9_soonest_127 6 rfl ?_
    refine k_aload_n hX dX9_soonest_129 rfl 1 rfl ?_
    refine k_iload hX dX9_soonest_130 4 rfl ?_
    refine k_iload hX dX9_soonest_132 5 rfl ?_
    refine k_iload hX dX9_soonest_134 0 rfl ?_
    refine k_iload hX dX9_soonest_136 6 rfl ?_
    refine cX_waitFor T (met_waitFor T.2.1) (room_le hR rfl rfl) h rfl dX9_soonest_138 (fun v1 h => ?_)
    refine k_aload_n hX dX9_soonest_141 rfl 1 rfl ?_
    refine tg10 T dX9_soonest_142 ?_
    refine k_iconst (v := 2) hX dX9_soonest_145 (by decide) ?_
    refine ta10 T h dX9_soonest_146 (fun v2 h => ?_)
    refine k_iadd hX dX9_soonest_147 ?_
    refine k_iadd hX dX9_soonest_148 ?_
    refine k_nm h (fun v3 h => ?_)
    refine k_istore [(8, .int v3), (10, .int s0), (0, .ref (E.2.2.2.2.1 0)), (4, .int x4), (5, .int x5), (6, .int x6), (7, .int x7), (9, .int x9)] hX dX9_soonest_149 rfl rfl ?_
    refine k_iload hX dX9_soonest_151 5 rfl ?_
    refine k_iconst (v := 1) hX dX9_soonest_153 (by decide) ?_
    refine k_iload hX dX9_soonest_154 1 rfl ?_
    refine k_isub hX dX9_soonest_156 ?_
    refine k_iadd hX dX9_soonest_157 ?_
    refine k_nm h (fun v4 h => ?_)
    refine k_istore [(6, .int v4), (8, .int v3), (10, .int s0), (0, .ref (E.2.2.2.2.1 0)), (4, .int x4), (5, .int x5), (7, .int x7), (9, .int x9)] hX dX9_soonest_158 rfl rfl ?_
    refine k_iload hX dX9_soonest_160 6 rfl ?_
    refine k_iload hX dX9_soonest_162 2 rfl ?_
    refine k_iadd hX dX9_soonest_164 ?_
    refine k_nm h (fun v5 h => ?_)
    refine k_istore [(7, .int v5), (6, .int v4), (8, .int v3), (10, .int s0), (0, .ref (E.2.2.2.2.1 0)), (4, .int x4), (5, .int x5), (9, .int x9)] hX dX9_soonest_165 rfl rfl ?_
    refine k_iinc (j := 7) [(9, .int (x9 + 1)), (7, .int v5), (6, .int v4), (8, .int v3), (10, .int s0), (0, .ref (E.2.2.2.2.1 0)), (4, .int x4), (5, .int x5)] hX dX9_soonest_167 rfl rfl rfl rfl ?_
    refine k_goto (tgt := 66) hX dX9_soonest_170 (by decide) ?_
    refine k_lv [5, 6, 7, 2, 1, 3, 0] rfl ?_
    exact hk66 _ _ _ _ _ _ _ h
  · refine k_iload hX dX9_soonest_124 0 rfl ?_
    exact t_ret_i T e h dX9_soonest_126
theorem T_soonest_b66_s_ok {X : KC TS} {E : TE} {z : (Int32 × TS)} (T : tOK X E cX9_soonest 11 (some .int)) (hR : tRoom X 84 2058) (e : tE_i X E z.1 z.2) {nf : Nat} {k66 : Int32 → Int32 → Int32 → Int32 → Int32 → Int32 → TS → Option (Int32 × TS)} (hk66 : ∀ (x4 : Int32) (x5 : Int32) (x6 : Int32) (x7 : Int32) (x8 : Int32) (x9 : Int32) (τ : TS), k66 x4 x5 x6 x7 x8 x9 τ = some z → kW X τ 66 [(0, .ref (E.2.2.2.2.1 0)), (4, .int x4), (5, .int x5), (6, .int x6), (7, .int x7), (8, .int x8), (9, .int x9)] []) {x4 : Int32} {x5 : Int32} {x6 : Int32} {x7 : Int32} {x8 : Int32} {x9 : Int32} {τ : TS} (h : T_soonest_b66_s nf k66 x4 x5 x6 x7 x8 x9 τ = some z) : kW X τ 66 [(0, .ref (E.2.2.2.2.1 0)), (4, .int x4), (5, .int x5), (6, .int x6), (7, .int x7), (8, .int x8), (9, .int x9)] [] := by
  unfold T_soonest_b66_s at h
  have hX := T.1
  refine k_aload_n hX dX9_soonest_66 rfl 0 rfl ?_
  refine k_iload hX dX9_soonest_67 3 rfl ?_
  refine k_iload hX dX9_soonest_69 4 rfl ?_
  refine cX_isHome T (met_isHome T.2.1) (room_le hR rfl rfl) h rfl dX9_soonest_71 (fun v1 h => ?_)
  refine k_if_ne (tgt := 173) hX h dX9_soonest_74 (by decide) (fun h => ?_) (fun h => ?_)
  · refine k_iload hX dX9_soonest_173 1 rfl ?_
    refine k_if_ge (tgt := 183) hX h dX9_soonest_175 (by decide) (fun h => ?_) (fun h => ?_)
    · refine k_bipush (v := (-2)) hX dX9_soonest_183 (by decide) ?_
      exact t_ret_i T e h dX9_soonest_185
    · refine k_iload hX dX9_soonest_178 2 rfl ?_
      refine k_goto (tgt := 185) hX dX9_soonest_180 (by decide) ?_
      exact t_ret_i T e h dX9_soonest_185
  · refine k_iload hX dX9_soonest_77 1 rfl ?_
    refine k_if_lt (tgt := 173) hX h dX9_soonest_79 (by decide) (fun h => ?_) (fun h => ?_)
    · refine k_iload hX dX9_soonest_173 1 rfl ?_
      refine k_if_ge (tgt := 183) hX h dX9_soonest_175 (by decide) (fun h => ?_) (fun h => ?_)
      · refine k_bipush (v := (-2)) hX dX9_soonest_183 (by decide) ?_
        exact t_ret_i T e h dX9_soonest_185
      · refine k_iload hX dX9_soonest_178 2 rfl ?_
        refine k_goto (tgt := 185) hX dX9_soonest_180 (by decide) ?_
        exact t_ret_i T e h dX9_soonest_185
    · refine k_aload_n hX dX9_soonest_82 rfl 0 rfl ?_
      refine k_iload hX dX9_soonest_83 3 rfl ?_
      refine k_iload hX dX9_soonest_85 4 rfl ?_
      refine k_iconst (v := 0) hX dX9_soonest_87 (by decide) ?_
      refine cX_canGo T (met_canGo T.2.1) (room_le hR rfl rfl) h rfl dX9_soonest_88 (fun v2 h => ?_)
      refine k_if_eq (tgt := 114) hX h dX9_soonest_91 (by decide) (fun h => ?_) (fun h => ?_)
      · refine k_iconst (v := 1) hX dX9_soonest_114 (by decide) ?_
        refine k_lv [0, 1, 2, 3, 4, 5, 6] rfl ?_
        exact T_soonest_b115_ok T hR e hk66 h
      · refine k_aload_n hX dX9_soonest_94 rfl 0 rfl ?_
        refine k_iload hX dX9_soonest_95 3 rfl ?_
        refine k_iload hX dX9_soonest_97 4 rfl ?_
        refine k_iconst (v := 0) hX dX9_soonest_99 (by decide) ?_
        refine k_iload hX dX9_soonest_100 5 rfl ?_
        refine cX_soonestBy T (met_soonestBy T.2.1 (met_soonestFrom T.2.1 20)) (room_le hR rfl rfl) h rfl dX9_soonest_102 (fun v3 h => ?_)
        refine k_iload hX dX9_soonest_105 2 rfl ?_
        refine k_icmp_ne (tgt := 114) hX h dX9_soonest_107 (by decide) (fun h => ?_) (fun h => ?_)
        · refine k_iconst (v := 1) hX dX9_soonest_114 (by decide) ?_
          refine k_lv [0, 1, 2, 3, 4, 5, 6] rfl ?_
          exact T_soonest_b115_ok T hR e hk66 h
        · refine k_iconst (v := 0) hX dX9_soonest_110 (by decide) ?_
          refine k_goto (tgt := 115) hX dX9_soonest_111 (by decide) ?_
          refine k_lv [0, 1, 2, 3, 4, 5, 6] rfl ?_
          exact T_soonest_b115_ok T hR e hk66 h
theorem T_soonest_b66_ok {X : KC TS} {E : TE} {z : (Int32 × TS)} (T : tOK X E cX9_soonest 11 (some .int)) (hR : tRoom X 84 2058) (e : tE_i X E z.1 z.2) {nf : Nat} : ∀ (n : Nat) (x4 : Int32) (x5 : Int32) (x6 : Int32) (x7 : Int32) (x8 : Int32) (x9 : Int32) (τ : TS), T_soonest_b66 nf n x4 x5 x6 x7 x8 x9 τ = some z → kW X τ 66 [(0, .ref (E.2.2.2.2.1 0)), (4, .int x4), (5, .int x5), (6, .int x6), (7, .int x7), (8, .int x8), (9, .int x9)] [] := by
  intro n
  induction n with
  | zero => intro x4 x5 x6 x7 x8 x9 τ h; exact (nomatch (show (none : Option (Int32 × TS)) = some z from h))
  | succ n ih =>
    intro x4 x5 x6 x7 x8 x9 τ h
    have h : T_soonest_b66_s nf (T_soonest_b66 nf n) x4 x5 x6 x7 x8 x9 τ = some z := h
    exact T_soonest_b66_s_ok T hR e ih h
theorem T_soonest_b41_ok {X : KC TS} {E : TE} {z : (Int32 × TS)} (T : tOK X E cX9_soonest 11 (some .int)) (hR : tRoom X 84 2058) (e : tE_i X E z.1 z.2) {nf : Nat} {x1 : Int32} {x2 : Int32} {x3 : Int32} {x4 : Int32} {s0 : Int32} {τ : TS} (h : T_soonest_b41 nf x1 x2 x3 x4 s0 τ = some z) : kW X τ 41 [(0, .ref (E.2.2.2.2.1 0)), (1, .int x1), (2, .int x2), (3, .int x3), (4, .int x4)] [.int s0] := by
  unfold T_soonest_b41 at h
  have hX := T.1
  refine k_istore [(5, .int s0), (0, .ref (E.2.2.2.2.1 0)), (1, .int x1), (2, .int x2), (3, .int x3), (4, .int x4)] hX dX9_soonest_41 rfl rfl ?_
  refine k_iload hX dX9_soonest_43 0 rfl ?_
  refine k_ldcw (v := 2000000000) hX q2047 dX9_soonest_45 ?_
  refine k_icmp_ne (tgt := 54) hX h dX9_soonest_48 (by decide) (fun h => ?_) (fun h => ?_)
  · refine k_iload_n hX dX9_soonest_54 rfl 2 rfl ?_
    refine k_istore [(6, .int x1), (5, .int s0), (0, .ref (E.2.2.2.2.1 0)), (1, .int x1), (2, .int x2), (3, .int x3), (4, .int x4)] hX dX9_soonest_55 rfl rfl ?_
    refine k_iload_n hX dX9_soonest_57 rfl 4 rfl ?_
    refine k_istore [(7, .int x2), (6, .int x1), (5, .int s0), (0, .ref (E.2.2.2.2.1 0)), (1, .int x1), (2, .int x2), (3, .int x3), (4, .int x4)] hX dX9_soonest_58 rfl rfl ?_
    refine k_iload_n hX dX9_soonest_60 rfl 6 rfl ?_
    refine k_istore [(8, .int x3), (7, .int x2), (6, .int x1), (5, .int s0), (0, .ref (E.2.2.2.2.1 0)), (1, .int x1), (2, .int x2), (3, .int x3), (4, .int x4)] hX dX9_soonest_61 rfl rfl ?_
    refine k_iconst (v := 0) hX dX9_soonest_63 (by decide) ?_
    refine k_istore [(9, .int 0), (8, .int x3), (7, .int x2), (6, .int x1), (5, .int s0), (0, .ref (E.2.2.2.2.1 0)), (1, .int x1), (2, .int x2), (3, .int x3), (4, .int x4)] hX dX9_soonest_64 rfl rfl ?_
    refine k_lv [5, 9, 4, 3, 2, 1, 0] rfl ?_
    exact T_soonest_b66_ok T hR e _ _ _ _ _ _ _ _ h
  · refine k_bipush (v := (-2)) hX dX9_soonest_51 (by decide) ?_
    exact t_ret_i T e h dX9_soonest_53
theorem met_soonest {l : Launch} {E : TE} (hE : tEnv E) {nf : Nat} : ∀ (x1 : Int32) (x2 : Int32) (x3 : Int32) (x4 : Int32) (τ : TS) (z : (Int32 × TS)), T_soonest nf x1 x2 x3 x4 τ = some z → tMet_i l E yX9_soonest (ws_ yX9_soonest cX9_soonest 11 (some .int)) 84 2058 [.ref (E.2.2.2.2.1 0), .int x1, .int x2, .int x3, .int x4] τ z.1 z.2 := by
  intro x1 x2 x3 x4 τ z h
  refine t_met_i hE (by decide +kernel) rfl rfl (fun X hl T hR e => ?_)
  unfold T_soonest at h
  have hX := T.1
  show kW X τ 0 [(0, .ref (E.2.2.2.2.1 0)), (1, .int x1), (2, .int x2), (3, .int x3), (4, .int x4)] []
  refine k_aload_n hX dX9_soonest_0 rfl 0 rfl ?_
  refine k_iconst (v := 0) hX dX9_soonest_1 (by decide) ?_
  refine tp0 T h dX9_soonest_2 (fun τ1 h => ?_)
  refine k_aload_n hX dX9_soonest_5 rfl 0 rfl ?_
  refine k_iload_n hX dX9_soonest_6 rfl 1 rfl ?_
  refine k_iload_n hX dX9_soonest_7 rfl 2 rfl ?_
  refine cX_isCorner T (met_isCorner T.2.1) (room_le hR rfl rfl) h rfl dX9_soonest_8 (fun v2 h => ?_)
  refine k_if_eq (tgt := 38) hX h dX9_soonest_11 (by decide) (fun h => ?_) (fun h => ?_)
  · refine k_ldcw (v := 2000000000) hX q2047 dX9_soonest_38 ?_
    refine k_lv [0, 1, 2, 3, 4] rfl ?_
    exact T_soonest_b41_ok T hR e h
  · refine k_aload_n hX dX9_soonest_14 rfl 0 rfl ?_
    refine k_iload_n hX dX9_soonest_15 rfl 3 rfl ?_
    refine cX_isSecond T (met_isSecond T.2.1) (room_le hR rfl rfl) h rfl dX9_soonest_16 (fun v3 h => ?_)
    refine k_if_eq (tgt := 38) hX h dX9_soonest_19 (by decide) (fun h => ?_) (fun h => ?_)
    · refine k_ldcw (v := 2000000000) hX q2047 dX9_soonest_38 ?_
      refine k_lv [0, 1, 2, 3, 4] rfl ?_
      exact T_soonest_b41_ok T hR e h
    · refine k_iload hX dX9_soonest_22 4 rfl ?_
      refine k_iconst (v := (-1)) hX dX9_soonest_24 (by decide) ?_
      refine k_icmp_lt (tgt := 38) hX h dX9_soonest_25 (by decide) (fun h => ?_) (fun h => ?_)
      · refine k_ldcw (v := 2000000000) hX q2047 dX9_soonest_38 ?_
        refine k_lv [0, 1, 2, 3, 4] rfl ?_
        exact T_soonest_b41_ok T hR e h
      · refine k_aload_n hX dX9_soonest_28 rfl 0 rfl ?_
        refine k_iload_n hX dX9_soonest_29 rfl 1 rfl ?_
        refine k_iload_n hX dX9_soonest_30 rfl 2 rfl ?_
        refine k_iload_n hX dX9_soonest_31 rfl 3 rfl ?_
        refine cX_soonestFrom T (met_soonestFrom T.2.1 20) (room_le hR rfl rfl) h rfl dX9_soonest_32 (fun v4 h => ?_)
        refine k_goto (tgt := 41) hX dX9_soonest_35 (by decide) ?_
        refine k_lv [0, 1, 2, 3, 4] rfl ?_
        exact T_soonest_b41_ok T hR e h
theorem T_latest_b53_s_ok {X : KC TS} {E : TE} {z : (Int32 × TS)} (T : tOK X E cX9_latest 7 (some .int)) (hR : tRoom X 81 1986) (e : tE_i X E z.1 z.2) {nf : Nat} {k53 : Int32 → Int32 → Int32 → Int32 → Int32 → Int32 → TS → Option (Int32 × TS)} (hk53 : ∀ (x1 : Int32) (x2 : Int32) (x3 : Int32) (x4 : Int32) (x5 : Int32) (x6 : Int32) (τ : TS), k53 x1 x2 x3 x4 x5 x6 τ = some z → kW X τ 53 [(0, .ref (E.2.2.2.2.1 0)), (1, .int x1), (2, .int x2), (3, .int x3), (4, .int x4), (5, .int x5), (6, .int x6)] []) {x1 : Int32} {x2 : Int32} {x3 : Int32} {x4 : Int32} {x5 : Int32} {x6 : Int32} {τ : TS} (h : T_latest_b53_s nf k53 x1 x2 x3 x4 x5 x6 τ = some z) : kW X τ 53 [(0, .ref (E.2.2.2.2.1 0)), (1, .int x1), (2, .int x2), (3, .int x3), (4, .int x4), (5, .int x5), (6, .int x6)] [] := by
  unfold T_latest_b53_s at h
  have hX := T.1
  refine k_iload hX dX9_latest_53 6 rfl ?_
  refine k_aload_n hX dX9_latest_55 rfl 0 rfl ?_
  refine tg10 T dX9_latest_56 ?_
  refine k_bipush (v := 9) hX dX9_latest_59 (by decide) ?_
  refine ta10 T h dX9_latest_61 (fun v1 h => ?_)
  refine k_icmp_ge (tgt := 97) hX h dX9_latest_62 (by decide) (fun h => ?_) (fun h => ?_)
  · refine k_iload hX dX9_latest_97 5 rfl ?_
    exact t_ret_i T e h dX9_latest_99
  · refine k_aload_n hX dX9_latest_65 rfl 0 rfl ?_
    refine k_iload_n hX dX9_latest_66 rfl 1 rfl ?_
    refine k_iload_n hX dX9_latest_67 rfl 2 rfl ?_
    refine k_iload_n hX dX9_latest_68 rfl 3 rfl ?_
    refine k_iload hX dX9_latest_69 6 rfl ?_
    refine k_iadd hX dX9_latest_71 ?_
    refine cX_soonestFrom T (met_soonestFrom T.2.1 20) (room_le hR rfl rfl) h rfl dX9_latest_72 (fun v2 h => ?_)
    refine k_iload hX dX9_latest_75 4 rfl ?_
    refine k_icmp_ne (tgt := 87) hX h dX9_latest_77 (by decide) (fun h => ?_) (fun h => ?_)
    · refine k_iload hX dX9_latest_87 5 rfl ?_
      refine k_istore [(5, .int x5), (0, .ref (E.2.2.2.2.1 0)), (1, .int x1), (2, .int x2), (3, .int x3), (4, .int x4), (6, .int x6)] hX dX9_latest_89 rfl rfl ?_
      refine k_iinc (j := 6) [(6, .int (x6 + 1)), (5, .int x5), (0, .ref (E.2.2.2.2.1 0)), (1, .int x1), (2, .int x2), (3, .int x3), (4, .int x4)] hX dX9_latest_91 rfl rfl rfl rfl ?_
      refine k_goto (tgt := 53) hX dX9_latest_94 (by decide) ?_
      refine k_lv [2, 3, 4, 5, 6, 1, 0] rfl ?_
      exact hk53 _ _ _ _ _ _ _ h
    · refine k_iload_n hX dX9_latest_80 rfl 3 rfl ?_
      refine k_iload hX dX9_latest_81 6 rfl ?_
      refine k_iadd hX dX9_latest_83 ?_
      refine k_goto (tgt := 89) hX dX9_latest_84 (by decide) ?_
      refine k_nm h (fun v3 h => ?_)
      refine k_istore [(5, .int v3), (0, .ref (E.2.2.2.2.1 0)), (1, .int x1), (2, .int x2), (3, .int x3), (4, .int x4), (6, .int x6)] hX dX9_latest_89 rfl rfl ?_
      refine k_iinc (j := 6) [(6, .int (x6 + 1)), (5, .int v3), (0, .ref (E.2.2.2.2.1 0)), (1, .int x1), (2, .int x2), (3, .int x3), (4, .int x4)] hX dX9_latest_91 rfl rfl rfl rfl ?_
      refine k_goto (tgt := 53) hX dX9_latest_94 (by decide) ?_
      refine k_lv [2, 3, 4, 5, 6, 1, 0] rfl ?_
      exact hk53 _ _ _ _ _ _ _ h
theorem T_latest_b53_ok {X : KC TS} {E : TE} {z : (Int32 × TS)} (T : tOK X E cX9_latest 7 (some .int)) (hR : tRoom X 81 1986) (e : tE_i X E z.1 z.2) {nf : Nat} : ∀ (n : Nat) (x1 : Int32) (x2 : Int32) (x3 : Int32) (x4 : Int32) (x5 : Int32) (x6 : Int32) (τ : TS), T_latest_b53 nf n x1 x2 x3 x4 x5 x6 τ = some z → kW X τ 53 [(0, .ref (E.2.2.2.2.1 0)), (1, .int x1), (2, .int x2), (3, .int x3), (4, .int x4), (5, .int x5), (6, .int x6)] [] := by
  intro n
  induction n with
  | zero => intro x1 x2 x3 x4 x5 x6 τ h; exact (nomatch (show (none : Option (Int32 × TS)) = some z from h))
  | succ n ih =>
    intro x1 x2 x3 x4 x5 x6 τ h
    have h : T_latest_b53_s nf (T_latest_b53 nf n) x1 x2 x3 x4 x5 x6 τ = some z := h
    exact T_latest_b53_s_ok T hR e ih h
theorem T_latest_b35_ok {X : KC TS} {E : TE} {z : (Int32 × TS)} (T : tOK X E cX9_latest 7 (some .int)) (hR : tRoom X 81 1986) (e : tE_i X E z.1 z.2) {nf : Nat} {x1 : Int32} {x2 : Int32} {x3 : Int32} {s0 : Int32} {τ : TS} (h : T_latest_b35 nf x1 x2 x3 s0 τ = some z) : kW X τ 35 [(0, .ref (E.2.2.2.2.1 0)), (1, .int x1), (2, .int x2), (3, .int x3)] [.int s0] := by
  unfold T_latest_b35 at h
  have hX := T.1
  refine k_istore [(4, .int s0), (0, .ref (E.2.2.2.2.1 0)), (1, .int x1), (2, .int x2), (3, .int x3)] hX dX9_latest_35 rfl rfl ?_
  refine k_iload hX dX9_latest_37 0 rfl ?_
  refine k_ldcw (v := 2000000000) hX q2047 dX9_latest_39 ?_
  refine k_icmp_ne (tgt := 47) hX h dX9_latest_42 (by decide) (fun h => ?_) (fun h => ?_)
  · refine k_iload_n hX dX9_latest_47 rfl 4 rfl ?_
    refine k_istore [(5, .int x3), (4, .int s0), (0, .ref (E.2.2.2.2.1 0)), (1, .int x1), (2, .int x2), (3, .int x3)] hX dX9_latest_48 rfl rfl ?_
    refine k_iconst (v := 1) hX dX9_latest_50 (by decide) ?_
    refine k_istore [(6, .int 1), (5, .int x3), (4, .int s0), (0, .ref (E.2.2.2.2.1 0)), (1, .int x1), (2, .int x2), (3, .int x3)] hX dX9_latest_51 rfl rfl ?_
    refine k_lv [3, 4, 5, 6, 2, 1, 0] rfl ?_
    exact T_latest_b53_ok T hR e _ _ _ _ _ _ _ _ h
  · refine k_iconst (v := (-1)) hX dX9_latest_45 (by decide) ?_
    exact t_ret_i T e h dX9_latest_46
theorem met_latest {l : Launch} {E : TE} (hE : tEnv E) {nf : Nat} : ∀ (x1 : Int32) (x2 : Int32) (x3 : Int32) (τ : TS) (z : (Int32 × TS)), T_latest nf x1 x2 x3 τ = some z → tMet_i l E yX9_latest (ws_ yX9_latest cX9_latest 7 (some .int)) 81 1986 [.ref (E.2.2.2.2.1 0), .int x1, .int x2, .int x3] τ z.1 z.2 := by
  intro x1 x2 x3 τ z h
  refine t_met_i hE (by decide +kernel) rfl rfl (fun X hl T hR e => ?_)
  unfold T_latest at h
  have hX := T.1
  show kW X τ 0 [(0, .ref (E.2.2.2.2.1 0)), (1, .int x1), (2, .int x2), (3, .int x3)] []
  refine k_aload_n hX dX9_latest_0 rfl 0 rfl ?_
  refine k_iconst (v := 0) hX dX9_latest_1 (by decide) ?_
  refine tp0 T h dX9_latest_2 (fun τ1 h => ?_)
  refine k_aload_n hX dX9_latest_5 rfl 0 rfl ?_
  refine k_iload_n hX dX9_latest_6 rfl 1 rfl ?_
  refine k_iload_n hX dX9_latest_7 rfl 2 rfl ?_
  refine cX_isCorner T (met_isCorner T.2.1) (room_le hR rfl rfl) h rfl dX9_latest_8 (fun v2 h => ?_)
  refine k_if_eq (tgt := 32) hX h dX9_latest_11 (by decide) (fun h => ?_) (fun h => ?_)
  · refine k_ldcw (v := 2000000000) hX q2047 dX9_latest_32 ?_
    refine k_lv [0, 1, 2, 3] rfl ?_
    exact T_latest_b35_ok T hR e h
  · refine k_aload_n hX dX9_latest_14 rfl 0 rfl ?_
    refine k_iload_n hX dX9_latest_15 rfl 3 rfl ?_
    refine cX_isSecond T (met_isSecond T.2.1) (room_le hR rfl rfl) h rfl dX9_latest_16 (fun v3 h => ?_)
    refine k_if_eq (tgt := 32) hX h dX9_latest_19 (by decide) (fun h => ?_) (fun h => ?_)
    · refine k_ldcw (v := 2000000000) hX q2047 dX9_latest_32 ?_
      refine k_lv [0, 1, 2, 3] rfl ?_
      exact T_latest_b35_ok T hR e h
    · refine k_aload_n hX dX9_latest_22 rfl 0 rfl ?_
      refine k_iload_n hX dX9_latest_23 rfl 1 rfl ?_
      refine k_iload_n hX dX9_latest_24 rfl 2 rfl ?_
      refine k_iload_n hX dX9_latest_25 rfl 3 rfl ?_
      refine cX_soonestFrom T (met_soonestFrom T.2.1 20) (room_le hR rfl rfl) h rfl dX9_latest_26 (fun v4 h => ?_)
      refine k_goto (tgt := 35) hX dX9_latest_29 (by decide) ?_
      refine k_lv [0, 1, 2, 3] rfl ?_
      exact T_latest_b35_ok T hR e h
theorem T_turnsFrom_b46_ok {X : KC TS} {E : TE} {z : Int32} {τ : TS} (T : tOK X E cX9_turnsFrom 10 (some .int)) {Fr Lr : Nat} (hR : tRoom X (Fr + 3) (Lr + 74)) (e : tE_i X E z τ) {nf : Nat} {rc : Int32 → Int32 → Int32 → Int32 → Int32 → Option Int32} (hrc : ∀ (a0 : Int32) (a1 : Int32) (a2 : Int32) (a3 : Int32) (a4 : Int32) (v : Int32), rc a0 a1 a2 a3 a4 = some v → tMet_i X.1.2.1 E yX9_turnsFrom (ws_ yX9_turnsFrom cX9_turnsFrom 10 (some .int)) Fr Lr [.ref (E.2.2.2.2.1 0), .int a0, .int a1, .int a2, .int a3, .int a4] τ v τ) {k19 : Int32 → Int32 → Int32 → Int32 → Int32 → Int32 → Int32 → Option Int32} (hk19 : ∀ (x1 : Int32) (x2 : Int32) (x3 : Int32) (x4 : Int32) (x5 : Int32) (x6 : Int32) (x7 : Int32), k19 x1 x2 x3 x4 x5 x6 x7 = some z → kW X τ 19 [(0, .ref (E.2.2.2.2.1 0)), (1, .int x1), (2, .int x2), (3, .int x3), (4, .int x4), (5, .int x5), (6, .int x6), (7, .int x7)] []) {x1 : Int32} {x2 : Int32} {x3 : Int32} {x4 : Int32} {x5 : Int32} {x6 : Int32} {x7 : Int32} {s0 : Int32} (h : T_turnsFrom_b46 nf rc τ k19 x1 x2 x3 x4 x5 x6 x7 s0 = some z) : kW X τ 46 [(0, .ref (E.2.2.2.2.1 0)), (1, .int x1), (2, .int x2), (3, .int x3), (4, .int x4), (5, .int x5), (6, .int x6), (7, .int x7)] [.int s0] := by
  unfold T_turnsFrom_b46 at h
  have hX := T.1
  refine k_istore [(8, .int s0), (0, .ref (E.2.2.2.2.1 0)), (1, .int x1), (2, .int x2), (3, .int x3), (4, .int x4), (5, .int x5), (6, .int x6), (7, .int x7)] hX dX9_turnsFrom_46 rfl rfl ?_
  refine k_iload hX dX9_turnsFrom_48 0 rfl ?_
  refine k_if_lt (tgt := 118) hX h dX9_turnsFrom_50 (by decide) (fun h => ?_) (fun h => ?_)
  · refine k_iinc (j := 8) [(7, .int (x7 + 1)), (8, .int s0), (0, .ref (E.2.2.2.2.1 0)), (1, .int x1), (2, .int x2), (3, .int x3), (4, .int x4), (5, .int x5), (6, .int x6)] hX dX9_turnsFrom_118 rfl rfl rfl rfl ?_
    refine k_goto (tgt := 19) hX dX9_turnsFrom_121 (by decide) ?_
    refine k_lv [2, 3, 4, 5, 6, 7, 8, 0] rfl ?_
    exact hk19 _ _ _ _ _ _ _ h
  · refine k_aload_n hX dX9_turnsFrom_53 rfl 1 rfl ?_
    refine k_iload_n hX dX9_turnsFrom_54 rfl 2 rfl ?_
    refine k_iload_n hX dX9_turnsFrom_55 rfl 3 rfl ?_
    refine k_iload hX dX9_turnsFrom_56 8 rfl ?_
    refine cX_canGo T (met_canGo T.2.1) (room_lo hR (by omega) (by omega)) h rfl dX9_turnsFrom_58 (fun v1 h => ?_)
    refine k_if_eq (tgt := 118) hX h dX9_turnsFrom_61 (by decide) (fun h => ?_) (fun h => ?_)
    · refine k_iinc (j := 8) [(7, .int (x7 + 1)), (8, .int s0), (0, .ref (E.2.2.2.2.1 0)), (1, .int x1), (2, .int x2), (3, .int x3), (4, .int x4), (5, .int x5), (6, .int x6)] hX dX9_turnsFrom_118 rfl rfl rfl rfl ?_
      refine k_goto (tgt := 19) hX dX9_turnsFrom_121 (by decide) ?_
      refine k_lv [2, 3, 4, 5, 6, 7, 8, 0] rfl ?_
      exact hk19 _ _ _ _ _ _ _ h
    · refine k_aload_n hX dX9_turnsFrom_64 rfl 1 rfl ?_
      refine k_iload_n hX dX9_turnsFrom_65 rfl 2 rfl ?_
      refine k_iconst (v := 1) hX dX9_turnsFrom_66 (by decide) ?_
      refine k_iadd hX dX9_turnsFrom_67 ?_
      refine k_iload hX dX9_turnsFrom_68 8 rfl ?_
      refine k_isub hX dX9_turnsFrom_70 ?_
      refine k_iload_n hX dX9_turnsFrom_71 rfl 3 rfl ?_
      refine k_iload hX dX9_turnsFrom_72 8 rfl ?_
      refine k_iadd hX dX9_turnsFrom_74 ?_
      refine k_iload_n hX dX9_turnsFrom_75 rfl 4 rfl ?_
      refine k_aload_n hX dX9_turnsFrom_76 rfl 1 rfl ?_
      refine k_iload_n hX dX9_turnsFrom_77 rfl 2 rfl ?_
      refine k_iload_n hX dX9_turnsFrom_78 rfl 3 rfl ?_
      refine k_iload hX dX9_turnsFrom_79 8 rfl ?_
      refine k_iload_n hX dX9_turnsFrom_81 rfl 4 rfl ?_
      refine cX_waitFor T (met_waitFor T.2.1) (room_lo hR (by omega) (by omega)) h rfl dX9_turnsFrom_82 (fun v2 h => ?_)
      refine k_iadd hX dX9_turnsFrom_85 ?_
      refine k_aload_n hX dX9_turnsFrom_86 rfl 1 rfl ?_
      refine tg10 T dX9_turnsFrom_87 ?_
      refine k_iconst (v := 2) hX dX9_turnsFrom_90 (by decide) ?_
      refine ta10 T h dX9_turnsFrom_91 (fun v3 h => ?_)
      refine k_iadd hX dX9_turnsFrom_92 ?_
      refine k_iload hX dX9_turnsFrom_93 8 rfl ?_
      refine k_iload hX dX9_turnsFrom_95 0 rfl ?_
      refine cX_turnsFrom T (hrc) (room_lo hR (by omega) (by omega)) h rfl dX9_turnsFrom_97 (fun v4 h => ?_)
      refine k_istore [(9, .int v4), (8, .int s0), (0, .ref (E.2.2.2.2.1 0)), (1, .int x1), (2, .int x2), (3, .int x3), (4, .int x4), (5, .int x5), (6, .int x6), (7, .int x7)] hX dX9_turnsFrom_100 rfl rfl ?_
      refine k_iload hX dX9_turnsFrom_102 0 rfl ?_
      refine k_iload hX dX9_turnsFrom_104 8 rfl ?_
      refine k_icmp_ge (tgt := 114) hX h dX9_turnsFrom_106 (by decide) (fun h => ?_) (fun h => ?_)
      · refine k_iload hX dX9_turnsFrom_114 8 rfl ?_
        refine k_istore [(6, .int x6), (9, .int v4), (8, .int s0), (0, .ref (E.2.2.2.2.1 0)), (1, .int x1), (2, .int x2), (3, .int x3), (4, .int x4), (5, .int x5), (7, .int x7)] hX dX9_turnsFrom_116 rfl rfl ?_
        refine k_iinc (j := 9) [(7, .int (x7 + 1)), (6, .int x6), (9, .int v4), (8, .int s0), (0, .ref (E.2.2.2.2.1 0)), (1, .int x1), (2, .int x2), (3, .int x3), (4, .int x4), (5, .int x5)] hX dX9_turnsFrom_118 rfl rfl rfl rfl ?_
        refine k_goto (tgt := 19) hX dX9_turnsFrom_121 (by decide) ?_
        refine k_lv [4, 5, 6, 7, 8, 9, 1, 0] rfl ?_
        exact hk19 _ _ _ _ _ _ _ h
      · refine k_iload hX dX9_turnsFrom_109 0 rfl ?_
        refine k_goto (tgt := 116) hX dX9_turnsFrom_111 (by decide) ?_
        refine k_istore [(6, .int v4), (9, .int v4), (8, .int s0), (0, .ref (E.2.2.2.2.1 0)), (1, .int x1), (2, .int x2), (3, .int x3), (4, .int x4), (5, .int x5), (7, .int x7)] hX dX9_turnsFrom_116 rfl rfl ?_
        refine k_iinc (j := 9) [(7, .int (x7 + 1)), (6, .int v4), (9, .int v4), (8, .int s0), (0, .ref (E.2.2.2.2.1 0)), (1, .int x1), (2, .int x2), (3, .int x3), (4, .int x4), (5, .int x5)] hX dX9_turnsFrom_118 rfl rfl rfl rfl ?_
        refine k_goto (tgt := 19) hX dX9_turnsFrom_121 (by decide) ?_
        refine k_lv [4, 5, 6, 7, 8, 9, 1, 0] rfl ?_
        exact hk19 _ _ _ _ _ _ _ h
theorem T_turnsFrom_b19_s_ok {X : KC TS} {E : TE} {z : Int32} {τ : TS} (T : tOK X E cX9_turnsFrom 10 (some .int)) {Fr Lr : Nat} (hR : tRoom X (Fr + 3) (Lr + 74)) (e : tE_i X E z τ) {nf : Nat} {rc : Int32 → Int32 → Int32 → Int32 → Int32 → Option Int32} (hrc : ∀ (a0 : Int32) (a1 : Int32) (a2 : Int32) (a3 : Int32) (a4 : Int32) (v : Int32), rc a0 a1 a2 a3 a4 = some v → tMet_i X.1.2.1 E yX9_turnsFrom (ws_ yX9_turnsFrom cX9_turnsFrom 10 (some .int)) Fr Lr [.ref (E.2.2.2.2.1 0), .int a0, .int a1, .int a2, .int a3, .int a4] τ v τ) {k19 : Int32 → Int32 → Int32 → Int32 → Int32 → Int32 → Int32 → Option Int32} (hk19 : ∀ (x1 : Int32) (x2 : Int32) (x3 : Int32) (x4 : Int32) (x5 : Int32) (x6 : Int32) (x7 : Int32), k19 x1 x2 x3 x4 x5 x6 x7 = some z → kW X τ 19 [(0, .ref (E.2.2.2.2.1 0)), (1, .int x1), (2, .int x2), (3, .int x3), (4, .int x4), (5, .int x5), (6, .int x6), (7, .int x7)] []) {x1 : Int32} {x2 : Int32} {x3 : Int32} {x4 : Int32} {x5 : Int32} {x6 : Int32} {x7 : Int32} (h : T_turnsFrom_b19_s nf rc τ k19 x1 x2 x3 x4 x5 x6 x7 = some z) : kW X τ 19 [(0, .ref (E.2.2.2.2.1 0)), (1, .int x1), (2, .int x2), (3, .int x3), (4, .int x4), (5, .int x5), (6, .int x6), (7, .int x7)] [] := by
  unfold T_turnsFrom_b19_s at h
  have hX := T.1
  refine k_iload hX dX9_turnsFrom_19 7 rfl ?_
  refine k_iconst (v := 2) hX dX9_turnsFrom_21 (by decide) ?_
  refine k_icmp_ge (tgt := 124) hX h dX9_turnsFrom_22 (by decide) (fun h => ?_) (fun h => ?_)
  · refine k_iload hX dX9_turnsFrom_124 6 rfl ?_
    exact t_ret_ir T e h dX9_turnsFrom_126
  · refine k_iload hX dX9_turnsFrom_25 4 rfl ?_
    refine k_if_lt (tgt := 44) hX h dX9_turnsFrom_27 (by decide) (fun h => ?_) (fun h => ?_)
    · refine k_iload hX dX9_turnsFrom_44 5 rfl ?_
      refine k_lv [0, 1, 2, 3, 4, 5, 6, 7] rfl ?_
      exact T_turnsFrom_b46_ok T hR e hrc hk19 h
    · refine k_iload hX dX9_turnsFrom_30 7 rfl ?_
      refine k_iload hX dX9_turnsFrom_32 4 rfl ?_
      refine k_icmp_eq (tgt := 44) hX h dX9_turnsFrom_34 (by decide) (fun h => ?_) (fun h => ?_)
      · refine k_iload hX dX9_turnsFrom_44 5 rfl ?_
        refine k_lv [0, 1, 2, 3, 4, 5, 6, 7] rfl ?_
        exact T_turnsFrom_b46_ok T hR e hrc hk19 h
      · refine k_iload hX dX9_turnsFrom_37 5 rfl ?_
        refine k_iconst (v := 1) hX dX9_turnsFrom_39 (by decide) ?_
        refine k_isub hX dX9_turnsFrom_40 ?_
        refine k_goto (tgt := 46) hX dX9_turnsFrom_41 (by decide) ?_
        refine k_lv [0, 1, 2, 3, 4, 5, 6, 7] rfl ?_
        exact T_turnsFrom_b46_ok T hR e hrc hk19 h
theorem T_turnsFrom_b19_ok {X : KC TS} {E : TE} {z : Int32} {τ : TS} (T : tOK X E cX9_turnsFrom 10 (some .int)) {Fr Lr : Nat} (hR : tRoom X (Fr + 3) (Lr + 74)) (e : tE_i X E z τ) {nf : Nat} {rc : Int32 → Int32 → Int32 → Int32 → Int32 → Option Int32} (hrc : ∀ (a0 : Int32) (a1 : Int32) (a2 : Int32) (a3 : Int32) (a4 : Int32) (v : Int32), rc a0 a1 a2 a3 a4 = some v → tMet_i X.1.2.1 E yX9_turnsFrom (ws_ yX9_turnsFrom cX9_turnsFrom 10 (some .int)) Fr Lr [.ref (E.2.2.2.2.1 0), .int a0, .int a1, .int a2, .int a3, .int a4] τ v τ) : ∀ (n : Nat) (x1 : Int32) (x2 : Int32) (x3 : Int32) (x4 : Int32) (x5 : Int32) (x6 : Int32) (x7 : Int32), T_turnsFrom_b19 nf rc τ n x1 x2 x3 x4 x5 x6 x7 = some z → kW X τ 19 [(0, .ref (E.2.2.2.2.1 0)), (1, .int x1), (2, .int x2), (3, .int x3), (4, .int x4), (5, .int x5), (6, .int x6), (7, .int x7)] [] := by
  intro n
  induction n with
  | zero => intro x1 x2 x3 x4 x5 x6 x7 h; exact (nomatch (show (none : Option Int32) = some z from h))
  | succ n ih =>
    intro x1 x2 x3 x4 x5 x6 x7 h
    have h : T_turnsFrom_b19_s nf rc τ (T_turnsFrom_b19 nf rc τ n) x1 x2 x3 x4 x5 x6 x7 = some z := h
    exact T_turnsFrom_b19_s_ok T hR e hrc ih h
theorem met_turnsFrom_s {l : Launch} {E : TE} (hE : tEnv E) {nf : Nat} {rc : Int32 → Int32 → Int32 → Int32 → Int32 → Option Int32} {Fr Lr : Nat} {τ : TS} (hrc : ∀ (a0 : Int32) (a1 : Int32) (a2 : Int32) (a3 : Int32) (a4 : Int32) (v : Int32), rc a0 a1 a2 a3 a4 = some v → tMet_i l E yX9_turnsFrom (ws_ yX9_turnsFrom cX9_turnsFrom 10 (some .int)) Fr Lr [.ref (E.2.2.2.2.1 0), .int a0, .int a1, .int a2, .int a3, .int a4] τ v τ) : ∀ (x1 : Int32) (x2 : Int32) (x3 : Int32) (x4 : Int32) (x5 : Int32) (z : Int32), T_turnsFrom_s nf rc τ x1 x2 x3 x4 x5 = some z → tMet_i l E yX9_turnsFrom (ws_ yX9_turnsFrom cX9_turnsFrom 10 (some .int)) (Fr + 3) (Lr + 74) [.ref (E.2.2.2.2.1 0), .int x1, .int x2, .int x3, .int x4, .int x5] τ z τ := by
  intro x1 x2 x3 x4 x5 z h
  refine t_met_i hE (by decide +kernel) rfl rfl (fun X hl T hR e => ?_)
  unfold T_turnsFrom_s at h
  have hX := T.1
  show kW X τ 0 [(0, .ref (E.2.2.2.2.1 0)), (1, .int x1), (2, .int x2), (3, .int x3), (4, .int x4), (5, .int x5)] []
  subst hl
  refine k_aload_n hX dX9_turnsFrom_0 rfl 0 rfl ?_
  refine k_iload_n hX dX9_turnsFrom_1 rfl 1 rfl ?_
  refine k_iload_n hX dX9_turnsFrom_2 rfl 2 rfl ?_
  refine cX_isHome T (met_isHome T.2.1) (room_lo hR (by omega) (by omega)) h rfl dX9_turnsFrom_3 (fun v1 h => ?_)
  refine k_if_eq (tgt := 11) hX h dX9_turnsFrom_6 (by decide) (fun h => ?_) (fun h => ?_)
  · refine k_ldcw (v := 2000000000) hX q2047 dX9_turnsFrom_11 ?_
    refine k_istore [(6, .int 2000000000), (0, .ref (E.2.2.2.2.1 0)), (1, .int x1), (2, .int x2), (3, .int x3), (4, .int x4), (5, .int x5)] hX dX9_turnsFrom_14 rfl rfl ?_
    refine k_iconst (v := 0) hX dX9_turnsFrom_16 (by decide) ?_
    refine k_istore [(7, .int 0), (6, .int 2000000000), (0, .ref (E.2.2.2.2.1 0)), (1, .int x1), (2, .int x2), (3, .int x3), (4, .int x4), (5, .int x5)] hX dX9_turnsFrom_17 rfl rfl ?_
    refine k_lv [2, 3, 4, 5, 6, 7, 1, 0] rfl ?_
    exact T_turnsFrom_b19_ok T hR e hrc _ _ _ _ _ _ _ _ h
  · refine k_iload_n hX dX9_turnsFrom_9 rfl 3 rfl ?_
    exact t_ret_ir T e h dX9_turnsFrom_10
theorem met_turnsFrom {l : Launch} {E : TE} (hE : tEnv E) {nf : Nat} {τ : TS} : ∀ (dp : Nat) (x1 : Int32) (x2 : Int32) (x3 : Int32) (x4 : Int32) (x5 : Int32) (z : Int32), T_turnsFrom nf τ dp x1 x2 x3 x4 x5 = some z → tMet_i l E yX9_turnsFrom (ws_ yX9_turnsFrom cX9_turnsFrom 10 (some .int)) (3 * dp) (74 * dp) [.ref (E.2.2.2.2.1 0), .int x1, .int x2, .int x3, .int x4, .int x5] τ z τ := by
  intro dp
  induction dp with
  | zero => intro x1 x2 x3 x4 x5 z h; exact (nomatch (show (none : Option Int32) = some z from h))
  | succ dp ih =>
    intro x1 x2 x3 x4 x5 z h
    have h : T_turnsFrom_s nf (T_turnsFrom nf τ dp) τ x1 x2 x3 x4 x5 = some z := h
    exact met_turnsFrom_s hE ih _ _ _ _ _ _ h
theorem T_turning_b38_ok {X : KC TS} {E : TE} {z : (Int32 × TS)} (T : tOK X E cX9_turning 4 (some .int)) (hR : tRoom X 61 1509) (e : tE_i X E z.1 z.2) {nf : Nat} {s0 : Int32} {τ : TS} (h : T_turning_b38 nf s0 τ = some z) : kW X τ 38 [(0, .ref (E.2.2.2.2.1 0))] [.int s0] := by
  unfold T_turning_b38 at h
  have hX := T.1
  refine k_istore_n [(3, .int s0), (0, .ref (E.2.2.2.2.1 0))] hX dX9_turning_38 rfl rfl rfl ?_
  refine k_iload_n hX dX9_turning_39 rfl 0 rfl ?_
  refine k_ldcw (v := 2000000000) hX q2047 dX9_turning_40 ?_
  refine k_icmp_ne (tgt := 50) hX h dX9_turning_43 (by decide) (fun h => ?_) (fun h => ?_)
  · refine k_iload_n hX dX9_turning_50 rfl 0 rfl ?_
    exact t_ret_i T e h dX9_turning_51
  · refine k_iconst (v := (-1)) hX dX9_turning_46 (by decide) ?_
    refine k_goto (tgt := 51) hX dX9_turning_47 (by decide) ?_
    exact t_ret_i T e h dX9_turning_51
theorem met_turning {l : Launch} {E : TE} (hE : tEnv E) {nf : Nat} : ∀ (x1 : Int32) (x2 : Int32) (τ : TS) (z : (Int32 × TS)), T_turning nf x1 x2 τ = some z → tMet_i l E yX9_turning (ws_ yX9_turning cX9_turning 4 (some .int)) 61 1509 [.ref (E.2.2.2.2.1 0), .int x1, .int x2] τ z.1 z.2 := by
  intro x1 x2 τ z h
  refine t_met_i hE (by decide +kernel) rfl rfl (fun X hl T hR e => ?_)
  unfold T_turning at h
  have hX := T.1
  show kW X τ 0 [(0, .ref (E.2.2.2.2.1 0)), (1, .int x1), (2, .int x2)] []
  refine k_aload_n hX dX9_turning_0 rfl 0 rfl ?_
  refine k_iconst (v := 0) hX dX9_turning_1 (by decide) ?_
  refine tp0 T h dX9_turning_2 (fun τ1 h => ?_)
  refine k_aload_n hX dX9_turning_5 rfl 0 rfl ?_
  refine k_iload_n hX dX9_turning_6 rfl 1 rfl ?_
  refine cX_isSecond T (met_isSecond T.2.1) (room_le hR rfl rfl) h rfl dX9_turning_7 (fun v2 h => ?_)
  refine k_if_eq (tgt := 35) hX h dX9_turning_10 (by decide) (fun h => ?_) (fun h => ?_)
  · refine k_ldcw (v := 2000000000) hX q2047 dX9_turning_35 ?_
    refine k_lv [0] rfl ?_
    exact T_turning_b38_ok T hR e h
  · refine k_iload_n hX dX9_turning_13 rfl 2 rfl ?_
    refine k_iconst (v := 0) hX dX9_turning_14 (by decide) ?_
    refine k_bipush (v := 12) hX dX9_turning_15 (by decide) ?_
    refine cX_within T (met_within T.2.1) (room_le hR rfl rfl) h rfl dX9_turning_17 (fun v3 h => ?_)
    refine k_if_eq (tgt := 35) hX h dX9_turning_20 (by decide) (fun h => ?_) (fun h => ?_)
    · refine k_ldcw (v := 2000000000) hX q2047 dX9_turning_35 ?_
      refine k_lv [0] rfl ?_
      exact T_turning_b38_ok T hR e h
    · refine k_aload_n hX dX9_turning_23 rfl 0 rfl ?_
      refine k_iconst (v := 0) hX dX9_turning_24 (by decide) ?_
      refine k_iconst (v := 0) hX dX9_turning_25 (by decide) ?_
      refine k_iload_n hX dX9_turning_26 rfl 1 rfl ?_
      refine k_iconst (v := (-1)) hX dX9_turning_27 (by decide) ?_
      refine k_iload_n hX dX9_turning_28 rfl 2 rfl ?_
      refine cX_turnsFrom T (met_turnsFrom T.2.1 20) (room_le hR rfl rfl) h rfl dX9_turning_29 (fun v4 h => ?_)
      refine k_goto (tgt := 38) hX dX9_turning_32 (by decide) ?_
      refine k_lv [0] rfl ?_
      exact T_turning_b38_ok T hR e h
theorem T_asks_b44_ok {X : KC TS} {E : TE} {z : TS} (T : tOK X E cX9_asks 5 none) (hR : tRoom X 0 0) (e : tE_v X E z) {x1 : Int32} {x2 : Int32} {x3 : Int32} {x4 : Int32} {τ : TS} (h : T_asks_b44 x1 x2 x3 x4 τ = some z) : kW X τ 44 [(0, .ref (E.2.2.2.2.1 0)), (1, .int x1), (2, .int x2), (3, .int x3), (4, .int x4)] [] := by
  unfold T_asks_b44 at h
  have hX := T.1
  refine k_aload_n hX dX9_asks_44 rfl 0 rfl ?_
  refine k_iload_n hX dX9_asks_45 rfl 1 rfl ?_
  refine tp26 T h dX9_asks_46 (fun τ1 h => ?_)
  refine k_aload_n hX dX9_asks_49 rfl 0 rfl ?_
  refine k_iload_n hX dX9_asks_50 rfl 2 rfl ?_
  refine tp27 T h dX9_asks_51 (fun τ2 h => ?_)
  refine k_aload_n hX dX9_asks_54 rfl 0 rfl ?_
  refine k_aload_n hX dX9_asks_55 rfl 0 rfl ?_
  refine tg22 T dX9_asks_56 ?_
  refine tp28 T h dX9_asks_59 (fun τ3 h => ?_)
  refine k_aload_n hX dX9_asks_62 rfl 0 rfl ?_
  refine k_iload_n hX dX9_asks_63 rfl 3 rfl ?_
  refine tp29 T h dX9_asks_64 (fun τ4 h => ?_)
  refine k_aload_n hX dX9_asks_67 rfl 0 rfl ?_
  refine k_iload hX dX9_asks_68 4 rfl ?_
  refine tp30 T h dX9_asks_70 (fun τ5 h => ?_)
  refine k_aload_n hX dX9_asks_73 rfl 0 rfl ?_
  refine k_dup hX dX9_asks_74 rfl ?_
  refine tg25 T dX9_asks_75 ?_
  refine k_iconst (v := 1) hX dX9_asks_78 (by decide) ?_
  refine k_iadd hX dX9_asks_79 ?_
  refine tp25 T h dX9_asks_80 (fun τ6 h => ?_)
  exact t_ret_v T e h dX9_asks_83
theorem met_asks {l : Launch} {E : TE} (hE : tEnv E) : ∀ (x1 : Int32) (x2 : Int32) (x3 : Int32) (x4 : Int32) (τ : TS) (z : TS), T_asks x1 x2 x3 x4 τ = some z → tMet_v l E yX9_asks (ws_ yX9_asks cX9_asks 5 none) 0 0 [.ref (E.2.2.2.2.1 0), .int x1, .int x2, .int x3, .int x4] τ z := by
  intro x1 x2 x3 x4 τ z h
  refine t_met_v hE (by decide +kernel) rfl rfl (fun X hl T hR e => ?_)
  unfold T_asks at h
  have hX := T.1
  show kW X τ 0 [(0, .ref (E.2.2.2.2.1 0)), (1, .int x1), (2, .int x2), (3, .int x3), (4, .int x4)] []
  refine k_aload_n hX dX9_asks_0 rfl 0 rfl ?_
  refine tg26 T dX9_asks_1 ?_
  refine k_iload_n hX dX9_asks_4 rfl 1 rfl ?_
  refine k_icmp_ne (tgt := 44) hX h dX9_asks_5 (by decide) (fun h => ?_) (fun h => ?_)
  · refine k_lv [0, 1, 2, 3, 4] rfl ?_
    exact T_asks_b44_ok T hR e h
  · refine k_aload_n hX dX9_asks_8 rfl 0 rfl ?_
    refine tg27 T dX9_asks_9 ?_
    refine k_iload_n hX dX9_asks_12 rfl 2 rfl ?_
    refine k_icmp_ne (tgt := 44) hX h dX9_asks_13 (by decide) (fun h => ?_) (fun h => ?_)
    · refine k_lv [0, 1, 2, 3, 4] rfl ?_
      exact T_asks_b44_ok T hR e h
    · refine k_aload_n hX dX9_asks_16 rfl 0 rfl ?_
      refine tg28 T dX9_asks_17 ?_
      refine k_aload_n hX dX9_asks_20 rfl 0 rfl ?_
      refine tg22 T dX9_asks_21 ?_
      refine k_icmp_ne (tgt := 44) hX h dX9_asks_24 (by decide) (fun h => ?_) (fun h => ?_)
      · refine k_lv [0, 1, 2, 3, 4] rfl ?_
        exact T_asks_b44_ok T hR e h
      · refine k_aload_n hX dX9_asks_27 rfl 0 rfl ?_
        refine tg29 T dX9_asks_28 ?_
        refine k_iload_n hX dX9_asks_31 rfl 3 rfl ?_
        refine k_icmp_ne (tgt := 44) hX h dX9_asks_32 (by decide) (fun h => ?_) (fun h => ?_)
        · refine k_lv [0, 1, 2, 3, 4] rfl ?_
          exact T_asks_b44_ok T hR e h
        · refine k_aload_n hX dX9_asks_35 rfl 0 rfl ?_
          refine tg30 T dX9_asks_36 ?_
          refine k_iload hX dX9_asks_39 4 rfl ?_
          refine k_icmp_eq (tgt := 83) hX h dX9_asks_41 (by decide) (fun h => ?_) (fun h => ?_)
          · exact t_ret_v T e h dX9_asks_83
          · refine k_lv [0, 1, 2, 3, 4] rfl ?_
            exact T_asks_b44_ok T hR e h
theorem met_isGoer {l : Launch} {E : TE} (hE : tEnv E) {τ : TS} : ∀ (x1 : Int32) (z : Int32), T_isGoer τ x1 = some z → tMet_i l E yX9_isGoer (ws_ yX9_isGoer cX9_isGoer 2 (some .boolean)) 1 22 [.ref (E.2.2.2.2.1 0), .int x1] τ z τ := by
  intro x1 z h
  refine t_met_i hE (by decide +kernel) rfl rfl (fun X hl T hR e => ?_)
  unfold T_isGoer at h
  have hX := T.1
  show kW X τ 0 [(0, .ref (E.2.2.2.2.1 0)), (1, .int x1)] []
  refine k_iload_n hX dX9_isGoer_0 rfl 1 rfl ?_
  refine k_iconst (v := 0) hX dX9_isGoer_1 (by decide) ?_
  refine k_iconst (v := 3) hX dX9_isGoer_2 (by decide) ?_
  refine k_aload_n hX dX9_isGoer_3 rfl 0 rfl ?_
  refine tg10 T dX9_isGoer_4 ?_
  refine k_bipush (v := 8) hX dX9_isGoer_7 (by decide) ?_
  refine ta10 T h dX9_isGoer_9 (fun v1 h => ?_)
  refine k_iadd hX dX9_isGoer_10 ?_
  refine cX_within T (met_within T.2.1) (room_le hR rfl rfl) h rfl dX9_isGoer_11 (fun v2 h => ?_)
  exact t_ret_zr T e h dX9_isGoer_14
theorem met_isPlace {l : Launch} {E : TE} (hE : tEnv E) {τ : TS} : ∀ (x1 : Int32) (x2 : Int32) (x3 : Int32) (z : Int32), T_isPlace τ x1 x2 x3 = some z → tMet_i l E yX9_isPlace (ws_ yX9_isPlace cX9_isPlace 4 (some .boolean)) 2 43 [.ref (E.2.2.2.2.1 0), .int x1, .int x2, .int x3] τ z τ := by
  intro x1 x2 x3 z h
  refine t_met_i hE (by decide +kernel) rfl rfl (fun X hl T hR e => ?_)
  unfold T_isPlace at h
  have hX := T.1
  show kW X τ 0 [(0, .ref (E.2.2.2.2.1 0)), (1, .int x1), (2, .int x2), (3, .int x3)] []
  refine k_aload_n hX dX9_isPlace_0 rfl 0 rfl ?_
  refine k_iload_n hX dX9_isPlace_1 rfl 1 rfl ?_
  refine k_iload_n hX dX9_isPlace_2 rfl 2 rfl ?_
  refine cX_isCorner T (met_isCorner T.2.1) (room_le hR rfl rfl) h rfl dX9_isPlace_3 (fun v1 h => ?_)
  refine k_if_eq (tgt := 21) hX h dX9_isPlace_6 (by decide) (fun h => ?_) (fun h => ?_)
  · refine k_iconst (v := 0) hX dX9_isPlace_21 (by decide) ?_
    exact t_ret_zrc T e rfl h dX9_isPlace_22
  · refine k_aload_n hX dX9_isPlace_9 rfl 0 rfl ?_
    refine k_iload_n hX dX9_isPlace_10 rfl 3 rfl ?_
    refine cX_isSecond T (met_isSecond T.2.1) (room_le hR rfl rfl) h rfl dX9_isPlace_11 (fun v2 h => ?_)
    refine k_if_eq (tgt := 21) hX h dX9_isPlace_14 (by decide) (fun h => ?_) (fun h => ?_)
    · refine k_iconst (v := 0) hX dX9_isPlace_21 (by decide) ?_
      exact t_ret_zrc T e rfl h dX9_isPlace_22
    · refine k_iconst (v := 1) hX dX9_isPlace_17 (by decide) ?_
      refine k_goto (tgt := 22) hX dX9_isPlace_18 (by decide) ?_
      exact t_ret_zrc T e rfl h dX9_isPlace_22
theorem met_isUnknown {l : Launch} {E : TE} (hE : tEnv E) {τ : TS} : ∀ (x1 : Int32) (x2 : Int32) (z : Int32), T_isUnknown τ x1 x2 = some z → tMet_i l E yX9_isUnknown (ws_ yX9_isUnknown cX9_isUnknown 3 (some .boolean)) 2 44 [.ref (E.2.2.2.2.1 0), .int x1, .int x2] τ z τ := by
  intro x1 x2 z h
  refine t_met_i hE (by decide +kernel) rfl rfl (fun X hl T hR e => ?_)
  unfold T_isUnknown at h
  have hX := T.1
  show kW X τ 0 [(0, .ref (E.2.2.2.2.1 0)), (1, .int x1), (2, .int x2)] []
  refine k_aload_n hX dX9_isUnknown_0 rfl 0 rfl ?_
  refine k_iload_n hX dX9_isUnknown_1 rfl 1 rfl ?_
  refine k_iload_n hX dX9_isUnknown_2 rfl 2 rfl ?_
  refine cX_kindAt T (met_kindAt T.2.1) (room_le hR rfl rfl) h rfl dX9_isUnknown_3 (fun v1 h => ?_)
  refine k_iconst (v := 1) hX dX9_isUnknown_6 (by decide) ?_
  refine k_icmp_ne (tgt := 36) hX h dX9_isUnknown_7 (by decide) (fun h => ?_) (fun h => ?_)
  · refine k_iconst (v := 0) hX dX9_isUnknown_36 (by decide) ?_
    exact t_ret_zrc T e rfl h dX9_isUnknown_37
  · refine k_aload_n hX dX9_isUnknown_10 rfl 0 rfl ?_
    refine k_iload_n hX dX9_isUnknown_11 rfl 1 rfl ?_
    refine k_iload_n hX dX9_isUnknown_12 rfl 2 rfl ?_
    refine cX_isKnown T (met_isKnown T.2.1) (room_le hR rfl rfl) h rfl dX9_isUnknown_13 (fun v2 h => ?_)
    refine k_if_ne (tgt := 36) hX h dX9_isUnknown_16 (by decide) (fun h => ?_) (fun h => ?_)
    · refine k_iconst (v := 0) hX dX9_isUnknown_36 (by decide) ?_
      exact t_ret_zrc T e rfl h dX9_isUnknown_37
    · refine k_bipush (v := 6) hX dX9_isUnknown_19 (by decide) ?_
      refine k_iload_n hX dX9_isUnknown_21 rfl 2 rfl ?_
      refine k_imul hX dX9_isUnknown_22 ?_
      refine k_iload_n hX dX9_isUnknown_23 rfl 1 rfl ?_
      refine k_iadd hX dX9_isUnknown_24 ?_
      refine k_aload_n hX dX9_isUnknown_25 rfl 0 rfl ?_
      refine tg29 T dX9_isUnknown_26 ?_
      refine k_icmp_eq (tgt := 36) hX h dX9_isUnknown_29 (by decide) (fun h => ?_) (fun h => ?_)
      · refine k_iconst (v := 0) hX dX9_isUnknown_36 (by decide) ?_
        exact t_ret_zrc T e rfl h dX9_isUnknown_37
      · refine k_iconst (v := 1) hX dX9_isUnknown_32 (by decide) ?_
        refine k_goto (tgt := 37) hX dX9_isUnknown_33 (by decide) ?_
        exact t_ret_zrc T e rfl h dX9_isUnknown_37
theorem met_both {l : Launch} {E : TE} (hE : tEnv E) {τ : TS} : ∀ (x0 : Int32) (x1 : Int32) (x2 : Int32) (z : Int32), T_both τ x0 x1 x2 = some z → tMet_i l E yX9_both (ws_ yX9_both cX9_both 3 (some .int)) 0 0 [.int x0, .int x1, .int x2] τ z τ := by
  intro x0 x1 x2 z h
  refine t_met_i hE (by decide +kernel) rfl rfl (fun X hl T hR e => ?_)
  unfold T_both at h
  have hX := T.1
  show kW X τ 0 [(0, .int x0), (1, .int x1), (2, .int x2)] []
  refine k_iload_n hX dX9_both_0 rfl 0 rfl ?_
  refine k_sw (c := 4) h (fun c_0 h => ?_) (fun c_0 h => ?_)
  · refine k_tabEq (tgt := 40) c_0 hX dX9_both_1 (by decide) (by decide) rfl (by decide) ?_
    refine k_iload_n hX dX9_both_40 rfl 1 rfl ?_
    refine k_iload_n hX dX9_both_41 rfl 2 rfl ?_
    refine k_iadd hX dX9_both_42 ?_
    exact t_ret_ir T e h dX9_both_43
  refine k_sw (c := 5) h (fun c_1 h => ?_) (fun c_1 h => ?_)
  · refine k_tabEq (tgt := 44) c_1 hX dX9_both_1 (by decide) (by decide) rfl (by decide) ?_
    refine k_iload_n hX dX9_both_44 rfl 1 rfl ?_
    refine k_iload_n hX dX9_both_45 rfl 2 rfl ?_
    refine k_isub hX dX9_both_46 ?_
    exact t_ret_ir T e h dX9_both_47
  refine k_sw (c := 6) h (fun c_2 h => ?_) (fun c_2 h => ?_)
  · refine k_tabEq (tgt := 48) c_2 hX dX9_both_1 (by decide) (by decide) rfl (by decide) ?_
    refine k_iload_n hX dX9_both_48 rfl 1 rfl ?_
    refine k_iload_n hX dX9_both_49 rfl 2 rfl ?_
    refine k_imul hX dX9_both_50 ?_
    exact t_ret_ir T e h dX9_both_51
  refine k_sw (c := 7) h (fun c_3 h => ?_) (fun c_3 h => ?_)
  · refine k_tabEq (tgt := 52) c_3 hX dX9_both_1 (by decide) (by decide) rfl (by decide) ?_
    refine k_iload_n hX dX9_both_52 rfl 1 rfl ?_
    refine k_iload_n hX dX9_both_53 rfl 2 rfl ?_
    refine k_icmp_ge (tgt := 61) hX h dX9_both_54 (by decide) (fun h => ?_) (fun h => ?_)
    · refine k_iconst (v := 0) hX dX9_both_61 (by decide) ?_
      exact t_ret_ir T e h dX9_both_62
    · refine k_iconst (v := 1) hX dX9_both_57 (by decide) ?_
      refine k_goto (tgt := 62) hX dX9_both_58 (by decide) ?_
      exact t_ret_ir T e h dX9_both_62
  refine k_sw (c := 8) h (fun c_4 h => ?_) (fun c_4 h => ?_)
  · refine k_tabEq (tgt := 63) c_4 hX dX9_both_1 (by decide) (by decide) rfl (by decide) ?_
    refine k_iload_n hX dX9_both_63 rfl 1 rfl ?_
    refine k_iload_n hX dX9_both_64 rfl 2 rfl ?_
    refine k_icmp_ne (tgt := 72) hX h dX9_both_65 (by decide) (fun h => ?_) (fun h => ?_)
    · refine k_iconst (v := 0) hX dX9_both_72 (by decide) ?_
      exact t_ret_ir T e h dX9_both_73
    · refine k_iconst (v := 1) hX dX9_both_68 (by decide) ?_
      refine k_goto (tgt := 73) hX dX9_both_69 (by decide) ?_
      exact t_ret_ir T e h dX9_both_73
  refine k_sw (c := 9) h (fun c_5 h => ?_) (fun c_5 h => ?_)
  · refine k_tabEq (tgt := 74) c_5 hX dX9_both_1 (by decide) (by decide) rfl (by decide) ?_
    refine k_iload_n hX dX9_both_74 rfl 1 rfl ?_
    refine k_if_eq (tgt := 86) hX h dX9_both_75 (by decide) (fun h => ?_) (fun h => ?_)
    · refine k_iconst (v := 0) hX dX9_both_86 (by decide) ?_
      exact t_ret_ir T e h dX9_both_87
    · refine k_iload_n hX dX9_both_78 rfl 2 rfl ?_
      refine k_if_eq (tgt := 86) hX h dX9_both_79 (by decide) (fun h => ?_) (fun h => ?_)
      · refine k_iconst (v := 0) hX dX9_both_86 (by decide) ?_
        exact t_ret_ir T e h dX9_both_87
      · refine k_iconst (v := 1) hX dX9_both_82 (by decide) ?_
        refine k_goto (tgt := 87) hX dX9_both_83 (by decide) ?_
        exact t_ret_ir T e h dX9_both_87
  refine k_tabOut (tgt := 88) hX dX9_both_1 (tab_out (lo := 4) (hi := 9) [4, 5, 6, 7, 8, 9] (by simp only [List.forall_mem_cons]; exact ⟨c_0, c_1, c_2, c_3, c_4, c_5, fun _ h => absurd h List.not_mem_nil⟩) (by decide)) (by decide) ?_
  refine k_iload_n hX dX9_both_88 rfl 1 rfl ?_
  refine k_if_ne (tgt := 96) hX h dX9_both_89 (by decide) (fun h => ?_) (fun h => ?_)
  · refine k_iconst (v := 1) hX dX9_both_96 (by decide) ?_
    refine k_goto (tgt := 101) hX dX9_both_97 (by decide) ?_
    exact t_ret_ir T e h dX9_both_101
  · refine k_iload_n hX dX9_both_92 rfl 2 rfl ?_
    refine k_if_eq (tgt := 100) hX h dX9_both_93 (by decide) (fun h => ?_) (fun h => ?_)
    · refine k_iconst (v := 0) hX dX9_both_100 (by decide) ?_
      exact t_ret_ir T e h dX9_both_101
    · refine k_iconst (v := 1) hX dX9_both_96 (by decide) ?_
      refine k_goto (tgt := 101) hX dX9_both_97 (by decide) ?_
      exact t_ret_ir T e h dX9_both_101
theorem T_worthAt_b33_ok {X : KC TS} {E : TE} {z : (Int32 × TS)} (T : tOK X E cX9_worthAt 5 (some .int)) (hR : tRoom X 1 22) (e : tE_i X E z.1 z.2) {nf : Nat} {k4 : Int32 → Int32 → TS → Option (Int32 × TS)} (hk4 : ∀ (x2 : Int32) (x3 : Int32) (τ : TS), k4 x2 x3 τ = some z → kW X τ 4 [(0, .ref (E.2.2.2.2.1 0)), (2, .int x2), (3, .int x3)] []) {x2 : Int32} {x3 : Int32} {x4 : Int32} {τ : TS} (h : T_worthAt_b33 nf k4 x2 x3 x4 τ = some z) : kW X τ 33 [(0, .ref (E.2.2.2.2.1 0)), (2, .int x2), (3, .int x3), (4, .int x4)] [] := by
  unfold T_worthAt_b33 at h
  have hX := T.1
  refine k_aload_n hX dX9_worthAt_33 rfl 0 rfl ?_
  refine tg18 T dX9_worthAt_34 ?_
  refine k_iload_n hX dX9_worthAt_37 rfl 1 rfl ?_
  refine k_iload hX dX9_worthAt_38 3 rfl ?_
  refine k_iconst (v := 1) hX dX9_worthAt_40 (by decide) ?_
  refine k_icmp_ne (tgt := 53) hX h dX9_worthAt_41 (by decide) (fun h => ?_) (fun h => ?_)
  · refine k_aload_n hX dX9_worthAt_53 rfl 0 rfl ?_
    refine tg17 T dX9_worthAt_54 ?_
    refine k_aload_n hX dX9_worthAt_57 rfl 0 rfl ?_
    refine tg12 T dX9_worthAt_58 ?_
    refine k_iload_n hX dX9_worthAt_61 rfl 2 rfl ?_
    refine ta12 T h dX9_worthAt_62 (fun v1 h => ?_)
    refine ta17 T h dX9_worthAt_63 (fun v2 h => ?_)
    refine ts18 T h dX9_worthAt_64 (fun τ3 h => ?_)
    refine k_iinc (j := 1) [(2, .int (x2 + 1)), (0, .ref (E.2.2.2.2.1 0)), (3, .int x3), (4, .int x4)] hX dX9_worthAt_65 rfl rfl rfl rfl ?_
    refine k_goto (tgt := 134) hX dX9_worthAt_68 (by decide) ?_
    refine k_iinc (j := 2) [(3, .int (x3 + 1)), (2, .int (x2 + 1)), (0, .ref (E.2.2.2.2.1 0)), (4, .int x4)] hX dX9_worthAt_134 rfl rfl rfl rfl ?_
    refine k_goto (tgt := 4) hX dX9_worthAt_137 (by decide) ?_
    refine k_lv [2, 1, 0] rfl ?_
    exact hk4 _ _ _ h
  · refine k_aload_n hX dX9_worthAt_44 rfl 0 rfl ?_
    refine tg12 T dX9_worthAt_45 ?_
    refine k_iload_n hX dX9_worthAt_48 rfl 2 rfl ?_
    refine ta12 T h dX9_worthAt_49 (fun v4 h => ?_)
    refine k_goto (tgt := 64) hX dX9_worthAt_50 (by decide) ?_
    refine ts18 T h dX9_worthAt_64 (fun τ5 h => ?_)
    refine k_iinc (j := 1) [(2, .int (x2 + 1)), (0, .ref (E.2.2.2.2.1 0)), (3, .int x3), (4, .int x4)] hX dX9_worthAt_65 rfl rfl rfl rfl ?_
    refine k_goto (tgt := 134) hX dX9_worthAt_68 (by decide) ?_
    refine k_iinc (j := 2) [(3, .int (x3 + 1)), (2, .int (x2 + 1)), (0, .ref (E.2.2.2.2.1 0)), (4, .int x4)] hX dX9_worthAt_134 rfl rfl rfl rfl ?_
    refine k_goto (tgt := 4) hX dX9_worthAt_137 (by decide) ?_
    refine k_lv [2, 1, 0] rfl ?_
    exact hk4 _ _ _ h
theorem T_worthAt_b4_s_ok {X : KC TS} {E : TE} {z : (Int32 × TS)} (T : tOK X E cX9_worthAt 5 (some .int)) (hR : tRoom X 1 22) (e : tE_i X E z.1 z.2) {nf : Nat} {k4 : Int32 → Int32 → TS → Option (Int32 × TS)} (hk4 : ∀ (x2 : Int32) (x3 : Int32) (τ : TS), k4 x2 x3 τ = some z → kW X τ 4 [(0, .ref (E.2.2.2.2.1 0)), (2, .int x2), (3, .int x3)] []) {x2 : Int32} {x3 : Int32} {τ : TS} (h : T_worthAt_b4_s nf k4 x2 x3 τ = some z) : kW X τ 4 [(0, .ref (E.2.2.2.2.1 0)), (2, .int x2), (3, .int x3)] [] := by
  unfold T_worthAt_b4_s at h
  have hX := T.1
  refine k_aload_n hX dX9_worthAt_4 rfl 0 rfl ?_
  refine tg11 T dX9_worthAt_5 ?_
  refine k_iload_n hX dX9_worthAt_8 rfl 2 rfl ?_
  refine ta11 T h dX9_worthAt_9 (fun v1 h => ?_)
  refine k_if_eq (tgt := 140) hX h dX9_worthAt_10 (by decide) (fun h => ?_) (fun h => ?_)
  · refine k_aload_n hX dX9_worthAt_140 rfl 0 rfl ?_
    refine tg18 T dX9_worthAt_141 ?_
    refine k_iconst (v := 0) hX dX9_worthAt_144 (by decide) ?_
    refine ta18 T h dX9_worthAt_145 (fun v2 h => ?_)
    exact t_ret_i T e h dX9_worthAt_146
  · refine k_aload_n hX dX9_worthAt_13 rfl 0 rfl ?_
    refine tg11 T dX9_worthAt_14 ?_
    refine k_iload_n hX dX9_worthAt_17 rfl 2 rfl ?_
    refine ta11 T h dX9_worthAt_18 (fun v3 h => ?_)
    refine k_istore [(4, .int v3), (0, .ref (E.2.2.2.2.1 0)), (2, .int x2), (3, .int x3)] hX dX9_worthAt_19 rfl rfl ?_
    refine k_iload hX dX9_worthAt_21 0 rfl ?_
    refine k_iconst (v := 1) hX dX9_worthAt_23 (by decide) ?_
    refine k_icmp_eq (tgt := 33) hX h dX9_worthAt_24 (by decide) (fun h => ?_) (fun h => ?_)
    · refine k_lv [1, 2, 3, 0] rfl ?_
      exact T_worthAt_b33_ok T hR e hk4 h
    · refine k_iload hX dX9_worthAt_27 0 rfl ?_
      refine k_iconst (v := 2) hX dX9_worthAt_29 (by decide) ?_
      refine k_icmp_ne (tgt := 71) hX h dX9_worthAt_30 (by decide) (fun h => ?_) (fun h => ?_)
      · refine k_iload hX dX9_worthAt_71 0 rfl ?_
        refine k_iconst (v := 3) hX dX9_worthAt_73 (by decide) ?_
        refine k_icmp_ne (tgt := 104) hX h dX9_worthAt_74 (by decide) (fun h => ?_) (fun h => ?_)
        · refine k_iinc (j := 2) [(2, .int (x2 + (-1))), (4, .int v3), (0, .ref (E.2.2.2.2.1 0)), (3, .int x3)] hX dX9_worthAt_104 rfl rfl rfl rfl ?_
          refine k_aload_n hX dX9_worthAt_107 rfl 2 rfl ?_
          refine tg18 T dX9_worthAt_108 ?_
          refine k_iload_n hX dX9_worthAt_111 rfl 0 rfl ?_
          refine k_iconst (v := 1) hX dX9_worthAt_112 (by decide) ?_
          refine k_isub hX dX9_worthAt_113 ?_
          refine k_iload hX dX9_worthAt_114 1 rfl ?_
          refine k_aload_n hX dX9_worthAt_116 rfl 2 rfl ?_
          refine tg18 T dX9_worthAt_117 ?_
          refine k_iload_n hX dX9_worthAt_120 rfl 0 rfl ?_
          refine k_iconst (v := 1) hX dX9_worthAt_121 (by decide) ?_
          refine k_isub hX dX9_worthAt_122 ?_
          refine ta18 T h dX9_worthAt_123 (fun v4 h => ?_)
          refine k_aload_n hX dX9_worthAt_124 rfl 2 rfl ?_
          refine tg18 T dX9_worthAt_125 ?_
          refine k_iload_n hX dX9_worthAt_128 rfl 0 rfl ?_
          refine ta18 T h dX9_worthAt_129 (fun v5 h => ?_)
          refine cX_both T (met_both T.2.1) (room_le hR rfl rfl) h rfl dX9_worthAt_130 (fun v6 h => ?_)
          refine ts18 T h dX9_worthAt_133 (fun τ7 h => ?_)
          refine k_iinc (j := 3) [(3, .int (x3 + 1)), (2, .int (x2 + (-1))), (4, .int v3), (0, .ref (E.2.2.2.2.1 0))] hX dX9_worthAt_134 rfl rfl rfl rfl ?_
          refine k_goto (tgt := 4) hX dX9_worthAt_137 (by decide) ?_
          refine k_lv [3, 1, 0] rfl ?_
          exact hk4 _ _ _ h
        · refine k_aload_n hX dX9_worthAt_77 rfl 1 rfl ?_
          refine tg18 T dX9_worthAt_78 ?_
          refine k_iload_n hX dX9_worthAt_81 rfl 2 rfl ?_
          refine k_iconst (v := 1) hX dX9_worthAt_82 (by decide) ?_
          refine k_isub hX dX9_worthAt_83 ?_
          refine k_aload_n hX dX9_worthAt_84 rfl 1 rfl ?_
          refine tg18 T dX9_worthAt_85 ?_
          refine k_iload_n hX dX9_worthAt_88 rfl 2 rfl ?_
          refine k_iconst (v := 1) hX dX9_worthAt_89 (by decide) ?_
          refine k_isub hX dX9_worthAt_90 ?_
          refine ta18 T h dX9_worthAt_91 (fun v8 h => ?_)
          refine k_if_ne (tgt := 99) hX h dX9_worthAt_92 (by decide) (fun h => ?_) (fun h => ?_)
          · refine k_iconst (v := 0) hX dX9_worthAt_99 (by decide) ?_
            refine ts18 T h dX9_worthAt_100 (fun τ9 h => ?_)
            refine k_goto (tgt := 134) hX dX9_worthAt_101 (by decide) ?_
            refine k_iinc (j := 3) [(3, .int (x3 + 1)), (4, .int v3), (0, .ref (E.2.2.2.2.1 0)), (2, .int x2)] hX dX9_worthAt_134 rfl rfl rfl rfl ?_
            refine k_goto (tgt := 4) hX dX9_worthAt_137 (by decide) ?_
            refine k_lv [2, 3, 0] rfl ?_
            exact hk4 _ _ _ h
          · refine k_iconst (v := 1) hX dX9_worthAt_95 (by decide) ?_
            refine k_goto (tgt := 100) hX dX9_worthAt_96 (by decide) ?_
            refine ts18 T h dX9_worthAt_100 (fun τ10 h => ?_)
            refine k_goto (tgt := 134) hX dX9_worthAt_101 (by decide) ?_
            refine k_iinc (j := 3) [(3, .int (x3 + 1)), (4, .int v3), (0, .ref (E.2.2.2.2.1 0)), (2, .int x2)] hX dX9_worthAt_134 rfl rfl rfl rfl ?_
            refine k_goto (tgt := 4) hX dX9_worthAt_137 (by decide) ?_
            refine k_lv [2, 3, 0] rfl ?_
            exact hk4 _ _ _ h
      · refine k_lv [1, 2, 3, 0] rfl ?_
        exact T_worthAt_b33_ok T hR e hk4 h
theorem T_worthAt_b4_ok {X : KC TS} {E : TE} {z : (Int32 × TS)} (T : tOK X E cX9_worthAt 5 (some .int)) (hR : tRoom X 1 22) (e : tE_i X E z.1 z.2) {nf : Nat} : ∀ (n : Nat) (x2 : Int32) (x3 : Int32) (τ : TS), T_worthAt_b4 nf n x2 x3 τ = some z → kW X τ 4 [(0, .ref (E.2.2.2.2.1 0)), (2, .int x2), (3, .int x3)] [] := by
  intro n
  induction n with
  | zero => intro x2 x3 τ h; exact (nomatch (show (none : Option (Int32 × TS)) = some z from h))
  | succ n ih =>
    intro x2 x3 τ h
    have h : T_worthAt_b4_s nf (T_worthAt_b4 nf n) x2 x3 τ = some z := h
    exact T_worthAt_b4_s_ok T hR e ih h
theorem met_worthAt {l : Launch} {E : TE} (hE : tEnv E) {nf : Nat} : ∀ (x1 : Int32) (τ : TS) (z : (Int32 × TS)), T_worthAt nf x1 τ = some z → tMet_i l E yX9_worthAt (ws_ yX9_worthAt cX9_worthAt 5 (some .int)) 1 22 [.ref (E.2.2.2.2.1 0), .int x1] τ z.1 z.2 := by
  intro x1 τ z h
  refine t_met_i hE (by decide +kernel) rfl rfl (fun X hl T hR e => ?_)
  unfold T_worthAt at h
  have hX := T.1
  show kW X τ 0 [(0, .ref (E.2.2.2.2.1 0)), (1, .int x1)] []
  refine k_iconst (v := 0) hX dX9_worthAt_0 (by decide) ?_
  refine k_istore_n [(2, .int 0), (0, .ref (E.2.2.2.2.1 0)), (1, .int x1)] hX dX9_worthAt_1 rfl rfl rfl ?_
  refine k_iload_n hX dX9_worthAt_2 rfl 2 rfl ?_
  refine k_istore_n [(3, .int x1), (2, .int 0), (0, .ref (E.2.2.2.2.1 0)), (1, .int x1)] hX dX9_worthAt_3 rfl rfl rfl ?_
  refine k_lv [2, 1, 0] rfl ?_
  exact T_worthAt_b4_ok T hR e _ _ _ _ h
theorem met_worthBy {l : Launch} {E : TE} (hE : tEnv E) {nf : Nat} {rc : Int32 → Int32 → Int32 → TS → Option (Int32 × TS)} {Fr Lr : Nat} (hrc : ∀ (a0 : Int32) (a1 : Int32) (a2 : Int32) (τ : TS) (v : (Int32 × TS)), rc a0 a1 a2 τ = some v → tMet_i l E yX9_worthFrom (ws_ yX9_worthFrom cX9_worthFrom 7 (some .int)) Fr Lr [.ref (E.2.2.2.2.1 0), .int a0, .int a1, .int a2] τ v.1 v.2) : ∀ (x1 : Int32) (x2 : Int32) (x3 : Int32) (x4 : Int32) (x5 : Int32) (τ : TS) (z : (Int32 × TS)), T_worthBy nf rc x1 x2 x3 x4 x5 τ = some z → tMet_i l E yX9_worthBy (ws_ yX9_worthBy cX9_worthBy 8 (some .int)) (Fr + 3) (Lr + 74) [.ref (E.2.2.2.2.1 0), .int x1, .int x2, .int x3, .int x4, .int x5] τ z.1 z.2 := by
  intro x1 x2 x3 x4 x5 τ z h
  refine t_met_i hE (by decide +kernel) rfl rfl (fun X hl T hR e => ?_)
  unfold T_worthBy at h
  have hX := T.1
  show kW X τ 0 [(0, .ref (E.2.2.2.2.1 0)), (1, .int x1), (2, .int x2), (3, .int x3), (4, .int x4), (5, .int x5)] []
  subst hl
  refine k_aload_n hX dX9_worthBy_0 rfl 0 rfl ?_
  refine k_iload_n hX dX9_worthBy_1 rfl 1 rfl ?_
  refine k_iload_n hX dX9_worthBy_2 rfl 2 rfl ?_
  refine k_iload_n hX dX9_worthBy_3 rfl 3 rfl ?_
  refine k_iload hX dX9_worthBy_4 5 rfl ?_
  refine cX_waitFor T (met_waitFor T.2.1) (room_lo hR (by omega) (by omega)) h rfl dX9_worthBy_6 (fun v1 h => ?_)
  refine k_aload_n hX dX9_worthBy_9 rfl 0 rfl ?_
  refine tg10 T dX9_worthBy_10 ?_
  refine k_iconst (v := 2) hX dX9_worthBy_13 (by decide) ?_
  refine ta10 T h dX9_worthBy_14 (fun v2 h => ?_)
  refine k_iadd hX dX9_worthBy_15 ?_
  refine k_nm h (fun v3 h => ?_)
  refine k_istore [(6, .int v3), (0, .ref (E.2.2.2.2.1 0)), (1, .int x1), (2, .int x2), (3, .int x3), (4, .int x4), (5, .int x5)] hX dX9_worthBy_16 rfl rfl ?_
  refine k_aload_n hX dX9_worthBy_18 rfl 1 rfl ?_
  refine k_iload_n hX dX9_worthBy_19 rfl 2 rfl ?_
  refine k_iconst (v := 1) hX dX9_worthBy_20 (by decide) ?_
  refine k_iadd hX dX9_worthBy_21 ?_
  refine k_iload_n hX dX9_worthBy_22 rfl 4 rfl ?_
  refine k_isub hX dX9_worthBy_23 ?_
  refine k_iload_n hX dX9_worthBy_24 rfl 3 rfl ?_
  refine k_iload_n hX dX9_worthBy_25 rfl 4 rfl ?_
  refine k_iadd hX dX9_worthBy_26 ?_
  refine k_iload hX dX9_worthBy_27 5 rfl ?_
  refine k_iload hX dX9_worthBy_29 0 rfl ?_
  refine k_iadd hX dX9_worthBy_31 ?_
  refine cX_worthFrom T (hrc) (room_lo hR (by omega) (by omega)) h rfl dX9_worthBy_32 (fun v5 τ4 h => ?_)
  refine k_istore [(7, .int v5), (6, .int v3), (0, .ref (E.2.2.2.2.1 0)), (1, .int x1), (2, .int x2), (3, .int x3), (4, .int x4), (5, .int x5)] hX dX9_worthBy_35 rfl rfl ?_
  refine k_iload hX dX9_worthBy_37 0 rfl ?_
  refine k_if_ge (tgt := 46) hX h dX9_worthBy_39 (by decide) (fun h => ?_) (fun h => ?_)
  · refine k_iload hX dX9_worthBy_46 0 rfl ?_
    refine k_aload_n hX dX9_worthBy_48 rfl 2 rfl ?_
    refine tg27 T dX9_worthBy_49 ?_
    refine k_if_eq (tgt := 60) hX h dX9_worthBy_52 (by decide) (fun h => ?_) (fun h => ?_)
    · refine k_sipush (v := 1000) hX dX9_worthBy_60 (by decide) ?_
      refine k_iload hX dX9_worthBy_63 1 rfl ?_
      refine k_imul hX dX9_worthBy_65 ?_
      refine k_iadd hX dX9_worthBy_66 ?_
      exact t_ret_i T e h dX9_worthBy_67
    · refine k_iload hX dX9_worthBy_55 1 rfl ?_
      refine k_goto (tgt := 66) hX dX9_worthBy_57 (by decide) ?_
      refine k_iadd hX dX9_worthBy_66 ?_
      exact t_ret_i T e h dX9_worthBy_67
  · refine k_iconst (v := (-1)) hX dX9_worthBy_42 (by decide) ?_
    refine k_goto (tgt := 67) hX dX9_worthBy_43 (by decide) ?_
    exact t_ret_i T e h dX9_worthBy_67
theorem T_wayOf_b110_ok {X : KC TS} {E : TE} {z : (Int32 × TS)} (T : tOK X E cX9_wayOf 9 (some .int)) {Fr Lr : Nat} (hR : tRoom X (Fr + 4) (Lr + 101)) (e : tE_i X E z.1 z.2) {nf : Nat} {rc : Int32 → Int32 → Int32 → TS → Option (Int32 × TS)} (hrc : ∀ (a0 : Int32) (a1 : Int32) (a2 : Int32) (τ : TS) (v : (Int32 × TS)), rc a0 a1 a2 τ = some v → tMet_i X.1.2.1 E yX9_worthFrom (ws_ yX9_worthFrom cX9_worthFrom 7 (some .int)) Fr Lr [.ref (E.2.2.2.2.1 0), .int a0, .int a1, .int a2] τ v.1 v.2) {x5 : Int32} {x6 : Int32} {τ : TS} (h : T_wayOf_b110 nf rc x5 x6 τ = some z) : kW X τ 110 [(0, .ref (E.2.2.2.2.1 0)), (5, .int x5), (6, .int x6)] [] := by
  unfold T_wayOf_b110 at h
  have hX := T.1
  refine k_iload hX dX9_wayOf_110 1 rfl ?_
  refine k_if_eq (tgt := 119) hX h dX9_wayOf_112 (by decide) (fun h => ?_) (fun h => ?_)
  · refine k_iload hX dX9_wayOf_119 2 rfl ?_
    refine k_if_eq (tgt := 128) hX h dX9_wayOf_121 (by decide) (fun h => ?_) (fun h => ?_)
    · refine k_iconst (v := (-1)) hX dX9_wayOf_128 (by decide) ?_
      exact t_ret_i T e h dX9_wayOf_129
    · refine k_iconst (v := 1) hX dX9_wayOf_124 (by decide) ?_
      refine k_goto (tgt := 129) hX dX9_wayOf_125 (by decide) ?_
      exact t_ret_i T e h dX9_wayOf_129
  · refine k_iconst (v := 0) hX dX9_wayOf_115 (by decide) ?_
    refine k_goto (tgt := 129) hX dX9_wayOf_116 (by decide) ?_
    exact t_ret_i T e h dX9_wayOf_129
theorem T_wayOf_b66_ok {X : KC TS} {E : TE} {z : (Int32 × TS)} (T : tOK X E cX9_wayOf 9 (some .int)) {Fr Lr : Nat} (hR : tRoom X (Fr + 4) (Lr + 101)) (e : tE_i X E z.1 z.2) {nf : Nat} {rc : Int32 → Int32 → Int32 → TS → Option (Int32 × TS)} (hrc : ∀ (a0 : Int32) (a1 : Int32) (a2 : Int32) (τ : TS) (v : (Int32 × TS)), rc a0 a1 a2 τ = some v → tMet_i X.1.2.1 E yX9_worthFrom (ws_ yX9_worthFrom cX9_worthFrom 7 (some .int)) Fr Lr [.ref (E.2.2.2.2.1 0), .int a0, .int a1, .int a2] τ v.1 v.2) {x7 : Int32} {s0 : Int32} {τ : TS} (h : T_wayOf_b66 nf rc x7 s0 τ = some z) : kW X τ 66 [(0, .ref (E.2.2.2.2.1 0)), (7, .int x7)] [.int s0] := by
  unfold T_wayOf_b66 at h
  have hX := T.1
  refine k_istore [(8, .int s0), (0, .ref (E.2.2.2.2.1 0)), (7, .int x7)] hX dX9_wayOf_66 rfl rfl ?_
  refine k_iload hX dX9_wayOf_68 2 rfl ?_
  refine k_if_lt (tgt := 89) hX h dX9_wayOf_70 (by decide) (fun h => ?_) (fun h => ?_)
  · refine k_iload hX dX9_wayOf_89 0 rfl ?_
    refine k_if_lt (tgt := 98) hX h dX9_wayOf_91 (by decide) (fun h => ?_) (fun h => ?_)
    · refine k_iconst (v := (-1)) hX dX9_wayOf_98 (by decide) ?_
      exact t_ret_i T e h dX9_wayOf_99
    · refine k_iconst (v := 1) hX dX9_wayOf_94 (by decide) ?_
      refine k_goto (tgt := 99) hX dX9_wayOf_95 (by decide) ?_
      exact t_ret_i T e h dX9_wayOf_99
  · refine k_iload hX dX9_wayOf_73 0 rfl ?_
    refine k_if_lt (tgt := 85) hX h dX9_wayOf_75 (by decide) (fun h => ?_) (fun h => ?_)
    · refine k_iconst (v := 0) hX dX9_wayOf_85 (by decide) ?_
      refine k_goto (tgt := 99) hX dX9_wayOf_86 (by decide) ?_
      exact t_ret_i T e h dX9_wayOf_99
    · refine k_iload hX dX9_wayOf_78 2 rfl ?_
      refine k_iload hX dX9_wayOf_80 0 rfl ?_
      refine k_icmp_gt (tgt := 89) hX h dX9_wayOf_82 (by decide) (fun h => ?_) (fun h => ?_)
      · refine k_iload hX dX9_wayOf_89 0 rfl ?_
        refine k_if_lt (tgt := 98) hX h dX9_wayOf_91 (by decide) (fun h => ?_) (fun h => ?_)
        · refine k_iconst (v := (-1)) hX dX9_wayOf_98 (by decide) ?_
          exact t_ret_i T e h dX9_wayOf_99
        · refine k_iconst (v := 1) hX dX9_wayOf_94 (by decide) ?_
          refine k_goto (tgt := 99) hX dX9_wayOf_95 (by decide) ?_
          exact t_ret_i T e h dX9_wayOf_99
      · refine k_iconst (v := 0) hX dX9_wayOf_85 (by decide) ?_
        refine k_goto (tgt := 99) hX dX9_wayOf_86 (by decide) ?_
        exact t_ret_i T e h dX9_wayOf_99
theorem T_wayOf_b45_ok {X : KC TS} {E : TE} {z : (Int32 × TS)} (T : tOK X E cX9_wayOf 9 (some .int)) {Fr Lr : Nat} (hR : tRoom X (Fr + 4) (Lr + 101)) (e : tE_i X E z.1 z.2) {nf : Nat} {rc : Int32 → Int32 → Int32 → TS → Option (Int32 × TS)} (hrc : ∀ (a0 : Int32) (a1 : Int32) (a2 : Int32) (τ : TS) (v : (Int32 × TS)), rc a0 a1 a2 τ = some v → tMet_i X.1.2.1 E yX9_worthFrom (ws_ yX9_worthFrom cX9_worthFrom 7 (some .int)) Fr Lr [.ref (E.2.2.2.2.1 0), .int a0, .int a1, .int a2] τ v.1 v.2) {x1 : Int32} {x2 : Int32} {x3 : Int32} {x4 : Int32} {x6 : Int32} {s0 : Int32} {τ : TS} (h : T_wayOf_b45 nf rc x1 x2 x3 x4 x6 s0 τ = some z) : kW X τ 45 [(0, .ref (E.2.2.2.2.1 0)), (1, .int x1), (2, .int x2), (3, .int x3), (4, .int x4), (6, .int x6)] [.int s0] := by
  unfold T_wayOf_b45 at h
  have hX := T.1
  refine k_istore [(7, .int s0), (0, .ref (E.2.2.2.2.1 0)), (1, .int x1), (2, .int x2), (3, .int x3), (4, .int x4), (6, .int x6)] hX dX9_wayOf_45 rfl rfl ?_
  refine k_iload hX dX9_wayOf_47 6 rfl ?_
  refine k_if_eq (tgt := 65) hX h dX9_wayOf_49 (by decide) (fun h => ?_) (fun h => ?_)
  · refine k_iconst (v := (-1)) hX dX9_wayOf_65 (by decide) ?_
    refine k_lv [1, 0] rfl ?_
    exact T_wayOf_b66_ok T hR e hrc h
  · refine k_aload_n hX dX9_wayOf_52 rfl 1 rfl ?_
    refine k_iload_n hX dX9_wayOf_53 rfl 2 rfl ?_
    refine k_iload_n hX dX9_wayOf_54 rfl 3 rfl ?_
    refine k_iconst (v := 1) hX dX9_wayOf_55 (by decide) ?_
    refine k_iload_n hX dX9_wayOf_56 rfl 4 rfl ?_
    refine k_iload hX dX9_wayOf_57 5 rfl ?_
    refine cX_worthBy T (met_worthBy T.2.1 hrc) (room_lo hR (by omega) (by omega)) h rfl dX9_wayOf_59 (fun v2 τ1 h => ?_)
    refine k_goto (tgt := 66) hX dX9_wayOf_62 (by decide) ?_
    refine k_lv [1, 0] rfl ?_
    exact T_wayOf_b66_ok T hR e hrc h
theorem met_wayOf {l : Launch} {E : TE} (hE : tEnv E) {nf : Nat} {rc : Int32 → Int32 → Int32 → TS → Option (Int32 × TS)} {Fr Lr : Nat} (hrc : ∀ (a0 : Int32) (a1 : Int32) (a2 : Int32) (τ : TS) (v : (Int32 × TS)), rc a0 a1 a2 τ = some v → tMet_i l E yX9_worthFrom (ws_ yX9_worthFrom cX9_worthFrom 7 (some .int)) Fr Lr [.ref (E.2.2.2.2.1 0), .int a0, .int a1, .int a2] τ v.1 v.2) : ∀ (x1 : Int32) (x2 : Int32) (x3 : Int32) (x4 : Int32) (τ : TS) (z : (Int32 × TS)), T_wayOf nf rc x1 x2 x3 x4 τ = some z → tMet_i l E yX9_wayOf (ws_ yX9_wayOf cX9_wayOf 9 (some .int)) (Fr + 4) (Lr + 101) [.ref (E.2.2.2.2.1 0), .int x1, .int x2, .int x3, .int x4] τ z.1 z.2 := by
  intro x1 x2 x3 x4 τ z h
  refine t_met_i hE (by decide +kernel) rfl rfl (fun X hl T hR e => ?_)
  unfold T_wayOf at h
  have hX := T.1
  show kW X τ 0 [(0, .ref (E.2.2.2.2.1 0)), (1, .int x1), (2, .int x2), (3, .int x3), (4, .int x4)] []
  subst hl
  refine k_aload_n hX dX9_wayOf_0 rfl 0 rfl ?_
  refine k_iload_n hX dX9_wayOf_1 rfl 1 rfl ?_
  refine k_iload_n hX dX9_wayOf_2 rfl 2 rfl ?_
  refine k_iconst (v := 0) hX dX9_wayOf_3 (by decide) ?_
  refine cX_canGo T (met_canGo T.2.1) (room_lo hR (by omega) (by omega)) h rfl dX9_wayOf_4 (fun v1 h => ?_)
  refine k_istore [(5, .int v1), (0, .ref (E.2.2.2.2.1 0)), (1, .int x1), (2, .int x2), (3, .int x3), (4, .int x4)] hX dX9_wayOf_7 rfl rfl ?_
  refine k_aload_n hX dX9_wayOf_9 rfl 1 rfl ?_
  refine k_iload_n hX dX9_wayOf_10 rfl 2 rfl ?_
  refine k_iload_n hX dX9_wayOf_11 rfl 3 rfl ?_
  refine k_iconst (v := 1) hX dX9_wayOf_12 (by decide) ?_
  refine cX_canGo T (met_canGo T.2.1) (room_lo hR (by omega) (by omega)) h rfl dX9_wayOf_13 (fun v2 h => ?_)
  refine k_istore [(6, .int v2), (5, .int v1), (0, .ref (E.2.2.2.2.1 0)), (1, .int x1), (2, .int x2), (3, .int x3), (4, .int x4)] hX dX9_wayOf_16 rfl rfl ?_
  refine k_aload_n hX dX9_wayOf_18 rfl 2 rfl ?_
  refine tg26 T dX9_wayOf_19 ?_
  refine k_iconst (v := 3) hX dX9_wayOf_22 (by decide) ?_
  refine k_icmp_ne (tgt := 100) hX h dX9_wayOf_23 (by decide) (fun h => ?_) (fun h => ?_)
  · refine k_iload hX dX9_wayOf_100 1 rfl ?_
    refine k_if_eq (tgt := 110) hX h dX9_wayOf_102 (by decide) (fun h => ?_) (fun h => ?_)
    · refine k_lv [2, 1, 0] rfl ?_
      exact T_wayOf_b110_ok T hR e hrc h
    · refine k_iload hX dX9_wayOf_105 0 rfl ?_
      refine k_if_ne (tgt := 130) hX h dX9_wayOf_107 (by decide) (fun h => ?_) (fun h => ?_)
      · refine k_aload_n hX dX9_wayOf_130 rfl 2 rfl ?_
        refine k_iload_n hX dX9_wayOf_131 rfl 3 rfl ?_
        refine k_iload_n hX dX9_wayOf_132 rfl 4 rfl ?_
        refine k_iconst (v := 0) hX dX9_wayOf_133 (by decide) ?_
        refine k_iload hX dX9_wayOf_134 6 rfl ?_
        refine cX_waitFor T (met_waitFor T.2.1) (room_lo hR (by omega) (by omega)) h rfl dX9_wayOf_136 (fun v3 h => ?_)
        refine k_istore [(7, .int v3), (6, .int v2), (5, .int v1), (0, .ref (E.2.2.2.2.1 0)), (1, .int x1), (2, .int x2), (3, .int x3), (4, .int x4)] hX dX9_wayOf_139 rfl rfl ?_
        refine k_aload_n hX dX9_wayOf_141 rfl 3 rfl ?_
        refine k_iload_n hX dX9_wayOf_142 rfl 4 rfl ?_
        refine k_iload_n hX dX9_wayOf_143 rfl 5 rfl ?_
        refine k_iconst (v := 1) hX dX9_wayOf_144 (by decide) ?_
        refine k_iload hX dX9_wayOf_145 7 rfl ?_
        refine cX_waitFor T (met_waitFor T.2.1) (room_lo hR (by omega) (by omega)) h rfl dX9_wayOf_147 (fun v4 h => ?_)
        refine k_istore [(8, .int v4), (7, .int v3), (6, .int v2), (5, .int v1), (0, .ref (E.2.2.2.2.1 0)), (1, .int x1), (2, .int x2), (3, .int x3), (4, .int x4)] hX dX9_wayOf_150 rfl rfl ?_
        refine k_aload_n hX dX9_wayOf_152 rfl 4 rfl ?_
        refine tg26 T dX9_wayOf_153 ?_
        refine k_iconst (v := 3) hX dX9_wayOf_156 (by decide) ?_
        refine k_icmp_ge (tgt := 188) hX h dX9_wayOf_157 (by decide) (fun h => ?_) (fun h => ?_)
        · refine k_aload_n hX dX9_wayOf_188 rfl 4 rfl ?_
          refine tg17 T dX9_wayOf_189 ?_
          refine k_iconst (v := 0) hX dX9_wayOf_192 (by decide) ?_
          refine k_iload hX dX9_wayOf_193 1 rfl ?_
          refine ts17 T h dX9_wayOf_195 (fun τ5 h => ?_)
          refine k_aload_n hX dX9_wayOf_196 rfl 4 rfl ?_
          refine tg17 T dX9_wayOf_197 ?_
          refine k_iconst (v := 1) hX dX9_wayOf_200 (by decide) ?_
          refine k_iload hX dX9_wayOf_201 0 rfl ?_
          refine ts17 T h dX9_wayOf_203 (fun τ6 h => ?_)
          refine k_aload_n hX dX9_wayOf_204 rfl 4 rfl ?_
          refine tg17 T dX9_wayOf_205 ?_
          refine k_iconst (v := 2) hX dX9_wayOf_208 (by decide) ?_
          refine k_aload_n hX dX9_wayOf_209 rfl 4 rfl ?_
          refine cX_wide T (met_wide T.2.1) (room_lo hR (by omega) (by omega)) h rfl dX9_wayOf_210 (fun v7 h => ?_)
          refine k_iconst (v := 1) hX dX9_wayOf_213 (by decide) ?_
          refine k_isub hX dX9_wayOf_214 ?_
          refine k_iload_n hX dX9_wayOf_215 rfl 5 rfl ?_
          refine k_isub hX dX9_wayOf_216 ?_
          refine ts17 T h dX9_wayOf_217 (fun τ8 h => ?_)
          refine k_aload_n hX dX9_wayOf_218 rfl 4 rfl ?_
          refine tg17 T dX9_wayOf_219 ?_
          refine k_iconst (v := 3) hX dX9_wayOf_222 (by decide) ?_
          refine k_aload_n hX dX9_wayOf_223 rfl 4 rfl ?_
          refine cX_deep T (met_deep T.2.1) (room_lo hR (by omega) (by omega)) h rfl dX9_wayOf_224 (fun v9 h => ?_)
          refine k_iconst (v := 1) hX dX9_wayOf_227 (by decide) ?_
          refine k_isub hX dX9_wayOf_228 ?_
          refine k_iload_n hX dX9_wayOf_229 rfl 6 rfl ?_
          refine k_isub hX dX9_wayOf_230 ?_
          refine ts17 T h dX9_wayOf_231 (fun τ10 h => ?_)
          refine k_aload_n hX dX9_wayOf_232 rfl 4 rfl ?_
          refine k_aload_n hX dX9_wayOf_233 rfl 4 rfl ?_
          refine tg10 T dX9_wayOf_234 ?_
          refine k_sipush (v := 280) hX dX9_wayOf_237 (by decide) ?_
          refine k_aload_n hX dX9_wayOf_240 rfl 4 rfl ?_
          refine tg26 T dX9_wayOf_241 ?_
          refine k_iadd hX dX9_wayOf_244 ?_
          refine k_iconst (v := 4) hX dX9_wayOf_245 (by decide) ?_
          refine k_isub hX dX9_wayOf_246 ?_
          refine ta10 T h dX9_wayOf_247 (fun v11 h => ?_)
          refine cX_worthAt T (met_worthAt T.2.1) (room_lo hR (by omega) (by omega)) h rfl dX9_wayOf_248 (fun v13 τ12 h => ?_)
          refine k_if_eq (tgt := 258) hX h dX9_wayOf_251 (by decide) (fun h => ?_) (fun h => ?_)
          · refine k_iconst (v := 1) hX dX9_wayOf_258 (by decide) ?_
            exact t_ret_i T e h dX9_wayOf_259
          · refine k_iconst (v := 0) hX dX9_wayOf_254 (by decide) ?_
            refine k_goto (tgt := 259) hX dX9_wayOf_255 (by decide) ?_
            exact t_ret_i T e h dX9_wayOf_259
        · refine k_aload_n hX dX9_wayOf_160 rfl 4 rfl ?_
          refine tg26 T dX9_wayOf_161 ?_
          refine k_iconst (v := 2) hX dX9_wayOf_164 (by decide) ?_
          refine k_icmp_ge (tgt := 175) hX h dX9_wayOf_165 (by decide) (fun h => ?_) (fun h => ?_)
          · refine k_iload hX dX9_wayOf_175 1 rfl ?_
            refine k_iload hX dX9_wayOf_177 0 rfl ?_
            refine k_icmp_gt (tgt := 186) hX h dX9_wayOf_179 (by decide) (fun h => ?_) (fun h => ?_)
            · refine k_iconst (v := 1) hX dX9_wayOf_186 (by decide) ?_
              exact t_ret_i T e h dX9_wayOf_187
            · refine k_iconst (v := 0) hX dX9_wayOf_182 (by decide) ?_
              refine k_goto (tgt := 187) hX dX9_wayOf_183 (by decide) ?_
              exact t_ret_i T e h dX9_wayOf_187
          · refine k_aload_n hX dX9_wayOf_168 rfl 4 rfl ?_
            refine tg26 T dX9_wayOf_169 ?_
            refine k_goto (tgt := 187) hX dX9_wayOf_172 (by decide) ?_
            exact t_ret_i T e h dX9_wayOf_187
      · refine k_lv [2, 1, 0] rfl ?_
        exact T_wayOf_b110_ok T hR e hrc h
  · refine k_iload hX dX9_wayOf_26 1 rfl ?_
    refine k_if_eq (tgt := 44) hX h dX9_wayOf_28 (by decide) (fun h => ?_) (fun h => ?_)
    · refine k_iconst (v := (-1)) hX dX9_wayOf_44 (by decide) ?_
      refine k_lv [2, 3, 4, 5, 6, 0] rfl ?_
      exact T_wayOf_b45_ok T hR e hrc h
    · refine k_aload_n hX dX9_wayOf_31 rfl 2 rfl ?_
      refine k_iload_n hX dX9_wayOf_32 rfl 3 rfl ?_
      refine k_iload_n hX dX9_wayOf_33 rfl 4 rfl ?_
      refine k_iconst (v := 0) hX dX9_wayOf_34 (by decide) ?_
      refine k_iload_n hX dX9_wayOf_35 rfl 5 rfl ?_
      refine k_iload hX dX9_wayOf_36 6 rfl ?_
      refine cX_worthBy T (met_worthBy T.2.1 hrc) (room_lo hR (by omega) (by omega)) h rfl dX9_wayOf_38 (fun v15 τ14 h => ?_)
      refine k_goto (tgt := 45) hX dX9_wayOf_41 (by decide) ?_
      refine k_lv [2, 3, 4, 5, 6, 0] rfl ?_
      exact T_wayOf_b45_ok T hR e hrc h
theorem met_worthSeen {l : Launch} {E : TE} (hE : tEnv E) {nf : Nat} {rc : Int32 → Int32 → Int32 → TS → Option (Int32 × TS)} {Fr Lr : Nat} (hrc : ∀ (a0 : Int32) (a1 : Int32) (a2 : Int32) (τ : TS) (v : (Int32 × TS)), rc a0 a1 a2 τ = some v → tMet_i l E yX9_worthFrom (ws_ yX9_worthFrom cX9_worthFrom 7 (some .int)) Fr Lr [.ref (E.2.2.2.2.1 0), .int a0, .int a1, .int a2] τ v.1 v.2) : ∀ (x1 : Int32) (x2 : Int32) (x3 : Int32) (x4 : Int32) (τ : TS) (z : (Int32 × TS)), T_worthSeen nf rc x1 x2 x3 x4 τ = some z → tMet_i l E yX9_worthSeen (ws_ yX9_worthSeen cX9_worthSeen 6 (some .int)) (Fr + 5) (Lr + 129) [.ref (E.2.2.2.2.1 0), .int x1, .int x2, .int x3, .int x4] τ z.1 z.2 := by
  intro x1 x2 x3 x4 τ z h
  refine t_met_i hE (by decide +kernel) rfl rfl (fun X hl T hR e => ?_)
  unfold T_worthSeen at h
  have hX := T.1
  show kW X τ 0 [(0, .ref (E.2.2.2.2.1 0)), (1, .int x1), (2, .int x2), (3, .int x3), (4, .int x4)] []
  subst hl
  refine k_aload_n hX dX9_worthSeen_0 rfl 0 rfl ?_
  refine k_iload_n hX dX9_worthSeen_1 rfl 1 rfl ?_
  refine k_iload_n hX dX9_worthSeen_2 rfl 2 rfl ?_
  refine k_iload_n hX dX9_worthSeen_3 rfl 3 rfl ?_
  refine k_iload hX dX9_worthSeen_4 4 rfl ?_
  refine cX_wayOf T (met_wayOf T.2.1 hrc) (room_lo hR (by omega) (by omega)) h rfl dX9_worthSeen_6 (fun v2 τ1 h => ?_)
  refine k_istore [(5, .int v2), (0, .ref (E.2.2.2.2.1 0)), (1, .int x1), (2, .int x2), (3, .int x3), (4, .int x4)] hX dX9_worthSeen_9 rfl rfl ?_
  refine k_iload hX dX9_worthSeen_11 0 rfl ?_
  refine k_if_ge (tgt := 20) hX h dX9_worthSeen_13 (by decide) (fun h => ?_) (fun h => ?_)
  · refine k_aload_n hX dX9_worthSeen_20 rfl 1 rfl ?_
    refine k_iload_n hX dX9_worthSeen_21 rfl 2 rfl ?_
    refine k_iload_n hX dX9_worthSeen_22 rfl 3 rfl ?_
    refine k_iload hX dX9_worthSeen_23 0 rfl ?_
    refine k_iload_n hX dX9_worthSeen_25 rfl 4 rfl ?_
    refine k_iload hX dX9_worthSeen_26 5 rfl ?_
    refine cX_worthBy T (met_worthBy T.2.1 hrc) (room_lo hR (by omega) (by omega)) h rfl dX9_worthSeen_28 (fun v4 τ3 h => ?_)
    exact t_ret_i T e h dX9_worthSeen_31
  · refine k_iconst (v := (-1)) hX dX9_worthSeen_16 (by decide) ?_
    refine k_goto (tgt := 31) hX dX9_worthSeen_17 (by decide) ?_
    exact t_ret_i T e h dX9_worthSeen_31
theorem T_worthHidden_b18_s_ok {X : KC TS} {E : TE} {z : (Int32 × TS)} (T : tOK X E cX9_worthHidden 10 (some .int)) {Fr Lr : Nat} (hR : tRoom X (Fr + 6) (Lr + 154)) (e : tE_i X E z.1 z.2) {nf : Nat} {rc : Int32 → Int32 → Int32 → TS → Option (Int32 × TS)} (hrc : ∀ (a0 : Int32) (a1 : Int32) (a2 : Int32) (τ : TS) (v : (Int32 × TS)), rc a0 a1 a2 τ = some v → tMet_i X.1.2.1 E yX9_worthFrom (ws_ yX9_worthFrom cX9_worthFrom 7 (some .int)) Fr Lr [.ref (E.2.2.2.2.1 0), .int a0, .int a1, .int a2] τ v.1 v.2) {k18 : Int32 → Int32 → Int32 → Int64 → Int32 → Int32 → Int32 → TS → Option (Int32 × TS)} (hk18 : ∀ (x1 : Int32) (x2 : Int32) (x3 : Int32) (x4 : Int64) (x6 : Int32) (x7 : Int32) (x8 : Int32) (τ : TS), k18 x1 x2 x3 x4 x6 x7 x8 τ = some z → kW X τ 18 [(0, .ref (E.2.2.2.2.1 0)), (1, .int x1), (2, .int x2), (3, .int x3), (4, .long x4), (6, .int x6), (7, .int x7), (8, .int x8)] []) {x1 : Int32} {x2 : Int32} {x3 : Int32} {x4 : Int64} {x6 : Int32} {x7 : Int32} {x8 : Int32} {τ : TS} (h : T_worthHidden_b18_s nf rc k18 x1 x2 x3 x4 x6 x7 x8 τ = some z) : kW X τ 18 [(0, .ref (E.2.2.2.2.1 0)), (1, .int x1), (2, .int x2), (3, .int x3), (4, .long x4), (6, .int x6), (7, .int x7), (8, .int x8)] [] := by
  unfold T_worthHidden_b18_s at h
  have hX := T.1
  refine k_iload hX dX9_worthHidden_18 7 rfl ?_
  refine k_iload hX dX9_worthHidden_20 6 rfl ?_
  refine k_icmp_ge (tgt := 73) hX h dX9_worthHidden_22 (by decide) (fun h => ?_) (fun h => ?_)
  · refine k_aload_n hX dX9_worthHidden_73 rfl 0 rfl ?_
    refine tg27 T dX9_worthHidden_74 ?_
    refine k_if_eq (tgt := 85) hX h dX9_worthHidden_77 (by decide) (fun h => ?_) (fun h => ?_)
    · refine k_lload hX dX9_worthHidden_85 4 rfl ?_
      refine k_iload hX dX9_worthHidden_87 6 rfl ?_
      refine k_i2l hX dX9_worthHidden_89 ?_
      refine k_ldiv hX h dX9_worthHidden_90 (fun h => ?_)
      refine k_l2i hX dX9_worthHidden_91 ?_
      exact t_ret_i T e h dX9_worthHidden_92
    · refine k_iload hX dX9_worthHidden_80 5 rfl ?_
      refine k_goto (tgt := 92) hX dX9_worthHidden_82 (by decide) ?_
      exact t_ret_i T e h dX9_worthHidden_92
  · refine k_aload_n hX dX9_worthHidden_25 rfl 0 rfl ?_
    refine k_iload_n hX dX9_worthHidden_26 rfl 1 rfl ?_
    refine k_iload_n hX dX9_worthHidden_27 rfl 2 rfl ?_
    refine k_iload_n hX dX9_worthHidden_28 rfl 3 rfl ?_
    refine k_iload hX dX9_worthHidden_29 7 rfl ?_
    refine cX_worthSeen T (met_worthSeen T.2.1 hrc) (room_lo hR (by omega) (by omega)) h rfl dX9_worthHidden_31 (fun v2 τ1 h => ?_)
    refine k_istore [(9, .int v2), (0, .ref (E.2.2.2.2.1 0)), (1, .int x1), (2, .int x2), (3, .int x3), (4, .long x4), (6, .int x6), (7, .int x7), (8, .int x8)] hX dX9_worthHidden_34 rfl rfl ?_
    refine k_iload hX dX9_worthHidden_36 0 rfl ?_
    refine k_if_ge (tgt := 43) hX h dX9_worthHidden_38 (by decide) (fun h => ?_) (fun h => ?_)
    · refine k_lload hX dX9_worthHidden_43 5 rfl ?_
      refine k_iload hX dX9_worthHidden_45 0 rfl ?_
      refine k_i2l hX dX9_worthHidden_47 ?_
      refine k_ladd hX dX9_worthHidden_48 ?_
      refine k_nml h (fun v3 h => ?_)
      refine k_lstore [(4, .long v3), (9, .int v2), (0, .ref (E.2.2.2.2.1 0)), (1, .int x1), (2, .int x2), (3, .int x3), (6, .int x6), (7, .int x7), (8, .int x8)] hX dX9_worthHidden_49 rfl rfl ?_
      refine k_iload hX dX9_worthHidden_51 1 rfl ?_
      refine k_iload hX dX9_worthHidden_53 6 rfl ?_
      refine k_icmp_le (tgt := 63) hX h dX9_worthHidden_55 (by decide) (fun h => ?_) (fun h => ?_)
      · refine k_iload hX dX9_worthHidden_63 6 rfl ?_
        refine k_istore [(6, .int x6), (4, .long v3), (9, .int v2), (0, .ref (E.2.2.2.2.1 0)), (1, .int x1), (2, .int x2), (3, .int x3), (7, .int x7), (8, .int x8)] hX dX9_worthHidden_65 rfl rfl ?_
        refine k_iinc (j := 8) [(8, .int (x8 + 1)), (6, .int x6), (4, .long v3), (9, .int v2), (0, .ref (E.2.2.2.2.1 0)), (1, .int x1), (2, .int x2), (3, .int x3), (7, .int x7)] hX dX9_worthHidden_67 rfl rfl rfl rfl ?_
        refine k_goto (tgt := 18) hX dX9_worthHidden_70 (by decide) ?_
        refine k_lv [4, 5, 6, 7, 2, 1, 8, 0] rfl ?_
        exact hk18 _ _ _ _ _ _ _ _ h
      · refine k_iload hX dX9_worthHidden_58 1 rfl ?_
        refine k_goto (tgt := 65) hX dX9_worthHidden_60 (by decide) ?_
        refine k_istore [(6, .int v2), (4, .long v3), (9, .int v2), (0, .ref (E.2.2.2.2.1 0)), (1, .int x1), (2, .int x2), (3, .int x3), (7, .int x7), (8, .int x8)] hX dX9_worthHidden_65 rfl rfl ?_
        refine k_iinc (j := 8) [(8, .int (x8 + 1)), (6, .int v2), (4, .long v3), (9, .int v2), (0, .ref (E.2.2.2.2.1 0)), (1, .int x1), (2, .int x2), (3, .int x3), (7, .int x7)] hX dX9_worthHidden_67 rfl rfl rfl rfl ?_
        refine k_goto (tgt := 18) hX dX9_worthHidden_70 (by decide) ?_
        refine k_lv [4, 5, 6, 7, 2, 1, 8, 0] rfl ?_
        exact hk18 _ _ _ _ _ _ _ _ h
    · refine k_iconst (v := (-1)) hX dX9_worthHidden_41 (by decide) ?_
      exact t_ret_i T e h dX9_worthHidden_42
theorem T_worthHidden_b18_ok {X : KC TS} {E : TE} {z : (Int32 × TS)} (T : tOK X E cX9_worthHidden 10 (some .int)) {Fr Lr : Nat} (hR : tRoom X (Fr + 6) (Lr + 154)) (e : tE_i X E z.1 z.2) {nf : Nat} {rc : Int32 → Int32 → Int32 → TS → Option (Int32 × TS)} (hrc : ∀ (a0 : Int32) (a1 : Int32) (a2 : Int32) (τ : TS) (v : (Int32 × TS)), rc a0 a1 a2 τ = some v → tMet_i X.1.2.1 E yX9_worthFrom (ws_ yX9_worthFrom cX9_worthFrom 7 (some .int)) Fr Lr [.ref (E.2.2.2.2.1 0), .int a0, .int a1, .int a2] τ v.1 v.2) : ∀ (n : Nat) (x1 : Int32) (x2 : Int32) (x3 : Int32) (x4 : Int64) (x6 : Int32) (x7 : Int32) (x8 : Int32) (τ : TS), T_worthHidden_b18 nf rc n x1 x2 x3 x4 x6 x7 x8 τ = some z → kW X τ 18 [(0, .ref (E.2.2.2.2.1 0)), (1, .int x1), (2, .int x2), (3, .int x3), (4, .long x4), (6, .int x6), (7, .int x7), (8, .int x8)] [] := by
  intro n
  induction n with
  | zero => intro x1 x2 x3 x4 x6 x7 x8 τ h; exact (nomatch (show (none : Option (Int32 × TS)) = some z from h))
  | succ n ih =>
    intro x1 x2 x3 x4 x6 x7 x8 τ h
    have h : T_worthHidden_b18_s nf rc (T_worthHidden_b18 nf rc n) x1 x2 x3 x4 x6 x7 x8 τ = some z := h
    exact T_worthHidden_b18_s_ok T hR e hrc ih h
theorem met_worthHidden {l : Launch} {E : TE} (hE : tEnv E) {nf : Nat} {rc : Int32 → Int32 → Int32 → TS → Option (Int32 × TS)} {Fr Lr : Nat} (hrc : ∀ (a0 : Int32) (a1 : Int32) (a2 : Int32) (τ : TS) (v : (Int32 × TS)), rc a0 a1 a2 τ = some v → tMet_i l E yX9_worthFrom (ws_ yX9_worthFrom cX9_worthFrom 7 (some .int)) Fr Lr [.ref (E.2.2.2.2.1 0), .int a0, .int a1, .int a2] τ v.1 v.2) : ∀ (x1 : Int32) (x2 : Int32) (x3 : Int32) (τ : TS) (z : (Int32 × TS)), T_worthHidden nf rc x1 x2 x3 τ = some z → tMet_i l E yX9_worthHidden (ws_ yX9_worthHidden cX9_worthHidden 10 (some .int)) (Fr + 6) (Lr + 154) [.ref (E.2.2.2.2.1 0), .int x1, .int x2, .int x3] τ z.1 z.2 := by
  intro x1 x2 x3 τ z h
  refine t_met_i hE (by decide +kernel) rfl rfl (fun X hl T hR e => ?_)
  unfold T_worthHidden at h
  have hX := T.1
  show kW X τ 0 [(0, .ref (E.2.2.2.2.1 0)), (1, .int x1), (2, .int x2), (3, .int x3)] []
  subst hl
  refine k_lconst (v := 0) hX dX9_worthHidden_0 (by decide) ?_
  refine k_lstore [(4, .long 0), (0, .ref (E.2.2.2.2.1 0)), (1, .int x1), (2, .int x2), (3, .int x3)] hX dX9_worthHidden_1 rfl rfl ?_
  refine k_iconst (v := 0) hX dX9_worthHidden_3 (by decide) ?_
  refine k_istore [(6, .int 0), (4, .long 0), (0, .ref (E.2.2.2.2.1 0)), (1, .int x1), (2, .int x2), (3, .int x3)] hX dX9_worthHidden_4 rfl rfl ?_
  refine k_aload_n hX dX9_worthHidden_6 rfl 2 rfl ?_
  refine k_iload_n hX dX9_worthHidden_7 rfl 3 rfl ?_
  refine k_iload_n hX dX9_worthHidden_8 rfl 4 rfl ?_
  refine k_iconst (v := 1) hX dX9_worthHidden_9 (by decide) ?_
  refine cX_lightAt T (met_lightAt T.2.1) (room_lo hR (by omega) (by omega)) h rfl dX9_worthHidden_10 (fun v1 h => ?_)
  refine k_istore [(7, .int v1), (6, .int 0), (4, .long 0), (0, .ref (E.2.2.2.2.1 0)), (1, .int x1), (2, .int x2), (3, .int x3)] hX dX9_worthHidden_13 rfl rfl ?_
  refine k_iconst (v := 0) hX dX9_worthHidden_15 (by decide) ?_
  refine k_istore [(8, .int 0), (7, .int v1), (6, .int 0), (4, .long 0), (0, .ref (E.2.2.2.2.1 0)), (1, .int x1), (2, .int x2), (3, .int x3)] hX dX9_worthHidden_16 rfl rfl ?_
  refine k_lv [4, 5, 6, 7, 3, 2, 1, 0] rfl ?_
  exact T_worthHidden_b18_ok T hR e hrc _ _ _ _ _ _ _ _ _ h
