/-! LAYER 2: the soonest, the latest -/
set_option maxRecDepth 100000
/-- who waits less long comes no later -/
theorem fifo {W : Nat → Int} {x y : Nat} {w : Bool} {s1 s2 : Int} (hW : TW W) (hx : x < 6) (hy : y < 9) (he : evA W x y w = true) (h : s1 ≤ s2) : s1 + wtA W x y w s1 ≤ s2 + wtA W x y w s2 := by
  have b1 := wt_b (sec := s1) hW hx hy he
  have b2 := wt_b (sec := s2) hW hx hy he
  by_cases ht : tmA W x y = true
  · have g1 := gr_wait (sec := s1) hW hx hy ht he
    have g2 := (gr_wait (sec := s2) hW hx hy ht he).1
    by_cases q : s1 + wtA W x y w s1 ≤ s2 + wtA W x y w s2
    · exact q
    · exfalso
      have := g1.2 (s2 + wtA W x y w s2 - s1) (by omega) (by omega)
      rw [show s1 + (s2 + wtA W x y w s2 - s1) = s2 + wtA W x y w s2 by omega, g2] at this
      cases this
  · have e : wtA W x y w s1 = wtA W x y w s2 := by
      unfold wtA
      split
      · rfl
      · simp only [if_neg ht]
    omega
/-- the table as told, at most -/
def vS (W σ : Nat → Int) (RC : Nat → List (Nat × Int)) : Nat → Nat → Int → Int := vT W σ 3 (goR RC) true true (-1) 0
def soV (W σ : Nat → Int) (RC : Nat → List (Nat × Int)) (x y : Nat) (t : Int) : Int := if vS W σ RC x y (t % W 9) < 0 then 2000000000 else t + vS W σ RC x y (t % W 9)
section SOO
variable {g : Nat → Nat} {ρ : Nat → Nat × Nat} {W : Nat → Int} {S : Nat → Nat → Int} {V m Tp : Nat → Int} {RC : Nat → List (Nat × Int)} {s : CS} {τ : TS} {T N : Int} {nf : Nat} {σ : Nat → Int}
theorem vS_VS : VS W σ 3 (goR RC) true true (-1) 0 (vS W σ RC) := vT_VS
theorem vS_b (hW : TW W) {x y : Nat} {t : Int} (hx : (x : Int) < W 0) (hy : (y : Int) < W 1) : -1 ≤ vS W σ RC x y (t % W 9) ∧ vS W σ RC x y (t % W 9) ≤ 1170000 := VS_b13 hW vS_VS hx hy (wtN_ev hW).1 (wtN_ev hW).2
/-- what it takes by a way, at a second as it is -/
def aS (W σ : Nat → Int) (RC : Nat → List (Nat × Int)) (x y : Nat) (w : Bool) (t : Int) : Int := byN W 1 (vS W σ RC) x y w t (wtN W x y w t)
theorem aS_b (hW : TW W) {x y : Nat} {w : Bool} {t : Int} (hx : (x : Int) < W 0) (hy : (y : Int) < W 1) : -1 ≤ aS W σ RC x y w t ∧ aS W σ RC x y w t ≤ 1260000 := byN_bt (wst := true) hW (VS_Rb hW vS_VS) hx hy
theorem vS_st (hW : TW W) {x y : Nat} {t : Int} (hx : (x : Int) < W 0) (hy : (y : Int) < W 1) (hh : hmA W x y = false) : vS W σ RC x y (t % W 9) = if btr (aS W σ RC x y false t) (aS W σ RC x y true t) = true then aS W σ RC x y true t else aS W σ RC x y false t := by
  have w0 := hW.1
  have w1 := hW.2.1
  rw [vS_VS x y (t % W 9) hx hy (wtN_ev hW).1 (wtN_ev hW).2, hh, if_neg (by decide)]
  have e : ∀ w, byN W 1 (vS W σ RC) x y w (t % W 9) (wtN W x y w (t % W 9)) = aS W σ RC x y w t := fun w => by
    unfold aS
    rw [wt_per hW (by omega) (by omega)]
    unfold byN
    rw [Int.emod_add_emod]
  unfold stN
  rw [if_neg (show ¬ ((6 * y + x : Nat) : Int) = -1 by omega), if_neg (fun z => by cases z.1)]
  unfold snN
  rw [if_pos rfl]
  show (if btr (byN W 1 (vS W σ RC) x y false (t % W 9) (wtN W x y false (t % W 9))) (byN W 1 (vS W σ RC) x y true (t % W 9) (wtN W x y true (t % W 9))) = true then byN W 1 (vS W σ RC) x y true (t % W 9) (wtN W x y true (t % W 9)) else byN W 1 (vS W σ RC) x y false (t % W 9) (wtN W x y false (t % W 9))) = _
  rw [e, e]
theorem aS_so (hW : TW W) {x y : Nat} {w : Bool} {t : Int} (hw : cgA W x y w = true) : (if aS W σ RC x y w t < 0 then 2000000000 else t + aS W σ RC x y w t) = soV W σ RC (nx w x) (ny w y) (t + wtA W x y w t + W 2) ∨ ¬ 0 ≤ wtA W x y w t ∨ W 2 < 1 := by
  by_cases q1 : 0 ≤ wtA W x y w t
  · by_cases q2 : W 2 < 1
    · exact .inr (.inr q2)
    · left
      have ew : wtN W x y w t = wtA W x y w t := by unfold wtN; rw [if_pos hw]
      unfold aS byN soV
      rw [ew, if_neg (show ¬ wtA W x y w t < 0 by omega), show t + (wtA W x y w t + W 2) = t + wtA W x y w t + W 2 by omega]
      generalize vS W σ RC (nx w x) (ny w y) ((t + wtA W x y w t + W 2) % W 9) = r
      by_cases q3 : r < 0
      · rw [if_pos q3, if_pos (by decide), if_pos q3]
      · rw [if_neg q3, if_neg (by omega), if_neg q3]
        omega
  · exact .inr (.inl q1)
theorem aS_soE (hW : TW W) {x y : Nat} {w : Bool} {t : Int} (hx : (x : Int) < W 0) (hy : (y : Int) < W 1) (hw : cgA W x y w = true) : (if aS W σ RC x y w t < 0 then 2000000000 else t + aS W σ RC x y w t) = soV W σ RC (nx w x) (ny w y) (t + wtA W x y w t + W 2) := by
  have w0 := hW.1
  have w1 := hW.2.1
  have w2 := hW.2.2.1
  have hb := wt_b (sec := t) hW (x := x) (y := y) (by omega) (by omega) (cg_ev hw).2.2
  rcases aS_so (σ := σ) (RC := RC) hW (t := t) hw with e | e | e
  · exact e
  · omega
  · omega
theorem aS_n {x y : Nat} {w : Bool} {t : Int} (hw : cgA W x y w = false) : aS W σ RC x y w t = -1 := by
  unfold aS byN wtN
  rw [if_neg (show ¬ cgA W x y w = true by rw [hw]; decide), if_pos (by decide)]
theorem soV_b (hW : TW W) {x y : Nat} {t : Int} (hx : (x : Int) < W 0) (hy : (y : Int) < W 1) (h0 : 0 ≤ t) (h1 : t ≤ 100000000) : 0 ≤ soV W σ RC x y t ∧ soV W σ RC x y t ≤ 2000000000 := by
  have := vS_b (σ := σ) (RC := RC) hW (t := t) hx hy
  unfold soV
  split <;> omega
/-- the twin's soonest by a way -/
theorem t_soBy (hn : 100 ≤ nf) (hW : TW W) (h : Rw W τ) {rc : Int32 → Int32 → Int32 → Option Int32} {x y : Nat} {w : Bool} {t : Int} (hx : (x : Int) < W 0) (hy : (y : Int) < W 1) (hw : cgA W x y w = true) (h0 : 0 ≤ t) (h1 : t ≤ 90000000) (hrc : ∀ t', 0 ≤ t' → t' ≤ t + 89 → rc (i32 ((nx w x : Nat) : Int)) (i32 ((ny w y : Nat) : Int)) (i32 t') = some (i32 (soV W σ RC (nx w x) (ny w y) t'))) : T_soonestBy nf rc τ (i32 x) (i32 y) (wy w) (i32 t) = some (i32 (if aS W σ RC x y w t < 0 then 2000000000 else t + aS W σ RC x y w t)) := by
  have w0 := hW.1
  have w1 := hW.2.1
  have w2 := hW.2.2.1
  have hb := wt_b (sec := t) hW (x := x) (y := y) (by omega) (by omega) (cg_ev hw).2.2
  unfold T_soonestBy
  rw [s_waitFor hn hW h (by omega) (by omega) ⟨h0, by omega⟩ (cg_ev hw).2.2, bd_eq, show (2 : Int32) = i32 ((2 : Nat) : Int) from rfl, s_ld τ h (by omega), (xy_n (x := x) (y := y) w).1, (xy_n (x := x) (y := y) w).2, i32_add, i32_add, hrc _ (by omega) (by omega), aS_soE hW hx hy hw]
  rfl
theorem t_soFrom (hn : 100 ≤ nf) (hW : TW W) (h : Rw W τ) : ∀ (d dp x y : Nat) (t : Int), (x : Int) < W 0 → (y : Int) < W 1 → dsA W x y = d → d < dp → 0 ≤ t → t + 89 * d ≤ 90000000 → T_soonestFrom nf τ dp (i32 x) (i32 y) (i32 t) = some (i32 (soV W σ RC x y t)) := by
  have w0 := hW.1
  have w1 := hW.2.1
  have w2 := hW.2.2.1
  intro d
  induction d with
  | zero =>
    intro dp x y t hx hy hd hdp h0 h1
    obtain ⟨dp, rfl⟩ : ∃ q, dp = q + 1 := ⟨dp - 1, by omega⟩
    have hh : hmA W x y = true := by unfold hmA; unfold dsA at hd; exact decide_eq_true (by omega)
    show T_soonestFrom_s nf (T_soonestFrom nf τ dp) τ _ _ _ = _
    unfold T_soonestFrom_s soV
    rw [s_isHome hW h (by omega) (by omega), hh, bd_eq, if_neg (show ¬ bi true = (0 : Int32) by decide), vS_VS x y _ hx hy (wtN_ev hW).1 (wtN_ev hW).2, if_pos hh, if_neg (by decide), Int.add_zero]
  | succ d ih =>
    intro dp x y t hx hy hd hdp h0 h1
    obtain ⟨dp, rfl⟩ : ∃ q, dp = q + 1 := ⟨dp - 1, by omega⟩
    obtain ⟨nf, rfl⟩ : ∃ q, nf = q + 3 := ⟨nf - 3, by omega⟩
    have hh : hmA W x y = false := by unfold hmA; unfold dsA at hd; exact decide_eq_false (by omega)
    have a0 := aS_b (σ := σ) (RC := RC) (w := false) (t := t) hW hx hy
    have a1 := aS_b (σ := σ) (RC := RC) (w := true) (t := t) hW hx hy
    have hB : ∀ w, cgA W x y w = true → T_soonestBy (nf + 3) (T_soonestFrom (nf + 3) τ dp) τ (i32 x) (i32 y) (wy w) (i32 t) = some (i32 (if aS W σ RC x y w t < 0 then 2000000000 else t + aS W σ RC x y w t)) := fun w hw => t_soBy hn hW h hx hy hw h0 (by omega) fun t' z0 z1 => by
      have := th_in (cg_ev hw).1 hx hy
      exact ih dp _ _ t' this.1 this.2.1 (by omega) (by omega) z0 (by omega)
    have hB0 : cgA W x y false = true → T_soonestBy (nf + 3) (T_soonestFrom (nf + 3) τ dp) τ (i32 x) (i32 y) 0 (i32 t) = some (i32 (if aS W σ RC x y false t < 0 then 2000000000 else t + aS W σ RC x y false t)) := hB false
    have hB1 : cgA W x y true = true → T_soonestBy (nf + 3) (T_soonestFrom (nf + 3) τ dp) τ (i32 x) (i32 y) 1 (i32 t) = some (i32 (if aS W σ RC x y true t < 0 then 2000000000 else t + aS W σ RC x y true t)) := hB true
    have e0 : T_canGo τ (i32 x) (i32 y) 0 = some (bi (cgA W x y false)) := s_canGo (way := false) hW h (by omega) (by omega)
    have e1 : T_canGo τ (i32 x) (i32 y) 1 = some (bi (cgA W x y true)) := s_canGo (way := true) hW h (by omega) (by omega)
    show T_soonestFrom_s (nf + 3) (T_soonestFrom (nf + 3) τ dp) τ _ _ _ = _
    unfold T_soonestFrom_s
    rw [s_isHome hW h (by omega) (by omega), hh, bd_eq, if_pos (show bi false = (0 : Int32) from rfl)]
    have l2 : ∀ b : Int, T_soonestFrom_b19 (nf + 3) (T_soonestFrom (nf + 3) τ dp) τ (nf + 1) (i32 x) (i32 y) (i32 t) (i32 b) 2 = some (i32 b) := fun b => by
      rw [show T_soonestFrom_b19 (nf + 3) (T_soonestFrom (nf + 3) τ dp) τ (nf + 1) = T_soonestFrom_b19_s (nf + 3) (T_soonestFrom (nf + 3) τ dp) τ (T_soonestFrom_b19 (nf + 3) (T_soonestFrom (nf + 3) τ dp) τ nf) from rfl]
      unfold T_soonestFrom_b19_s
      rw [if_pos (by decide)]
    have l1 : ∀ b : Int, 0 ≤ b → b ≤ 2000000000 → T_soonestFrom_b19 (nf + 3) (T_soonestFrom (nf + 3) τ dp) τ (nf + 2) (i32 x) (i32 y) (i32 t) (i32 b) 1 = some (i32 (if aS W σ RC x y true t < 0 then b else if t + aS W σ RC x y true t < b then t + aS W σ RC x y true t else b)) := fun b b0 b1 => by
      rw [show T_soonestFrom_b19 (nf + 3) (T_soonestFrom (nf + 3) τ dp) τ (nf + 2) = T_soonestFrom_b19_s (nf + 3) (T_soonestFrom (nf + 3) τ dp) τ (T_soonestFrom_b19 (nf + 3) (T_soonestFrom (nf + 3) τ dp) τ (nf + 1)) from rfl]
      unfold T_soonestFrom_b19_s
      rw [if_neg (by decide), e1, bd_eq]
      cases q : cgA W x y true with
      | false =>
        rw [if_pos (show bi false = (0 : Int32) from rfl), aS_n q, if_pos (by decide)]
        exact l2 b
      | true =>
        rw [if_neg (show ¬ bi true = (0 : Int32) by decide), hB1 q, bd_eq]
        have l2' : ∀ b : Int, T_soonestFrom_b19 (nf + 3) (T_soonestFrom (nf + 3) τ dp) τ (nf + 1) (i32 x) (i32 y) (i32 t) (i32 b) (1 + 1) = some (i32 b) := l2
        rw [l2', l2']
        by_cases p1 : aS W σ RC x y true t < 0
        · simp (disch := omega) only [nrm, wps, cmps, if_pos, if_neg, eq_self, if_true, if_false, Bool.false_eq_true]
        · by_cases p2 : t + aS W σ RC x y true t < b
          · simp (disch := omega) only [nrm, wps, cmps, if_pos, if_neg, eq_self, if_true, if_false, Bool.false_eq_true]
          · simp (disch := omega) only [nrm, wps, cmps, if_pos, if_neg, eq_self, if_true, if_false, Bool.false_eq_true]
    have l0 : T_soonestFrom_b19 (nf + 3) (T_soonestFrom (nf + 3) τ dp) τ (nf + 3) (i32 x) (i32 y) (i32 t) 2000000000 0 = some (i32 (soV W σ RC x y t)) := by
      rw [show T_soonestFrom_b19 (nf + 3) (T_soonestFrom (nf + 3) τ dp) τ (nf + 3) = T_soonestFrom_b19_s (nf + 3) (T_soonestFrom (nf + 3) τ dp) τ (T_soonestFrom_b19 (nf + 3) (T_soonestFrom (nf + 3) τ dp) τ (nf + 2)) from rfl]
      unfold T_soonestFrom_b19_s soV
      rw [if_neg (by decide), e0, bd_eq, vS_st hW hx hy hh]
      have l1' : ∀ b : Int, 0 ≤ b → b ≤ 2000000000 → T_soonestFrom_b19 (nf + 3) (T_soonestFrom (nf + 3) τ dp) τ (nf + 2) (i32 x) (i32 y) (i32 t) (i32 b) (0 + 1) = some (i32 (if aS W σ RC x y true t < 0 then b else if t + aS W σ RC x y true t < b then t + aS W σ RC x y true t else b)) := l1
      have l1F := l1' 2000000000 (by omega) (by omega)
      have l1F : T_soonestFrom_b19 (nf + 3) (T_soonestFrom (nf + 3) τ dp) τ (nf + 2) (i32 x) (i32 y) (i32 t) 2000000000 (0 + 1) = _ := l1F
      unfold btr
      cases q : cgA W x y false with
      | false =>
        rw [if_pos (show bi false = (0 : Int32) from rfl), l1F, aS_n q]
        refine si ?_
        by_cases p1 : aS W σ RC x y true t < 0
        · simp (disch := omega) only [if_pos, if_neg, decide_eq_true_eq]
        · simp (disch := omega) only [if_pos, if_neg, decide_eq_true_eq]
      | true =>
        rw [if_neg (show ¬ bi true = (0 : Int32) by decide), hB0 q, bd_eq, l1F]
        by_cases p0 : aS W σ RC x y false t < 0
        · rw [if_pos p0, if_pos (show (2000000000 : Int32) ≤ i32 2000000000 by decide)]
          refine si ?_
          by_cases p1 : aS W σ RC x y true t < 0
          · simp (disch := omega) only [if_pos, if_neg, decide_eq_true_eq]
          · simp (disch := omega) only [if_pos, if_neg, decide_eq_true_eq]
        · rw [if_neg p0, l1' _ (by omega) (by omega), if_neg (show ¬ (2000000000 : Int32) ≤ i32 (t + aS W σ RC x y false t) from fun z => by
            rw [show (2000000000 : Int32) = i32 2000000000 from rfl] at z
            have := (i32_le ⟨by omega, by omega⟩ ⟨by omega, by omega⟩).mp z
            omega)]
          refine si ?_
          by_cases p1 : aS W σ RC x y true t < 0
          · simp (disch := omega) only [if_pos, if_neg, decide_eq_true_eq]
          · by_cases p2 : aS W σ RC x y true t < aS W σ RC x y false t
            · simp (disch := omega) only [if_pos, if_neg, decide_eq_true_eq]
            · simp (disch := omega) only [if_pos, if_neg, decide_eq_true_eq]
    exact l0
/-- the k-th way of the soonest -/
def psN (W σ : Nat → Int) (RC : Nat → List (Nat × Int)) : Nat → Nat → Nat → Int → Int → Int
  | 0, _, _, _, _ => -2
  | n + 1, x, y, t, j => if j = 0 then (if btr (aS W σ RC x y false t) (aS W σ RC x y true t) = true then 1 else 0) else psN W σ RC n (nx (btr (aS W σ RC x y false t) (aS W σ RC x y true t)) x) (ny (btr (aS W σ RC x y false t) (aS W σ RC x y true t)) y) (t + wtA W x y (btr (aS W σ RC x y false t) (aS W σ RC x y true t)) t + W 2) (j - 1)
def snV (W σ : Nat → Int) (RC : Nat → List (Nat × Int)) (x y t j : Int) : Int := if (((0 ≤ x ∧ x < W 0) ∧ 0 ≤ y ∧ y < W 1) ∧ 0 ≤ t ∧ t ≤ 1000000) ∧ -1 ≤ j then (if vS W σ RC x.toNat y.toNat (t % W 9) < 0 then -2 else if j = -1 then t + vS W σ RC x.toNat y.toNat (t % W 9) else psN W σ RC (dsA W x.toNat y.toNat) x.toNat y.toNat t j) else -2
/-- where home is within reach, the best's way is one he can go -/
theorem bt_cg (hW : TW W) {x y : Nat} {t : Int} (hx : (x : Int) < W 0) (hy : (y : Int) < W 1) (hh : hmA W x y = false) (hv : 0 ≤ vS W σ RC x y (t % W 9)) : cgA W x y (btr (aS W σ RC x y false t) (aS W σ RC x y true t)) = true ∧ vS W σ RC x y (t % W 9) = aS W σ RC x y (btr (aS W σ RC x y false t) (aS W σ RC x y true t)) t := by
  rw [vS_st hW hx hy hh] at hv ⊢
  cases q : btr (aS W σ RC x y false t) (aS W σ RC x y true t) with
  | true =>
    rw [q, if_pos rfl] at hv
    rw [if_pos rfl]
    refine ⟨?_, rfl⟩
    cases q2 : cgA W x y true with
    | true => rfl
    | false => rw [aS_n q2] at hv; omega
  | false =>
    rw [q, if_neg (by decide)] at hv
    rw [if_neg (by decide)]
    refine ⟨?_, rfl⟩
    cases q2 : cgA W x y false with
    | true => rfl
    | false => rw [aS_n q2] at hv; omega
/-- .. and on the way the time of coming home stays -/
theorem bt_nx (hW : TW W) {x y : Nat} {t : Int} (hx : (x : Int) < W 0) (hy : (y : Int) < W 1) {w : Bool} (hw : cgA W x y w = true) (ha : 0 ≤ aS W σ RC x y w t) : 0 ≤ vS W σ RC (nx w x) (ny w y) ((t + wtA W x y w t + W 2) % W 9) ∧ t + wtA W x y w t + W 2 + vS W σ RC (nx w x) (ny w y) ((t + wtA W x y w t + W 2) % W 9) = t + aS W σ RC x y w t := by
  have w0 := hW.1
  have w1 := hW.2.1
  have w2 := hW.2.2.1
  have hb := wt_b (sec := t) hW (x := x) (y := y) (by omega) (by omega) (cg_ev hw).2.2
  have ew : wtN W x y w t = wtA W x y w t := by unfold wtN; rw [if_pos hw]
  unfold aS byN at ha ⊢
  rw [ew, if_neg (show ¬ wtA W x y w t < 0 by omega), show t + (wtA W x y w t + W 2) = t + wtA W x y w t + W 2 by omega] at ha ⊢
  generalize vS W σ RC (nx w x) (ny w y) ((t + wtA W x y w t + W 2) % W 9) = r at ha ⊢
  by_cases q3 : r < 0
  · rw [if_pos q3] at ha
    omega
  · rw [if_neg q3]
    omega
end SOO
