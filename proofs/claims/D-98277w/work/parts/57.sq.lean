/-! LAYER 2: asks of the soonest, the latest -/
set_option maxRecDepth 100000
section SQ
variable {g : Nat → Nat} {ρ : Nat → Nat × Nat} {W : Nat → Int} {S : Nat → Nat → Int} {V m Tp : Nat → Int} {RC : Nat → List (Nat × Int)} {s : CS} {τ : TS} {T N : Int} {nf : Nat} {σ : Nat → Int}
theorem Dn.nx {R : Nat → Nat → Int → Int} (h : Dn s g W R (fun _ _ => True)) (hb : Rb W R) {x y : Nat} (hx : (x : Int) < W 0) (hy : (y : Int) < W 1) : Nxt s g W R x y := fun w hw => by
  have := th_in hw hx hy
  exact ⟨h _ _ trivial this.1 this.2.1, fun t' => by
    have := hb _ _ t' this.1 this.2.1
    omega⟩
theorem cs_loop (hW : TW W) (b : B g ρ W S V m Tp RC s) (h10 : cI s 10 (g 0) = bi true) (hD : Dn s g W (vS W (S 0) RC) (fun _ _ => True)) {j0 : Int} (hj0 : ok32 j0) : ∀ (d n x y : Nat) (t k : Int), (x : Int) < W 0 → (y : Int) < W 1 → dsA W x y = d → d < n → 0 ≤ t → t + 89 * d ≤ 90000000 → 0 ≤ k → k + d ≤ 100 → 0 ≤ vS W (S 0) RC x y (t % W 9) → Ok (FX0_soonest_b73 nf n (g 0) (i32 j0) (i32 x) (i32 y) (i32 t) (i32 k) s) fun p => p.1 = i32 (psN W (S 0) RC d x y t (j0 - k)) ∧ p.2 = s := by
  have w0 := hW.1
  have w1 := hW.2.1
  have w2 := hW.2.2.1
  obtain ⟨j1, j2⟩ := hj0
  intro d
  induction d with
  | zero =>
    intro n x y t k hx hy hd hn h0 h1 k0 k1 hv
    obtain ⟨n, rfl⟩ : ∃ q, n = q + 1 := ⟨n - 1, by omega⟩
    have hh : hmA W x y = true := by unfold hmA; unfold dsA at hd; exact decide_eq_true (by omega)
    rw [show FX0_soonest_b73 nf (n + 1) = FX0_soonest_b73_s nf (FX0_soonest_b73 nf n) from rfl]
    unfold FX0_soonest_b73_s
    refine ok_be (c_isHome b hW (by omega) (by omega)) ?_
    rw [hh, if_neg (show ¬ bi true = (0 : Int32) by decide)]
    exact ok_s ⟨rfl, rfl⟩
  | succ d ih =>
    intro n x y t k hx hy hd hn h0 h1 k0 k1 hv
    obtain ⟨n, rfl⟩ : ∃ q, n = q + 1 := ⟨n - 1, by omega⟩
    have hh : hmA W x y = false := by unfold hmA; unfold dsA at hd; exact decide_eq_false (by omega)
    have hN := hD.nx (VS_Rb hW vS_VS) hx hy
    have e0 : FX0_waits s (g 0) (i32 x) (i32 y) 0 (i32 t) = some (i32 (wtN W x y false t)) := c_wts (way := false) b hW (by omega) (by omega) h0 (by omega)
    have e1 : FX0_waits s (g 0) (i32 x) (i32 y) 1 (i32 t) = some (i32 (wtN W x y true t)) := c_wts (way := true) b hW (by omega) (by omega) h0 (by omega)
    have cb : ∀ w, FX0_by s (g 0) (i32 x) (i32 y) (wy w) (i32 t) (i32 (wtN W x y w t)) = some (i32 (aS W (S 0) RC x y w t)) := fun w => c_by (wst := true) b hW h10 hx hy h0 (by omega) (wtN_b hW hx hy) (fun z => by
      have e := (cg_ev (wtN_cg (show ¬ wtN W x y w t < 0 by omega))).1
      exact ⟨e, hN w e⟩)
    have a0 := aS_b (σ := S 0) (RC := RC) (w := false) (t := t) hW hx hy
    have a1 := aS_b (σ := S 0) (RC := RC) (w := true) (t := t) hW hx hy
    obtain ⟨hcg, hva⟩ := bt_cg hW hx hy hh hv
    rw [show FX0_soonest_b73 nf (n + 1) = FX0_soonest_b73_s nf (FX0_soonest_b73 nf n) from rfl]
    unfold FX0_soonest_b73_s
    refine ok_be (c_isHome b hW (by omega) (by omega)) ?_
    rw [hh, if_pos (show bi false = (0 : Int32) from rfl)]
    refine ok_be e0 (ok_be e1 (ok_be (cb false) (ok_be (cb true) (ok_be (c_better b ⟨by omega, by omega⟩ ⟨by omega, by omega⟩) ?_))))
    obtain ⟨w, hwe⟩ : ∃ w, w = btr (aS W (S 0) RC x y false t) (aS W (S 0) RC x y true t) := ⟨_, rfl⟩
    have hps : psN W (S 0) RC (d + 1) x y t (j0 - k) = if j0 - k = 0 then (if w = true then 1 else 0) else psN W (S 0) RC d (nx w x) (ny w y) (t + wtA W x y w t + W 2) (j0 - k - 1) := by rw [hwe]; rfl
    rw [← hwe] at hcg hva ⊢
    rw [hps]
    have i1 := th_in (cg_ev hcg).1 hx hy
    have hb := wt_b (sec := t) hW (x := x) (y := y) (by omega) (by omega) (cg_ev hcg).2.2
    have ew : wtN W x y w t = wtA W x y w t := by unfold wtN; rw [if_pos hcg]
    have hnx := bt_nx (σ := S 0) (RC := RC) hW hx hy hcg (t := t) (by omega)
    refine ok_q ⟨by omega, by omega⟩ ⟨j1, j2⟩ (fun q => ?_) (fun q => ?_)
    · rw [if_pos (show j0 - k = 0 by omega)]
      refine ok_s ⟨?_, rfl⟩
      unfold bi
      split <;> rfl
    · rw [if_neg (show ¬ j0 - k = 0 by omega)]
      have L := ih n (nx w x) (ny w y) (t + wtA W x y w t + W 2) (k + 1) i1.1 i1.2.1 (by omega) (by omega) (by omega) (by omega) (by omega) (by omega) hnx.1
      rw [show j0 - (k + 1) = j0 - k - 1 by omega] at L
      have go : ∀ v, v = i32 (wtN W x y w t) → Ok (FX0_soonest_b166 nf (FX0_soonest_b73 nf n) (g 0) (i32 j0) (i32 x) (i32 y) (i32 k) (bi w) v (i32 t) s) fun p => p.1 = i32 (psN W (S 0) RC d (nx w x) (ny w y) (t + wtA W x y w t + W 2) (j0 - k - 1)) ∧ p.2 = s := fun v hv => by
        unfold FX0_soonest_b166
        refine ok_gRs b.1 rfl (b.2.1 2 _ rfl).1 (ok_nn (ok_be (c_walk b hW) ?_))
        rw [hv, ew, nm_eq, i32_add, i32_add, show (1 : Int32) = i32 1 from rfl, i32_add, i32_add, i32_add, show t + (wtA W x y w t + W 2) = t + wtA W x y w t + W 2 by omega]
        cases w with
        | true =>
          rw [if_neg (show ¬ bi true = (0 : Int32) by decide)]
          exact L
        | false =>
          rw [if_pos (show bi false = (0 : Int32) from rfl)]
          exact L
      cases w with
      | true =>
        rw [if_neg (show ¬ bi true = (0 : Int32) by decide)]
        exact go _ rfl
      | false =>
        rw [if_pos (show bi false = (0 : Int32) from rfl)]
        exact go _ rfl
theorem ok_soonest (hnf : 2000 ≤ nf) (b : B g ρ W S V m Tp RC s) (hW : TW W) (hS : SW W T (S 0)) {x y t j : Int} (hx : ok32 x) (hy : ok32 y) (ht : ok32 t) (hj : ok32 j) : Ok (FX0_soonest nf (g 0) (i32 x) (i32 y) (i32 t) (i32 j) s) fun p => p.1 = i32 (snV W (S 0) RC x y t j) ∧ Fq ρ s p.2 ∧ ((((0 ≤ x ∧ x < W 0) ∧ 0 ≤ y ∧ y < W 1) ∧ 0 ≤ t ∧ t ≤ 1000000) ∧ -1 ≤ j → Dn p.2 g W (vS W (S 0) RC) (fun _ _ => True)) := by
  have w0 := hW.1
  have w1 := hW.2.1
  have w8 := hW.2.2.2.2.2.2.2.2.1
  unfold FX0_soonest snV
  refine ok_mq (ρ := ρ) (ok_gd b.1 rfl ?_) (fun z hz => hz.2.1)
  refine ok_be (c_isAsked b hW hx hy ht) ?_
  by_cases q2 : ((0 ≤ x ∧ x < W 0) ∧ 0 ≤ y ∧ y < W 1) ∧ 0 ≤ t ∧ t ≤ 1000000
  · rw [decide_eq_true q2, if_neg (show ¬ bi true = (0 : Int32) by decide), show (-1 : Int32) = i32 (-1) from rfl]
    refine ok_le ⟨by omega, by omega⟩ hj (fun qj => ?_) (fun qj => ?_)
    · rw [if_pos ⟨q2, qj⟩]
      obtain ⟨xn, exn⟩ : ∃ xn : Nat, x = xn := ⟨x.toNat, by omega⟩
      obtain ⟨yn, eyn⟩ : ∃ yn : Nat, y = yn := ⟨y.toNat, by omega⟩
      subst exn
      subst eyn
      rw [Int.toNat_natCast, Int.toNat_natCast]
      refine ok_b (ok_tables (k := 3) (wst := true) (told := true) (R := vS W (S 0) RC) hnf b hW hS (by omega) vS_VS) fun s' hs => ?_
      obtain ⟨f, ⟨o, -, -, hc⟩, hD⟩ := hs
      have b' := b.q f
      refine ok_be (c_takesAt b' hW (hD xn yn trivial (by omega) (by omega)) (by omega) (by omega) q2.2.1 (by omega)) ?_
      have hvb := vS_b (σ := S 0) (RC := RC) (t := t) hW q2.1.1.2 q2.1.2.2
      unfold FX0_soonest_b46
      rw [show (0 : Int32) = i32 0 from rfl]
      refine ok_lt ⟨by omega, by omega⟩ ⟨by omega, by omega⟩ (fun q => ?_) (fun q => ?_)
      · rw [if_pos q]
        refine ok_le ⟨by omega, by omega⟩ ⟨by omega, by omega⟩ (fun z => by omega) (fun _ => ?_)
        exact ok_s ⟨rfl, f, fun _ => hD⟩
      · rw [if_neg (show ¬ vS W (S 0) RC xn yn (t % W 9) < 0 by omega)]
        refine ok_q hj ⟨by omega, by omega⟩ (fun q4 => ?_) (fun q4 => ?_)
        · rw [if_pos q4]
          refine ok_le ⟨by omega, by omega⟩ ⟨by omega, by omega⟩ (fun _ => ?_) (fun z => by omega)
          rw [i32_add]
          exact ok_s ⟨rfl, f, fun _ => hD⟩
        · rw [if_neg q4]
          have hd13 := ds_b (x := xn) (y := yn) hW
          have L := cs_loop (nf := nf) hW b' hc.2.2.2.2.1 hD hj (dsA W xn yn) nf xn yn t 0 q2.1.1.2 q2.1.2.2 rfl (by omega) q2.2.1 (by omega) (by omega) (by omega) q
          rw [Int.sub_zero] at L
          exact ok_w L fun p hp => ⟨hp.1, by rw [hp.2]; exact f, fun _ => by rw [hp.2]; exact hD⟩
    · rw [if_neg (fun z => by omega)]
      exact ok_s ⟨rfl, Fq.rf, fun z => by omega⟩
  · rw [decide_eq_false q2, if_pos (show bi false = (0 : Int32) from rfl), if_neg (fun z => q2 z.1)]
    exact ok_s ⟨rfl, Fq.rf, fun z => absurd z.1 q2⟩
theorem ts_loop (hn : 2000 ≤ nf) (hW : TW W) (h : Rw W τ) {j0 en : Int} (hj0 : ok32 j0) (hjn : 0 ≤ j0) (hen : 0 ≤ en ∧ en < 2000000000) : ∀ (d n x y : Nat) (t k : Int), (x : Int) < W 0 → (y : Int) < W 1 → dsA W x y = d → d < n → 0 ≤ t → t + 89 * d ≤ 90000000 → 0 ≤ k → k + d ≤ 100 → 0 ≤ vS W σ RC x y (t % W 9) → en = t + vS W σ RC x y (t % W 9) → T_soonest_b66 nf n (i32 j0) (i32 en) (i32 x) (i32 y) (i32 t) (i32 k) τ = some (i32 (psN W σ RC d x y t (j0 - k)), τ) := by
  have w0 := hW.1
  have w1 := hW.2.1
  have w2 := hW.2.2.1
  obtain ⟨j1, j2⟩ := hj0
  intro d
  induction d with
  | zero =>
    intro n x y t k hx hy hd hn2 h0 h1 k0 k1 hv he
    obtain ⟨n, rfl⟩ : ∃ q, n = q + 1 := ⟨n - 1, by omega⟩
    have hh : hmA W x y = true := by unfold hmA; unfold dsA at hd; exact decide_eq_true (by omega)
    rw [show T_soonest_b66 nf (n + 1) = T_soonest_b66_s nf (T_soonest_b66 nf n) from rfl]
    unfold T_soonest_b66_s
    rw [s_isHome hW h (by omega) (by omega), hh, bd_eq, if_neg (show ¬ bi true = (0 : Int32) by decide)]
    simp (disch := omega) only [nrm, wps, cmps, if_pos, if_neg, eq_self, if_true, if_false, Bool.false_eq_true]
    rfl
  | succ d ih =>
    intro n x y t k hx hy hd hn2 h0 h1 k0 k1 hv he
    obtain ⟨n, rfl⟩ : ∃ q, n = q + 1 := ⟨n - 1, by omega⟩
    have hh : hmA W x y = false := by unfold hmA; unfold dsA at hd; exact decide_eq_false (by omega)
    have a0 := aS_b (σ := σ) (RC := RC) (w := false) (t := t) hW hx hy
    have a1 := aS_b (σ := σ) (RC := RC) (w := true) (t := t) hW hx hy
    obtain ⟨hcg, hva⟩ := bt_cg hW hx hy hh hv
    have e0 : T_canGo τ (i32 x) (i32 y) 0 = some (bi (cgA W x y false)) := s_canGo (way := false) hW h (by omega) (by omega)
    obtain ⟨w, hwe⟩ : ∃ w, w = btr (aS W σ RC x y false t) (aS W σ RC x y true t) := ⟨_, rfl⟩
    have hps : psN W σ RC (d + 1) x y t (j0 - k) = if j0 - k = 0 then (if w = true then 1 else 0) else psN W σ RC d (nx w x) (ny w y) (t + wtA W x y w t + W 2) (j0 - k - 1) := by rw [hwe]; rfl
    rw [← hwe] at hcg hva
    have i1 := th_in (cg_ev hcg).1 hx hy
    have hb := wt_b (sec := t) hW (x := x) (y := y) (by omega) (by omega) (cg_ev hcg).2.2
    have hnx := bt_nx (σ := σ) (RC := RC) hW hx hy hcg (t := t) (by omega)
    have hd13 := ds_b (x := x) (y := y) hW
    have hB0 : cgA W x y false = true → T_soonestBy nf (T_soonestFrom nf τ 20) τ (i32 x) (i32 y) 0 (i32 t) = some (i32 (if aS W σ RC x y false t < 0 then 2000000000 else t + aS W σ RC x y false t)) := fun hw => t_soBy (w := false) (by omega) hW h hx hy hw h0 (by omega) fun t' z0 z1 => by
      have := th_in (cg_ev hw).1 hx hy
      exact t_soFrom (by omega) hW h _ 20 _ _ t' this.1 this.2.1 rfl (by have := ds_b (x := nx false x) (y := ny false y) hW; omega) z0 (by omega)
    -- the way that the twin takes
    have go : T_soonest_b115 nf (T_soonest_b66 nf n) (i32 j0) (i32 en) (i32 x) (i32 y) (i32 t) (i32 k) (wy w) τ = some (i32 (psN W σ RC (d + 1) x y t (j0 - k)), τ) := by
      unfold T_soonest_b115
      rw [hps]
      by_cases q : j0 - k = 0
      · rw [if_pos (show i32 k = i32 j0 by congr 1; omega), if_pos q]
        cases w <;> rfl
      · rw [if_neg (show ¬ i32 k = i32 j0 from fun z => by
          have := (i32_eq ⟨by omega, by omega⟩ ⟨j1, j2⟩).mp z
          omega), if_neg q, s_waitFor (by omega) hW h (by omega) (by omega) ⟨h0, by omega⟩ (cg_ev hcg).2.2, bd_eq, show (2 : Int32) = i32 ((2 : Nat) : Int) from rfl, s_ld τ h (by omega), nm_eq, nm_eq, nm_eq, i32_add, i32_add]
        have L := ih n (nx w x) (ny w y) (t + wtA W x y w t + W 2) (k + 1) i1.1 i1.2.1 (by omega) (by omega) (by omega) (by omega) (by omega) (by omega) hnx.1 (by omega)
        rw [show j0 - (k + 1) = j0 - k - 1 by omega] at L
        have ex : i32 (x : Int) + (1 - wy w) = i32 ((nx w x : Nat) : Int) := by
          cases w
          · show i32 (x : Int) + (i32 1 - i32 0) = _
            rw [i32_sub, i32_add]
            rfl
          · show i32 (x : Int) + (i32 1 - i32 1) = _
            rw [i32_sub, i32_add]
            congr 1
        rw [ex, (xy_n (x := x) (y := y) w).2, show (1 : Int32) = i32 1 from rfl, i32_add, show t + (wtA W x y w t + W 2) = t + wtA W x y w t + W 2 by omega]
        exact L
    rw [show T_soonest_b66 nf (n + 1) = T_soonest_b66_s nf (T_soonest_b66 nf n) from rfl]
    unfold T_soonest_b66_s
    rw [s_isHome hW h (by omega) (by omega), hh, bd_eq, if_pos (show bi false = (0 : Int32) from rfl), if_neg (show ¬ i32 j0 < 0 from fun z => by
      have := (i32_lt ⟨j1, j2⟩ (b := 0) ⟨by omega, by omega⟩).mp z
      omega), e0, bd_eq]
    unfold btr at hwe
    cases q0 : cgA W x y false with
    | false =>
      have e := aS_n (σ := σ) (RC := RC) (t := t) q0
      have hw1 : w = true := by rw [hwe]; exact decide_eq_true (.inl (by omega))
      rw [if_pos (show bi false = (0 : Int32) from rfl)]
      rw [hw1] at go
      exact go
    | true =>
      rw [if_neg (show ¬ bi true = (0 : Int32) by decide), hB0 q0, bd_eq]
      cases w with
      | true =>
        have hbt := of_decide_eq_true hwe.symm
        rw [if_neg]
        · exact go
        · intro z
          have := (i32_eq (by split <;> exact ⟨by omega, by omega⟩) ⟨by omega, by omega⟩).mp z
          split at this <;> omega
      | false =>
        have hbt := of_decide_eq_false hwe.symm
        rw [if_neg (show ¬ aS W σ RC x y false t < 0 by omega), if_pos (show i32 (t + aS W σ RC x y false t) = i32 en by congr 1; omega)]
        exact go
theorem t_soonest (hn : 2000 ≤ nf) (hW : TW W) (h : Rw W τ) {x y t j : Int} (hx : ok32 x) (hy : ok32 y) (ht : ok32 t) (hj : ok32 j) : T_soonest nf (i32 x) (i32 y) (i32 t) (i32 j) τ = some (i32 (snV W σ RC x y t j), sI τ 0 0) := by
  have w0 := hW.1
  have w1 := hW.2.1
  unfold T_soonest
  rw [nm_eq]
  have h2 : Rw W (sI τ 0 0) := h
  generalize sI τ 0 0 = τ1 at h2 ⊢
  have far : T_soonest_b41 nf (i32 x) (i32 y) (i32 t) (i32 j) 2000000000 τ1 = some (i32 (-2), τ1) := by
    unfold T_soonest_b41
    rw [if_pos rfl]
    rfl
  rw [s_isCorner hW h2 hx hy, s_isSecond ht, bd_eq, bd_eq]
  unfold snV
  by_cases q1 : (0 ≤ x ∧ x < W 0) ∧ 0 ≤ y ∧ y < W 1
  · rw [decide_eq_true q1, if_neg (show ¬ bi true = (0 : Int32) by decide)]
    by_cases q2 : 0 ≤ t ∧ t ≤ 1000000
    · rw [decide_eq_true q2, if_neg (show ¬ bi true = (0 : Int32) by decide), show (-1 : Int32) = i32 (-1) from rfl]
      by_cases qj : -1 ≤ j
      · rw [if_neg (show ¬ i32 j < i32 (-1) from fun z => by
          have := (i32_lt hj ⟨by omega, by omega⟩).mp z
          omega), if_pos (show (((0 ≤ x ∧ x < W 0) ∧ 0 ≤ y ∧ y < W 1) ∧ 0 ≤ t ∧ t ≤ 1000000) ∧ -1 ≤ j from ⟨⟨q1, q2⟩, qj⟩)]
        obtain ⟨xn, exn⟩ : ∃ xn : Nat, x = xn := ⟨x.toNat, by omega⟩
        obtain ⟨yn, eyn⟩ : ∃ yn : Nat, y = yn := ⟨y.toNat, by omega⟩
        subst exn
        subst eyn
        have hd13 := ds_b (x := xn) (y := yn) hW
        have hvb := vS_b (σ := σ) (RC := RC) (t := t) hW q1.1.2 q1.2.2
        rw [Int.toNat_natCast, Int.toNat_natCast, t_soFrom (σ := σ) (RC := RC) (by omega) hW h2 (dsA W xn yn) 20 xn yn t q1.1.2 q1.2.2 rfl (by omega) q2.1 (by omega), bd_eq]
        unfold soV
        by_cases qv : vS W σ RC xn yn (t % W 9) < 0
        · rw [if_pos qv, if_pos qv]
          exact far
        · rw [if_neg qv, if_neg qv]
          unfold T_soonest_b41
          rw [if_neg (show ¬ i32 (t + vS W σ RC xn yn (t % W 9)) = 2000000000 from fun z => by
            have := (i32_eq (b := 2000000000) ⟨by omega, by omega⟩ ⟨by omega, by omega⟩).mp z
            omega)]
          by_cases q4 : j = -1
          · rw [if_pos q4, q4]
            obtain ⟨n, rfl⟩ : ∃ n, nf = n + 1 := ⟨nf - 1, by omega⟩
            rw [show T_soonest_b66 (n + 1) (n + 1) = T_soonest_b66_s (n + 1) (T_soonest_b66 (n + 1) n) from rfl]
            unfold T_soonest_b66_s
            rw [s_isHome hW h2 (by omega) (by omega), bd_eq, if_pos (show i32 (-1) < 0 by decide), if_neg (show ¬ (0 : Int32) ≤ i32 (-1) by decide)]
            split <;> rfl
          · rw [if_neg q4]
            have L := ts_loop (σ := σ) (RC := RC) (en := t + vS W σ RC xn yn (t % W 9)) hn hW h2 hj (by omega) ⟨by omega, by omega⟩ (dsA W xn yn) nf xn yn t 0 q1.1.2 q1.2.2 rfl (by omega) q2.1 (by omega) (by omega) (by omega) (by omega) rfl
            rw [Int.sub_zero] at L
            exact L
      · rw [if_pos (show i32 j < i32 (-1) from (i32_lt hj ⟨by omega, by omega⟩).mpr (by omega)), far, if_neg (fun z => qj z.2)]
    · rw [decide_eq_false q2, if_pos (show bi false = (0 : Int32) from rfl), far, if_neg (fun z => q2 z.1.2)]
  · rw [decide_eq_false q1, if_pos (show bi false = (0 : Int32) from rfl), far, if_neg (fun z => q1 z.1.1)]
/-- the soonest doesn't come before that of one who sets out earlier -/
theorem so_mono (hW : TW W) : ∀ (d x y : Nat) (t1 t2 : Int), (x : Int) < W 0 → (y : Int) < W 1 → dsA W x y = d → 0 ≤ vS W σ RC x y (t1 % W 9) → 0 ≤ vS W σ RC x y (t2 % W 9) → t1 ≤ t2 → t1 + vS W σ RC x y (t1 % W 9) ≤ t2 + vS W σ RC x y (t2 % W 9) := by
  have w0 := hW.1
  have w1 := hW.2.1
  have w2 := hW.2.2.1
  intro d
  induction d with
  | zero =>
    intro x y t1 t2 hx hy hd h1 h2 h
    have hh : hmA W x y = true := by unfold hmA; unfold dsA at hd; exact decide_eq_true (by omega)
    rw [vS_VS x y _ hx hy (wtN_ev hW).1 (wtN_ev hW).2, vS_VS x y _ hx hy (wtN_ev hW).1 (wtN_ev hW).2, if_pos hh, if_pos hh]
    omega
  | succ d ih =>
    intro x y t1 t2 hx hy hd h1 h2 h
    have hh : hmA W x y = false := by unfold hmA; unfold dsA at hd; exact decide_eq_false (by omega)
    obtain ⟨c2, e2⟩ := bt_cg (σ := σ) (RC := RC) hW hx hy hh h2
    obtain ⟨w, hwe⟩ : ∃ w, w = btr (aS W σ RC x y false t2) (aS W σ RC x y true t2) := ⟨_, rfl⟩
    rw [← hwe] at c2 e2
    have i1 := th_in (cg_ev c2).1 hx hy
    have n2 := bt_nx (σ := σ) (RC := RC) hW hx hy c2 (t := t2) (by omega)
    have hb1 := wt_b (sec := t1) hW (x := x) (y := y) (by omega) (by omega) (cg_ev c2).2.2
    have hf := fifo (s1 := t1) (s2 := t2) hW (x := x) (y := y) (by omega) (by omega) (cg_ev c2).2.2 h
    -- by the same way from the earlier second
    have r1 : 0 ≤ vS W σ RC (nx w x) (ny w y) ((t1 + wtA W x y w t1 + W 2) % W 9) := by
      have r2 := n2.1
      rw [VS_rc hW vS_VS _ _ _ _ i1.1 i1.2.1 (wtN_ev hW).1 (wtN_ev hW).2 rfl] at r2
      rw [VS_rc hW vS_VS _ _ _ _ i1.1 i1.2.1 (wtN_ev hW).1 (wtN_ev hW).2 rfl]
      exact r2
    have ea : aS W σ RC x y w t1 = wtA W x y w t1 + W 2 + vS W σ RC (nx w x) (ny w y) ((t1 + wtA W x y w t1 + W 2) % W 9) := by
      have ew : wtN W x y w t1 = wtA W x y w t1 := by unfold wtN; rw [if_pos c2]
      unfold aS byN
      rw [ew, if_neg (show ¬ wtA W x y w t1 < 0 by omega), show t1 + (wtA W x y w t1 + W 2) = t1 + wtA W x y w t1 + W 2 by omega, if_neg (show ¬ vS W σ RC (nx w x) (ny w y) ((t1 + wtA W x y w t1 + W 2) % W 9) < 0 by omega)]
      omega
    have hi := ih _ _ (t1 + wtA W x y w t1 + W 2) (t2 + wtA W x y w t2 + W 2) i1.1 i1.2.1 (by omega) r1 n2.1 (by omega)
    have hle : vS W σ RC x y (t1 % W 9) ≤ aS W σ RC x y w t1 := by
      rw [vS_st hW hx hy hh]
      unfold btr
      have b0 := aS_b (σ := σ) (RC := RC) (w := false) (t := t1) hW hx hy
      have b1 := aS_b (σ := σ) (RC := RC) (w := true) (t := t1) hW hx hy
      have hpos : 0 ≤ aS W σ RC x y w t1 := by omega
      cases w with
      | true =>
        split
        · omega
        · rename_i z
          have z : ¬ _ := fun q => z (decide_eq_true q)
          omega
      | false =>
        split
        · rename_i z
          have z := of_decide_eq_true z
          omega
        · omega
    omega
/-- the latest second that is as soon -/
def ltN (f : Nat → Int) (t en : Int) : Nat → Int
  | 0 => t
  | k + 1 => if f k = en then t + k else ltN f t en k
def laV (W σ : Nat → Int) (RC : Nat → List (Nat × Int)) (x y t : Int) : Int := if ((0 ≤ x ∧ x < W 0) ∧ 0 ≤ y ∧ y < W 1) ∧ 0 ≤ t ∧ t ≤ 1000000 then (if vS W σ RC x.toNat y.toNat (t % W 9) < 0 then -1 else ltN (fun k : Nat => soV W σ RC x.toNat y.toNat (t + k)) t (t + vS W σ RC x.toNat y.toNat (t % W 9)) (W 9).toNat) else -1
theorem tl_loop (hn : 2000 ≤ nf) (hW : TW W) (h : Rw W τ) {x y : Nat} (hx : (x : Int) < W 0) (hy : (y : Int) < W 1) {t en : Int} (h0 : 0 ≤ t) (h1 : t ≤ 1000000) (he : 0 ≤ en ∧ en ≤ 2000000000) : ∀ (d n k : Nat), (k : Int) + d = W 9 → d < n → T_latest_b53 nf n (i32 x) (i32 y) (i32 t) (i32 en) (i32 (ltN (fun k : Nat => soV W σ RC x y (t + k)) t en k)) (i32 (k : Int)) τ = some (i32 (ltN (fun k : Nat => soV W σ RC x y (t + k)) t en (W 9).toNat), τ) := by
  have w9 := hW.2.2.2.2.2.2.2.2.2.1
  intro d
  induction d with
  | zero =>
    intro n k hd hn2
    obtain ⟨n, rfl⟩ : ∃ q, n = q + 1 := ⟨n - 1, by omega⟩
    rw [show T_latest_b53 nf (n + 1) = T_latest_b53_s nf (T_latest_b53 nf n) from rfl]
    unfold T_latest_b53_s
    rw [show (9 : Int32) = i32 ((9 : Nat) : Int) from rfl, s_ld τ h (by omega), if_pos ((i32_le ⟨by omega, by omega⟩ ⟨by omega, by omega⟩).mpr (by omega)), show (W 9).toNat = k by omega]
  | succ d ih =>
    intro n k hd hn2
    obtain ⟨n, rfl⟩ : ∃ q, n = q + 1 := ⟨n - 1, by omega⟩
    have hd13 := ds_b (x := x) (y := y) hW
    have sb := soV_b (σ := σ) (RC := RC) hW hx hy (t := t + k) (by omega) (by omega)
    rw [show T_latest_b53 nf (n + 1) = T_latest_b53_s nf (T_latest_b53 nf n) from rfl]
    unfold T_latest_b53_s
    rw [show (9 : Int32) = i32 ((9 : Nat) : Int) from rfl, s_ld τ h (by omega), if_neg (fun z => by
      have := (i32_le ⟨by omega, by omega⟩ ⟨by omega, by omega⟩).mp z
      omega), i32_add, t_soFrom (σ := σ) (RC := RC) (by omega) hW h (dsA W x y) 20 x y (t + k) hx hy rfl (by omega) (by omega) (by omega), bd_eq, nm_eq, show (1 : Int32) = i32 1 from rfl, i32_add]
    have L := ih n (k + 1) (by omega) (by omega)
    have e : ltN (fun k : Nat => soV W σ RC x y (t + k)) t en (k + 1) = if soV W σ RC x y (t + k) = en then t + k else ltN (fun k : Nat => soV W σ RC x y (t + k)) t en k := rfl
    rw [e] at L
    by_cases q : soV W σ RC x y (t + k) = en
    · rw [if_pos (show i32 (soV W σ RC x y (t + k)) = i32 en by rw [q])]
      rw [if_pos q] at L
      exact L
    · rw [if_neg (fun z => q ((i32_eq ⟨by omega, by omega⟩ ⟨by omega, by omega⟩).mp z))]
      rw [if_neg q] at L
      exact L
theorem t_latest (hn : 2000 ≤ nf) (hW : TW W) (h : Rw W τ) {x y t : Int} (hx : ok32 x) (hy : ok32 y) (ht : ok32 t) : T_latest nf (i32 x) (i32 y) (i32 t) τ = some (i32 (laV W σ RC x y t), sI τ 0 0) := by
  have w0 := hW.1
  have w1 := hW.2.1
  have w9 := hW.2.2.2.2.2.2.2.2.2.1
  unfold T_latest
  rw [nm_eq]
  have h2 : Rw W (sI τ 0 0) := h
  generalize sI τ 0 0 = τ1 at h2 ⊢
  have far : T_latest_b35 nf (i32 x) (i32 y) (i32 t) 2000000000 τ1 = some (i32 (-1), τ1) := by
    unfold T_latest_b35
    rw [if_pos rfl]
    rfl
  rw [s_isCorner hW h2 hx hy, s_isSecond ht, bd_eq, bd_eq]
  unfold laV
  by_cases q1 : (0 ≤ x ∧ x < W 0) ∧ 0 ≤ y ∧ y < W 1
  · rw [decide_eq_true q1, if_neg (show ¬ bi true = (0 : Int32) by decide)]
    by_cases q2 : 0 ≤ t ∧ t ≤ 1000000
    · rw [decide_eq_true q2, if_neg (show ¬ bi true = (0 : Int32) by decide), if_pos (show ((0 ≤ x ∧ x < W 0) ∧ 0 ≤ y ∧ y < W 1) ∧ 0 ≤ t ∧ t ≤ 1000000 from ⟨q1, q2⟩)]
      obtain ⟨xn, exn⟩ : ∃ xn : Nat, x = xn := ⟨x.toNat, by omega⟩
      obtain ⟨yn, eyn⟩ : ∃ yn : Nat, y = yn := ⟨y.toNat, by omega⟩
      subst exn
      subst eyn
      have hd13 := ds_b (x := xn) (y := yn) hW
      have hvb := vS_b (σ := σ) (RC := RC) (t := t) hW q1.1.2 q1.2.2
      rw [Int.toNat_natCast, Int.toNat_natCast, t_soFrom (σ := σ) (RC := RC) (by omega) hW h2 (dsA W xn yn) 20 xn yn t q1.1.2 q1.2.2 rfl (by omega) q2.1 (by omega), bd_eq]
      by_cases qv : vS W σ RC xn yn (t % W 9) < 0
      · have e : soV W σ RC xn yn t = 2000000000 := by unfold soV; rw [if_pos qv]
        rw [if_pos qv, e]
        exact far
      · have e : soV W σ RC xn yn t = t + vS W σ RC xn yn (t % W 9) := by unfold soV; rw [if_neg qv]
        rw [if_neg qv, e]
        unfold T_latest_b35
        rw [if_neg (show ¬ i32 (t + vS W σ RC xn yn (t % W 9)) = 2000000000 from fun z => by
            have := (i32_eq (b := 2000000000) ⟨by omega, by omega⟩ ⟨by omega, by omega⟩).mp z
            omega)]
        have L := tl_loop (σ := σ) (RC := RC) hn hW h2 q1.1.2 q1.2.2 q2.1 q2.2 (en := t + vS W σ RC xn yn (t % W 9)) ⟨by omega, by omega⟩ ((W 9).toNat - 1) nf 1 (by omega) (by omega)
        have e1 : ltN (fun k : Nat => soV W σ RC xn yn (t + k)) t (t + vS W σ RC xn yn (t % W 9)) 1 = t := by
          show (if soV W σ RC xn yn (t + ((0 : Nat) : Int)) = _ then t + ((0 : Nat) : Int) else t) = t
          split <;> omega
        rw [e1] at L
        exact L
    · rw [decide_eq_false q2, if_pos (show bi false = (0 : Int32) from rfl), far, if_neg (fun z => q2 z.2)]
  · rw [decide_eq_false q1, if_pos (show bi false = (0 : Int32) from rfl), far, if_neg (fun z => q1 z.1)]
end SQ
