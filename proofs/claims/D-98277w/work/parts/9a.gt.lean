/-! LAYER 2: stay, go, look, undo, tried, was, mark: the twin -/
set_option maxRecDepth 100000
section GT
variable {W : Nat → Int} {S S' : Nat → Nat → Int} {V m m' Tp : Nat → Int} {RC : Nat → List (Nat × Int)} {τ τ' : TS} {T : Int} {nf : Nat} {N : Int}
/-- reading a row of a state -/
theorem sx_l {S : Nat → Nat → Int} (h : Sx S τ) {k : Nat} (hk : k < 120) {α : Type} {K : Int32 → Option α} : ld (tA τ 19) 2520 (i32 ((k : Nat) : Int)) K = K (i32 (S 0 k)) := by
  rw [ld_n (by omega) (by omega)]
  have := h 0 k (by omega) hk
  rw [Nat.mul_zero, Nat.zero_add] at this
  rw [this]
theorem sx_w {S : Nat → Nat → Int} (h : Sx S τ) {k : Nat} {v : Int} (hk : k < 120) : Sx (upS S 0 k v) (sA τ 19 k (i32 v)) := by
  have := h.up (j := 0) (k := k) (v := v) hk
  rw [Nat.mul_zero, Nat.zero_add] at this
  exact this
theorem unA_e {σ σ' : Nat → Int} (h : ∀ k, 4 ≤ k → k < 58 → σ' k = σ k) : ∀ c, c < 54 → unA W σ c = unA W σ' c := fun c hc => by
  unfold unA
  rw [h (4 + c) (by omega) (by omega)]
theorem mk_tb {ks as : List Nat} (tb : TB W S V m Tp RC τ) (h : Tgx ks as τ τ') (ha : as.contains 10 = false ∧ as.contains 16 = false ∧ as.contains 11 = false ∧ as.contains 12 = false ∧ as.contains 1 = false ∧ as.contains 21 = false) (h2 : ks.contains 2 = false) (hS : Sx S' τ') (h20 : tI τ' 20 = i32 (m' 1)) (hm : ∀ i, ¬ i = 1 → m' i = m i) : TB W S' V m' Tp RC τ' := by
  refine tb.w h ⟨ha.1, ha.2.1, ha.2.2.1, ha.2.2.2.1⟩ hS ⟨?_, h20⟩ (fun j hj => ?_) (fun k hk => ?_)
  · rw [h.1 2 h2, hm 0 (by omega)]
    exact tb.2.2.2.1.1
  · rw [h.2.1 21 ha.2.2.2.2.2, hm (2 + j) (by omega)]
    exact tb.2.2.2.2.1 j hj
  · rw [hm 0 (by omega)] at hk
    rw [h.2.1 1 ha.2.2.2.2.1]
    exact tb.2.2.2.2.2.1 k hk
theorem kpM_o {i : Nat} (h : ¬ i = 1) : kpM m i = m i := if_neg h
theorem t_stay (hn : 200 ≤ nf) (tb : TB W S V m Tp RC τ) (hW : TW W) (hm : 0 ≤ m 1 ∧ m 1 ≤ 16) (hc : Cv W (S 0) RC N τ) {x : Int} (hx : ok32 x) : Ok (T_stay nf (i32 x) τ) fun p => p.1 = i32 (stV (S 0) x) ∧ TB W (stS S m x) V (stM m x) Tp RC p.2 ∧ Cv W (stS S m x 0) RC N p.2 := by
  have f0 : Tgx [0, 20] [19] τ (sI τ 0 0) := Tgx.sI rfl
  unfold T_stay stV stS stM
  rw [nm_eq]
  refine ok_be (s_w3 hx 1 1000 (by omega)) ?_
  by_cases q : 1 ≤ x ∧ x ≤ 1000
  · rw [decide_eq_true q, if_neg (show ¬ bi true = (0 : Int32) by decide), if_pos q, if_pos q, if_pos q]
    have hx0 : Sx S (sI τ 0 0) := tb.sx
    refine ok_b (t_keeps (m := m) hn hx0 tb.2.2.2.1.2 hm) fun τ3 h3 => ?_
    obtain ⟨f3, x3, e20⟩ := h3
    rw [show (2 : Int32) = i32 ((2 : Nat) : Int) from rfl, sx_l x3 (by omega), i32_add, kpS_0]
    refine ok_sA (by omega) (by omega) (by omega) ?_
    rw [Int.toNat_natCast]
    have x5 := sx_w x3 (k := 2) (v := S 0 2 + x) (by omega)
    have f5 : Tgx [0, 20] [19] τ (sA τ3 19 2 (i32 (S 0 2 + x))) := (f0.tr (f3.le (fun k h => by revert h; simp) (fun _ h => h))).tr (Tgx.sA rfl)
    rw [sx_l x5 (by omega), upS_r, if_pos rfl]
    refine ok_s ⟨rfl, mk_tb tb f5 ⟨rfl, rfl, rfl, rfl, rfl, rfl⟩ rfl x5 (by exact e20) (fun i hi => kpM_o hi), hc.un hW f5 (by decide) (by decide) (unA_e fun k h1 h2 => by rw [upS_r, if_neg (by omega), kpS_0]) (Int.le_refl _)⟩
  · rw [decide_eq_false q, if_pos (show bi false = (0 : Int32) from rfl), if_neg q, if_neg q, if_neg q]
    exact ok_s ⟨rfl, mk_tb tb f0 ⟨rfl, rfl, rfl, rfl, rfl, rfl⟩ rfl tb.sx tb.2.2.2.1.2 (fun _ _ => rfl), hc.un hW f0 (by decide) (by decide) (fun _ _ => rfl) (Int.le_refl _)⟩
theorem le_20 {ks as : List Nat} {τ1 : TS} (h : Tgx [20] [19] τ τ1) (h1 : ks.contains 20 = true) (h2 : as.contains 19 = true) : Tgx ks as τ τ1 := h.le (fun k e => by
  by_cases q : k = 20
  · rw [q, h1] at e
    cases e
  · show (k == 20 || false) = false
    rw [Bool.or_false]
    exact beq_eq_false_iff_ne.mpr q) (fun k e => by
  by_cases q : k = 19
  · rw [q, h2] at e
    cases e
  · show (k == 19 || false) = false
    rw [Bool.or_false]
    exact beq_eq_false_iff_ne.mpr q)
theorem le_0 {ks as : List Nat} {τ1 : TS} (h : Tgx [] [19] τ τ1) (h2 : as.contains 19 = true) : Tgx ks as τ τ1 := h.le (fun k e => rfl) (fun k e => by
  by_cases q : k = 19
  · rw [q, h2] at e
    cases e
  · show (k == 19 || false) = false
    rw [Bool.or_false]
    exact beq_eq_false_iff_ne.mpr q)
theorem gt_0 {S : Nat → Nat → Int} (h : Sx S τ) : (∀ (α : Type) (K : Int32 → Option α), ld (tA τ 19) 2520 0 K = K (i32 (S 0 0))) ∧ (∀ (α : Type) (K : Int32 → Option α), ld (tA τ 19) 2520 1 K = K (i32 (S 0 1))) ∧ (∀ (α : Type) (K : Int32 → Option α), ld (tA τ 19) 2520 2 K = K (i32 (S 0 2))) ∧ (∀ (α : Type) (K : Int32 → Option α), ld (tA τ 19) 2520 3 K = K (i32 (S 0 3))) ∧ (∀ (α : Type) (K : Int32 → Option α), ld (tA τ 19) 2520 58 K = K (i32 (S 0 58))) ∧ ∀ (α : Type) (K : Int32 → Option α), ld (tA τ 19) 2520 59 K = K (i32 (S 0 59)) := ⟨fun _ _ => sx_l h (k := 0) (by omega), fun _ _ => sx_l h (k := 1) (by omega), fun _ _ => sx_l h (k := 2) (by omega), fun _ _ => sx_l h (k := 3) (by omega), fun _ _ => sx_l h (k := 58) (by omega), fun _ _ => sx_l h (k := 59) (by omega)⟩
theorem gt_w : (∀ (v : Int32) (α : Type) (K : TS → Option α), stA τ 19 2520 0 v K = K (sA τ 19 0 v)) ∧ (∀ (v : Int32) (α : Type) (K : TS → Option α), stA τ 19 2520 1 v K = K (sA τ 19 1 v)) ∧ (∀ (v : Int32) (α : Type) (K : TS → Option α), stA τ 19 2520 2 v K = K (sA τ 19 2 v)) ∧ (∀ (v : Int32) (α : Type) (K : TS → Option α), stA τ 19 2520 3 v K = K (sA τ 19 3 v)) ∧ (∀ (v : Int32) (α : Type) (K : TS → Option α), stA τ 19 2520 58 v K = K (sA τ 19 58 v)) ∧ ∀ (v : Int32) (α : Type) (K : TS → Option α), stA τ 19 2520 59 v K = K (sA τ 19 59 v) := ⟨fun _ _ _ => stA_i (z := 0) (by omega) (by omega) (by omega), fun _ _ _ => stA_i (z := 1) (by omega) (by omega) (by omega), fun _ _ _ => stA_i (z := 2) (by omega) (by omega) (by omega), fun _ _ _ => stA_i (z := 3) (by omega) (by omega) (by omega), fun _ _ _ => stA_i (z := 58) (by omega) (by omega) (by omega), fun _ _ _ => stA_i (z := 59) (by omega) (by omega) (by omega)⟩
theorem tg_114 (hx : Sx S τ) {way pc wt t : Int} {v : Int32} {S2 : Nat → Nat → Int} (hS2 : S2 = fun j k => if j = 0 ∧ k = 2 then t + (wt + pc) else if j = 0 ∧ k = 0 then S 0 0 + (1 - way) else if j = 0 ∧ k = 1 then S 0 1 + way else if j = 0 ∧ k = 3 then S 0 3 + (if (!decide (v = 0)) = true then 1 else 0) else S j k) : Ok (T_go_b114 nf (i32 way) v (i32 pc) (i32 wt) (i32 t) 2 τ) fun p => p.1 = i32 (t + (wt + pc)) ∧ Tgx [] [19] τ p.2 ∧ Sx S2 p.2 := by
  unfold T_go_b114
  rw [i32_add, i32_add, gt_w.2.2.1]
  have x1 := sx_w hx (k := 2) (v := t + (wt + pc)) (by omega)
  have f1 : Tgx [] [19] τ (sA τ 19 2 (i32 (t + (wt + pc)))) := Tgx.sA rfl
  generalize sA τ 19 2 (i32 (t + (wt + pc))) = τ1 at x1 f1 ⊢
  rw [(gt_0 x1).1, upS_r, if_neg (show ¬ 0 = 2 by omega), show (1 : Int32) = i32 1 from rfl, i32_sub, i32_add, gt_w.1]
  have x2 := sx_w x1 (k := 0) (v := S 0 0 + (1 - way)) (by omega)
  have f2 : Tgx [] [19] τ1 (sA τ1 19 0 (i32 (S 0 0 + (1 - way)))) := Tgx.sA rfl
  generalize sA τ1 19 0 (i32 (S 0 0 + (1 - way))) = τ2 at x2 f2 ⊢
  have e1 : ∀ {α : Type} {K : Int32 → Option α}, ld (tA τ2 19) 2520 (i32 1) K = K (i32 (S 0 1)) := fun {α} {K} => by
    have := (gt_0 x2).2.1 α K
    rw [upS_r, if_neg (show ¬ 1 = 0 by omega), upS_r, if_neg (show ¬ 1 = 2 by omega)] at this
    exact this
  have e2 : ∀ {α : Type} {K : TS → Option α} {v : Int32}, stA τ2 19 2520 (i32 1) v K = K (sA τ2 19 1 v) := fun {α} {K} {v} => gt_w.2.1 v α K
  rw [e1, i32_add, e2]
  have x3 := sx_w x2 (k := 1) (v := S 0 1 + way) (by omega)
  have f3 : Tgx [] [19] τ2 (sA τ2 19 1 (i32 (S 0 1 + way))) := Tgx.sA rfl
  generalize sA τ2 19 1 (i32 (S 0 1 + way)) = τ3 at x3 f3 ⊢
  rw [(gt_0 x3).2.2.2.1, upS_r, if_neg (show ¬ 3 = 1 by omega), upS_r, if_neg (show ¬ 3 = 0 by omega), upS_r, if_neg (show ¬ 3 = 2 by omega), i32_add, show (i32 (S 0 3) + 0 : Int32) = i32 (S 0 3 + 0) from i32_add (S 0 3) 0, gt_w.2.2.2.1, gt_w.2.2.2.1]
  have fin : ∀ r : Int, r = (if (!decide (v = 0)) = true then 1 else 0) → Ok (ld (tA (sA τ3 19 3 (i32 (S 0 3 + r))) 19) 2520 2 fun v10 => some (v10, sA τ3 19 3 (i32 (S 0 3 + r)))) fun p => p.1 = i32 (t + (wt + pc)) ∧ Tgx [] [19] τ p.2 ∧ Sx S2 p.2 := fun r hr => by
    have x4 := sx_w x3 (k := 3) (v := S 0 3 + r) (by omega)
    have f4 : Tgx [] [19] τ3 (sA τ3 19 3 (i32 (S 0 3 + r))) := Tgx.sA rfl
    rw [(gt_0 x4).2.2.1, upS_r, if_neg (show ¬ 2 = 3 by omega), upS_r, if_neg (show ¬ 2 = 1 by omega), upS_r, if_neg (show ¬ 2 = 0 by omega), upS_r, if_pos rfl]
    refine ok_s ⟨rfl, ((f1.tr f2).tr f3).tr f4, ?_⟩
    have e : upS (upS (upS (upS S 0 2 (t + (wt + pc))) 0 0 (S 0 0 + (1 - way))) 0 1 (S 0 1 + way)) 0 3 (S 0 3 + r) = S2 := by
      rw [hS2, hr]
      funext j k
      unfold upS
      by_cases e3 : j = 0 ∧ k = 3
      · rw [if_pos e3, if_neg (show ¬ (j = 0 ∧ k = 2) by omega), if_neg (show ¬ (j = 0 ∧ k = 0) by omega), if_neg (show ¬ (j = 0 ∧ k = 1) by omega), if_pos e3]
      · rw [if_neg e3]
        by_cases e2 : j = 0 ∧ k = 2
        · rw [if_neg (by omega), if_neg (by omega), if_pos e2, if_pos e2]
        · rw [if_neg e2, if_neg e2]
          by_cases e0 : j = 0 ∧ k = 0
          · rw [if_neg (by omega), if_pos e0, if_pos e0]
          · rw [if_neg e0, if_neg e0]
            by_cases e1 : j = 0 ∧ k = 1
            · rw [if_pos e1, if_pos e1]
            · rw [if_neg e1, if_neg e1, if_neg e3]
    rw [← e]
    exact x4
  by_cases q : v = 0
  · rw [if_pos q]
    exact fin 0 (by rw [decide_eq_true q]; rfl)
  · rw [if_neg q]
    exact fin 1 (by rw [decide_eq_false q]; rfl)
theorem t_goT (hn : 200 ≤ nf) (tb : TB W S V m Tp RC τ) (hW : TW W) (hS : SW W T (S 0)) (hT : T ≤ 200000) (hm : 0 ≤ m 1 ∧ m 1 ≤ 16) (hc : Cv W (S 0) RC N τ) {way : Int} {v : Int32} (hway : ok32 way) : Ok (T_go nf (i32 way) v τ) fun p => p.1 = i32 (goV_ W (S 0) way (!decide (v = 0))) ∧ TB W (goS W S m way (!decide (v = 0))) V (goM W S m way (!decide (v = 0))) Tp RC p.2 ∧ Cv W (goS W S m way (!decide (v = 0)) 0) RC N p.2 := by
  have w0 := hW.1
  have w1 := hW.2.1
  obtain ⟨⟨x0, x1⟩, ⟨y0, y1⟩, ⟨t0, t1⟩, ⟨r0, r1⟩, -⟩ := id hS
  have hrs := rs_b hW
  have f0 : Tgx [0, 20] [19] τ (sI τ 0 0) := Tgx.sI rfl
  have tb1 : TB W S V m Tp RC (sI τ 0 0) := mk_tb tb f0 ⟨rfl, rfl, rfl, rfl, rfl, rfl⟩ rfl tb.sx tb.2.2.2.1.2 (fun _ _ => rfl)
  have c1 : Cv W (S 0) RC N (sI τ 0 0) := hc.un hW f0 (by decide) (by decide) (fun _ _ => rfl) (Int.le_refl _)
  unfold T_go
  rw [nm_eq]
  generalize sI τ 0 0 = τ1 at f0 tb1 c1 ⊢
  have hno : ¬ goOk W (S 0) way (!decide (v = 0)) = true → Ok (some ((-1 : Int32), τ1)) fun p => p.1 = i32 (goV_ W (S 0) way (!decide (v = 0))) ∧ TB W (goS W S m way (!decide (v = 0))) V (goM W S m way (!decide (v = 0))) Tp RC p.2 ∧ Cv W (goS W S m way (!decide (v = 0)) 0) RC N p.2 := fun h => by
    have e1 : goV_ W (S 0) way (!decide (v = 0)) = -1 := if_neg h
    have e2 : goS W S m way (!decide (v = 0)) = S := if_neg h
    have e3 : goM W S m way (!decide (v = 0)) = m := if_neg h
    rw [e1, e2, e3]
    exact ok_s ⟨rfl, tb1, c1⟩
  have hyes : goOk W (S 0) way (!decide (v = 0)) = true → Ok (T_go_b72 nf (i32 way) v (i32 (S 0 0)) (i32 (S 0 1)) τ1) fun p => p.1 = i32 (goV_ W (S 0) way (!decide (v = 0))) ∧ TB W (goS W S m way (!decide (v = 0))) V (goM W S m way (!decide (v = 0))) Tp RC p.2 ∧ Cv W (goS W S m way (!decide (v = 0)) 0) RC N p.2 := fun h => by
    have hq := of_decide_eq_true (Bool.and_eq_true_iff.mp h).1
    have hcg := (Bool.and_eq_true_iff.mp (Bool.and_eq_true_iff.mp h).2).1
    have e1 : goV_ W (S 0) way (!decide (v = 0)) = goT W (S 0) way (!decide (v = 0)) := if_pos h
    have e3 : goM W S m way (!decide (v = 0)) = kpM m := if_pos h
    have e2 : goS W S m way (!decide (v = 0)) = fun j k => if j = 0 ∧ k = 2 then goT W (S 0) way (!decide (v = 0)) else if j = 0 ∧ k = 0 then S 0 0 + (1 - way) else if j = 0 ∧ k = 1 then S 0 1 + way else if j = 0 ∧ k = 3 then S 0 3 + (if (!decide (v = 0)) = true then 1 else 0) else kpS S m j k := if_pos h
    have eu : ∀ k, 4 ≤ k → k < 58 → goS W S m way (!decide (v = 0)) 0 k = S 0 k := fun k h1 h2 => by
      rw [e2]
      show (if 0 = 0 ∧ k = 2 then _ else if 0 = 0 ∧ k = 0 then _ else if 0 = 0 ∧ k = 1 then _ else if 0 = 0 ∧ k = 3 then _ else kpS S m 0 k) = _
      rw [if_neg (by omega), if_neg (by omega), if_neg (by omega), if_neg (by omega), kpS_0]
    unfold T_go_b72
    refine ok_b (t_keeps (m := m) hn tb1.sx tb1.2.2.2.1.2 hm) fun τ2 h2 => ?_
    obtain ⟨f2, x2, e20⟩ := h2
    have r2 : Rw W τ2 := fun k hk => by rw [f2.2.1 10 rfl]; exact tb1.1 k hk
    rw [(gt_0 x2).2.2.1, (gt_0 x2).2.2.1, kpS_0]
    have L := s_waitFor (τ := τ2) (nf := nf) (x := (S 0 0).toNat) (y := (S 0 1).toNat) (way := decide (way = 1)) (sec := S 0 2) (by omega) hW r2 (by omega) (by omega) ⟨by omega, by omega⟩ (cg_ev hcg).2.2
    rw [← toI x0, ← toI y0, ← toW hq] at L
    refine ok_be L ?_
    have fin : ∀ pc : Int, pc = (if (!decide (v = 0)) = true then rnA W else W 2) → Ok (T_go_b114 nf (i32 way) v (i32 pc) (i32 (wtA W (S 0 0).toNat (S 0 1).toNat (decide (way = 1)) (S 0 2))) (i32 (S 0 2)) 2 τ2) fun p => p.1 = i32 (goV_ W (S 0) way (!decide (v = 0))) ∧ TB W (goS W S m way (!decide (v = 0))) V (goM W S m way (!decide (v = 0))) Tp RC p.2 ∧ Cv W (goS W S m way (!decide (v = 0)) 0) RC N p.2 := fun pc hpc => by
      have eT : S 0 2 + (wtA W (S 0 0).toNat (S 0 1).toNat (decide (way = 1)) (S 0 2) + pc) = goT W (S 0) way (!decide (v = 0)) := by rw [hpc]; rfl
      have L2 := tg_114 (nf := nf) x2 (way := way) (pc := pc) (wt := wtA W (S 0 0).toNat (S 0 1).toNat (decide (way = 1)) (S 0 2)) (t := S 0 2) (v := v) (S2 := goS W S m way (!decide (v = 0))) (by rw [e2, eT, kpS_0])
      rw [eT] at L2
      refine ok_w L2 fun p hp => ?_
      obtain ⟨p1, p2, p3⟩ := hp
      have ff : Tgx [0, 20] [19] τ1 p.2 := (le_20 f2 rfl rfl).tr (le_0 p2 rfl)
      refine ⟨by rw [p1, e1], mk_tb tb1 ff ⟨rfl, rfl, rfl, rfl, rfl, rfl⟩ rfl p3 ?_ (fun i hi => by rw [e3]; exact kpM_o hi), c1.un hW ff (by decide) (by decide) (unA_e eu) (Int.le_refl _)⟩
      rw [p2.1 20 rfl, e20, e3]
    by_cases q : v = 0
    · rw [if_pos q]
      have ew : ∀ {α : Type} {K : Int32 → Option α}, ld (tA τ2 10) 680 2 K = K (i32 (W 2)) := fun {α} {K} => s_ld τ2 r2 (k := 2) (by omega)
      rw [ew]
      exact fin (W 2) (by rw [decide_eq_true q]; rfl)
    · rw [if_neg q]
      exact ok_be (s_runTime hW r2) (fin (rnA W) (by rw [decide_eq_false q]; rfl))
  rw [(gt_0 tb1.sx).1, (gt_0 tb1.sx).2.1]
  refine ok_be (s_w3 hway 0 1 (by omega)) ?_
  by_cases q : 0 ≤ way ∧ way ≤ 1
  · rw [decide_eq_true q, if_neg (show ¬ bi true = (0 : Int32) by decide)]
    have L := s_canGo (way := decide (way = 1)) hW tb1.1 (x := (S 0 0).toNat) (y := (S 0 1).toNat) (by omega) (by omega)
    rw [← toI x0, ← toI y0, ← toW q] at L
    refine ok_be L ?_
    cases hcg : cgA W (S 0 0).toNat (S 0 1).toNat (decide (way = 1)) with
    | false =>
      rw [if_pos (show bi false = (0 : Int32) from rfl)]
      exact hno fun z => by
        unfold goOk at z
        rw [hcg, Bool.false_and, Bool.and_false] at z
        cases z
    | true =>
      rw [if_neg (show ¬ bi true = (0 : Int32) by decide)]
      by_cases qv : v = 0
      · rw [if_pos qv]
        refine hyes ?_
        unfold goOk
        rw [decide_eq_true q, hcg, decide_eq_true qv]
        rfl
      · rw [if_neg qv]
        have e6 : ∀ {α : Type} {K : Int32 → Option α}, ld (tA τ1 10) 680 6 K = K (i32 (W 6)) := fun {α} {K} => s_ld τ1 tb1.1 (k := 6) (by omega)
        have e5 : ∀ {α : Type} {K : Int32 → Option α}, ld (tA τ1 10) 680 5 K = K (i32 (W 5)) := fun {α} {K} => s_ld τ1 tb1.1 (k := 5) (by omega)
        have w5 := hW.2.2.2.2.2.1
        have w6 := hW.2.2.2.2.2.2.1
        have hnr : ¬ S 0 3 < rsA W → ¬ goOk W (S 0) way (!decide (v = 0)) = true := fun h z2 => by
          unfold goOk at z2
          rw [decide_eq_false h, decide_eq_false qv, hcg, decide_eq_true q] at z2
          exact absurd z2 (by decide)
        have hyr : S 0 3 < rsA W → goOk W (S 0) way (!decide (v = 0)) = true := fun h => by
          unfold goOk
          rw [decide_eq_true q, hcg, decide_eq_true h, Bool.or_true]
          rfl
        rw [e6, show (1 : Int32) = i32 1 from rfl]
        refine ok_q ⟨by omega, by omega⟩ ⟨by omega, by omega⟩ (fun z => ?_) (fun z => ?_)
        · refine hno (hnr ?_)
          have er : rsA W = 0 := if_pos z
          omega
        · have er : rsA W = W 5 := if_neg z
          rw [if_neg z] at r1
          rw [(gt_0 tb1.sx).2.2.2.1, e5]
          refine ok_q ⟨by omega, by omega⟩ ⟨by omega, by omega⟩ (fun z2 => hno (hnr (by omega))) (fun z2 => hyes (hyr (by omega)))
  · rw [decide_eq_false q, if_pos (show bi false = (0 : Int32) from rfl)]
    refine hno fun z => ?_
    unfold goOk at z
    rw [decide_eq_false q, Bool.false_and] at z
    cases z
end GT
