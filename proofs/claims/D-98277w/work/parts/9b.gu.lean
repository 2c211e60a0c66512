/-! LAYER 2: look, undo, tried, was, mark: the twin -/
set_option maxRecDepth 100000
section GU
variable {W : Nat → Int} {S S' : Nat → Nat → Int} {V m m' Tp : Nat → Int} {RC : Nat → List (Nat × Int)} {τ τ' : TS} {T : Int} {nf : Nat} {N : Int}
theorem s_isKn {σ : Nat → Int} (tb : TB W S V m Tp RC τ) (hW : TW W) (hS : SW W T (S 0)) {x y : Nat} (hx : x < 6) (hy : y < 9) : (unA W (S 0) (6 * y + x) = true) ↔ kdA W x y = 1 ∧ ¬ (W (10 + 4 * (6 * y + x)) = 2 ∧ S 0 (4 + (6 * y + x)) = 1) := by
  have hs := hS.2.2.2.2 (6 * y + x) (by omega)
  unfold unA kdA
  rw [decide_eq_true_eq]
  omega
theorem t_look (hn : 200 ≤ nf) (tb : TB W S V m Tp RC τ) (hW : TW W) (hS : SW W T (S 0)) (hm : 0 ≤ m 1 ∧ m 1 ≤ 16) (hN : N < 2000000000) (hc : Cv W (S 0) RC N τ) : Ok (T_look nf τ) fun p => p.1 = i32 (lkV W (S 0)) ∧ TB W (lkS W S m) V (lkM W S m) Tp RC p.2 ∧ Cv W (lkS W S m 0) RC (N + 1) p.2 := by
  have w0 := hW.1
  have w1 := hW.2.1
  obtain ⟨⟨x0, x1⟩, ⟨y0, y1⟩, -⟩ := id hS
  have hc54 : nwC (S 0) < 54 := by unfold nwC; omega
  have f0 : Tgx [0, 20, 22] [19] τ (sI τ 0 0) := Tgx.sI rfl
  have f00 : Tgx [0, 20] [19] τ (sI τ 0 0) := Tgx.sI rfl
  have tb1 : TB W S V m Tp RC (sI τ 0 0) := mk_tb tb f0 ⟨rfl, rfl, rfl, rfl, rfl, rfl⟩ rfl tb.sx tb.2.2.2.1.2 (fun _ _ => rfl)
  have c1 : Cv W (S 0) RC N (sI τ 0 0) := hc.un hW f00 (by decide) (by decide) (fun _ _ => rfl) (Int.le_refl _)
  have c1' : Cv W (S 0) RC (N + 1) (sI τ 0 0) := hc.un hW f00 (by decide) (by decide) (fun _ _ => rfl) (by omega)
  unfold T_look
  rw [nm_eq]
  generalize sI τ 0 0 = τ1 at f0 tb1 c1 c1' ⊢
  have hno : ¬ unA W (S 0) (nwC (S 0)) = true → Ok (some ((0 : Int32), τ1)) fun p => p.1 = i32 (lkV W (S 0)) ∧ TB W (lkS W S m) V (lkM W S m) Tp RC p.2 ∧ Cv W (lkS W S m 0) RC (N + 1) p.2 := fun h => by
    have e1 : lkV W (S 0) = 0 := if_neg h
    have e2 : lkS W S m = S := if_neg h
    have e3 : lkM W S m = m := if_neg h
    rw [e1, e2, e3]
    exact ok_s ⟨rfl, tb1, c1'⟩
  have hun := s_isKn (σ := S 0) tb1 hW hS (x := (S 0 0).toNat) (y := (S 0 1).toNat) (by omega) (by omega)
  have enw : 6 * (S 0 1).toNat + (S 0 0).toNat = nwC (S 0) := rfl
  rw [enw] at hun
  have hkb := kdA_b (x := (S 0 0).toNat) (y := (S 0 1).toNat) hW (by omega) (by omega)
  rw [(gt_0 tb1.sx).1, (gt_0 tb1.sx).2.1]
  have L := s_kindAt tb1.1 (x := (S 0 0).toNat) (y := (S 0 1).toNat) (by omega) (by omega)
  have L2 := s_isKnown tb1 (x := (S 0 0).toNat) (y := (S 0 1).toNat) (by omega) (by omega) hW hS
  rw [← toI x0, ← toI y0] at L L2
  rw [enw] at L2
  refine ok_be L ?_
  by_cases q1 : kdA W (S 0 0).toNat (S 0 1).toNat = 1
  · rw [if_pos (show i32 (kdA W (S 0 0).toNat (S 0 1).toNat) = (1 : Int32) by rw [q1]; rfl)]
    refine ok_be L2 ?_
    by_cases q2 : W (10 + 4 * nwC (S 0)) = 2 ∧ S 0 (4 + nwC (S 0)) = 1
    · rw [decide_eq_true q2, if_neg (show ¬ bi true = (0 : Int32) by decide)]
      exact hno fun z => (hun.mp z).2 q2
    · rw [decide_eq_false q2, if_pos (show bi false = (0 : Int32) from rfl)]
      have hu : unA W (S 0) (nwC (S 0)) = true := hun.mpr ⟨q1, q2⟩
      have e1 : lkV W (S 0) = 1 := if_pos hu
      have e2 : lkS W S m = upS (kpS S m) 0 (4 + nwC (S 0)) 1 := if_pos hu
      have e3 : lkM W S m = kpM m := if_pos hu
      rw [e1, e2, e3]
      refine ok_b (t_keeps (m := m) hn tb1.sx tb1.2.2.2.1.2 hm) fun τ6 h6 => ?_
      obtain ⟨f6, x6, e20⟩ := h6
      rw [show (4 : Int32) = i32 4 from rfl, show (6 : Int32) = i32 6 from rfl, i32_mul, i32_add, i32_add, show (4 : Int) + 6 * S 0 1 + S 0 0 = ((4 + nwC (S 0) : Nat) : Int) by unfold nwC; omega]
      refine ok_sA (by omega) (by omega) (by omega) ?_
      rw [Int.toNat_natCast, nm_eq]
      have x7 := sx_w x6 (k := 4 + nwC (S 0)) (v := 1) (by omega)
      have f7 : Tgx [0, 20, 22] [19] τ1 (sA τ6 19 (4 + nwC (S 0)) (i32 1)) := (le_20 f6 rfl rfl).tr (Tgx.sA rfl)
      have f8 : Tgx [0, 20, 22] [19] τ1 (sI (sA τ6 19 (4 + nwC (S 0)) (i32 1)) 22 (tI (sA τ6 19 (4 + nwC (S 0)) (i32 1)) 22 + 1)) := f7.tr (Tgx.sI rfl)
      refine ok_s ⟨rfl, mk_tb tb1 f8 ⟨rfl, rfl, rfl, rfl, rfl, rfl⟩ rfl x7 (by exact e20) (fun i hi => kpM_o hi), c1.vr (fun k hk => f8.1 k ?_) (fun k hk => f8.2.1 k ?_) ?_ (Int.le_refl _) hN⟩
      · revert k; decide
      · revert k; decide
      · show tI τ6 22 + 1 = tI τ1 22 + 1
        rw [f6.1 22 rfl]
  · rw [if_neg (show ¬ i32 (kdA W (S 0 0).toNat (S 0 1).toNat) = (1 : Int32) from fun z => q1 ((i32_eq (b := 1) ⟨by omega, by omega⟩ ⟨by omega, by omega⟩).mp z))]
    exact hno fun z => q1 (hun.mp z).1
theorem t_undo (hn : 200 ≤ nf) (tb : TB W S V m Tp RC τ) (hW : TW W) (hm : 0 ≤ m 1 ∧ m 1 ≤ 16) (hN : N < 2000000000) (hc : Cv W (S 0) RC N τ) : Ok (T_undo nf τ) fun p => p.1 = i32 (unV_ m) ∧ TB W (unS S m) V (unM m) Tp RC p.2 ∧ Cv W (unS S m 0) RC (N + 1) p.2 := by
  have f0 : Tgx [0, 20, 22] [19] τ (sI τ 0 0) := Tgx.sI rfl
  have f00 : Tgx [0, 20] [19] τ (sI τ 0 0) := Tgx.sI rfl
  have tb1 : TB W S V m Tp RC (sI τ 0 0) := mk_tb tb f0 ⟨rfl, rfl, rfl, rfl, rfl, rfl⟩ rfl tb.sx tb.2.2.2.1.2 (fun _ _ => rfl)
  have c1 : Cv W (S 0) RC N (sI τ 0 0) := hc.un hW f00 (by decide) (by decide) (fun _ _ => rfl) (Int.le_refl _)
  have c1' : Cv W (S 0) RC (N + 1) (sI τ 0 0) := hc.un hW f00 (by decide) (by decide) (fun _ _ => rfl) (by omega)
  unfold T_undo unV_ unS unM
  rw [nm_eq]
  generalize sI τ 0 0 = τ1 at f0 tb1 c1 c1' ⊢
  rw [tb1.2.2.2.1.2, show (0 : Int32) = i32 0 from rfl]
  refine ok_q ⟨by omega, by omega⟩ ⟨by omega, by omega⟩ (fun q => ?_) (fun q => ?_)
  · rw [if_pos q, if_pos q, if_pos q]
    exact ok_s ⟨rfl, tb1, c1'⟩
  · rw [if_neg q, if_neg q, if_neg q, nm_eq]
    obtain ⟨u, hu⟩ : ∃ u : Nat, m 1 - 1 = (u : Int) := ⟨(m 1 - 1).toNat, by omega⟩
    rw [show (1 : Int32) = i32 1 from rfl, i32_sub, hu, Int.toNat_natCast]
    have f2 : Tgx [0, 20, 22] [19] τ1 (sI τ1 20 (i32 (u : Int))) := Tgx.sI rfl
    have x2 : Sx S (sI τ1 20 (i32 (u : Int))) := tb1.sx
    have e20 : tI (sI τ1 20 (i32 (u : Int))) 20 = i32 (u : Int) := rfl
    have e22 : tI (sI τ1 20 (i32 (u : Int))) 22 = tI τ1 22 := rfl
    generalize sI τ1 20 (i32 (u : Int)) = τ2 at f2 x2 e20 e22 ⊢
    rw [e20, show (5 : Int32) = i32 5 from rfl, i32_add, show (5 : Int) + (u : Int) = ((5 + u : Nat) : Int) by omega, show i32 0 = i32 ((0 : Nat) : Int) from rfl, show (58 : Int32) = i32 ((58 : Nat) : Int) from rfl]
    refine ok_b (t_copies hn x2 (by omega) (by omega) (by omega) (by omega)) fun τ3 h3 => ?_
    obtain ⟨f3, x3⟩ := h3
    rw [nm_eq]
    have f4 : Tgx [0, 20, 22] [19] τ1 (sI τ3 22 (tI τ3 22 + i32 1)) := (f2.tr (le_0 f3 rfl)).tr (Tgx.sI rfl)
    refine ok_s ⟨rfl, mk_tb tb1 f4 ⟨rfl, rfl, rfl, rfl, rfl, rfl⟩ rfl x3 ?_ (fun i hi => if_neg hi), c1.vr (fun k hk => f4.1 k ?_) (fun k hk => f4.2.1 k ?_) ?_ (Int.le_refl _) hN⟩
    · show tI τ3 20 = _
      rw [f3.1 20 rfl, e20]
      rfl
    · revert k; decide
    · revert k; decide
    · show tI τ3 22 + 1 = tI τ1 22 + 1
      rw [f3.1 22 rfl, e22]
theorem t_tried (tb : TB W S V m Tp RC τ) (hW : TW W) (hS2 : SW2 W (S 0)) (hc : Cv W (S 0) RC N τ) {x y w : Int} {p : Bool} (hx : ok32 x) (hy : ok32 y) (hw : ok32 w) : Ok (T_tried (i32 x) (i32 y) (bi p) (i32 w) τ) fun z => z.1 = bi (trK W (S 0) x y w) ∧ TB W (trS W S x y p w) V m Tp RC z.2 ∧ Cv W (trS W S x y p w 0) RC N z.2 := by
  have w0 := hW.1
  have w1 := hW.2.1
  have h58 := hS2.1
  have f0 : Tgx [0] [19] τ (sI τ 0 0) := Tgx.sI rfl
  have tb1 : TB W S V m Tp RC (sI τ 0 0) := mk_tb tb f0 ⟨rfl, rfl, rfl, rfl, rfl, rfl⟩ rfl tb.sx tb.2.2.2.1.2 (fun _ _ => rfl)
  have c1 : Cv W (S 0) RC N (sI τ 0 0) := hc.un hW f0 (by decide) (by decide) (fun _ _ => rfl) (Int.le_refl _)
  unfold T_tried
  rw [nm_eq]
  generalize sI τ 0 0 = τ1 at f0 tb1 c1 ⊢
  have hno : ¬ trK W (S 0) x y w = true → Ok (some ((0 : Int32), τ1)) fun z => z.1 = bi (trK W (S 0) x y w) ∧ TB W (trS W S x y p w) V m Tp RC z.2 ∧ Cv W (trS W S x y p w 0) RC N z.2 := fun h => by
    have e2 : trS W S x y p w = S := if_neg h
    rw [e2, Bool.eq_false_iff.mpr h]
    exact ok_s ⟨rfl, tb1, c1⟩
  refine ok_be (s_isCorner hW tb1.1 hx hy) ?_
  by_cases q1 : (0 ≤ x ∧ x < W 0) ∧ 0 ≤ y ∧ y < W 1
  · rw [decide_eq_true q1, if_neg (show ¬ bi true = (0 : Int32) by decide)]
    have hkb := kdA_b (x := x.toNat) (y := y.toNat) hW (by omega) (by omega)
    have L := s_kindAt tb1.1 (x := x.toNat) (y := y.toNat) (by omega) (by omega)
    rw [← toI q1.1.1, ← toI q1.2.1] at L
    refine ok_be L ?_
    have ek : kdA W x.toNat y.toNat = W (10 + 4 * (6 * y.toNat + x.toNat)) - 1 := rfl
    by_cases q3 : W (10 + 4 * (6 * y.toNat + x.toNat)) = 3
    · rw [if_pos (show i32 (kdA W x.toNat y.toNat) = (2 : Int32) by rw [ek, q3]; rfl)]
      refine ok_be (s_w3 hw 0 59 (by omega)) ?_
      by_cases q2 : 0 ≤ w ∧ w ≤ 59
      · rw [decide_eq_true q2, if_neg (show ¬ bi true = (0 : Int32) by decide), (gt_0 tb1.sx).2.2.2.2.1, show (10 : Int32) = i32 10 from rfl]
        refine ok_q ⟨by omega, by omega⟩ ⟨by omega, by omega⟩ (fun q4 => hno fun z => (of_decide_eq_true z).2.2 q4) (fun q4 => ?_)
        have hk : trK W (S 0) x y w = true := decide_eq_true ⟨⟨q1, q3⟩, q2, q4⟩
        have eS : trS W S x y p w = upS (upS (upS (upS S 0 (60 + 3 * (S 0 58).toNat) (6 * y + x)) 0 (61 + 3 * (S 0 58).toNat) (if p = true then 1 else 0)) 0 (62 + 3 * (S 0 58).toNat) w) 0 58 (S 0 58 + 1) := if_pos hk
        rw [eS, hk]
        obtain ⟨n, hn⟩ : ∃ n : Nat, S 0 58 = (n : Int) := ⟨(S 0 58).toNat, by omega⟩
        rw [(gt_0 tb1.sx).2.2.2.2.1, hn, Int.toNat_natCast, show (60 : Int32) = i32 60 from rfl, show (3 : Int32) = i32 3 from rfl, show (1 : Int32) = i32 1 from rfl, show (6 : Int32) = i32 6 from rfl, i32_mul, i32_mul, i32_add, i32_add, nm_eq, i32_add, show (60 : Int) + 3 * (n : Int) = ((60 + 3 * n : Nat) : Int) by omega]
        refine ok_sA (by omega) (by omega) (by omega) ?_
        rw [Int.toNat_natCast]
        have x8 := sx_w tb1.sx (k := 60 + 3 * n) (v := 6 * y + x) (by omega)
        have f8 : Tgx [0] [19] τ1 (sA τ1 19 (60 + 3 * n) (i32 (6 * y + x))) := Tgx.sA rfl
        generalize sA τ1 19 (60 + 3 * n) (i32 (6 * y + x)) = τ8 at x8 f8 ⊢
        have M : ∀ r : Int, r = (if p = true then 1 else 0) → Ok (T_tried_b93 (i32 w) (i32 ((60 + 3 * n : Nat) : Int)) (i32 r) (i32 (((60 + 3 * n : Nat) : Int) + 1)) τ8) fun z => z.1 = bi true ∧ TB W (upS (upS (upS (upS S 0 (60 + 3 * n) (6 * y + x)) 0 (61 + 3 * n) (if p = true then 1 else 0)) 0 (62 + 3 * n) w) 0 58 ((n : Int) + 1)) V m Tp RC z.2 ∧ Cv W (upS (upS (upS (upS S 0 (60 + 3 * n) (6 * y + x)) 0 (61 + 3 * n) (if p = true then 1 else 0)) 0 (62 + 3 * n) w) 0 58 ((n : Int) + 1) 0) RC N z.2 := fun r hr => by
          unfold T_tried_b93
          rw [show (2 : Int32) = i32 2 from rfl, i32_add, show (((60 + 3 * n : Nat) : Int) + 1) = ((61 + 3 * n : Nat) : Int) by omega, show (((60 + 3 * n : Nat) : Int) + 2) = ((62 + 3 * n : Nat) : Int) by omega]
          refine ok_sA (by omega) (by omega) (by omega) (ok_sA (by omega) (by omega) (by omega) ?_)
          rw [Int.toNat_natCast, Int.toNat_natCast]
          have x9 := sx_w x8 (k := 61 + 3 * n) (v := r) (by omega)
          have x10 := sx_w x9 (k := 62 + 3 * n) (v := w) (by omega)
          have f10 : Tgx [0] [19] τ8 (sA (sA τ8 19 (61 + 3 * n) (i32 r)) 19 (62 + 3 * n) (i32 w)) := (Tgx.sA rfl).tr (Tgx.sA rfl)
          generalize sA (sA τ8 19 (61 + 3 * n) (i32 r)) 19 (62 + 3 * n) (i32 w) = τ10 at x10 f10 ⊢
          rw [(gt_0 x10).2.2.2.2.1, upS_r, if_neg (by omega), upS_r, if_neg (by omega), upS_r, if_neg (by omega), hn, show (i32 (n : Int) + 1 : Int32) = i32 ((n : Int) + 1) from i32_add n 1, gt_w.2.2.2.2.1]
          have x11 := sx_w x10 (k := 58) (v := (n : Int) + 1) (by omega)
          have ff : Tgx [0] [19] τ1 (sA τ10 19 58 (i32 ((n : Int) + 1))) := (f8.tr f10).tr (Tgx.sA rfl)
          rw [hr] at x11
          refine ok_s ⟨rfl, mk_tb tb1 ff ⟨rfl, rfl, rfl, rfl, rfl, rfl⟩ rfl x11 ?_ (fun _ _ => rfl), c1.un hW ff (by decide) (by decide) (unA_e fun k h1 h2 => by rw [upS_r, if_neg (by omega), upS_r, if_neg (by omega), upS_r, if_neg (by omega), upS_r, if_neg (by omega)]) (Int.le_refl _)⟩
          rw [ff.1 20 rfl]
          exact tb1.2.2.2.1.2
        cases p with
        | false => exact M 0 rfl
        | true => exact M 1 rfl
      · rw [decide_eq_false q2, if_pos (show bi false = (0 : Int32) from rfl)]
        exact hno fun z => q2 (of_decide_eq_true z).2.1
    · rw [if_neg (show ¬ i32 (kdA W x.toNat y.toNat) = (2 : Int32) from fun z => by have := (i32_eq (b := 2) ⟨by omega, by omega⟩ ⟨by omega, by omega⟩).mp z; omega)]
      exact hno fun z => q3 (of_decide_eq_true z).1.2
  · rw [decide_eq_false q1, if_pos (show bi false = (0 : Int32) from rfl)]
    exact hno fun z => q1 (of_decide_eq_true z).1.1
theorem t_was (tb : TB W S V m Tp RC τ) (hW : TW W) (hS2 : SW2 W (S 0)) (hc : Cv W (S 0) RC N τ) {x y t : Int} (hx : ok32 x) (hy : ok32 y) (ht : ok32 t) : Ok (T_was (i32 x) (i32 y) (i32 t) τ) fun z => z.1 = bi (waK W (S 0) x y t) ∧ TB W (waS W S x y t) V m Tp RC z.2 ∧ Cv W (waS W S x y t 0) RC N z.2 := by
  have w0 := hW.1
  have w1 := hW.2.1
  have h59 := hS2.2.1
  have f0 : Tgx [0] [19] τ (sI τ 0 0) := Tgx.sI rfl
  have tb1 : TB W S V m Tp RC (sI τ 0 0) := mk_tb tb f0 ⟨rfl, rfl, rfl, rfl, rfl, rfl⟩ rfl tb.sx tb.2.2.2.1.2 (fun _ _ => rfl)
  have c1 : Cv W (S 0) RC N (sI τ 0 0) := hc.un hW f0 (by decide) (by decide) (fun _ _ => rfl) (Int.le_refl _)
  unfold T_was
  rw [nm_eq]
  generalize sI τ 0 0 = τ1 at f0 tb1 c1 ⊢
  have hno : ¬ waK W (S 0) x y t = true → Ok (some ((0 : Int32), τ1)) fun z => z.1 = bi (waK W (S 0) x y t) ∧ TB W (waS W S x y t) V m Tp RC z.2 ∧ Cv W (waS W S x y t 0) RC N z.2 := fun h => by
    have e2 : waS W S x y t = S := if_neg h
    rw [e2, Bool.eq_false_iff.mpr h]
    exact ok_s ⟨rfl, tb1, c1⟩
  refine ok_be (s_isCorner hW tb1.1 hx hy) ?_
  by_cases q1 : (0 ≤ x ∧ x < W 0) ∧ 0 ≤ y ∧ y < W 1
  · rw [decide_eq_true q1, if_neg (show ¬ bi true = (0 : Int32) by decide)]
    refine ok_be (s_w3 ht 0 9999 (by omega)) ?_
    by_cases q2 : 0 ≤ t ∧ t ≤ 9999
    · rw [decide_eq_true q2, if_neg (show ¬ bi true = (0 : Int32) by decide), (gt_0 tb1.sx).2.2.2.2.2, show (8 : Int32) = i32 8 from rfl]
      refine ok_q ⟨by omega, by omega⟩ ⟨by omega, by omega⟩ (fun q4 => hno fun z => (of_decide_eq_true z).2.2 q4) (fun q4 => ?_)
      have hk : waK W (S 0) x y t = true := decide_eq_true ⟨q1, q2, q4⟩
      have eS : waS W S x y t = upS (upS (upS (upS S 0 (92 + 3 * (S 0 59).toNat) x) 0 (93 + 3 * (S 0 59).toNat) y) 0 (94 + 3 * (S 0 59).toNat) t) 0 59 (S 0 59 + 1) := if_pos hk
      rw [eS, hk]
      obtain ⟨n, hn⟩ : ∃ n : Nat, S 0 59 = (n : Int) := ⟨(S 0 59).toNat, by omega⟩
      rw [(gt_0 tb1.sx).2.2.2.2.2, hn, Int.toNat_natCast, show (92 : Int32) = i32 92 from rfl, show (3 : Int32) = i32 3 from rfl, show (1 : Int32) = i32 1 from rfl, show (2 : Int32) = i32 2 from rfl, i32_mul, i32_add, nm_eq, i32_add, i32_add, show (92 : Int) + 3 * (n : Int) = ((92 + 3 * n : Nat) : Int) by omega, show (((92 + 3 * n : Nat) : Int) + 1) = ((93 + 3 * n : Nat) : Int) by omega, show (((92 + 3 * n : Nat) : Int) + 2) = ((94 + 3 * n : Nat) : Int) by omega]
      refine ok_sA (by omega) (by omega) (by omega) (ok_sA (by omega) (by omega) (by omega) (ok_sA (by omega) (by omega) (by omega) ?_))
      rw [Int.toNat_natCast, Int.toNat_natCast, Int.toNat_natCast]
      have x8 := sx_w tb1.sx (k := 92 + 3 * n) (v := x) (by omega)
      have x9 := sx_w x8 (k := 93 + 3 * n) (v := y) (by omega)
      have x10 := sx_w x9 (k := 94 + 3 * n) (v := t) (by omega)
      have f10 : Tgx [0] [19] τ1 (sA (sA (sA τ1 19 (92 + 3 * n) (i32 x)) 19 (93 + 3 * n) (i32 y)) 19 (94 + 3 * n) (i32 t)) := ((Tgx.sA rfl).tr (Tgx.sA rfl)).tr (Tgx.sA rfl)
      generalize sA (sA (sA τ1 19 (92 + 3 * n) (i32 x)) 19 (93 + 3 * n) (i32 y)) 19 (94 + 3 * n) (i32 t) = τ10 at x10 f10 ⊢
      rw [(gt_0 x10).2.2.2.2.2, upS_r, if_neg (by omega), upS_r, if_neg (by omega), upS_r, if_neg (by omega), hn, i32_add, gt_w.2.2.2.2.2]
      have x11 := sx_w x10 (k := 59) (v := (n : Int) + 1) (by omega)
      have ff : Tgx [0] [19] τ1 (sA τ10 19 59 (i32 ((n : Int) + 1))) := f10.tr (Tgx.sA rfl)
      refine ok_s ⟨rfl, mk_tb tb1 ff ⟨rfl, rfl, rfl, rfl, rfl, rfl⟩ rfl x11 ?_ (fun _ _ => rfl), c1.un hW ff (by decide) (by decide) (unA_e fun k h1 h2 => by rw [upS_r, if_neg (by omega), upS_r, if_neg (by omega), upS_r, if_neg (by omega), upS_r, if_neg (by omega)]) (Int.le_refl _)⟩
      rw [ff.1 20 rfl]
      exact tb1.2.2.2.1.2
    · rw [decide_eq_false q2, if_pos (show bi false = (0 : Int32) from rfl)]
      exact hno fun z => q2 (of_decide_eq_true z).2.1
  · rw [decide_eq_false q1, if_pos (show bi false = (0 : Int32) from rfl)]
    exact hno fun z => q1 (of_decide_eq_true z).1
theorem Sx.cpA {a b : Nat} (h : Sx (cpS S a b 120) τ) : Sx (cpA S a b) τ := fun j k hj hk => by
  rw [h j k hj hk]
  unfold cpS _root_.Jvm.Pilot.COverFirstLaw_law_r4723_4a157d.cpA
  by_cases e : j = b
  · rw [if_pos ⟨e, hk⟩, if_pos e]
  · rw [if_neg (fun z => e z.1), if_neg e]
theorem t_mark (hn : 200 ≤ nf) (tb : TB W S V m Tp RC τ) (hW : TW W) (hm01 : ∀ j, j < 4 → m (2 + j) = 0 ∨ m (2 + j) = 1) (hN : N < 2000000000) (hc : Cv W (S 0) RC N τ) {x : Int} {v : Int32} (hx : ok32 x) : Ok (T_mark nf (i32 x) v τ) fun p => p.1 = bi (mkK m x (!decide (v = 0))) ∧ TB W (mkS S m x (!decide (v = 0))) V (mkM m x (!decide (v = 0))) Tp RC p.2 ∧ Cv W (mkS S m x (!decide (v = 0)) 0) RC (N + 1) p.2 := by
  have f0 : Tgx [0, 20, 22] [19, 21] τ (sI τ 0 0) := Tgx.sI rfl
  have f00 : Tgx [0] [19] τ (sI τ 0 0) := Tgx.sI rfl
  have tb1 : TB W S V m Tp RC (sI τ 0 0) := mk_tb tb f00 ⟨rfl, rfl, rfl, rfl, rfl, rfl⟩ rfl tb.sx tb.2.2.2.1.2 (fun _ _ => rfl)
  have c1 : Cv W (S 0) RC N (sI τ 0 0) := hc.un hW f00 (by decide) (by decide) (fun _ _ => rfl) (Int.le_refl _)
  have c1' : Cv W (S 0) RC (N + 1) (sI τ 0 0) := hc.un hW f00 (by decide) (by decide) (fun _ _ => rfl) (by omega)
  unfold T_mark
  rw [nm_eq]
  generalize sI τ 0 0 = τ1 at f0 tb1 c1 c1' ⊢
  have hno : mkK m x (!decide (v = 0)) = false → Ok (some ((0 : Int32), τ1)) fun p => p.1 = bi (mkK m x (!decide (v = 0))) ∧ TB W (mkS S m x (!decide (v = 0))) V (mkM m x (!decide (v = 0))) Tp RC p.2 ∧ Cv W (mkS S m x (!decide (v = 0)) 0) RC (N + 1) p.2 := fun h => by
    have e2 : mkS S m x (!decide (v = 0)) = S := if_neg (by rw [h]; decide)
    have e3 : mkM m x (!decide (v = 0)) = m := if_neg (by rw [h]; decide)
    rw [e2, e3, h]
    exact ok_s ⟨rfl, tb1, c1'⟩
  refine ok_be (s_w3 hx 0 3 (by omega)) ?_
  by_cases q : 0 ≤ x ∧ x ≤ 3
  · rw [decide_eq_true q, if_neg (show ¬ bi true = (0 : Int32) by decide)]
    obtain ⟨k, rfl⟩ : ∃ k : Nat, x = (k : Int) := ⟨x.toNat, by omega⟩
    have hk : k < 4 := by omega
    have h21 := tb1.2.2.2.2.1 k hk
    have go : mkK m (k : Int) (!decide (v = 0)) = true → Ok (T_mark_b29 nf (i32 (k : Int)) v τ1) fun p => p.1 = bi (mkK m (k : Int) (!decide (v = 0))) ∧ TB W (mkS S m (k : Int) (!decide (v = 0))) V (mkM m (k : Int) (!decide (v = 0))) Tp RC p.2 ∧ Cv W (mkS S m (k : Int) (!decide (v = 0)) 0) RC (N + 1) p.2 := fun hK => by
      have eM : mkM m (k : Int) (!decide (v = 0)) = fun j => if j = 1 ∧ (!decide (v = 0)) = true then 0 else if j = 2 + k then 1 else m j := by
        unfold mkM
        rw [if_pos hK, Int.toNat_natCast]
      rw [hK, eM]
      unfold T_mark_b29
      refine ok_g rfl (ok_sA (by omega) (by omega) (by omega) ?_)
      rw [Int.toNat_natCast]
      have x2 : Sx S (sA τ1 21 k 1) := tb1.sx
      have f2 : Tgx [0, 20, 22] [19, 21] τ1 (sA τ1 21 k 1) := Tgx.sA rfl
      have e21 : ∀ j, tA (sA τ1 21 k 1) 21 j = if j = k then 1 else tA τ1 21 j := fun j => by
        rw [rd_sA]
        by_cases e : j = k
        · rw [if_pos ⟨rfl, e⟩, if_pos e]
        · rw [if_neg (fun z => e z.2), if_neg e]
      have e20 : tI (sA τ1 21 k 1) 20 = i32 (m 1) := tb1.2.2.2.1.2
      have e22 : tI (sA τ1 21 k 1) 22 = tI τ1 22 := rfl
      generalize sA τ1 21 k 1 = τ2 at x2 f2 e21 e20 e22 ⊢
      have M : ∀ (a b : Nat) (r : Int), a < 21 → b < 21 → ¬ a = b → mkS S m (k : Int) (!decide (v = 0)) = cpA S a b → r = (if (!decide (v = 0)) = true then 0 else m 1) → Ok (T_mark_b59 nf v (i32 (b : Int)) (i32 (a : Int)) τ2) fun p => p.1 = bi true ∧ TB W (mkS S m (k : Int) (!decide (v = 0))) V (fun j => if j = 1 ∧ (!decide (v = 0)) = true then 0 else if j = 2 + k then 1 else m j) Tp RC p.2 ∧ Cv W (mkS S m (k : Int) (!decide (v = 0)) 0) RC (N + 1) p.2 := fun a b r ha hb hab hS hr => by
        unfold T_mark_b59
        rw [show (120 : Int32) = i32 ((120 : Nat) : Int) from rfl]
        refine ok_b (t_copies hn x2 ha hb hab (by omega)) fun τ3 h3 => ?_
        obtain ⟨f3, x3⟩ := h3
        have x3 := x3.cpA
        rw [hS]
        have f4 : ∀ w : Int32, Tgx [0, 20, 22] [19, 21] τ1 (sI (sI τ3 20 w) 22 (tI (sI τ3 20 w) 22 + 1)) := fun w => ((f2.tr (le_0 f3 rfl)).tr (Tgx.sI rfl)).tr (Tgx.sI rfl)
        have fin : Ok (T_mark_b77 nf (i32 r) τ3) fun p => p.1 = bi true ∧ TB W (cpA S a b) V (fun j => if j = 1 ∧ (!decide (v = 0)) = true then 0 else if j = 2 + k then 1 else m j) Tp RC p.2 ∧ Cv W (cpA S a b 0) RC (N + 1) p.2 := by
          unfold T_mark_b77
          rw [nm_eq, nm_eq]
          have ff := f4 (i32 r)
          refine ok_s ⟨rfl, tb1.w ff ⟨rfl, rfl, rfl, rfl⟩ x3 ⟨?_, ?_⟩ (fun j hj => ?_) (fun j hj => ?_), c1.vr (fun i hi => ff.1 i ?_) (fun i hi => ff.2.1 i ?_) ?_ (Int.le_refl _) hN⟩
          · rw [ff.1 2 rfl, tb1.2.2.2.1.1]
            show _ = i32 (if 0 = 1 ∧ _ then 0 else if 0 = 2 + k then 1 else m 0)
            rw [if_neg (fun z => absurd z.1 (by decide)), if_neg (by omega)]
          · show i32 r = i32 (if 1 = 1 ∧ (!decide (v = 0)) = true then 0 else if 1 = 2 + k then 1 else m 1)
            rw [hr]
            by_cases e : (!decide (v = 0)) = true
            · rw [if_pos e, if_pos ⟨rfl, e⟩]
            · rw [if_neg e, if_neg (fun z => e z.2), if_neg (by omega)]
          · show tA τ3 21 j = i32 (if 2 + j = 1 ∧ _ then 0 else if 2 + j = 2 + k then 1 else m (2 + j))
            have e0 : (if 2 + j = 1 ∧ (!decide (v = 0)) = true then (0 : Int) else if 2 + j = 2 + k then 1 else m (2 + j)) = if j = k then 1 else m (2 + j) := by
              rw [if_neg (show ¬ (2 + j = 1 ∧ (!decide (v = 0)) = true) from fun z => absurd z.1 (by omega))]
              by_cases e : j = k
              · rw [if_pos e, if_pos (show 2 + j = 2 + k by omega)]
              · rw [if_neg e, if_neg (show ¬ 2 + j = 2 + k by omega)]
            rw [f3.2.1 21 rfl, e21, e0]
            by_cases e : j = k
            · rw [if_pos e, if_pos e]
              rfl
            · rw [if_neg e, if_neg e]
              exact tb1.2.2.2.2.1 j hj
          · have hj : (j : Int) < (if 0 = 1 ∧ (!decide (v = 0)) = true then 0 else if 0 = 2 + k then 1 else m 0) := hj
            rw [if_neg (fun z => absurd z.1 (by decide)), if_neg (by omega)] at hj
            rw [ff.2.1 1 rfl]
            exact tb1.2.2.2.2.2.1 j hj
          · revert i; decide
          · revert i; decide
          · show tI τ3 22 + 1 = tI τ1 22 + 1
            rw [f3.1 22 rfl, e22]
        by_cases qv : v = 0
        · rw [if_pos qv, f3.1 20 rfl, e20]
          rw [decide_eq_true qv] at hr
          rw [hr] at fin
          exact fin
        · rw [if_neg qv]
          rw [decide_eq_false qv] at hr
          rw [hr] at fin
          exact fin
      by_cases qv : v = 0
      · rw [if_pos qv]
        unfold T_mark_b48
        rw [if_pos qv, show (1 : Int32) = i32 1 from rfl, i32_add, show (1 : Int) + (k : Int) = ((1 + k : Nat) : Int) by omega]
        refine M 0 (1 + k) (m 1) (by omega) (by omega) (by omega) ?_ ?_
        · unfold mkS
          rw [if_pos hK, decide_eq_true qv, Int.toNat_natCast]
          rfl
        · rw [decide_eq_true qv]
          rfl
      · rw [if_neg qv]
        unfold T_mark_b48
        rw [if_neg qv, show (1 : Int32) = i32 1 from rfl, i32_add, show (1 : Int) + (k : Int) = ((1 + k : Nat) : Int) by omega]
        refine M (1 + k) 0 0 (by omega) (by omega) (by omega) ?_ ?_
        · unfold mkS
          rw [if_pos hK, decide_eq_false qv, Int.toNat_natCast]
          rfl
        · rw [decide_eq_false qv]
          rfl
    by_cases qv : v = 0
    · rw [if_pos qv]
      refine go ?_
      unfold mkK
      rw [decide_eq_true q, decide_eq_true qv]
      rfl
    · rw [if_neg qv]
      refine ok_ld (by omega) (by omega) (by omega) ?_
      rw [Int.toNat_natCast, h21, show (0 : Int32) = i32 0 from rfl]
      have := hm01 k hk
      refine ok_q ⟨by omega, by omega⟩ ⟨by omega, by omega⟩ (fun z => hno ?_) (fun z => go ?_)
      · unfold mkK
        rw [decide_eq_false qv, Int.toNat_natCast, decide_eq_false (show ¬ m (2 + k) = 1 by omega), Bool.and_comm]
        rfl
      · unfold mkK
        rw [decide_eq_true q, Int.toNat_natCast, decide_eq_true (show m (2 + k) = 1 by omega), Bool.or_true]
        rfl
  · rw [decide_eq_false q, if_pos (show bi false = (0 : Int32) from rfl)]
    refine hno ?_
    unfold mkK
    rw [decide_eq_false q]
    rfl
end GU
