/-! LAYER 2: bars, lights: the twin -/
set_option maxRecDepth 100000
theorem kdW_d : (wdW.drop 13).take 4 = kdW ∧ (wdW.drop 0).take 20 = kpW ∧ rdW = [wdW.getD 9 []] ∧ ovW = [wdW.getD 10 []] ∧ foW = [wdW.getD 12 []] ∧ twnW = [wdW.getD 0 []] := by decide
theorem bar_t : ∀ z : Nat, z < 4 → ∀ j : Nat, j < 2 → (decide (shr32 (i32 (z : Int)) (i32 (j : Int)) &&& 1 = 1)) = (if j = 1 then decide (2 ≤ z) else decide (z % 2 = 1)) ∧ ((if j = 1 then decide (2 ≤ z) else decide (z % 2 = 1)) = false → i32 (z : Int) ||| shl32 1 (i32 (j : Int)) = i32 ((z + (1 + j) : Nat) : Int)) := by decide +kernel
section YUU
variable {t : Nat → Int} {n nf : Nat} {τ τ0 τ1 : TS} {k : Nat} {w : TV} {e : Int}
/-- the bar's bit, the bar with it -/
theorem bar_i {z j : Int} (hz : 0 ≤ z ∧ z ≤ 3) (hj : 0 ≤ j ∧ j ≤ 1) : decide (shr32 (i32 z) (i32 j) &&& 1 = 1) = (if decide (j = 1) = true then decide (2 ≤ z) else decide (z % 2 = 1)) ∧ ((if decide (j = 1) = true then decide (2 ≤ z) else decide (z % 2 = 1)) = false → i32 z ||| shl32 1 (i32 j) = i32 (z + (1 + j))) := by
  obtain ⟨z, rfl⟩ : ∃ q : Nat, z = q := ⟨z.toNat, by omega⟩
  obtain ⟨j, rfl⟩ : ∃ q : Nat, j = q := ⟨j.toNat, by omega⟩
  have h := bar_t z (by omega) j (by omega)
  have e : (if decide ((j : Int) = 1) = true then decide (2 ≤ (z : Int)) else decide ((z : Int) % 2 = 1)) = (if j = 1 then decide (2 ≤ z) else decide (z % 2 = 1)) := by
    by_cases q : j = 1
    · rw [if_pos q, if_pos (decide_eq_true (by omega))]
      exact decide_eq_decide.mpr (by omega)
    · rw [if_neg q, if_neg (by rw [decide_eq_false (by omega)]; decide)]
      exact decide_eq_decide.mpr (by omega)
  rw [e]
  refine ⟨h.1, fun q => ?_⟩
  rw [h.2 q]
  congr 1
theorem s_bar60 {a b c : Int32} (hc : ¬ 0 ≤ c) (h : (1 ≤ e ∧ e < 100000) ∧ tI τ 8 = i32 e) : T_readBar_b60 nf a b c τ = some τ := by
  unfold T_readBar_b60
  rw [if_neg hc, s_wrong (flt h.1 h.2).1, bd_eq]
theorem t_bar (hnf : 2000 ≤ nf) (hT : TO t n) (h : Tkk t n k τ) (hU : UDD w τ) (hI : TW w.1) (hlt : tP t n k < n) : Ok (T_readBar nf τ) (Qt t n τ (baP t n w (k + 1))) := by
  have hn := hT.1
  have a0 := hI.1
  have a1 := hI.2.1
  have a11 := hI.2.2.2.2.2.2.2.2.2.2.2
  have h1 := h.s hlt
  have hU1 : UDD w (sI τ 7 (i32 ((k + 1 : Nat) : Int))) := hU.n (Tn.sI (.inl rfl))
  have f1 : Trx τ (sI τ 7 (i32 ((k + 1 : Nat) : Int))) := Trx.sI rfl
  unfold T_readBar baP
  rw [h.up, nm_eq]
  generalize sI τ 7 (i32 ((k + 1 : Nat) : Int)) = τ1 at *
  rw [show (340 : Int32) = i32 340 from rfl]
  refine ok_l10 (i := 0) hU1 rfl (by omega) ?_
  rw [show (0 : Int32) = i32 0 from rfl, show (1 : Int32) = i32 1 from rfl, i32_sub]
  refine ok_2 (t_num h1 hT ⟨by omega, by omega⟩ ⟨by omega, by omega⟩) fun a τ3 h3 => ?_
  obtain ⟨g1, g2⟩ := h3
  have g1 : Tn τ1 τ3 := g1
  have f3 := f1.tr (Trx.n g1)
  have hU3 := hU1.n g1
  rw [show (341 : Int32) = i32 341 from rfl]
  refine ok_l10 (i := 1) hU3 rfl (by omega) ?_
  rw [i32_sub]
  cases hx : nmP t n 0 (w.1 0 - 1) (tP t n (k + 1)) (k + 1) with
  | inl e =>
    rw [hx] at g2
    have g2 : a = i32 0 ∧ (1 ≤ e ∧ e < 100000) ∧ tI τ3 8 = i32 e := g2
    have gf := flt g2.2.1 g2.2.2
    rw [s_num g2.2, bd2_eq, if_neg (show ¬ tI τ3 8 ≤ i32 0 from gf.2), show (-i32 1 : Int32) = i32 (-1) from rfl, s_bar60 (by decide) g2.2]
    exact ok_s ⟨f3, g2.2⟩
  | inr y =>
    obtain ⟨x, k2⟩ := y
    rw [hx] at g2
    obtain ⟨g2, g3⟩ := g2
    have g2 : a = i32 x := g2
    have g3 : Tkk t n k2 τ3 := g3
    obtain ⟨x1, x2, x3, x4, rfl⟩ := nmP_v hx
    subst g2
    refine ok_2 (t_num g3 hT ⟨by omega, by omega⟩ ⟨by omega, by omega⟩) fun b τ6 h6 => ?_
    obtain ⟨p1, p2⟩ := h6
    have p1 : Tn τ3 τ6 := p1
    have f6 := f3.tr (Trx.n p1)
    have hU6 := hU3.n p1
    show Ok _ (Qt t n τ (bP (nmP t n 0 (w.1 1 - 1) (tP t n (k + 1 + 1)) (k + 1 + 1)) _))
    cases hy : nmP t n 0 (w.1 1 - 1) (tP t n (k + 1 + 1)) (k + 1 + 1) with
    | inl e =>
      rw [hy] at p2
      have p2 : b = i32 0 ∧ (1 ≤ e ∧ e < 100000) ∧ tI τ6 8 = i32 e := p2
      have gf := flt p2.2.1 p2.2.2
      rw [if_neg (show ¬ tI τ6 8 ≤ i32 0 from gf.2), show (-i32 1 : Int32) = i32 (-1) from rfl, s_bar60 (by decide) p2.2]
      exact ok_s ⟨f6, p2.2⟩
    | inr y =>
      obtain ⟨y, k3⟩ := y
      rw [hy] at p2
      obtain ⟨p2, p3⟩ := p2
      have p2 : b = i32 y := p2
      have p3 : Tkk t n k3 τ6 := p3
      obtain ⟨y1, y2, y3, y4, rfl⟩ := nmP_v hy
      subst p2
      clear hx hy x2 y2
      obtain ⟨x, rfl⟩ : ∃ q : Nat, x = q := ⟨x.toNat, by omega⟩
      obtain ⟨y, rfl⟩ : ∃ q : Nat, y = q := ⟨y.toNat, by omega⟩
      have H := t_wordHere (nf := nf) (x := 10) (m := 2) (by omega) hT p3 (by omega)
      rw [owW_d.1] at H
      have hb := whV_b owW t n (tP t n (k + 1 + 1 + 1))
      have hl : (owW.length : Int) = 2 := rfl
      have hlt4 : 0 ≤ whV owW t n (tP t n (k + 1 + 1 + 1)) → tP t n (k + 1 + 1 + 1) < n := fun z => whV_lt z
      rw [if_pos (show tI τ6 8 ≤ i32 0 by rw [p3.2.2.2]; decide), show (10 : Int32) = i32 ((10 : Nat) : Int) from rfl, show (2 : Int32) = i32 ((2 : Nat) : Int) from rfl, H, bd_eq]
      show Ok _ (Qt t n τ (if whV owW t n (tP t n (k + 1 + 1 + 1)) < 0 then .inl (1 + 16 * (tP t n (k + 1 + 1 + 1) : Int)) else if brA w.1 (x : Int).toNat (y : Int).toNat (decide (whV owW t n (tP t n (k + 1 + 1 + 1)) = 1)) = true then .inl (3 + 16 * (tP t n (k + 1 + 1 + 1) : Int)) else .inr ((upW w.1 (226 + (6 * (y : Int).toNat + (x : Int).toNat)) (w.1 (226 + (6 * (y : Int).toNat + (x : Int).toNat)) + (1 + whV owW t n (tP t n (k + 1 + 1 + 1)))), w.2), k + 1 + 1 + 1 + 1)))
      rw [Int.toNat_natCast, Int.toNat_natCast]
      unfold T_readBar_b60
      generalize whV owW t n (tP t n (k + 1 + 1 + 1)) = j at hb hlt4 ⊢
      rw [show (0 : Int32) = i32 0 from rfl]
      refine ok_le ⟨by omega, by omega⟩ ⟨by omega, by omega⟩ (fun q => ?_) (fun q => ?_)
      · rw [if_neg (show ¬ j < 0 by omega), show (566 : Int32) = i32 566 from rfl, show (6 : Int32) = i32 6 from rfl, i32_mul, i32_add, i32_add, nm_eq]
        have hc : 6 * y + x < 54 := by omega
        have hz := a11 _ hc
        obtain ⟨b1, b2⟩ := bar_i (z := w.1 (226 + (6 * y + x))) (j := j) hz (by omega)
        refine ok_l10 (i := 226 + (6 * y + x)) hU6 (by omega) (by omega) ?_
        unfold brA
        cases hbit : (if decide (j = 1) = true then decide (2 ≤ w.1 (226 + (6 * y + x))) else decide (w.1 (226 + (6 * y + x)) % 2 = 1)) with
        | true =>
          rw [hbit] at b1
          obtain ⟨g1, g2⟩ := Qt.er (kd := 3) p3 hT f6 (by omega)
          rw [if_pos (of_decide_eq_true b1), if_pos rfl, show (3 : Int32) = i32 3 from rfl, g1, bd_eq]
          exact ok_s g2
        | false =>
          rw [hbit] at b1
          rw [if_neg (of_decide_eq_false b1), if_neg (show ¬ (false = true) by decide), p3.up, nm_eq]
          have hU7 : UDD w (sI τ6 7 (i32 ((k + 1 + 1 + 1 + 1 : Nat) : Int))) := hU6.n (Tn.sI (.inl rfl))
          refine ok_l10 (i := 226 + (6 * y + x)) hU7 (by omega) (by omega) (ok_a10 (i := 226 + (6 * y + x)) (by omega) (by omega) ?_)
          rw [b2 hbit]
          exact ok_s ⟨(f6.tr (Trx.sI rfl)).tr (Trx.a10 (by omega)), (p3.s (hlt4 q)).a10, hU7.w⟩
      · obtain ⟨g1, g2⟩ := Qt.er (kd := 1) p3 hT f6 (by omega)
        rw [if_pos q, show (1 : Int32) = i32 1 from rfl, g1, bd_eq]
        exact ok_s g2
theorem s_li104 {a c : Int32} (hc : ¬ 0 ≤ c) (h : (1 ≤ e ∧ e < 100000) ∧ tI τ 8 = i32 e) : T_readLight_b104 nf a c τ = some τ := by
  unfold T_readLight_b104
  rw [if_neg hc, s_wrong (flt h.1 h.2).1, bd_eq]
theorem s_li86 {a : Int32} (h : (1 ≤ e ∧ e < 100000) ∧ tI τ 8 = i32 e) : T_readLight_b86 nf a τ = some τ := by
  unfold T_readLight_b86
  rw [if_neg (flt h.1 h.2).2, show (-1 : Int32) = i32 (-1) from rfl, s_li104 (by decide) h]
theorem s_li219 {a b c d : Int32} (h : (1 ≤ e ∧ e < 100000) ∧ tI τ 8 = i32 e) : T_readLight_b219 nf a b c d τ = some τ := by
  unfold T_readLight_b219
  rw [if_neg (flt h.1 h.2).2]
theorem s_li187 {a b c d : Int32} (h : (1 ≤ e ∧ e < 100000) ∧ tI τ 8 = i32 e) : T_readLight_b187 nf a b c d τ = some τ := by
  unfold T_readLight_b187
  rw [if_neg (flt h.1 h.2).1, s_li219 h]
/-- the last of a light -/
theorem t_li219 (hT : TO t n) (h : Tkk t n k τ) (hU : UDD w τ) (f : Trx τ0 τ) {c : Nat} (hc : c < 54) {kd rd all : Int} (hkd : 0 ≤ kd ∧ kd ≤ 3) (hrd : 1 ≤ rd ∧ rd ≤ 60) (hall : all = if kd < 2 then lcI (w.1 9) rd else w.1 9) (h7 : 0 ≤ w.1 7 ∧ w.1 7 ≤ 60) : Ok (T_readLight_b219 nf (i32 (350 + 4 * (c : Int))) (i32 kd) (i32 rd) (i32 all) τ) (Qt t n τ0 (bP (nwP t n ovW 0 (rd - 1) k) fun ov k6 => bP (nwP t n foW 0 rd k6) fun le k8 => .inr (liS w c kd rd ov le, k8))) := by
  unfold T_readLight_b219
  rw [if_pos (show tI τ 8 ≤ 0 by rw [h.2.2.2]; decide), show (349 : Int32) = i32 349 from rfl]
  refine ok_a10 (i := 9) (by omega) (by omega) (ok_a10 (i := 10 + 4 * c) (by omega) (by omega) ?_)
  rw [show (1 : Int32) = i32 1 from rfl, i32_add, i32_add]
  refine ok_a10 (i := 11 + 4 * c) (by omega) (by omega) ?_
  have hU3 := ((hU.w (i := 9) (v := all)).w (i := 10 + 4 * c) (v := 1 + kd)).w (i := 11 + 4 * c) (v := rd)
  have h3 : Tkk t n k (sA (sA (sA τ 10 (340 + 9) (i32 all)) 10 (340 + (10 + 4 * c)) (i32 (1 + kd))) 10 (340 + (11 + 4 * c)) (i32 rd)) := h.a10.a10.a10
  have f3 := ((f.tr (Trx.a10 (i := 340 + 9) (v := i32 all) (by omega))).tr (Trx.a10 (i := 340 + (10 + 4 * c)) (v := i32 (1 + kd)) (by omega))).tr (Trx.a10 (i := 340 + (11 + 4 * c)) (v := i32 rd) (by omega))
  generalize sA (sA (sA τ 10 (340 + 9) (i32 all)) 10 (340 + (10 + 4 * c)) (i32 (1 + kd))) 10 (340 + (11 + 4 * c)) (i32 rd) = τ3 at *
  rw [i32_sub, show (10 : Int32) = i32 ((10 : Nat) : Int) from rfl, show (0 : Int32) = i32 0 from rfl]
  refine ok_2 (t_aft h3 hT (x := 10) (by omega) kdW_d.2.2.2.1 ⟨by omega, by omega⟩ ⟨by omega, by omega⟩) fun a τ4 h4 => ?_
  obtain ⟨g1, g2⟩ := h4
  have g1 : Tn τ3 τ4 := g1
  have f4 := f3.tr (Trx.n g1)
  have hU4 := hU3.n g1
  rw [show (2 : Int32) = i32 2 from rfl, i32_add]
  refine ok_a10 (i := 12 + 4 * c) (by omega) (by omega) ?_
  have f5 := f4.tr (Trx.a10 (i := 340 + (12 + 4 * c)) (v := a) (by omega))
  rw [show (12 : Int32) = i32 ((12 : Nat) : Int) from rfl]
  cases hx : nwP t n ovW 0 (rd - 1) k with
  | inl e =>
    rw [hx] at g2
    have g2 : a = i32 0 ∧ (1 ≤ e ∧ e < 100000) ∧ tI τ4 8 = i32 e := g2
    have g3 : (1 ≤ e ∧ e < 100000) ∧ tI (sA τ4 10 (340 + (12 + 4 * c)) a) 8 = i32 e := ⟨g2.2.1, g2.2.2⟩
    refine ok_2 (s_aft g3) fun b τ7 h7 => ?_
    obtain ⟨p1, p2, p3⟩ := h7
    have f7 := f5.tr (Trx.n p2)
    rw [show (3 : Int32) = i32 3 from rfl, i32_add]
    refine ok_a10 (i := 13 + 4 * c) (by omega) (by omega) ?_
    rw [show (347 : Int32) = i32 347 from rfl]
    refine ok_ld (by omega) (by omega) (by omega) (ok_a10 (i := 7) (by omega) (by omega) (ok_s ⟨(f7.tr (Trx.a10 (by omega))).tr (Trx.a10 (by omega)), g2.2.1, p3⟩))
  | inr y =>
    obtain ⟨ov, k6⟩ := y
    rw [hx] at g2
    obtain ⟨g2, g3⟩ := g2
    have g2 : a = i32 ov := g2
    have g3 : Tkk t n k6 τ4 := g3
    subst g2
    have hU5 := hU4.w (i := 12 + 4 * c) (v := ov)
    refine ok_2 (t_aft (g3.a10 (i := 340 + (12 + 4 * c)) (v := i32 ov)) hT (x := 12) (by omega) kdW_d.2.2.2.2.1 ⟨by omega, by omega⟩ ⟨by omega, by omega⟩) fun b τ7 h7 => ?_
    obtain ⟨p1, p2⟩ := h7
    have p1 : Tn _ τ7 := p1
    have f7 := f5.tr (Trx.n p1)
    have hU7 := hU5.n p1
    rw [show (3 : Int32) = i32 3 from rfl, i32_add]
    refine ok_a10 (i := 13 + 4 * c) (by omega) (by omega) ?_
    rw [show (347 : Int32) = i32 347 from rfl]
    show Ok _ (Qt t n τ0 (bP (nwP t n foW 0 rd k6) fun le k8 => .inr (liS w c kd rd ov le, k8)))
    cases hy : nwP t n foW 0 rd k6 with
    | inl e =>
      rw [hy] at p2
      refine ok_ld (by omega) (by omega) (by omega) (ok_a10 (i := 7) (by omega) (by omega) (ok_s ⟨(f7.tr (Trx.a10 (by omega))).tr (Trx.a10 (by omega)), p2.2⟩))
    | inr y =>
      obtain ⟨le, k8⟩ := y
      rw [hy] at p2
      obtain ⟨p2, p3⟩ := p2
      have p2 : b = i32 le := p2
      have p3 : Tkk t n k8 τ7 := p3
      subst p2
      have hU8 := hU7.w (i := 13 + 4 * c) (v := le)
      refine ok_l10 (i := 7) hU8 (by omega) (by omega) ?_
      have e7 : (upW (upW (upW (upW (upW w.1 9 all) (10 + 4 * c) (1 + kd)) (11 + 4 * c) rd) (12 + 4 * c) ov) (13 + 4 * c) le) 7 = w.1 7 := by
        rw [upW_n (by omega), upW_n (by omega), upW_n (by omega), upW_n (by omega), upW_n (by omega)]
      show Ok (stA _ 10 680 (i32 347) (i32 ((upW (upW (upW (upW (upW w.1 9 all) (10 + 4 * c) (1 + kd)) (11 + 4 * c) rd) (12 + 4 * c) ov) (13 + 4 * c) le) 7) + i32 1) _) _
      rw [e7, i32_add]
      refine ok_a10 (i := 7) (by omega) (by omega) (ok_s ⟨(f7.tr (Trx.a10 (by omega))).tr (Trx.a10 (by omega)), p3.a10.a10, ?_⟩)
      have := hU8.w (i := 7) (v := w.1 7 + 1)
      unfold liS
      rw [← hall]
      exact this
/-- behind the kind -/
theorem t_li104 (hnf : 2000 ≤ nf) (hT : TO t n) (h : Tkk t n k τ) (hU : UDD w τ) (f : Trx τ0 τ) (hI : TW w.1) {c : Nat} (hc : c < 54) {kd : Int} (hkd : 0 ≤ kd ∧ kd ≤ 3) (hlt : tP t n k < n) : Ok (T_readLight_b104 nf (i32 (350 + 4 * (c : Int))) (i32 kd) τ) (Qt t n τ0 (liP2 t n w c kd (k + 1))) := by
  have hn := hT.1
  have a9 := hI.2.2.2.2.2.2.2.2.2.1
  have a7 := hI.2.2.2.2.2.2.2.1
  unfold T_readLight_b104
  rw [if_pos (show (0 : Int32) ≤ i32 kd from (i32_le (a := 0) (b := kd) ⟨by omega, by omega⟩ ⟨by omega, by omega⟩).mpr hkd.1), h.up, nm_eq]
  have h1 := h.s hlt
  have hU1 : UDD w (sI τ 7 (i32 ((k + 1 : Nat) : Int))) := hU.n (Tn.sI (.inl rfl))
  have f1 : Trx τ0 (sI τ 7 (i32 ((k + 1 : Nat) : Int))) := f.tr (Trx.sI rfl)
  generalize sI τ 7 (i32 ((k + 1 : Nat) : Int)) = τ1 at *
  rw [show (9 : Int32) = i32 ((9 : Nat) : Int) from rfl, show (1 : Int32) = i32 1 from rfl, show (60 : Int32) = i32 60 from rfl]
  refine ok_2 (t_aft h1 hT (x := 9) (by omega) kdW_d.2.2.1 ⟨by omega, by omega⟩ ⟨by omega, by omega⟩) fun a τ2 h2 => ?_
  obtain ⟨g1, g2⟩ := h2
  have g1 : Tn τ1 τ2 := g1
  have f2 := f1.tr (Trx.n g1)
  have hU2 := hU1.n g1
  unfold liP2
  cases hx : nwP t n rdW 1 60 (k + 1) with
  | inl e =>
    rw [hx] at g2
    have g2 : a = i32 0 ∧ (1 ≤ e ∧ e < 100000) ∧ tI τ2 8 = i32 e := g2
    obtain ⟨g2, g3⟩ := g2
    have hf := flt g3.1 g3.2
    have hpos : (0 : Int32) < tI τ2 8 := by
      rw [g3.2]
      exact (i32_lt (a := 0) (b := e) ⟨by omega, by omega⟩ ⟨by omega, by omega⟩).mpr (by omega)
    rw [if_pos hpos, show (349 : Int32) = i32 349 from rfl]
    refine ok_ld (by omega) (by omega) (by omega) ?_
    rw [s_li187 g3]
    have ex : (bP (ndP (decide (0 ≤ whV rdW t n (tP t n (k + 1)))) (tP t n (k + 1)) (k + 1)) fun _ k3 => if tS t n (tP t n k3) = 2 ∧ kd < 2 ∧ (1 ≤ nV t n (tP t n k3) ∧ nV t n (tP t n k3) ≤ 60) ∧ 1200 < lcI (w.1 9) (nV t n (tP t n k3)) then .inl (4 + 16 * (tP t n k3 : Int)) else bP (nmP t n 1 60 (tP t n k3) k3) fun rd k4 => bP (nwP t n ovW 0 (rd - 1) k4) fun ov k6 => bP (nwP t n foW 0 rd k6) fun le k8 => (.inr (liS w c kd rd ov le, k8) : Int ⊕ (TV × Nat))) = .inl e := by
      unfold nwP at hx
      cases hd : ndP (decide (0 ≤ whV rdW t n (tP t n (k + 1)))) (tP t n (k + 1)) (k + 1) with
      | inl e' =>
        rw [hd] at hx
        have hx : (.inl e' : Int ⊕ (Int × Nat)) = .inl e := hx
        cases hx
        rfl
      | inr y =>
        rw [hd] at hx
        have hx : nmP t n 1 60 (tP t n y.2) y.2 = .inl e := hx
        show (if tS t n (tP t n y.2) = 2 ∧ kd < 2 ∧ (1 ≤ nV t n (tP t n y.2) ∧ nV t n (tP t n y.2) ≤ 60) ∧ 1200 < lcI (w.1 9) (nV t n (tP t n y.2)) then .inl (4 + 16 * (tP t n y.2 : Int)) else bP (nmP t n 1 60 (tP t n y.2) y.2) _) = _
        rw [if_neg (fun z => (nmP_l hx).2 ⟨z.1, z.2.2.1.1, z.2.2.1.2⟩), hx]
        rfl
    rw [ex]
    exact ok_s ⟨f2, g3⟩
  | inr y =>
    obtain ⟨rd, k3⟩ := y
    rw [hx] at g2
    obtain ⟨g2, g3⟩ := g2
    have g2 : a = i32 rd := g2
    have g3 : Tkk t n k3 τ2 := g3
    subst g2
    unfold nwP at hx
    obtain ⟨u, k2, hd, hx⟩ := bP_of hx
    obtain ⟨hd1, rfl⟩ := ndP_i hd
    obtain ⟨r1, r2, r3, r4, rfl⟩ := nmP_v hx
    rw [hd]
    show Ok _ (Qt t n τ0 (if tS t n (tP t n (k + 1 + 1)) = 2 ∧ kd < 2 ∧ (1 ≤ nV t n (tP t n (k + 1 + 1)) ∧ nV t n (tP t n (k + 1 + 1)) ≤ 60) ∧ 1200 < lcI (w.1 9) (nV t n (tP t n (k + 1 + 1))) then .inl (4 + 16 * (tP t n (k + 1 + 1) : Int)) else bP (nmP t n 1 60 (tP t n (k + 1 + 1)) (k + 1 + 1)) fun rd k4 => bP (nwP t n ovW 0 (rd - 1) k4) fun ov k6 => bP (nwP t n foW 0 rd k6) fun le k8 => .inr (liS w c kd rd ov le, k8)))
    rw [hx, ← r2]
    have hnp : ¬ (0 : Int32) < tI τ2 8 := by rw [g3.2.2.2]; decide
    rw [if_neg hnp, show (349 : Int32) = i32 349 from rfl, show (2 : Int32) = i32 2 from rfl]
    have B : ∀ all : Int, (all = if kd < 2 then lcI (w.1 9) rd else w.1 9) → 0 ≤ all ∧ all < 2147483648 → Ok (T_readLight_b187 nf (i32 (350 + 4 * (c : Int))) (i32 kd) (i32 rd) (i32 all) τ2) (Qt t n τ0 (if tS t n (tP t n (k + 1 + 1)) = 2 ∧ kd < 2 ∧ (1 ≤ rd ∧ rd ≤ 60) ∧ 1200 < lcI (w.1 9) rd then .inl (4 + 16 * (tP t n (k + 1 + 1) : Int)) else bP (nwP t n ovW 0 (rd - 1) (k + 1 + 1 + 1)) fun ov k6 => bP (nwP t n foW 0 rd k6) fun le k8 => .inr (liS w c kd rd ov le, k8))) := fun all ha hab => by
      unfold T_readLight_b187
      rw [if_pos (show tI τ2 8 = 0 from g3.2.2.2), show (1200 : Int32) = i32 1200 from rfl]
      refine ok_le ⟨by omega, by omega⟩ ⟨by omega, by omega⟩ (fun q => ?_) (fun q => ?_)
      · rw [if_neg (fun z => by rw [ha, if_pos z.2.1] at q; omega)]
        exact t_li219 hT g3 hU2 f2 hc hkd ⟨r3, r4⟩ ha ⟨by omega, by omega⟩
      · have hk2 : kd < 2 := Decidable.byContradiction fun z => by rw [ha, if_neg z] at q; omega
        rw [if_pos ⟨r1, hk2, ⟨r3, r4⟩, by rw [ha, if_pos hk2] at q; exact q⟩, g3.2.2.1, show (1 : Int32) = i32 1 from rfl, i32_sub, nm_eq, show ((k + 1 + 1 + 1 : Nat) : Int) - 1 = ((k + 1 + 1 : Nat) : Int) by omega, show (4 : Int32) = i32 4 from rfl]
        have hb : Tkk t n (k + 1 + 1) (sI τ2 7 (i32 ((k + 1 + 1 : Nat) : Int))) := ⟨g3.1.tn (Tn.sI (.inl rfl)), fun i hi => g3.2.1 i (by omega), sI_t, (sI_n (by decide)).trans g3.2.2.2⟩
        obtain ⟨z1, z2⟩ := Qt.er (kd := 4) hb hT (f2.tr (Trx.sI rfl)) (by omega)
        rw [z1, bd_eq, s_li219 z2.2]
        exact ok_s z2
    have hl := lcI_b a9.1 r3
    obtain ⟨cm, ecm⟩ : ∃ q : Nat, w.1 9 = q := ⟨(w.1 9).toNat, by omega⟩
    obtain ⟨rn, ern⟩ : ∃ q : Nat, rd = q := ⟨rd.toNat, by omega⟩
    have hgp : 0 < Nat.gcd cm rn := Nat.gcd_pos_of_pos_left rn (by omega)
    have hgl : Nat.gcd cm rn ≤ cm := Nat.le_of_dvd (by omega) (Nat.gcd_dvd_left cm rn)
    have hle : cm / Nat.gcd cm rn * rn ≤ 1200 * 60 := Nat.mul_le_mul (Nat.le_trans (Nat.div_le_self _ _) (by omega)) (by omega)
    have elc : lcI (w.1 9) rd = ((cm / Nat.gcd cm rn * rn : Nat) : Int) := by
      unfold lcI
      rw [ecm, ern, Int.toNat_natCast, Int.toNat_natCast]
    refine ok_lt ⟨by omega, by omega⟩ ⟨by omega, by omega⟩ (fun q => ?_) (fun q => ?_)
    · refine ok_l10 (i := 9) hU2 (by omega) (by omega) (ok_l10 (i := 9) hU2 (by omega) (by omega) ?_)
      have hB := B (lcI (w.1 9) rd) (by rw [if_pos q]) (by rw [elc]; omega)
      have EQ : T_common nf τ2 (i32 (w.1 9)) (i32 rd) = some (i32 ((Nat.gcd cm rn : Nat) : Int)) := by
        rw [ecm, ern]
        exact t_common (by omega) (by omega) (by omega)
      have EQ2 : i32 (w.1 9) / i32 ((Nat.gcd cm rn : Nat) : Int) * i32 rd = i32 (lcI (w.1 9) rd) := by
        rw [elc, ecm, ern, div_c (by omega) (by omega) (by omega) (by omega), i32_mul, Int.natCast_mul, Int.natCast_ediv]
      rw [EQ, bd_eq]
      refine ok_d32 (by omega) (by omega) ?_
      rw [EQ2]
      exact hB
    · refine ok_l10 (i := 9) hU2 (by omega) (by omega) ?_
      exact B (w.1 9) (by rw [if_neg (show ¬ kd < 2 by omega)]) (by omega)
theorem t_light_line (hnf : 2000 ≤ nf) (hT : TO t n) (h : Tkk t n k τ) (hU : UDD w τ) (hI : TW w.1) (hlt : tP t n k < n) : Ok (T_readLight nf τ) (Qt t n τ (liP t n w (k + 1))) := by
  have hn := hT.1
  have a0 := hI.1
  have a1 := hI.2.1
  have a10 := hI.2.2.2.2.2.2.2.2.2.2.1
  have h1 := h.s hlt
  have hU1 : UDD w (sI τ 7 (i32 ((k + 1 : Nat) : Int))) := hU.n (Tn.sI (.inl rfl))
  have f1 : Trx τ (sI τ 7 (i32 ((k + 1 : Nat) : Int))) := Trx.sI rfl
  unfold T_readLight liP
  rw [h.up, nm_eq]
  generalize sI τ 7 (i32 ((k + 1 : Nat) : Int)) = τ1 at *
  rw [show (340 : Int32) = i32 340 from rfl]
  refine ok_l10 (i := 0) hU1 rfl (by omega) ?_
  rw [show (0 : Int32) = i32 0 from rfl, show (1 : Int32) = i32 1 from rfl, i32_sub]
  refine ok_2 (t_num h1 hT ⟨by omega, by omega⟩ ⟨by omega, by omega⟩) fun a τ3 h3 => ?_
  obtain ⟨g1, g2⟩ := h3
  have g1 : Tn τ1 τ3 := g1
  have f3 := f1.tr (Trx.n g1)
  have hU3 := hU1.n g1
  rw [show (341 : Int32) = i32 341 from rfl]
  refine ok_l10 (i := 1) hU3 rfl (by omega) ?_
  rw [i32_sub]
  cases hx : nmP t n 0 (w.1 0 - 1) (tP t n (k + 1)) (k + 1) with
  | inl e =>
    rw [hx] at g2
    have g2 : a = i32 0 ∧ (1 ≤ e ∧ e < 100000) ∧ tI τ3 8 = i32 e := g2
    have gf := flt g2.2.1 g2.2.2
    rw [s_num g2.2, bd2_eq, nm_eq, if_neg (show ¬ tI τ3 8 = i32 0 from gf.1), s_li86 g2.2]
    exact ok_s ⟨f3, g2.2⟩
  | inr y =>
    obtain ⟨x, k2⟩ := y
    rw [hx] at g2
    obtain ⟨g2, g3⟩ := g2
    have g2 : a = i32 x := g2
    have g3 : Tkk t n k2 τ3 := g3
    obtain ⟨x1, x2, x3, x4, rfl⟩ := nmP_v hx
    subst g2
    refine ok_2 (t_num g3 hT ⟨by omega, by omega⟩ ⟨by omega, by omega⟩) fun b τ6 h6 => ?_
    obtain ⟨p1, p2⟩ := h6
    have p1 : Tn τ3 τ6 := p1
    have f6 := f3.tr (Trx.n p1)
    have hU6 := hU3.n p1
    rw [nm_eq]
    show Ok _ (Qt t n τ (if tS t n (tP t n (k + 1 + 1)) = 2 ∧ (0 ≤ nV t n (tP t n (k + 1 + 1)) ∧ nV t n (tP t n (k + 1 + 1)) ≤ w.1 1 - 1) ∧ 0 < w.1 (10 + 4 * (6 * (nV t n (tP t n (k + 1 + 1))).toNat + x.toNat)) then .inl (3 + 16 * (tP t n (k + 1 + 1) : Int)) else bP (nmP t n 0 (w.1 1 - 1) (tP t n (k + 1 + 1)) (k + 1 + 1)) fun y k2 => if whV kdW t n (tP t n k2) < 0 then .inl (1 + 16 * (tP t n k2 : Int)) else liP2 t n w (6 * y.toNat + x.toNat) (whV kdW t n (tP t n k2)) (k2 + 1)))
    cases hy : nmP t n 0 (w.1 1 - 1) (tP t n (k + 1 + 1)) (k + 1 + 1) with
    | inl e =>
      rw [hy] at p2
      have p2 : b = i32 0 ∧ (1 ≤ e ∧ e < 100000) ∧ tI τ6 8 = i32 e := p2
      have gf := flt p2.2.1 p2.2.2
      rw [if_neg (show ¬ tI τ6 8 = i32 0 from gf.1), s_li86 p2.2]
      rw [if_neg (show ¬ (tS t n (tP t n (k + 1 + 1)) = 2 ∧ (0 ≤ nV t n (tP t n (k + 1 + 1)) ∧ nV t n (tP t n (k + 1 + 1)) ≤ w.1 1 - 1) ∧ 0 < w.1 (10 + 4 * (6 * (nV t n (tP t n (k + 1 + 1))).toNat + x.toNat))) from fun z => (nmP_l hy).2 ⟨z.1, z.2.1⟩)]
      exact ok_s ⟨f6, p2.2⟩
    | inr y =>
      obtain ⟨y, k3⟩ := y
      rw [hy] at p2
      obtain ⟨p2, p3⟩ := p2
      have p2 : b = i32 y := p2
      have p3 : Tkk t n k3 τ6 := p3
      obtain ⟨y1, y2, y3, y4, rfl⟩ := nmP_v hy
      subst p2
      rw [← y2]
      clear hx hy x2
      obtain ⟨x, rfl⟩ : ∃ q : Nat, x = q := ⟨x.toNat, by omega⟩
      obtain ⟨yn, ey⟩ : ∃ q : Nat, y = q := ⟨y.toNat, by omega⟩
      rw [ey] at y3 y4 ⊢
      rw [Int.toNat_natCast, Int.toNat_natCast]
      have hc : 6 * yn + x < 54 := by omega
      have hz := (a10 _ hc).1
      rw [if_pos (show tI τ6 8 = i32 0 from p3.2.2.2), show (350 : Int32) = i32 350 from rfl, show (4 : Int32) = i32 4 from rfl, show (6 : Int32) = i32 6 from rfl, i32_mul, i32_add, i32_mul, i32_add]
      refine ok_l10 (i := 10 + 4 * (6 * yn + x)) hU6 (by omega) (by omega) ?_
      refine ok_le ⟨by omega, by omega⟩ ⟨by omega, by omega⟩ (fun q => ?_) (fun q => ?_)
      · rw [if_neg (fun z => by omega)]
        show Ok _ (Qt t n τ (if whV kdW t n (tP t n (k + 1 + 1 + 1)) < 0 then .inl (1 + 16 * (tP t n (k + 1 + 1 + 1) : Int)) else liP2 t n w (6 * (yn : Int).toNat + (x : Int).toNat) (whV kdW t n (tP t n (k + 1 + 1 + 1))) (k + 1 + 1 + 1 + 1)))
        rw [Int.toNat_natCast, Int.toNat_natCast]
        have H := t_wordHere (nf := nf) (x := 13) (m := 4) (by omega) hT p3 (by omega)
        rw [kdW_d.1] at H
        have hb := whV_b kdW t n (tP t n (k + 1 + 1 + 1))
        have hl : (kdW.length : Int) = 4 := rfl
        unfold T_readLight_b86
        rw [if_pos (show tI τ6 8 ≤ 0 by rw [p3.2.2.2]; decide), show (13 : Int32) = i32 ((13 : Nat) : Int) from rfl, show (4 : Int32) = i32 ((4 : Nat) : Int) from rfl, H, bd_eq]
        by_cases q2 : whV kdW t n (tP t n (k + 1 + 1 + 1)) < 0
        · rw [if_pos q2]
          obtain ⟨z1, z2⟩ := Qt.er (kd := 1) p3 hT f6 (by omega)
          unfold T_readLight_b104
          rw [if_neg (show ¬ (0 : Int32) ≤ i32 (whV kdW t n (tP t n (k + 1 + 1 + 1))) from fun z => by have := (i32_le (a := 0) (b := whV kdW t n (tP t n (k + 1 + 1 + 1))) ⟨by omega, by omega⟩ ⟨by omega, by omega⟩).mp z; omega), show (1 : Int32) = i32 1 from rfl, z1, bd_eq]
          exact ok_s z2
        · rw [if_neg q2, show (350 : Int) + 4 * (6 * (yn : Int) + (x : Int)) = 350 + 4 * ((6 * yn + x : Nat) : Int) by omega]
          exact t_li104 hnf hT p3 hU6 f6 hI hc (by omega) (whV_lt (t := t) (show 0 ≤ whV kdW t n (tP t n (k + 1 + 1 + 1)) by omega))
      · rw [if_pos ⟨y1, ⟨y3, y4⟩, q⟩, p3.2.2.1, i32_sub, nm_eq, show ((k + 1 + 1 + 1 : Nat) : Int) - 1 = ((k + 1 + 1 : Nat) : Int) by omega, show (3 : Int32) = i32 3 from rfl]
        have hb : Tkk t n (k + 1 + 1) (sI τ6 7 (i32 ((k + 1 + 1 : Nat) : Int))) := ⟨p3.1.tn (Tn.sI (.inl rfl)), fun i hi => p3.2.1 i (by omega), sI_t, (sI_n (by decide)).trans p3.2.2.2⟩
        obtain ⟨z1, z2⟩ := Qt.er (kd := 3) hb hT (f6.tr (Trx.sI rfl)) (by omega)
        rw [z1, bd_eq, s_li86 z2.2]
        exact ok_s z2
end YUU
