/-! LAYER 2: the component's asks by goers -/
set_option maxRecDepth 100000
/-- the table of a goer, nothing told, nothing watched -/
def vG (W σ : Nat → Int) (RC : Nat → List (Nat × Int)) (k : Nat) (wst : Bool) : Nat → Nat → Int → Int := vT W σ k (goR RC) wst false (-1) 0
/-- with a corner's light standing so -/
def vW (W σ : Nat → Int) (RC : Nat → List (Nat × Int)) (wat sh : Int) : Nat → Nat → Int → Int := vT W σ 3 (goR RC) false false wat sh
def mnV (W σ : Nat → Int) (RC : Nat → List (Nat × Int)) (wst : Bool) (k x y t : Int) : Int := if (0 ≤ k ∧ k ≤ 3 + W 8) ∧ ((0 ≤ x ∧ x < W 0) ∧ 0 ≤ y ∧ y < W 1) ∧ 0 ≤ t ∧ t ≤ 1000000 then vG W σ RC k.toNat wst x.toNat y.toNat (t % W 9) else -1
section MC
variable {g : Nat → Nat} {ρ : Nat → Nat × Nat} {W : Nat → Int} {S : Nat → Nat → Int} {V m Tp : Nat → Int} {RC : Nat → List (Nat × Int)} {s : CS} {T : Int} {nf : Nat}
/-- the table of takes is a goer's -/
def Tbl (g : Nat → Nat) (ρ : Nat → Nat × Nat) (W : Nat → Int) (S : Nat → Nat → Int) (V m Tp : Nat → Int) (RC : Nat → List (Nat × Int)) (T : Int) (k : Nat) (wst told : Bool) (R : Nat → Nat → Int → Int) (s' : CS) : Prop := (∃ o, FJ2_get s' (g 11) (i32 (k : Int)) = some (some o) ∧ isK s' o [4, 5, 6, 16] = true ∧ Tcx g ρ W S V m Tp RC T k o wst told (-1) 0 s') ∧ Dn s' g W R (fun _ _ => True)
theorem get_q {s' : CS} {o : Nat} {v : Int32} {a : Nat} (h : Fq ρ s s') (k : FJ2_get s a v = some (some o)) : FJ2_get s' a v = some (some o) := by
  obtain ⟨h1, h2, h3, h4, h5, -⟩ := h
  unfold FJ2_get FJ16_checkIndex FJ2_elementData gd gI gR lR isK inA at k ⊢
  simp only [h1, h3, h5, h2 2201 a rfl]
  exact k
theorem ok_tables (hnf : 2000 ≤ nf) (b : B g ρ W S V m Tp RC s) (hW : TW W) (hS : SW W T (S 0)) {k : Nat} (hk : (k : Int) < 4 + W 8) {wst told : Bool} {R : Nat → Nat → Int → Int} (hV : VS W (S 0) k (goR RC) wst told (-1) 0 R) : Ok (FX0_tables nf (g 0) (i32 (k : Int)) (bi told) (bi wst) s) fun s' => Fq ρ s s' ∧ Tbl g ρ W S V m Tp RC T k wst told R s' := by
  have w0 := hW.1
  have w1 := hW.2.1
  unfold FX0_tables
  refine ok_mq (ρ := ρ) (ok_gd b.1 rfl ?_) (fun z hz => hz.1)
  refine ok_g (isb_bi _) (ok_pI b.1 rfl ?_)
  have f1 : Fq ρ s (uI s 9 (g 0) (bi told)) := Fq.uI rfl
  have b1 := b.q f1
  generalize hs1 : uI s 9 (g 0) (bi told) = s1 at f1 b1 ⊢
  have c9 : cI s1 9 (g 0) = bi told := by rw [← hs1]; simp [cI, uI, up2]
  refine ok_g (isb_bi _) (ok_pI b1.1 rfl ?_)
  have f2 : Fq ρ s1 (uI s1 10 (g 0) (bi wst)) := Fq.uI rfl
  have b2 := b1.q f2
  have c10 : cI (uI s1 10 (g 0) (bi wst)) 10 (g 0) = bi wst := by simp [cI, uI, up2]
  have c9b : cI (uI s1 10 (g 0) (bi wst)) 9 (g 0) = bi told := by rw [← c9]; simp [cI, uI, up2]
  generalize uI s1 10 (g 0) (bi wst) = s2 at f2 b2 c10 c9b ⊢
  refine ok_pI b2.1 rfl ?_
  have f3 : Fq ρ s2 (uI s2 11 (g 0) (-1)) := Fq.uI rfl
  have b3 := b2.q f3
  have d11 : cI (uI s2 11 (g 0) (-1)) 11 (g 0) = i32 (-1) := by simp [cI, uI, up2]; rfl
  have d10 : cI (uI s2 11 (g 0) (-1)) 10 (g 0) = bi wst := by rw [← c10]; simp [cI, uI, up2]
  have d9 : cI (uI s2 11 (g 0) (-1)) 9 (g 0) = bi told := by rw [← c9b]; simp [cI, uI, up2]
  generalize uI s2 11 (g 0) (-1) = s3 at f3 b3 d11 d10 d9 ⊢
  refine ok_gRs b3.1 rfl (b3.2.1 2 _ rfl).1 (ok_nn (ok_gRs (b3.2.1 2 _ rfl).2.1 rfl (b3.2.1 19 _ rfl).1 (ok_nn ?_)))
  obtain ⟨o, e1, e2, e3⟩ := ok_get b3 hW hk
  refine ok_be e1 (ok_nn (ok_g e3 ?_))
  refine ok_gRs b3.1 rfl (b3.2.1 2 _ rfl).1 (ok_nn (ok_gI (b3.2.1 2 _ rfl).2.1 rfl ?_))
  refine ok_gRs b3.1 rfl (b3.2.1 2 _ rfl).1 (ok_nn (ok_gI (b3.2.1 2 _ rfl).2.1 rfl ?_))
  rw [b_200 b3, b_201 b3, show (1 : Int32) = i32 1 from rfl, i32_sub, i32_sub, toI (show 0 ≤ W 0 - 1 by omega), toI (show 0 ≤ W 1 - 1 by omega)]
  have hc : Tcx g ρ W S V m Tp RC T k o wst told (-1) 0 s3 := ⟨b3, hW, hS, e2, d10, d9, d11, fun z => by omega, ⟨by omega, by omega⟩, by omega, by omega⟩
  refine ok_b (ok_tab2 (ox := (W 0 - 1).toNat) (oy := (W 1 - 1).toNat) hnf hV (by omega) (by omega) hc (fun x' y' hp hx hy => absurd ⟨by omega, by omega⟩ hp)) fun s4 h4 => ?_
  have f4 := h4.1.q (b_20 b3)
  exact ok_s ⟨((f1.tr f2).tr f3).tr f4, ⟨o, get_q f4 e1, by rw [← e3]; unfold isK; rw [f4.1], hc.w h4.1⟩, h4.2⟩
theorem c_isGoer (b : B g ρ W S V m Tp RC s) (hW : TW W) {k : Int} (hk : ok32 k) : FX0_isGoer s (g 0) (i32 k) = some (bi (decide (0 ≤ k ∧ k ≤ 3 + W 8))) := by
  have w8 := hW.2.2.2.2.2.2.2.2.1
  obtain ⟨k1, k2⟩ := hk
  unfold FX0_isGoer FJ2_size
  (try simp only [lits]) <;> simp (disch := omega) only [↓wps, ↓bcp b, bci b, nrm, wps, cmps, if_pos, if_neg, eq_self, if_true, if_false, Bool.false_eq_true, Bool.true_eq_false, dec_f, c_in]
  rw [show 4 + W 8 - 1 = 3 + W 8 by omega]
theorem ok_mn (hnf : 2000 ≤ nf) (b : B g ρ W S V m Tp RC s) (hW : TW W) (hS : SW W T (S 0)) {k x y t : Int} (hk : ok32 k) (hx : ok32 x) (hy : ok32 y) (ht : ok32 t) : Ok (FX0_mean nf (g 0) (i32 k) (i32 x) (i32 y) (i32 t) s) fun p => p.1 = i32 (mnV W (S 0) RC false k x y t) ∧ Fq ρ s p.2 ∧ (((0 ≤ k ∧ k ≤ 3 + W 8) ∧ ((0 ≤ x ∧ x < W 0) ∧ 0 ≤ y ∧ y < W 1) ∧ 0 ≤ t ∧ t ≤ 1000000) → Tbl g ρ W S V m Tp RC T k.toNat false false (vG W (S 0) RC k.toNat false) p.2) := by
  have w0 := hW.1
  have w1 := hW.2.1
  have w8 := hW.2.2.2.2.2.2.2.2.1
  unfold FX0_mean
  refine ok_mq (ρ := ρ) (ok_gd b.1 rfl ?_) (fun z hz => hz.2.1)
  refine ok_be (c_isGoer b hW hk) ?_
  unfold mnV
  by_cases q1 : 0 ≤ k ∧ k ≤ 3 + W 8
  · rw [decide_eq_true q1, if_neg (show ¬ bi true = (0 : Int32) by decide)]
    refine ok_be (c_isAsked b hW hx hy ht) ?_
    by_cases q2 : ((0 ≤ x ∧ x < W 0) ∧ 0 ≤ y ∧ y < W 1) ∧ 0 ≤ t ∧ t ≤ 1000000
    · rw [decide_eq_true q2, if_neg (show ¬ bi true = (0 : Int32) by decide), if_pos ⟨q1, q2⟩, toI q1.1]
      refine ok_b (ok_tables (wst := false) (told := false) (R := vG W (S 0) RC k.toNat false) hnf b hW hS (k := k.toNat) (by omega) vT_VS) fun s' hs => ?_
      obtain ⟨f, ht2⟩ := hs
      rw [toI q2.1.1.1, toI q2.1.2.1]
      refine ok_be (c_takesAt (b.q f) hW (ht2.2 x.toNat y.toNat trivial (by omega) (by omega)) (by omega) (by omega) q2.2.1 (by omega)) ?_
      exact ok_s ⟨rfl, f, fun _ => ht2⟩
    · rw [decide_eq_false q2, if_pos (show bi false = (0 : Int32) from rfl), if_neg (fun z => q2 z.2)]
      exact ok_s ⟨rfl, Fq.rf, fun z => absurd z.2 q2⟩
  · rw [decide_eq_false q1, if_pos (show bi false = (0 : Int32) from rfl), if_neg (fun z => q1 z.1)]
    exact ok_s ⟨rfl, Fq.rf, fun z => absurd z.1 q1⟩
theorem ok_worst (hnf : 2000 ≤ nf) (b : B g ρ W S V m Tp RC s) (hW : TW W) (hS : SW W T (S 0)) {k x y t : Int} (hk : ok32 k) (hx : ok32 x) (hy : ok32 y) (ht : ok32 t) : Ok (FX0_worst nf (g 0) (i32 k) (i32 x) (i32 y) (i32 t) s) fun p => p.1 = i32 (mnV W (S 0) RC true k x y t) ∧ Fq ρ s p.2 := by
  have w0 := hW.1
  have w1 := hW.2.1
  have w8 := hW.2.2.2.2.2.2.2.2.1
  unfold FX0_worst
  refine ok_mq (ρ := ρ) (ok_gd b.1 rfl ?_) (fun z hz => hz.2)
  refine ok_be (c_isGoer b hW hk) ?_
  unfold mnV
  by_cases q1 : 0 ≤ k ∧ k ≤ 3 + W 8
  · rw [decide_eq_true q1, if_neg (show ¬ bi true = (0 : Int32) by decide)]
    refine ok_be (c_isAsked b hW hx hy ht) ?_
    by_cases q2 : ((0 ≤ x ∧ x < W 0) ∧ 0 ≤ y ∧ y < W 1) ∧ 0 ≤ t ∧ t ≤ 1000000
    · rw [decide_eq_true q2, if_neg (show ¬ bi true = (0 : Int32) by decide), if_pos ⟨q1, q2⟩, toI q1.1]
      refine ok_b (ok_tables (wst := true) (told := false) (R := vG W (S 0) RC k.toNat true) hnf b hW hS (k := k.toNat) (by omega) vT_VS) fun s' hs => ?_
      obtain ⟨f, ht2⟩ := hs
      rw [toI q2.1.1.1, toI q2.1.2.1]
      refine ok_be (c_takesAt (b.q f) hW (ht2.2 x.toNat y.toNat trivial (by omega) (by omega)) (by omega) (by omega) q2.2.1 (by omega)) ?_
      exact ok_s ⟨rfl, f⟩
    · rw [decide_eq_false q2, if_pos (show bi false = (0 : Int32) from rfl), if_neg (fun z => q2 z.2)]
      exact ok_s ⟨rfl, Fq.rf⟩
  · rw [decide_eq_false q1, if_pos (show bi false = (0 : Int32) from rfl), if_neg (fun z => q1 z.1)]
    exact ok_s ⟨rfl, Fq.rf⟩
theorem mnV_b (hW : TW W) {wst : Bool} {σ : Nat → Int} {k x y t : Int} : -1 ≤ mnV W σ RC wst k x y t ∧ mnV W σ RC wst k x y t ≤ 1170000 := by
  unfold mnV
  by_cases q : (0 ≤ k ∧ k ≤ 3 + W 8) ∧ ((0 ≤ x ∧ x < W 0) ∧ 0 ≤ y ∧ y < W 1) ∧ 0 ≤ t ∧ t ≤ 1000000
  · rw [if_pos q]
    exact VS_b13 hW vT_VS (by omega) (by omega) (wtN_ev hW).1 (wtN_ev hW).2
  · rw [if_neg q]
    omega
def gpV (W σ : Nat → Int) (RC : Nat → List (Nat × Int)) (x y t : Int) : Int := if mnV W σ RC false 2 x y t < 0 then -1 else if 0 ≤ mnV W σ RC false 3 x y t then mnV W σ RC false 2 x y t - mnV W σ RC false 3 x y t else -1
theorem ok_gap (hnf : 2000 ≤ nf) (b : B g ρ W S V m Tp RC s) (hW : TW W) (hS : SW W T (S 0)) {x y t : Int} (hx : ok32 x) (hy : ok32 y) (ht : ok32 t) : Ok (FX0_gap nf (g 0) (i32 x) (i32 y) (i32 t) s) fun p => p.1 = i32 (gpV W (S 0) RC x y t) ∧ Fq ρ s p.2 := by
  have m2 := mnV_b (RC := RC) (wst := false) (σ := S 0) (k := 2) (x := x) (y := y) (t := t) hW
  have m3 := mnV_b (RC := RC) (wst := false) (σ := S 0) (k := 3) (x := x) (y := y) (t := t) hW
  unfold FX0_gap
  refine ok_mq (ρ := ρ) (ok_gd b.1 rfl ?_) (fun z hz => hz.2)
  refine ok_2 (ok_mn (k := 2) hnf b hW hS ⟨by omega, by omega⟩ hx hy ht) fun v1 s1 h1 => ?_
  refine ok_2 (ok_mn (k := 3) hnf (b.q h1.2.1) hW hS ⟨by omega, by omega⟩ hx hy ht) fun v2 s2 h2 => ?_
  have e1 : v1 = _ := h1.1
  have e2 : v2 = _ := h2.1
  have f := h1.2.1.tr h2.2.1
  rw [e1, e2, show (0 : Int32) = i32 0 from rfl]
  unfold gpV
  refine ok_lt ⟨by omega, by omega⟩ ⟨by omega, by omega⟩ (fun q => ?_) (fun q => ?_)
  · rw [if_pos q]
    exact ok_s ⟨rfl, f⟩
  · rw [if_neg (show ¬ mnV W (S 0) RC false 2 x y t < 0 by omega)]
    refine ok_le ⟨by omega, by omega⟩ ⟨by omega, by omega⟩ (fun q2 => ?_) (fun q2 => ?_)
    · rw [if_pos q2, i32_sub]
      exact ok_s ⟨rfl, f⟩
    · rw [if_neg (show ¬ 0 ≤ mnV W (S 0) RC false 3 x y t by omega)]
      exact ok_s ⟨rfl, f⟩
/-- the best's way at a corner, its light at a second: -1 none, 0, 1 -/
def bwV (W : Nat → Int) (R : Nat → Nat → Int → Int) (x y : Nat) (t lt : Int) : Int := if byN W 1000 R x y false t (wtN W x y false lt) < 0 ∧ byN W 1000 R x y true t (wtN W x y true lt) < 0 then -1 else if btr (byN W 1000 R x y false t (wtN W x y false lt)) (byN W 1000 R x y true t (wtN W x y true lt)) = true then 1 else 0
def chV (W σ : Nat → Int) (RC : Nat → List (Nat × Int)) (x y t a : Int) : Int := if ((0 ≤ x ∧ x < W 0) ∧ 0 ≤ y ∧ y < W 1) ∧ 0 ≤ t ∧ t ≤ 1000000 then (if hmA W x.toNat y.toNat = true then -1 else if unA W σ (6 * y.toNat + x.toNat) = true then (if 0 ≤ a ∧ a ≤ W (11 + 4 * (6 * y.toNat + x.toNat)) - 1 then bwV W (vG W σ RC 3 false) x.toNat y.toNat t a else -1) else bwV W (vG W σ RC 3 false) x.toNat y.toNat t t) else -1
theorem Tbl.nx {k : Nat} {wst told : Bool} {R : Nat → Nat → Int → Int} {σ : Nat → Int} {k' : Nat} {rv : Nat → Int → Int → Int → Int → Bool} {wst' told' : Bool} {wat sh : Int} (h : Dn s g W R (fun _ _ => True)) (hW : TW W) (hV : VS W σ k' rv wst' told' wat sh R) {x y : Nat} (hx : (x : Int) < W 0) (hy : (y : Int) < W 1) : Nxt s g W R x y := fun w hw => by
  have := th_in hw hx hy
  exact ⟨h _ _ trivial this.1 this.2.1, fun t' => by
    have := VS_b13 hW hV this.1 this.2.1 (wtN_ev hW).1 (wtN_ev hW).2 (t := t' % W 9)
    omega⟩
theorem ok_choice (hnf : 2000 ≤ nf) (b : B g ρ W S V m Tp RC s) (hW : TW W) (hS : SW W T (S 0)) {x y t a : Int} (hx : ok32 x) (hy : ok32 y) (ht : ok32 t) (ha : ok32 a) : Ok (FX0_choice nf (g 0) (i32 x) (i32 y) (i32 t) (i32 a) s) fun p => p.1 = i32 (chV W (S 0) RC x y t a) ∧ Fq ρ s p.2 := by
  have w0 := hW.1
  have w1 := hW.2.1
  have w8 := hW.2.2.2.2.2.2.2.2.1
  obtain ⟨a1, a2⟩ := id ha
  unfold FX0_choice chV
  refine ok_mq (ρ := ρ) (ok_gd b.1 rfl ?_) (fun z hz => hz.2)
  refine ok_be (c_isAsked b hW hx hy ht) ?_
  by_cases q2 : ((0 ≤ x ∧ x < W 0) ∧ 0 ≤ y ∧ y < W 1) ∧ 0 ≤ t ∧ t ≤ 1000000
  · rw [decide_eq_true q2, if_neg (show ¬ bi true = (0 : Int32) by decide), if_pos q2]
    obtain ⟨xn, exn⟩ : ∃ xn : Nat, x = xn := ⟨x.toNat, by omega⟩
    obtain ⟨yn, eyn⟩ : ∃ yn : Nat, y = yn := ⟨y.toNat, by omega⟩
    subst exn
    subst eyn
    rw [Int.toNat_natCast, Int.toNat_natCast]
    refine ok_be (c_isHome b hW (by omega) (by omega)) ?_
    cases qh : hmA W xn yn with
    | true =>
      rw [if_neg (show ¬ bi true = (0 : Int32) by decide), if_pos rfl]
      exact ok_s ⟨rfl, Fq.rf⟩
    | false =>
      rw [if_pos (show bi false = (0 : Int32) from rfl), if_neg (by decide)]
      have eu := c_isUnknown b hW hS (c := 6 * yn + xn) (by omega)
      rw [show ((6 * yn + xn : Nat) : Int) = (yn : Int) * 6 + (xn : Int) by omega] at eu
      rw [nm_eq, show (6 : Int32) = i32 6 from rfl, i32_mul, i32_add]
      have go : ∀ lt, 0 ≤ lt → lt ≤ 1000000 → (lt = if unA W (S 0) (6 * yn + xn) = true then a else t) → Ok (FX0_choice_b60 nf (g 0) (i32 xn) (i32 yn) (i32 t) (i32 a) (i32 ((yn : Int) * 6 + (xn : Int))) s) fun p => p.1 = i32 (bwV W (vG W (S 0) RC 3 false) xn yn t lt) ∧ Fq ρ s p.2 := fun lt l0 l1 hlt => by
        unfold FX0_choice_b60
        refine ok_b (ok_tables (k := 3) (wst := false) (told := false) (R := vG W (S 0) RC 3 false) hnf b hW hS (by omega) vT_VS) fun s' hs => ?_
        obtain ⟨f, ⟨o, -, -, hc⟩, hD⟩ := hs
        have b' := b.q f
        have eu' := c_isUnknown b' hW hS (c := 6 * yn + xn) (by omega)
        rw [show ((6 * yn + xn : Nat) : Int) = (yn : Int) * 6 + (xn : Int) by omega] at eu'
        have hN : Nxt s' g W (vG W (S 0) RC 3 false) xn yn := Tbl.nx (k := 3) (wst := false) (told := false) hD hW (vT_VS (W := W) (σ := S 0) (k := 3) (rv := goR RC) (wst := false) (told := false) (wat := -1) (sh := 0)) q2.1.1.2 q2.1.2.2
        have hgo : Ok (FX0_choice_b82 nf (g 0) (i32 xn) (i32 yn) (i32 t) (i32 lt) s') fun p => p.1 = i32 (bwV W (vG W (S 0) RC 3 false) xn yn t lt) ∧ Fq ρ s p.2 := by
          have e0 : FX0_waits s' (g 0) (i32 xn) (i32 yn) 0 (i32 lt) = some (i32 (wtN W xn yn false lt)) := c_wts (way := false) b' hW (by omega) (by omega) l0 (by omega)
          have e1 : FX0_waits s' (g 0) (i32 xn) (i32 yn) 1 (i32 lt) = some (i32 (wtN W xn yn true lt)) := c_wts (way := true) b' hW (by omega) (by omega) l0 (by omega)
          have cb : ∀ w, FX0_by s' (g 0) (i32 xn) (i32 yn) (wy w) (i32 t) (i32 (wtN W xn yn w lt)) = some (i32 (byN W 1000 (vG W (S 0) RC 3 false) xn yn w t (wtN W xn yn w lt))) := fun w => c_by (wst := false) b' hW hc.2.2.2.2.1 q2.1.1.2 q2.1.2.2 q2.2.1 (by omega) (wtN_b hW q2.1.1.2 q2.1.2.2) (fun z => by
            have e := (cg_ev (wtN_cg (show ¬ wtN W xn yn w lt < 0 by omega))).1
            exact ⟨e, hN w e⟩)
          have bb : ∀ w, -1 ≤ byN W 1000 (vG W (S 0) RC 3 false) xn yn w t (wtN W xn yn w lt) ∧ byN W 1000 (vG W (S 0) RC 3 false) xn yn w t (wtN W xn yn w lt) ≤ 1260000 := fun w => byN_ok (wst := false) hW q2.1.1.2 q2.1.2.2 hN
          have b0 := bb false
          have b1 := bb true
          unfold FX0_choice_b82 FX0_choice_b136 bwV
          refine ok_be e0 (ok_be (cb false) (ok_be e1 (ok_be (cb true) ?_)))
          have eb := c_better b' (u := byN W 1000 (vG W (S 0) RC 3 false) xn yn false t (wtN W xn yn false lt)) (v := byN W 1000 (vG W (S 0) RC 3 false) xn yn true t (wtN W xn yn true lt)) ⟨by omega, by omega⟩ ⟨by omega, by omega⟩
          rw [eb, show (0 : Int32) = i32 0 from rfl]
          refine ok_le ⟨by omega, by omega⟩ ⟨by omega, by omega⟩ (fun z => ?_) (fun z => ?_)
          · rw [if_neg (show ¬ (byN W 1000 (vG W (S 0) RC 3 false) xn yn false t (wtN W xn yn false lt) < 0 ∧ byN W 1000 (vG W (S 0) RC 3 false) xn yn true t (wtN W xn yn true lt) < 0) by omega)]
            refine ok_be rfl (ok_s ⟨?_, f⟩)
            unfold bi
            split <;> rfl
          · refine ok_le ⟨by omega, by omega⟩ ⟨by omega, by omega⟩ (fun z2 => ?_) (fun z2 => ?_)
            · rw [if_neg (show ¬ (byN W 1000 (vG W (S 0) RC 3 false) xn yn false t (wtN W xn yn false lt) < 0 ∧ byN W 1000 (vG W (S 0) RC 3 false) xn yn true t (wtN W xn yn true lt) < 0) by omega)]
              refine ok_be rfl (ok_s ⟨?_, f⟩)
              unfold bi
              split <;> rfl
            · rw [if_pos (show (byN W 1000 (vG W (S 0) RC 3 false) xn yn false t (wtN W xn yn false lt) < 0 ∧ byN W 1000 (vG W (S 0) RC 3 false) xn yn true t (wtN W xn yn true lt) < 0) by omega)]
              exact ok_s ⟨rfl, f⟩
        refine ok_be eu' ?_
        cases qu : unA W (S 0) (6 * yn + xn) with
        | false =>
          rw [qu, if_neg (by decide)] at hlt
          rw [if_pos (show bi false = (0 : Int32) from rfl), ← hlt]
          rw [hlt] at hgo ⊢
          exact hgo
        | true =>
          rw [qu, if_pos rfl] at hlt
          rw [if_neg (show ¬ bi true = (0 : Int32) by decide), ← hlt]
          exact hgo
      refine ok_be eu ?_
      cases qu : unA W (S 0) (6 * yn + xn) with
      | false =>
        rw [if_pos (show bi false = (0 : Int32) from rfl), if_neg (by decide)]
        exact go t q2.2.1 q2.2.2 (by rw [qu]; rfl)
      | true =>
        rw [if_neg (show ¬ bi true = (0 : Int32) by decide), if_pos rfl]
        have hu2 := of_decide_eq_true qu
        have hr := un_rd hW (c := 6 * yn + xn) (by omega) qu
        have hkk := kw_b hW (c := 6 * yn + xn) (by omega)
        refine ok_be (c_ltAt b (by omega) (by omega)) ?_
        rcases c_light0 b (c := 6 * yn + xn) (by omega) with ⟨z, -⟩ | ⟨-, l, hq, hl⟩
        · omega
        · rw [hq, nn_eq, (lf_cx hl (by omega) hkk.2).1, show (1 : Int32) = i32 1 from rfl, i32_sub, show (0 : Int32) = i32 0 from rfl]
          refine ok_be (c_in a1 a2 (by omega) (by omega) (by omega) (by omega)) ?_
          by_cases qa : 0 ≤ a ∧ a ≤ W (11 + 4 * (6 * yn + xn)) - 1
          · rw [decide_eq_true qa, if_neg (show ¬ bi true = (i32 0 : Int32) by decide), if_pos qa]
            exact go a qa.1 (by omega) (by rw [qu]; rfl)
          · rw [decide_eq_false qa, if_pos (show bi false = (i32 0 : Int32) from rfl), if_neg qa]
            exact ok_s ⟨rfl, Fq.rf⟩
  · rw [decide_eq_false q2, if_pos (show bi false = (0 : Int32) from rfl), if_neg q2]
    exact ok_s ⟨rfl, Fq.rf⟩
end MC
