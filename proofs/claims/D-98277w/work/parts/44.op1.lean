/-! LAYER 2: the asks that only read: until, green, light, count, judged -/
set_option maxRecDepth 100000
/-- scratch that isn't the caches -/
def Tk (τ τ' : TS) : Prop := Tq τ τ' ∧ (∀ k, [25, 26, 27, 28, 29, 30, 33].contains k = true → tI τ' k = tI τ k) ∧ ∀ k, [23, 24, 31, 32].contains k = true → tA τ' k = tA τ k
theorem Tk.rf {τ : TS} : Tk τ τ := ⟨Tq.rf, fun _ _ => rfl, fun _ _ => rfl⟩
theorem Tk.tr {τ τ1 τ2 : TS} (h : Tk τ τ1) (k : Tk τ1 τ2) : Tk τ τ2 := ⟨h.1.tr k.1, fun j q => (k.2.1 j q).trans (h.2.1 j q), fun j q => (k.2.2 j q).trans (h.2.2 j q)⟩
theorem Tk.sI {τ : TS} {k : Nat} {v : Int32} (h : tsI k = true) (h2 : [25, 26, 27, 28, 29, 30, 33].contains k = false) : Tk τ (sI τ k v) := by
  refine ⟨Tq.sI h, fun j q => ?_, fun _ _ => rfl⟩
  rw [tI_sI, if_neg]
  rintro rfl
  rw [h2] at q
  cases q
theorem Tk.sA {τ : TS} {k i : Nat} {v : Int32} (h : tsA k = true) (h2 : [23, 24, 31, 32].contains k = false) : Tk τ (sA τ k i v) := by
  refine ⟨Tq.sA h, fun _ _ => rfl, fun j q => ?_⟩
  rw [tA_sA, if_neg]
  rintro rfl
  rw [h2] at q
  cases q
theorem Tk.sL {τ : TS} {k : Nat} {v : Int64} : Tk τ (sL τ k v) := ⟨Tq.sL, fun _ _ => rfl, fun _ _ => rfl⟩
theorem Tk.sB {τ : TS} {k i : Nat} {v : Int64} (h : ¬ k = 9) : Tk τ (sB τ k i v) := ⟨Tq.sB h, fun _ _ => rfl, fun _ _ => rfl⟩
theorem tk_z (τ : TS) : Tk τ (sI τ 0 0) := Tk.sI rfl rfl
theorem toI {x : Int} (h : 0 ≤ x) : i32 x = i32 ((x.toNat : Nat) : Int) := by rw [Int.toNat_of_nonneg h]
theorem toW {w : Int} (h : 0 ≤ w ∧ w ≤ 1) : i32 w = wy (decide (w = 1)) := by
  rcases (show w = 0 ∨ w = 1 by omega) with rfl | rfl <;> rfl
theorem of32 (v : Int32) : ∃ x : Int, ok32 x ∧ v = i32 x := ⟨v.toInt, i32_ok v, (i32_of v).symm⟩
/-- a corner, a second -/
def crn (W : Nat → Int) (x y : Int) : Prop := (0 ≤ x ∧ x < W 0) ∧ 0 ≤ y ∧ y < W 1
def unV (W : Nat → Int) (x y w t : Int) : Int := if ((0 ≤ x ∧ x < W 0) ∧ 0 ≤ y ∧ y < W 1) ∧ 0 ≤ t ∧ t ≤ 1000000 then (if 0 ≤ w ∧ w ≤ 1 then (if cgA W x.toNat y.toNat (decide (w = 1)) = true then wtA W x.toNat y.toNat (decide (w = 1)) t else -1) else -1) else -1
theorem cg_ev {W : Nat → Int} {x y : Nat} {w : Bool} (h : cgA W x y w = true) : thA W x y w = true ∧ brA W x y w = false ∧ evA W x y w = true := by
  unfold cgA at h
  cases h1 : thA W x y w <;> cases h2 : brA W x y w <;> cases h3 : evA W x y w <;> rw [h1, h2, h3] at h <;> first | exact ⟨rfl, rfl, rfl⟩ | cases h
section O1
variable {g : Nat → Nat} {ρ : Nat → Nat × Nat} {W : Nat → Int} {S : Nat → Nat → Int} {V m Tp : Nat → Int} {RC : Nat → List (Nat × Int)} {s : CS} {τ : TS} {T : Int} {nf : Nat}
theorem c_until (b : B g ρ W S V m Tp RC s) (hW : TW W) {x y w t : Int} (hx : ok32 x) (hy : ok32 y) (hw : ok32 w) (ht : ok32 t) : FX0_until s (g 0) (i32 x) (i32 y) (i32 w) (i32 t) = some (i32 (unV W x y w t)) := by
  have w0 := hW.1
  have w1 := hW.2.1
  unfold FX0_until unV
  simp (disch := first | assumption | omega) only [nrm, wps, cmps, bcx b, c_isAsked b hW hx hy ht, c_isWay hw, dec_f]
  by_cases q1 : ((0 ≤ x ∧ x < W 0) ∧ 0 ≤ y ∧ y < W 1) ∧ 0 ≤ t ∧ t ≤ 1000000
  · rw [if_neg (fun z => z q1), if_pos q1]
    by_cases q2 : 0 ≤ w ∧ w ≤ 1
    · rw [if_neg (fun z => z q2), if_pos q2, toI q1.1.1.1, toI q1.1.2.1, toW q2, c_wts b hW (by omega) (by omega) q1.2.1 (by omega)]
      rfl
    · rw [if_pos q2, if_neg q2]
  · rw [if_pos q1, if_neg q1]
theorem s_until (hn : 100 ≤ nf) (hW : TW W) (h : Rw W τ) {x y w t : Int} (hx : ok32 x) (hy : ok32 y) (hw : ok32 w) (ht : ok32 t) : T_until nf (i32 x) (i32 y) (i32 w) (i32 t) τ = some (i32 (unV W x y w t), sI τ 0 0) := by
  have w0 := hW.1
  have w1 := hW.2.1
  have h2 : Rw W (sI τ 0 0) := h
  unfold T_until unV
  rw [nm_eq, s_mayAsk hW h2 hx hy hw ht, bd_bi]
  by_cases q1 : ((0 ≤ x ∧ x < W 0) ∧ 0 ≤ y ∧ y < W 1) ∧ 0 ≤ t ∧ t ≤ 1000000
  · by_cases q2 : 0 ≤ w ∧ w ≤ 1
    · rw [if_pos q1, if_pos q2, decide_eq_true q1.1, decide_eq_true q2, decide_eq_true q1.2, Bool.true_and, Bool.true_and, Bool.true_and]
      by_cases q4 : cgA W x.toNat y.toNat (decide (w = 1)) = true
      · rw [if_pos q4, if_pos q4, toI q1.1.1.1, toI q1.1.2.1, toW q2, s_waitFor hn hW h2 (by omega) (by omega) ⟨q1.2.1, by omega⟩ (cg_ev q4).2.2]
        rfl
      · rw [if_neg q4, if_neg q4]
        rfl
    · rw [if_pos q1, if_neg q2, decide_eq_true q1.1, decide_eq_false q2]
      rfl
  · rw [if_neg q1]
    by_cases q4 : (0 ≤ x ∧ x < W 0) ∧ 0 ≤ y ∧ y < W 1
    · rw [decide_eq_true q4, decide_eq_false (fun z => q1 ⟨q4, z⟩)]
      cases decide (0 ≤ w ∧ w ≤ 1) <;> rfl
    · rw [decide_eq_false q4]
      rfl
/-- the wait is nothing just when it is green -/
theorem wt_gr (hW : TW W) {x y : Nat} {w : Bool} {t : Int} (hx : x < 6) (hy : y < 9) (he : evA W x y w = true) (ht : tmA W x y = true) : grA W x y w t = decide (wtA W x y w t = 0) := by
  by_cases q : wtA W x y w t = 0
  · have h1 := (gr_wait (sec := t) hW hx hy ht he).1
    rw [q, Int.add_zero] at h1
    rw [h1, decide_eq_true q]
  · rw [decide_eq_false q]
    have h1 := wt_b (sec := t) hW hx hy he
    have h2 := (gr_wait (sec := t) hW hx hy ht he).2 0 (by omega) (by omega)
    rwa [Int.add_zero] at h2
def grV (W : Nat → Int) (x y w t : Int) : Int := if unV W x y w t < 0 then -1 else if W (10 + 4 * (6 * y.toNat + x.toNat)) = 3 then w else if unV W x y w t = 0 then 1 else 0
theorem unV_b (hW : TW W) {x y w t : Int} : -1 ≤ unV W x y w t ∧ unV W x y w t ≤ 59 ∧ (0 ≤ unV W x y w t → (((0 ≤ x ∧ x < W 0) ∧ 0 ≤ y ∧ y < W 1) ∧ 0 ≤ t ∧ t ≤ 1000000) ∧ (0 ≤ w ∧ w ≤ 1) ∧ cgA W x.toNat y.toNat (decide (w = 1)) = true ∧ unV W x y w t = wtA W x.toNat y.toNat (decide (w = 1)) t) := by
  have w0 := hW.1
  have w1 := hW.2.1
  unfold unV
  by_cases q1 : ((0 ≤ x ∧ x < W 0) ∧ 0 ≤ y ∧ y < W 1) ∧ 0 ≤ t ∧ t ≤ 1000000
  · rw [if_pos q1]
    by_cases q2 : 0 ≤ w ∧ w ≤ 1
    · rw [if_pos q2]
      by_cases q4 : cgA W x.toNat y.toNat (decide (w = 1)) = true
      · rw [if_pos q4]
        have h1 := wt_b (sec := t) hW (x := x.toNat) (y := y.toNat) (by omega) (by omega) (cg_ev q4).2.2
        exact ⟨by omega, h1.2, fun _ => ⟨q1, q2, q4, rfl⟩⟩
      · rw [if_neg q4]
        exact ⟨by omega, by omega, fun z => by omega⟩
    · rw [if_neg q2]
      exact ⟨by omega, by omega, fun z => by omega⟩
  · rw [if_neg q1]
    exact ⟨by omega, by omega, fun z => by omega⟩
theorem c_green (b : B g ρ W S V m Tp RC s) (hW : TW W) {x y w t : Int} (hx : ok32 x) (hy : ok32 y) (hw : ok32 w) (ht : ok32 t) : FX0_green s (g 0) (i32 x) (i32 y) (i32 w) (i32 t) = some (i32 (grV W x y w t)) := by
  have w0 := hW.1
  have w1 := hW.2.1
  obtain ⟨u1, u2, u3⟩ := unV_b hW (x := x) (y := y) (w := w) (t := t)
  unfold FX0_green grV
  simp only [nrm, wps, bcx b, c_until b hW hx hy hw ht]
  by_cases q : 0 ≤ unV W x y w t
  · obtain ⟨q1, q2, q3, q4⟩ := u3 q
    have hk := kw_b hW (c := 6 * y.toNat + x.toNat) (by omega)
    rw [toI q1.1.1.1, toI q1.1.2.1, c_ltAt b (by omega) (by omega)]
    rcases c_light0 b (c := 6 * y.toNat + x.toNat) (by omega) with ⟨h0, hq⟩ | ⟨h0, l, hq, hl⟩
    · rw [hq]
      simp (disch := omega) only [nrm, wps, cmps, if_pos, if_neg, eq_self, if_true, if_false, Bool.false_eq_true]
      (repeat' split) <;> first | rfl | exact si (by omega) | exact sip (by omega) | (exfalso; omega)
    · rw [hq]
      simp (disch := omega) only [nrm, wps, cmps, if_pos, if_neg, eq_self, if_true, if_false, Bool.false_eq_true, c_vButton hl h0 hk.2, dec_f]
      (repeat' split) <;> first | rfl | exact si (by omega) | exact sip (by omega) | (exfalso; omega)
  · simp (disch := omega) only [nrm, wps, cmps, if_pos, if_neg, eq_self, if_true, if_false, Bool.false_eq_true]
theorem s_green (hW : TW W) (h : Rw W τ) {x y w t : Int} (hx : ok32 x) (hy : ok32 y) (hw : ok32 w) (ht : ok32 t) : T_green (i32 x) (i32 y) (i32 w) (i32 t) τ = some (i32 (grV W x y w t), sI τ 0 0) := by
  have w0 := hW.1
  have w1 := hW.2.1
  have h2 : Rw W (sI τ 0 0) := h
  obtain ⟨u1, u2, u3⟩ := unV_b hW (x := x) (y := y) (w := w) (t := t)
  unfold T_green grV
  rw [nm_eq, s_mayAsk hW h2 hx hy hw ht, bd_bi]
  generalize sI τ 0 0 = τ1 at h2 ⊢
  by_cases q : 0 ≤ unV W x y w t
  · obtain ⟨q1, q2, q3, q4⟩ := u3 q
    have hk := kdA_b (x := x.toNat) (y := y.toNat) hW (by omega) (by omega)
    have ek : kdA W x.toNat y.toNat = W (10 + 4 * (6 * y.toNat + x.toNat)) - 1 := rfl
    rw [decide_eq_true q1.1, decide_eq_true q2, decide_eq_true q1.2, q3, toI q1.1.1.1, toI q1.1.2.1, s_kindAt h2 (by omega) (by omega), s_isTimed hW h2 (by omega) (by omega)]
    unfold T_green_b68
    by_cases q5 : W (10 + 4 * (6 * y.toNat + x.toNat)) = 3
    · simp (disch := omega) only [nrm, wps, cmps, if_pos, if_neg, eq_self, if_true, if_false, Bool.false_eq_true, Bool.and_self]
      (repeat' split) <;> first | rfl | exact si (by omega) | exact sip (by omega) | (exfalso; omega)
    · cases ht2 : tmA W x.toNat y.toNat with
      | false =>
        have e0 : unV W x y w t = 0 := by
          rw [q4]
          unfold wtA
          rw [if_neg (by omega), ht2]
          rfl
        simp (disch := omega) only [nrm, wps, cmps, if_pos, if_neg, eq_self, if_true, if_false, Bool.false_eq_true, Bool.and_self, e0]
      | true =>
        have hk2 := of_decide_eq_true ht2
        rw [toW q2, s_isGreen hW h2 (by omega) (by omega) (by omega) ⟨q1.2.1, by omega⟩, wt_gr hW (by omega) (by omega) (cg_ev q3).2.2 ht2, ← q4]
        simp (disch := omega) only [nrm, wps, cmps, if_pos, if_neg, eq_self, if_true, if_false, Bool.false_eq_true, Bool.and_self, dec_f, Bool.true_eq_false]
        (repeat' split) <;> first | rfl | exact si (by omega) | exact sip (by omega) | (exfalso; omega)
  · rw [if_neg]
    · simp (disch := omega) only [nrm, wps, cmps, if_pos, if_neg, eq_self, if_true, if_false, Bool.false_eq_true]
    · intro z
      apply q
      have z1 := Bool.and_eq_true_iff.mp z
      have z2 := Bool.and_eq_true_iff.mp z1.2
      have z3 := Bool.and_eq_true_iff.mp z2.2
      have e1 := of_decide_eq_true z1.1
      have e2 := of_decide_eq_true z2.1
      have e3 := of_decide_eq_true z3.1
      unfold unV
      rw [if_pos ⟨e1, e3⟩, if_pos e2, if_pos z3.2]
      exact (wt_b hW (by omega) (by omega) (cg_ev z3.2).2.2).1
theorem s_st {j : Nat} (tb : TB W S V m Tp RC τ) (hj : j < 120) {α : Type} {K : Int32 → Option α} : ld (tA τ 19) 2520 (i32 (j : Int)) K = K (i32 (S 0 j)) := by
  have := tb.2.1 0 j (by omega) hj
  rw [Nat.mul_zero, Nat.zero_add] at this
  rw [ld_n (by omega) (by omega), this]
theorem s_isKnown (tb : TB W S V m Tp RC τ) {x y : Nat} (hx : x < 6) (hy : y < 9) (hW : TW W) (hS : SW W T (S 0)) : T_isKnown τ (i32 x) (i32 y) = some (bi (decide (W (10 + 4 * (6 * y + x)) = 2 ∧ S 0 (4 + (6 * y + x)) = 1))) := by
  have hk := kdA_b (x := x) (y := y) hW hx hy
  have ek : kdA W x y = W (10 + 4 * (6 * y + x)) - 1 := rfl
  have hs := hS.2.2.2.2 (6 * y + x) (by omega)
  unfold T_isKnown
  rw [s_kindAt tb.1 hx hy]
  rw [show ((4 + (6 * i32 (y : Int))) + i32 (x : Int) : Int32) = i32 ((4 + (6 * y + x) : Nat) : Int) by
    rw [show (4 : Int32) = i32 4 from rfl, show (6 : Int32) = i32 6 from rfl, i32_mul, i32_add, i32_add]
    congr 1
    omega, s_st tb (by omega)]
  simp (disch := first | assumption | omega) only [nrm, wps, cmps]
  (repeat' split) <;> first | exact bi_t2 (by omega) | exact bi_f2 (by omega) | rfl
theorem s_isUnknown (tb : TB W S V m Tp RC τ) {x y : Nat} (hx : x < 6) (hy : y < 9) (hW : TW W) (hS : SW W T (S 0)) {w : Int} (hw : ok32 w) (ew : tI τ 29 = i32 w) : T_isUnknown τ (i32 x) (i32 y) = some (bi (decide (unA W (S 0) (6 * y + x) = true ∧ ¬ w = ((6 * y + x : Nat) : Int)))) := by
  obtain ⟨w1, w2⟩ := hw
  have hk := kdA_b (x := x) (y := y) hW hx hy
  have ek : kdA W x y = W (10 + 4 * (6 * y + x)) - 1 := rfl
  have hs := hS.2.2.2.2 (6 * y + x) (by omega)
  unfold T_isUnknown unA
  rw [s_kindAt tb.1 hx hy, s_isKnown tb hx hy hW hS, ew]
  by_cases q : W (10 + 4 * (6 * y + x)) = 2
  · rcases hs with e | ⟨e, -⟩
    · rw [decide_eq_false (show ¬ (W (10 + 4 * (6 * y + x)) = 2 ∧ S 0 (4 + (6 * y + x)) = 1) by omega), decide_eq_true (show W (10 + 4 * (6 * y + x)) = 2 ∧ S 0 (4 + (6 * y + x)) = 0 by omega)]
      simp (disch := omega) only [nrm, wps, cmps, if_pos, if_neg, eq_self, if_true, if_false, Bool.false_eq_true, true_and]
      by_cases q2 : w = ((6 * y + x : Nat) : Int)
      · rw [decide_eq_false (fun z => z q2), if_pos (by omega)]
        rfl
      · rw [decide_eq_true q2, if_neg (by omega)]
        rfl
    · rw [decide_eq_true (show (W (10 + 4 * (6 * y + x)) = 2 ∧ S 0 (4 + (6 * y + x)) = 1) by omega), decide_eq_false (show ¬ (W (10 + 4 * (6 * y + x)) = 2 ∧ S 0 (4 + (6 * y + x)) = 0) by omega)]
      simp (disch := omega) only [nrm, wps, cmps, if_pos, if_neg, eq_self, if_true, if_false, Bool.false_eq_true, Bool.true_eq_false, false_and, decide_false]
      rfl
  · rw [decide_eq_false (show ¬ (W (10 + 4 * (6 * y + x)) = 2 ∧ S 0 (4 + (6 * y + x)) = 0) by omega)]
    simp (disch := omega) only [nrm, wps, cmps, if_pos, if_neg, eq_self, if_true, if_false, Bool.false_eq_true, Bool.true_eq_false, false_and, decide_false]
    rfl
def ltV (W : Nat → Int) (σ : Nat → Int) (x y a : Int) : Int := if (0 ≤ x ∧ x < W 0) ∧ 0 ≤ y ∧ y < W 1 then (if 0 ≤ a ∧ a ≤ 5 then (if a = 5 then W (226 + (6 * y.toNat + x.toNat)) else if W (10 + 4 * (6 * y.toNat + x.toNat)) = 0 then -1 else if a = 0 then W (10 + 4 * (6 * y.toNat + x.toNat)) - 1 else if a < 4 then W (10 + 4 * (6 * y.toNat + x.toNat) + a.toNat) else σ (4 + (6 * y.toNat + x.toNat))) else -1) else -1
theorem c_lightV (b : B g ρ W S V m Tp RC s) (hW : TW W) (hS : SW W T (S 0)) {x y a : Int} (hx : ok32 x) (hy : ok32 y) (ha : ok32 a) : FX0_light s (g 0) (i32 x) (i32 y) (i32 a) = some (i32 (ltV W (S 0) x y a)) := by
  obtain ⟨a1, a2⟩ := id ha
  have w0 := hW.1
  have w1 := hW.2.1
  obtain ⟨o1, o2, -⟩ := b_now b
  unfold FX0_light ltV
  (try simp only [lits]) <;> simp (disch := omega) only [↓wps, ↓bcp b, bci b, ↓bd_t (c_isCorner b hW hx hy), ↓bd_t (c_i3 ha 0 5 (by omega)), nrm, wps, cmps, if_pos, if_neg, eq_self, if_true, if_false, Bool.false_eq_true, Bool.true_eq_false, dec_f]
  by_cases q1 : (0 ≤ x ∧ x < W 0) ∧ 0 ≤ y ∧ y < W 1
  · by_cases q2 : 0 ≤ a ∧ a ≤ 5
    · have hs := hS.2.2.2.2 (6 * y.toNat + x.toNat) (by omega)
      have e4 : (y * 6 + x).toNat = 6 * y.toNat + x.toNat := by omega
      have hk := kw_b hW (c := 6 * y.toNat + x.toNat) (by omega)
      have el := c_ltAt b (x := x.toNat) (y := y.toNat) (by omega) (by omega)
      rw [← toI q1.1.1, ← toI q1.2.1] at el
      by_cases q3 : a = 5
      · rw [q3]
        (try simp only [lits]) <;> simp (disch := omega) only [↓wps, nrm, wps, cmps, if_pos, if_neg, eq_self, if_true, if_false, Bool.false_eq_true, Bool.true_eq_false, dec_f, bld b, e4, b.2.2.1.2.2.2.2.2.2.2.1 (6 * y.toNat + x.toNat) (by omega)]
      · rcases c_light0 b (c := 6 * y.toNat + x.toNat) (by omega) with ⟨h0, hq⟩ | ⟨h0, l, hq, hl⟩
        · rw [hq] at el
          (try simp only [lits]) <;> simp (disch := omega) only [↓wps, ↓bd_t (el), nrm, wps, cmps, if_pos, if_neg, eq_self, if_true, if_false, Bool.false_eq_true, Bool.true_eq_false, dec_f]
        · rw [hq] at el
          (try simp only [lits]) <;> simp (disch := omega) only [↓wps, ↓bd_t (el), ↓bd_t (c_vKind hl h0 hk.2), nrm, wps, cmps, if_pos, if_neg, eq_self, if_true, if_false, Bool.false_eq_true, Bool.true_eq_false, dec_f, lf_cx hl h0 hk.2, bld b, so_ld o1, e4, o2.2.2.2.2 (6 * y.toNat + x.toNat) (by omega)]
          rcases (show a = 0 ∨ a = 1 ∨ a = 2 ∨ a = 3 ∨ a = 4 by omega) with rfl | rfl | rfl | rfl | rfl
          · simp (disch := omega) only [nrm, wps, cmps, if_pos, if_neg, eq_self, if_true, if_false, Bool.false_eq_true]
          · simp (disch := omega) only [nrm, wps, cmps, if_pos, if_neg, eq_self, if_true, if_false, Bool.false_eq_true, show 10 + 4 * (6 * y.toNat + x.toNat) + (1 : Int).toNat = 11 + 4 * (6 * y.toNat + x.toNat) by omega]
          · simp (disch := omega) only [nrm, wps, cmps, if_pos, if_neg, eq_self, if_true, if_false, Bool.false_eq_true, show 10 + 4 * (6 * y.toNat + x.toNat) + (2 : Int).toNat = 12 + 4 * (6 * y.toNat + x.toNat) by omega]
          · simp (disch := omega) only [nrm, wps, cmps, if_pos, if_neg, eq_self, if_true, if_false, Bool.false_eq_true, show 10 + 4 * (6 * y.toNat + x.toNat) + (3 : Int).toNat = 13 + 4 * (6 * y.toNat + x.toNat) by omega]
          · simp (disch := omega) only [nrm, wps, cmps, if_pos, if_neg, eq_self, if_true, if_false, Bool.false_eq_true]
            (repeat' split) <;> first | rfl | exact si (by omega) | exact sip (by omega) | (exfalso; omega)
    · simp (disch := omega) only [nrm, wps, cmps, if_pos, if_neg, eq_self, if_true, if_false, Bool.false_eq_true]
  · simp (disch := omega) only [nrm, wps, cmps, if_pos, if_neg, eq_self, if_true, if_false, Bool.false_eq_true]
theorem s_lightV (tb : TB W S V m Tp RC τ) (hW : TW W) (hS : SW W T (S 0)) {x y a : Int} (hx : ok32 x) (hy : ok32 y) (ha : ok32 a) : T_light (i32 x) (i32 y) (i32 a) τ = some (i32 (ltV W (S 0) x y a), sI τ 0 0) := by
  obtain ⟨a1, a2⟩ := id ha
  have w0 := hW.1
  have w1 := hW.2.1
  have tb2 : TB W S V m Tp RC (sI τ 0 0) := tb.q (tk_z τ).1
  unfold T_light T_light_b39 ltV
  rw [nm_eq]
  generalize sI τ 0 0 = τ1 at tb2 ⊢
  rw [s_isCorner hW tb2.1 hx hy]
  simp (disch := omega) only [nrm, wps, cmps, if_pos, if_neg, eq_self, if_true, if_false, Bool.false_eq_true, s_within ha (show ok32 0 by exact ⟨by omega, by omega⟩) (show ok32 5 by exact ⟨by omega, by omega⟩), dec_f]
  by_cases q1 : (0 ≤ x ∧ x < W 0) ∧ 0 ≤ y ∧ y < W 1
  · by_cases q2 : 0 ≤ a ∧ a ≤ 5
    · have hs := hS.2.2.2.2 (6 * y.toNat + x.toNat) (by omega)
      have hb := hW.2.2.2.2.2.2.2.2.2.2.2 (6 * y.toNat + x.toNat) (by omega)
      have hk := kdA_b (x := x.toNat) (y := y.toNat) hW (by omega) (by omega)
      have ek : kdA W x.toNat y.toNat = W (10 + 4 * (6 * y.toNat + x.toNat)) - 1 := rfl
      have hx6 : x.toNat < 6 := by omega
      have hy9 : y.toNat < 9 := by omega
      rw [toI q1.1.1, toI q1.2.1]
      by_cases q6 : a = 5
      · rw [q6]
        simp (disch := omega) only [nrm, wps, cmps, if_pos, if_neg, eq_self, if_true, if_false, Bool.false_eq_true]
        rw [show (226 + (6 * y) + x) = ((226 + (6 * y.toNat + x.toNat) : Nat) : Int) by omega, s_ld _ tb2.1 (by omega)]
      · by_cases q5 : W (10 + 4 * (6 * y.toNat + x.toNat)) = 0
        · simp (disch := omega) only [nrm, wps, cmps, if_pos, if_neg, eq_self, if_true, if_false, Bool.false_eq_true, s_kindAt tb2.1 hx6 hy9]
        · simp (disch := omega) only [nrm, wps, cmps, if_pos, if_neg, eq_self, if_true, if_false, Bool.false_eq_true, s_kindAt tb2.1 hx6 hy9, s_isKnown tb2 hx6 hy9 hW hS, dec_f, ek]
          by_cases q7 : a = 0
          · simp (disch := omega) only [nrm, wps, cmps, if_pos, if_neg, eq_self, if_true, if_false, Bool.false_eq_true]
          · by_cases q8 : a < 4
            · rw [show a = ((a.toNat : Nat) : Int) by omega, s_lightAt tb2.1 hx6 hy9 (by omega)]
              simp (disch := omega) only [nrm, wps, cmps, if_pos, if_neg, eq_self, if_true, if_false, Bool.false_eq_true]
              rfl
            · simp (disch := omega) only [nrm, wps, cmps, if_pos, if_neg, eq_self, if_true, if_false, Bool.false_eq_true]
              (repeat' split) <;> first | rfl | exact si (by omega) | exact sip (by omega) | (exfalso; omega)
    · simp (disch := omega) only [nrm, wps, cmps, if_pos, if_neg, eq_self, if_true, if_false, Bool.false_eq_true]
  · simp (disch := omega) only [nrm, wps, cmps, if_pos, if_neg, eq_self, if_true, if_false, Bool.false_eq_true]
end O1
