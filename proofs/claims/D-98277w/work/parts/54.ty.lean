/-! LAYER 2: the twin's asks by goers -/
set_option maxRecDepth 100000
section TYS
variable {W : Nat → Int} {S : Nat → Nat → Int} {V m Tp : Nat → Int} {RC : Nat → List (Nat × Int)} {τ : TS} {T N : Int} {nf : Nat} {σ : Nat → Int}
theorem Cv.k {τ' : TS} (h : Cv W σ RC N τ) (q : Tk τ τ') : Cv W σ RC N τ' := by
  obtain ⟨q1, q2, q3⟩ := q
  unfold Cv Kp
  rw [q3 24 rfl, q3 23 rfl, q3 32 rfl, q2 25 rfl, q2 26 rfl, q2 27 rfl, q2 28 rfl, q2 29 rfl, q2 30 rfl, q2 33 rfl, q1.1 22 rfl]
  exact h
theorem Cv.le {N' : Int} (h : Cv W σ RC N τ) (k : N ≤ N') : Cv W σ RC N' τ := ⟨h.1, by have := h.2.1; omega, by have := h.2.2.1; omega, h.2.2.2.1, h.2.2.2.2.1, by have := h.2.2.2.2.2; omega⟩
theorem t_isGoer (hW : TW W) (h : Rw W τ) {k : Int} (hk : ok32 k) : T_isGoer τ (i32 k) = some (bi (decide (0 ≤ k ∧ k ≤ 3 + W 8))) := by
  have w8 := hW.2.2.2.2.2.2.2.2.1
  unfold T_isGoer
  rw [show (8 : Int32) = i32 ((8 : Nat) : Int) from rfl, s_ld τ h (by omega), show (3 : Int32) = i32 3 from rfl, show (0 : Int32) = i32 0 from rfl, i32_add, s_within hk ⟨by omega, by omega⟩ ⟨by omega, by omega⟩]
  exact gd_t (isb_bi _)
theorem t_ask (hn : 1200 ≤ nf) (hW : TW W) (hS : SW W T (S 0)) (hE : ExA W RC) (hN : N < 2000000000) {k : Nat} {wst : Bool} {wat sh : Int} (hk : (k : Int) < 4 + W 8) (hwa : -1 ≤ wat ∧ wat < 54) (hsh : 0 ≤ sh ∧ sh ≤ 100000) (tb : TB W S V m Tp RC τ) (h : Cv W (S 0) RC N τ) {x y : Nat} (hx : (x : Int) < W 0) (hy : (y : Int) < W 1) {t : Int} (h0 : 0 ≤ t) (h1 : t ≤ 1900000000) : Ok ((T_asks (i32 (k : Int)) (bi wst) (i32 wat) (i32 sh) τ).bind fun τ1 => T_worthFrom nf 20 (i32 x) (i32 y) (i32 t) τ1) fun p => p.1 = i32 (vT W (S 0) k (goR RC) wst false wat sh x y (t % W 9)) ∧ Cc W k wst wat sh (vT W (S 0) k (goR RC) wst false wat sh) p.2 ∧ Tz τ p.2 ∧ Cv W (S 0) RC (N + 1) p.2 := by
  have w8 := hW.2.2.2.2.2.2.2.2.1
  refine ok_b (t_asks hW hN (show k ≤ 7 by omega) hwa hsh h) fun τ1 h1' => ?_
  obtain ⟨c1, z1, v1⟩ := h1'
  refine ok_w (t_from hn hW hS hE hk hwa hsh vT_VS (dsA W x y) 20 x y hx hy rfl (by have := ds_b (x := x) (y := y) hW; omega) t τ1 h0 h1 (tb.q z1.q) c1) fun p hp => ?_
  exact ⟨hp.1, hp.2.1, z1.tr (Tz.w hp.2.2), v1.of (by omega) hwa hsh hp.2.2 hp.2.1⟩
/-- the same, before what comes next -/
theorem t_asksE (hW : TW W) (hN : N < 2000000000) {k : Nat} {wst : Bool} {wat sh : Int} (hk : k ≤ 7) (hwa : -1 ≤ wat ∧ wat < 54) (hsh : 0 ≤ sh ∧ sh ≤ 100000) (h : Cv W σ RC N τ) {a1 a2 a3 a4 : Int32} (e1 : a1 = i32 (k : Int)) (e2 : a2 = bi wst) (e3 : a3 = i32 wat) (e4 : a4 = i32 sh) : Ok (T_asks a1 a2 a3 a4 τ) fun τ' => Cc W k wst wat sh (vT W σ k (goR RC) wst false wat sh) τ' ∧ Tz τ τ' ∧ Cv W σ RC (N + 1) τ' := by
  rw [e1, e2, e3, e4]
  exact t_asks hW hN hk hwa hsh h
theorem t_askK {β : Type} {K : Int32 → TS → Option β} {Q : β → Prop} (hn : 1200 ≤ nf) (hW : TW W) (hS : SW W T (S 0)) (hE : ExA W RC) (hN : N < 2000000000) {k : Nat} {wst : Bool} {wat sh : Int} (hk : (k : Int) < 4 + W 8) (hwa : -1 ≤ wat ∧ wat < 54) (hsh : 0 ≤ sh ∧ sh ≤ 100000) (tb : TB W S V m Tp RC τ) (h : Cv W (S 0) RC N τ) {x y : Nat} (hx : (x : Int) < W 0) (hy : (y : Int) < W 1) {t : Int} (h0 : 0 ≤ t) (h1 : t ≤ 1900000000) {a1 a2 a3 a4 a5 a6 a7 : Int32} (e1 : a1 = i32 (k : Int)) (e2 : a2 = bi wst) (e3 : a3 = i32 wat) (e4 : a4 = i32 sh) (e5 : a5 = i32 (x : Int)) (e6 : a6 = i32 (y : Int)) (e7 : a7 = i32 t) (kk : ∀ v τ2, v = i32 (vT W (S 0) k (goR RC) wst false wat sh x y (t % W 9)) → Cc W k wst wat sh (vT W (S 0) k (goR RC) wst false wat sh) τ2 → Tz τ τ2 → Cv W (S 0) RC (N + 1) τ2 → Ok (K v τ2) Q) : Ok ((T_asks a1 a2 a3 a4 τ).bind fun τ1 => bd2 (T_worthFrom nf 20 a5 a6 a7 τ1) K) Q := by
  rw [e1, e2, e3, e4, e5, e6, e7]
  have w8 := hW.2.2.2.2.2.2.2.2.1
  refine ok_b (t_asks hW hN (show k ≤ 7 by omega) hwa hsh h) fun τ1 h1' => ?_
  obtain ⟨c1, z1, v1⟩ := h1'
  refine ok_2 (t_from hn hW hS hE hk hwa hsh vT_VS (dsA W x y) 20 x y hx hy rfl (by have := ds_b (x := x) (y := y) hW; omega) t τ1 h0 h1 (tb.q z1.q) c1) fun v τ2 hp => ?_
  exact kk v τ2 hp.1 hp.2.1 (z1.tr (Tz.w hp.2.2)) (v1.of (by omega) hwa hsh hp.2.2 hp.2.1)
theorem t_mean (hn : 1200 ≤ nf) (hW : TW W) (hS : SW W T (S 0)) (hE : ExA W RC) (hN : N < 2000000000) (tb : TB W S V m Tp RC τ) (h : Cv W (S 0) RC N τ) {k x y t : Int} (hk : ok32 k) (hx : ok32 x) (hy : ok32 y) (ht : ok32 t) : Ok (T_mean nf (i32 k) (i32 x) (i32 y) (i32 t) τ) fun p => p.1 = i32 (mnV W (S 0) RC false k x y t) ∧ Tq τ p.2 ∧ Cv W (S 0) RC (N + 1) p.2 := by
  have w0 := hW.1
  have w1 := hW.2.1
  have w8 := hW.2.2.2.2.2.2.2.2.1
  unfold T_mean
  rw [nm_eq]
  have q0 := tk_z τ
  have tb1 := tb.q q0.1
  have c1 := h.k q0
  generalize sI τ 0 0 = τ1 at q0 tb1 c1 ⊢
  refine ok_be (t_isGoer hW tb1.1 hk) ?_
  unfold mnV
  by_cases q1 : 0 ≤ k ∧ k ≤ 3 + W 8
  · rw [decide_eq_true q1, if_neg (show ¬ bi true = (0 : Int32) by decide)]
    refine ok_be (s_isPlace hW tb1.1 hx hy ht) ?_
    by_cases q2 : ((0 ≤ x ∧ x < W 0) ∧ 0 ≤ y ∧ y < W 1) ∧ 0 ≤ t ∧ t ≤ 1000000
    · rw [decide_eq_true q2, if_neg (show ¬ bi true = (0 : Int32) by decide), if_pos ⟨q1, q2⟩, toI q1.1, toI q2.1.1.1, toI q2.1.2.1]
      refine t_askK (k := k.toNat) (wst := false) (wat := -1) (sh := 0) hn hW hS hE hN (by omega) (by omega) (by omega) tb1 c1 (x := x.toNat) (y := y.toNat) (by omega) (by omega) q2.2.1 (by omega) rfl rfl rfl rfl rfl rfl rfl fun v τ2 v1 v2 v3 v4 => ?_
      exact ok_s ⟨v1, q0.1.tr v3.q, v4⟩
    · rw [decide_eq_false q2, if_pos (show bi false = (0 : Int32) from rfl), if_neg (fun z => q2 z.2)]
      exact ok_s ⟨rfl, q0.1, c1.le (by omega)⟩
  · rw [decide_eq_false q1, if_pos (show bi false = (0 : Int32) from rfl), if_neg (fun z => q1 z.1)]
    exact ok_s ⟨rfl, q0.1, c1.le (by omega)⟩
theorem t_worst (hn : 1200 ≤ nf) (hW : TW W) (hS : SW W T (S 0)) (hE : ExA W RC) (hN : N < 2000000000) (tb : TB W S V m Tp RC τ) (h : Cv W (S 0) RC N τ) {k x y t : Int} (hk : ok32 k) (hx : ok32 x) (hy : ok32 y) (ht : ok32 t) : Ok (T_worst nf (i32 k) (i32 x) (i32 y) (i32 t) τ) fun p => p.1 = i32 (mnV W (S 0) RC true k x y t) ∧ Tq τ p.2 ∧ Cv W (S 0) RC (N + 1) p.2 := by
  have w0 := hW.1
  have w1 := hW.2.1
  have w8 := hW.2.2.2.2.2.2.2.2.1
  unfold T_worst
  rw [nm_eq]
  have q0 := tk_z τ
  have tb1 := tb.q q0.1
  have c1 := h.k q0
  generalize sI τ 0 0 = τ1 at q0 tb1 c1 ⊢
  refine ok_be (t_isGoer hW tb1.1 hk) ?_
  unfold mnV
  by_cases q1 : 0 ≤ k ∧ k ≤ 3 + W 8
  · rw [decide_eq_true q1, if_neg (show ¬ bi true = (0 : Int32) by decide)]
    refine ok_be (s_isPlace hW tb1.1 hx hy ht) ?_
    by_cases q2 : ((0 ≤ x ∧ x < W 0) ∧ 0 ≤ y ∧ y < W 1) ∧ 0 ≤ t ∧ t ≤ 1000000
    · rw [decide_eq_true q2, if_neg (show ¬ bi true = (0 : Int32) by decide), if_pos ⟨q1, q2⟩, toI q1.1, toI q2.1.1.1, toI q2.1.2.1]
      refine t_askK (k := k.toNat) (wst := true) (wat := -1) (sh := 0) hn hW hS hE hN (by omega) (by omega) (by omega) tb1 c1 (x := x.toNat) (y := y.toNat) (by omega) (by omega) q2.2.1 (by omega) rfl rfl rfl rfl rfl rfl rfl fun v τ2 v1 v2 v3 v4 => ?_
      exact ok_s ⟨v1, q0.1.tr v3.q, v4⟩
    · rw [decide_eq_false q2, if_pos (show bi false = (0 : Int32) from rfl), if_neg (fun z => q2 z.2)]
      exact ok_s ⟨rfl, q0.1, c1.le (by omega)⟩
  · rw [decide_eq_false q1, if_pos (show bi false = (0 : Int32) from rfl), if_neg (fun z => q1 z.1)]
    exact ok_s ⟨rfl, q0.1, c1.le (by omega)⟩
theorem t_gap (hn : 1200 ≤ nf) (hW : TW W) (hS : SW W T (S 0)) (hE : ExA W RC) (hN : N < 1900000000) (tb : TB W S V m Tp RC τ) (h : Cv W (S 0) RC N τ) {x y t : Int} (hx : ok32 x) (hy : ok32 y) (ht : ok32 t) : Ok (T_gap nf (i32 x) (i32 y) (i32 t) τ) fun p => p.1 = i32 (gpV W (S 0) RC x y t) ∧ Tq τ p.2 ∧ Cv W (S 0) RC (N + 2) p.2 := by
  have w0 := hW.1
  have w1 := hW.2.1
  have w8 := hW.2.2.2.2.2.2.2.2.1
  have m2 := mnV_b (RC := RC) (wst := false) (σ := S 0) (k := 2) (x := x) (y := y) (t := t) hW
  have m3 := mnV_b (RC := RC) (wst := false) (σ := S 0) (k := 3) (x := x) (y := y) (t := t) hW
  unfold T_gap
  rw [nm_eq]
  have q0 := tk_z τ
  have tb1 := tb.q q0.1
  have c1 := h.k q0
  generalize sI τ 0 0 = τ1 at q0 tb1 c1 ⊢
  refine ok_be (s_isPlace hW tb1.1 hx hy ht) ?_
  unfold gpV
  by_cases q2 : ((0 ≤ x ∧ x < W 0) ∧ 0 ≤ y ∧ y < W 1) ∧ 0 ≤ t ∧ t ≤ 1000000
  · have em : ∀ k : Nat, k < 4 → mnV W (S 0) RC false k x y t = vT W (S 0) k (goR RC) false false (-1) 0 x.toNat y.toNat (t % W 9) := fun k hk => by
      unfold mnV
      rw [if_pos ⟨⟨by omega, by omega⟩, q2⟩, Int.toNat_natCast]
      rfl
    have e2 := em 2 (by omega)
    have e3 := em 3 (by omega)
    rw [decide_eq_true q2, if_neg (show ¬ bi true = (0 : Int32) by decide), toI q2.1.1.1, toI q2.1.2.1]
    rw [show ((2 : Nat) : Int) = 2 from rfl] at e2
    rw [show ((3 : Nat) : Int) = 3 from rfl] at e3
    refine t_askK (k := 2) (wst := false) (wat := -1) (sh := 0) hn hW hS hE (by omega) (by omega) (by omega) (by omega) tb1 c1 (x := x.toNat) (y := y.toNat) (by omega) (by omega) q2.2.1 (by omega) rfl rfl rfl rfl rfl rfl rfl fun v τ2 v1 v2 v3 v4 => ?_
    refine t_askK (k := 3) (wst := false) (wat := -1) (sh := 0) hn hW hS hE (by omega) (by omega) (by omega) (by omega) (tb1.q v3.q) v4 (x := x.toNat) (y := y.toNat) (by omega) (by omega) q2.2.1 (by omega) rfl rfl rfl rfl rfl rfl rfl fun u τ3 u1 u2 u3 u4 => ?_
    rw [← e2] at v1
    rw [← e3] at u1
    have fq := (q0.1.tr v3.q).tr u3.q
    have cv := u4
    rw [show N + 1 + 1 = N + 2 by omega] at cv
    rw [v1, u1, show (0 : Int32) = i32 0 from rfl]
    refine ok_lt ⟨by omega, by omega⟩ ⟨by omega, by omega⟩ (fun q => ?_) (fun q => ?_)
    · rw [if_pos q]
      exact ok_s ⟨rfl, fq, cv⟩
    · rw [if_neg (show ¬ mnV W (S 0) RC false 2 x y t < 0 by omega)]
      refine ok_le ⟨by omega, by omega⟩ ⟨by omega, by omega⟩ (fun q3 => ?_) (fun q3 => ?_)
      · rw [if_pos q3, i32_sub]
        exact ok_s ⟨rfl, fq, cv⟩
      · rw [if_neg (show ¬ 0 ≤ mnV W (S 0) RC false 3 x y t by omega)]
        exact ok_s ⟨rfl, fq, cv⟩
  · have e2 : mnV W (S 0) RC false 2 x y t = -1 := by unfold mnV; rw [if_neg (fun z => q2 z.2)]
    rw [decide_eq_false q2, if_pos (show bi false = (0 : Int32) from rfl), e2, if_pos (by decide)]
    exact ok_s ⟨rfl, q0.1, c1.le (by omega)⟩
theorem wyT_bw {rv : Nat → Int → Int → Int → Int → Bool} {R : Nat → Nat → Int → Int} {x y : Nat} {t lt : Int} : wyT W 3 rv 1000 R x y t lt = bwV W R x y t lt := by
  unfold wyT bwV
  rw [if_pos rfl]
/-- the best's reach from a corner doesn't hang on the light -/
theorem bw_rc (hW : TW W) {rv : Nat → Int → Int → Int → Int → Bool} {R : Nat → Nat → Int → Int} (hV : VS W σ 3 rv false false (-1) 0 R) {x y : Nat} (hx : (x : Int) < W 0) (hy : (y : Int) < W 1) (hh : hmA W x y = false) {t t' lt : Int} (h0 : 0 ≤ t') (h1 : t' < W 9) : bwV W R x y t lt < 0 ↔ R x y t' < 0 := by
  have w0 := hW.1
  have w1 := hW.2.1
  have hd : dsA W x y ≠ 0 := fun z => by
    unfold dsA at z
    have : hmA W x y = true := by unfold hmA; exact decide_eq_true (by omega)
    rw [hh] at this
    cases this
  obtain ⟨n, hn⟩ : ∃ n, dsA W x y = n + 1 := ⟨dsA W x y - 1, by omega⟩
  have hr := VS_rc hW hV (n + 1) x y t' hx hy h0 h1 hn
  have hR : ∀ w, cgA W x y w = true → ∀ t', (0 ≤ R (nx w x) (ny w y) (t' % W 9) ↔ rcA W n (nx w x) (ny w y) = true) := fun w hw t' => by
    have := th_in (cg_ev hw).1 hx hy
    exact VS_rc hW hV n _ _ _ this.1 this.2.1 (wtN_ev hW).1 (wtN_ev hW).2 (by omega)
  have e0 : 0 ≤ byN W 1000 R x y false t (wtN W x y false lt) ↔ (cgA W x y false && rcA W n (x + 1) y) = true := rc_byN (sc := 1000) (t := t) (lt := lt) hW (by omega) hx hy (hR false)
  have e1 : 0 ≤ byN W 1000 R x y true t (wtN W x y true lt) ↔ (cgA W x y true && rcA W n x (y + 1)) = true := rc_byN (sc := 1000) (t := t) (lt := lt) hW (by omega) hx hy (hR true)
  have er : rcA W (n + 1) x y = ((cgA W x y false && rcA W n (x + 1) y) || (cgA W x y true && rcA W n x (y + 1))) := rfl
  rw [er, Bool.or_eq_true_iff, ← e0, ← e1] at hr
  unfold bwV
  split
  · constructor <;> intro z <;> omega
  · split
    · constructor <;> intro z <;> omega
    · constructor <;> intro z <;> omega
theorem wt_per (hW : TW W) {x y : Nat} {w : Bool} {t : Int} (hx : x < 6) (hy : y < 9) : wtN W x y w (t % W 9) = wtN W x y w t := by
  unfold wtN wtA
  split
  · split
    · rfl
    · rename_i q1 q2
      cases ht : tmA W x y with
      | false => rfl
      | true =>
        have hk := of_decide_eq_true ht
        obtain ⟨l1, l2, l3, l4⟩ := ltA_b hW hx hy (by omega)
        have hd := l4 (by omega)
        have ep : phA W x y (t % W 9) = phA W x y t := by
          unfold phA
          obtain ⟨c, hc⟩ := Int.dvd_of_emod_eq_zero hd
          have e := Int.emod_add_mul_ediv t (W 9)
          have e2 : t - ltA W x y 2 = (t % W 9 - ltA W x y 2) + ltA W x y 1 * (c * (t / W 9)) := by
            rw [← Int.mul_assoc, ← hc]
            omega
          rw [e2, Int.add_mul_emod_self_left]
        unfold grA
        rw [ep]
  · rfl
theorem bw_per (hW : TW W) {R : Nat → Nat → Int → Int} {x y : Nat} {t lt : Int} (hx : (x : Int) < W 0) (hy : (y : Int) < W 1) : bwV W R x y (t % W 9) lt = bwV W R x y t lt := by
  have e : ∀ w, byN W 1000 R x y w (t % W 9) (wtN W x y w lt) = byN W 1000 R x y w t (wtN W x y w lt) := fun w => by
    unfold byN
    rw [Int.emod_add_emod]
  unfold bwV
  rw [e, e]
theorem bw_perl (hW : TW W) {R : Nat → Nat → Int → Int} {x y : Nat} {t lt : Int} (hx : (x : Int) < W 0) (hy : (y : Int) < W 1) : bwV W R x y t (lt % W 9) = bwV W R x y t lt := by
  have w0 := hW.1
  have w1 := hW.2.1
  unfold bwV
  rw [wt_per hW (by omega) (by omega), wt_per hW (by omega) (by omega)]
theorem t_choice (hn : 1200 ≤ nf) (hW : TW W) (hS : SW W T (S 0)) (hE : ExA W RC) (hN : N < 1900000000) (tb : TB W S V m Tp RC τ) (h : Cv W (S 0) RC N τ) {x y t a : Int} (hx : ok32 x) (hy : ok32 y) (ht : ok32 t) (ha : ok32 a) : Ok (T_choice nf (i32 x) (i32 y) (i32 t) (i32 a) τ) fun p => p.1 = i32 (chV W (S 0) RC x y t a) ∧ Tq τ p.2 ∧ Cv W (S 0) RC (N + 1) p.2 := by
  have w0 := hW.1
  have w1 := hW.2.1
  have w8 := hW.2.2.2.2.2.2.2.2.1
  have w9 := hW.2.2.2.2.2.2.2.2.2.1
  have hm := wtN_ev hW (t := t)
  unfold T_choice chV
  rw [nm_eq]
  have q0 := tk_z τ
  have tb1 := tb.q q0.1
  have c1 := h.k q0
  generalize sI τ 0 0 = τ1 at q0 tb1 c1 ⊢
  refine ok_b (t_asksE (k := 3) (wst := false) (wat := -1) (sh := 0) hW (by omega) (by omega) (by omega) (by omega) c1 rfl rfl rfl rfl) fun τ2 h2 => ?_
  obtain ⟨cc, z2, cv2⟩ := h2
  have tb2 := tb1.q z2.q
  have f2 := q0.1.tr z2.q
  refine ok_be (s_isPlace hW tb2.1 hx hy ht) ?_
  by_cases q2 : ((0 ≤ x ∧ x < W 0) ∧ 0 ≤ y ∧ y < W 1) ∧ 0 ≤ t ∧ t ≤ 1000000
  · rw [decide_eq_true q2, if_neg (show ¬ bi true = (0 : Int32) by decide), if_pos q2]
    obtain ⟨xn, exn⟩ : ∃ xn : Nat, x = xn := ⟨x.toNat, by omega⟩
    obtain ⟨yn, eyn⟩ : ∃ yn : Nat, y = yn := ⟨y.toNat, by omega⟩
    subst exn
    subst eyn
    rw [Int.toNat_natCast, Int.toNat_natCast]
    refine ok_be (s_isHome hW tb2.1 (by omega) (by omega)) ?_
    cases qh : hmA W xn yn with
    | true =>
      rw [if_neg (show ¬ bi true = (0 : Int32) by decide), if_pos rfl]
      exact ok_s ⟨rfl, f2, cv2⟩
    | false =>
      rw [if_pos (show bi false = (0 : Int32) from rfl), if_neg (show ¬ false = true by decide)]
      have eu : ∀ τ, TB W S V m Tp RC τ → tI τ 29 = i32 (-1) → T_isUnknown τ (i32 xn) (i32 yn) = some (bi (unA W (S 0) (6 * yn + xn))) := fun τ tb e => by
        have := s_isUnknown tb (x := xn) (y := yn) (by omega) (by omega) hW hS (w := -1) ⟨by omega, by omega⟩ e
        rw [this]
        congr 2
        cases unA W (S 0) (6 * yn + xn) with
        | false => exact decide_eq_false (fun z => by cases z.1)
        | true => exact decide_eq_true ⟨rfl, by omega⟩
      have hV := vT_VS (W := W) (σ := S 0) (k := 3) (rv := goR RC) (wst := false) (told := false) (wat := -1) (sh := 0)
      have hR := VS_Rb hW hV
      have go : ∀ lt, 0 ≤ lt → lt ≤ 1000000 → (lt = if unA W (S 0) (6 * yn + xn) = true then a else t) → Ok (T_choice_b61 nf (i32 xn) (i32 yn) (i32 t) (i32 a) τ2) fun p => p.1 = i32 (bwV W (vG W (S 0) RC 3 false) xn yn t lt) ∧ Tq τ p.2 ∧ Cv W (S 0) RC (N + 1) p.2 := fun lt l0 l1 hlt => by
        unfold T_choice_b61
        rw [show (9 : Int32) = i32 ((9 : Nat) : Int) from rfl, s_ld τ2 tb2.1 (by omega)]
        refine ok_d32 (by omega) (by omega) ?_
        rw [nm_eq, rem_c q2.2.1 (by omega) (by omega) (by omega)]
        refine ok_2 (t_from hn hW hS hE (k := 3) (wat := -1) (sh := 0) (by omega) (by omega) (by omega) hV (dsA W xn yn) 20 xn yn q2.1.1.2 q2.1.2.2 rfl (by have := ds_b (x := xn) (y := yn) hW; omega) t τ2 q2.2.1 (by omega) tb2 cc) fun v τ3 hv => ?_
        obtain ⟨v1, v2, v3⟩ := hv
        have v1 : v = _ := v1
        have tb3 := tb2.q v3.q'
        have f3 := f2.tr v3.q'
        have cv3 : Cv W (S 0) RC (N + 1) τ3 := cv2.of (k := 3) (wst := false) (by omega) (by omega) (by omega) v3 v2
        have hb := hR xn yn t q2.1.1.2 q2.1.2.2
        have hrc := bw_rc (σ := S 0) hW hV q2.1.1.2 q2.1.2.2 qh (t := t) (t' := t % W 9) (lt := lt) hm.1 hm.2
        rw [v1, show (0 : Int32) = i32 0 from rfl]
        refine ok_le ⟨by omega, by omega⟩ ⟨by omega, by omega⟩ (fun q => ?_) (fun q => ?_)
        · refine ok_be (eu τ3 tb3 v2.2.2.1) ?_
          have hrn : (3 : Nat) = 3 → RcN W S V m Tp RC 3 false (-1) 0 (vT W (S 0) 3 (goR RC) false false (-1) 0) (T_worthFrom nf 20) xn yn := fun _ w hw => by
            have := th_in hw q2.1.1.2 q2.1.2.2
            exact t_from hn hW hS hE (k := 3) (wat := -1) (sh := 0) (by omega) (by omega) (by omega) hV _ 20 _ _ this.1 this.2.1 rfl (by have := ds_b (x := nx w xn) (y := ny w yn) hW; omega)
          cases qu : unA W (S 0) (6 * yn + xn) with
          | false =>
            rw [qu, if_neg (by decide)] at hlt
            rw [if_pos (show bi false = (i32 0 : Int32) from rfl)]
            refine ok_2 (t_wayOf hn hW hR hE (k := 3) (by omega) q2.1.1.2 q2.1.2.2 hrn hm.1 (by omega) hm.1 (by omega) tb3 v2) fun u τ4 hu => ?_
            refine ok_s ⟨?_, f3.tr hu.2.2.q', cv3.of (k := 3) (wst := false) (by omega) (by omega) (by omega) hu.2.2 hu.2.1⟩
            have u1 : u = _ := hu.1
            show u = _
            rw [u1, hlt]
            show i32 (wyT W 3 (goR RC) 1000 _ xn yn (t % W 9) (t % W 9)) = _
            rw [wyT_bw, bw_per hW q2.1.1.2 q2.1.2.2, bw_perl hW q2.1.1.2 q2.1.2.2]
            rfl
          | true =>
            rw [qu, if_pos rfl] at hlt
            rw [if_neg (show ¬ bi true = (i32 0 : Int32) by decide), ← hlt]
            refine ok_2 (t_wayOf hn hW hR hE (k := 3) (by omega) q2.1.1.2 q2.1.2.2 hrn hm.1 (by omega) l0 (by omega) tb3 v2) fun u τ4 hu => ?_
            refine ok_s ⟨?_, f3.tr hu.2.2.q', cv3.of (k := 3) (wst := false) (by omega) (by omega) (by omega) hu.2.2 hu.2.1⟩
            have u1 : u = _ := hu.1
            show u = _
            rw [u1]
            show i32 (wyT W 3 (goR RC) 1000 _ xn yn (t % W 9) lt) = _
            rw [wyT_bw, bw_per hW q2.1.1.2 q2.1.2.2]
            rfl
        · have e1 : bwV W (vG W (S 0) RC 3 false) xn yn t lt = -1 := by
            have z := hrc.mpr q
            have z : bwV W (vG W (S 0) RC 3 false) xn yn t lt < 0 := z
            unfold bwV at z ⊢
            split
            · rfl
            · rename_i q4
              rw [if_neg q4] at z
              split at z <;> omega
          rw [e1]
          exact ok_s ⟨rfl, f3, cv3⟩
      refine ok_be (eu τ2 tb2 cc.2.2.1) ?_
      cases qu : unA W (S 0) (6 * yn + xn) with
      | false =>
        rw [if_pos (show bi false = (0 : Int32) from rfl), if_neg (show ¬ false = true by decide)]
        exact go t q2.2.1 q2.2.2 (by rw [qu]; rfl)
      | true =>
        rw [if_neg (show ¬ bi true = (0 : Int32) by decide), if_pos rfl]
        have hr := un_rd hW (c := 6 * yn + xn) (by omega) qu
        have el : T_lightAt τ2 (i32 xn) (i32 yn) 1 = some (i32 (W (11 + 4 * (6 * yn + xn)))) := by
          have := s_lightAt (what := 1) tb2.1 (x := xn) (y := yn) (by omega) (by omega) (by omega)
          unfold ltA at this
          rw [show 10 + 4 * (6 * yn + xn) + 1 = 11 + 4 * (6 * yn + xn) by omega] at this
          exact this
        refine ok_be el ?_
        rw [show (1 : Int32) = i32 1 from rfl, i32_sub, show (0 : Int32) = i32 0 from rfl]
        refine ok_be (s_within ha ⟨by omega, by omega⟩ ⟨by omega, by omega⟩) ?_
        by_cases qa : 0 ≤ a ∧ a ≤ W (11 + 4 * (6 * yn + xn)) - 1
        · rw [decide_eq_true qa, if_neg (show ¬ bi true = (i32 0 : Int32) by decide), if_pos qa]
          exact go a qa.1 (by omega) (by rw [qu]; rfl)
        · rw [decide_eq_false qa, if_pos (show bi false = (i32 0 : Int32) from rfl), if_neg qa]
          exact ok_s ⟨rfl, f2, cv2⟩
  · rw [decide_eq_false q2, if_pos (show bi false = (0 : Int32) from rfl), if_neg q2]
    exact ok_s ⟨rfl, f2, cv2⟩
end TYS
