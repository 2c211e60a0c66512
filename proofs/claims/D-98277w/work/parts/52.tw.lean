/-! LAYER 2: the twin's worths, kept as they are asked -/
set_option maxRecDepth 100000
/-- a kept number's place -/
def wIx (x y : Nat) (t : Int) : Nat := (1200 * (6 * (y : Int) + (x : Int)) + t).toNat
theorem wIx_i {x y x' y' : Nat} {t t' : Int} (hx : x < 6) (hx' : x' < 6) (h0 : 0 ≤ t) (h1 : t < 1200) (h0' : 0 ≤ t') (h1' : t' < 1200) (e : wIx x y t = wIx x' y' t') : x = x' ∧ y = y' ∧ t = t' := by
  unfold wIx at e
  omega
/-- what is kept is the table R's -/
def Kp (W : Nat → Int) (R : Nat → Nat → Int → Int) (τ : TS) : Prop := ∀ (x y : Nat) (t : Int), (x : Int) < W 0 → (y : Int) < W 1 → 0 ≤ t → t < W 9 → tA τ 24 (wIx x y t) = tI τ 25 → tA τ 23 (wIx x y t) = i32 (R x y t)
def Cc (W : Nat → Int) (k : Nat) (wst : Bool) (wat sh : Int) (R : Nat → Nat → Int → Int) (τ : TS) : Prop := tI τ 26 = i32 (k : Int) ∧ tI τ 27 = bi wst ∧ tI τ 29 = i32 wat ∧ tI τ 30 = i32 sh ∧ (∀ i, i < 64800 → (tA τ 24 i).toInt ≤ (tI τ 25).toInt) ∧ Kp W R τ
/-- the arrays that worths change -/
abbrev Tw (τ τ' : TS) : Prop := Tm [17, 18, 23, 24] τ τ'
theorem Tw.q' {τ τ' : TS} (h : Tw τ τ') : Tq τ τ' := h.q fun j q => by
  unfold tsA at q
  cases e : [17, 18, 23, 24].contains j with
  | false => rfl
  | true =>
    simp only [List.contains_cons, Bool.or_eq_true, beq_iff_eq, List.contains_nil, or_false, Bool.false_eq_true] at e
    rcases e with rfl | rfl | rfl | rfl <;> cases q
section TWW
variable {W : Nat → Int} {S : Nat → Nat → Int} {V m Tp : Nat → Int} {RC : Nat → List (Nat × Int)} {τ : TS} {T : Int} {nf : Nat} {k : Nat} {wst : Bool} {wat sh : Int} {R : Nat → Nat → Int → Int}
theorem Cc.mv {τ' : TS} (h : Cc W k wst wat sh R τ) (q : Tm [17, 18] τ τ') : Cc W k wst wat sh R τ' := by
  unfold Cc Kp
  rw [q.1, q.1, q.1, q.1, q.1, q.2.2.2 24 rfl, q.2.2.2 23 rfl]
  exact h
theorem Tm.w {τ' : TS} (q : Tm [17, 18] τ τ') : Tw τ τ' := q.le fun j e => by
  cases e2 : [17, 18].contains j with
  | false => rfl
  | true =>
    simp only [List.contains_cons, Bool.or_eq_true, beq_iff_eq, List.contains_nil, or_false, Bool.false_eq_true] at e2
    rcases e2 with rfl | rfl <;> cases e
theorem Tm.w1 {τ' : TS} (q : Tm [18] τ τ') : Tm [17, 18] τ τ' := q.le fun j e => by
  cases e2 : [18].contains j with
  | false => rfl
  | true =>
    simp only [List.contains_cons, Bool.or_eq_true, beq_iff_eq, List.contains_nil, or_false, Bool.false_eq_true] at e2
    subst e2
    cases e
/-- the asked-for way on: what it takes from next corners -/
def RcO (W : Nat → Int) (S : Nat → Nat → Int) (V m Tp : Nat → Int) (RC : Nat → List (Nat × Int)) (k : Nat) (wst : Bool) (wat sh : Int) (R : Nat → Nat → Int → Int) (rc : Int32 → Int32 → Int32 → TS → Option (Int32 × TS)) (x y : Nat) : Prop := ∀ (t : Int) (τ : TS), 0 ≤ t → t ≤ 1900000000 → TB W S V m Tp RC τ → Cc W k wst wat sh R τ → Ok (rc (i32 x) (i32 y) (i32 t) τ) fun p => p.1 = i32 (R x y (t % W 9)) ∧ Cc W k wst wat sh R p.2 ∧ Tw τ p.2
def RcN (W : Nat → Int) (S : Nat → Nat → Int) (V m Tp : Nat → Int) (RC : Nat → List (Nat × Int)) (k : Nat) (wst : Bool) (wat sh : Int) (R : Nat → Nat → Int → Int) (rc : Int32 → Int32 → Int32 → TS → Option (Int32 × TS)) (x y : Nat) : Prop := ∀ w, thA W x y w = true → RcO W S V m Tp RC k wst wat sh R rc (nx w x) (ny w y)
theorem xy_n {x y : Nat} (w : Bool) : ((i32 (x : Int)) + 1) - wy w = i32 ((nx w x : Nat) : Int) ∧ (i32 (y : Int)) + wy w = i32 ((ny w y : Nat) : Int) := by
  cases w
  · constructor
    · show (i32 (x : Int) + i32 1) - i32 0 = _
      rw [i32_add, i32_sub]
      congr 1
    · show i32 (y : Int) + i32 0 = _
      rw [i32_add]
      congr 1
  · constructor
    · show (i32 (x : Int) + i32 1) - i32 1 = _
      rw [i32_add, i32_sub]
      congr 1
      show (x : Int) + 1 - 1 = (x : Int)
      omega
    · show i32 (y : Int) + i32 1 = _
      rw [i32_add]
      congr 1
/-- the table's numbers are small -/
def Rb (W : Nat → Int) (R : Nat → Nat → Int → Int) : Prop := ∀ (x y : Nat) (t : Int), (x : Int) < W 0 → (y : Int) < W 1 → -1 ≤ R x y (t % W 9) ∧ R x y (t % W 9) ≤ 1170000
theorem VS_Rb {σ : Nat → Int} {rv : Nat → Int → Int → Int → Int → Bool} {told : Bool} (hW : TW W) (h : VS W σ k rv wst told wat sh R) : Rb W R := fun _ _ _ hx hy => VS_b13 hW h hx hy (wtN_ev hW).1 (wtN_ev hW).2
theorem t_worthBy (hn : 100 ≤ nf) (hW : TW W) (hR : Rb W R) {rc : Int32 → Int32 → Int32 → TS → Option (Int32 × TS)} {x y : Nat} (hx : (x : Int) < W 0) (hy : (y : Int) < W 1) {w : Bool} (hw : cgA W x y w = true) (hrc : RcN W S V m Tp RC k wst wat sh R rc x y) {t lt : Int} (h0 : 0 ≤ t) (h1 : t ≤ 1800000000) (l0 : 0 ≤ lt) (l1 : lt ≤ 1900000000) (tb : TB W S V m Tp RC τ) (hc : Cc W k wst wat sh R τ) : Ok (T_worthBy nf rc (i32 x) (i32 y) (wy w) (i32 t) (i32 lt) τ) fun p => p.1 = i32 (byN W (scN wst) R x y w t (wtN W x y w lt)) ∧ Cc W k wst wat sh R p.2 ∧ Tw τ p.2 := by
  have w0 := hW.1
  have w1 := hW.2.1
  have w2 := hW.2.2.1
  have hev := (cg_ev hw).2.2
  have hb := wt_b (sec := lt) hW (x := x) (y := y) (by omega) (by omega) hev
  have ew : wtN W x y w lt = wtA W x y w lt := by unfold wtN; rw [if_pos hw]
  obtain ⟨i1, i2, -⟩ := th_in (cg_ev hw).1 hx hy
  unfold T_worthBy
  refine ok_be (s_waitFor hn hW tb.1 (by omega) (by omega) ⟨l0, l1⟩ hev) ?_
  rw [show (2 : Int32) = i32 ((2 : Nat) : Int) from rfl, s_ld τ tb.1 (by omega), nm_eq, i32_add, i32_add, (xy_n (x := x) (y := y) w).1, (xy_n (x := x) (y := y) w).2]
  refine ok_2 (hrc w (cg_ev hw).1 (t + (wtA W x y w lt + W 2)) τ (by omega) (by omega) tb hc) fun v τ1 hv => ?_
  obtain ⟨v1, v2, v3⟩ := hv
  have v1 : v = _ := v1
  have hr := hR _ _ (t + (wtA W x y w lt + W 2)) i1 i2
  rw [v1, v2.2.1]
  unfold byN
  rw [ew]
  generalize R (nx w x) (ny w y) ((t + (wtA W x y w lt + W 2)) % W 9) = r at hr ⊢
  rw [if_neg (show ¬ wtA W x y w lt < 0 by omega), show (0 : Int32) = i32 0 from rfl]
  refine ok_le ⟨by omega, by omega⟩ ⟨by omega, by omega⟩ (fun q => ?_) (fun q => ?_)
  · rw [if_neg (show ¬ r < 0 by omega)]
    cases wst with
    | true =>
      rw [if_neg (show ¬ bi true = (i32 0 : Int32) by decide), i32_add]
      refine ok_s ⟨?_, v2, v3⟩
      show i32 _ = i32 _
      congr 1
      unfold scN
      rw [if_pos rfl]
      omega
    | false =>
      rw [if_pos (show bi false = (i32 0 : Int32) from rfl), show (1000 : Int32) = i32 1000 from rfl, i32_mul, i32_add]
      refine ok_s ⟨?_, v2, v3⟩
      show i32 _ = i32 _
      congr 1
      unfold scN
      rw [if_neg (by decide)]
      omega
  · rw [if_pos (show r < 0 by omega)]
    exact ok_s ⟨rfl, v2, v3⟩
/-- the way of a goer, as the twin asks -/
def wyT (W : Nat → Int) (k : Nat) (rv : Nat → Int → Int → Int → Int → Bool) (sc : Int) (R : Nat → Nat → Int → Int) (x y : Nat) (t lt : Int) : Int := if k = 3 then (if byN W sc R x y false t (wtN W x y false lt) < 0 ∧ byN W sc R x y true t (wtN W x y true lt) < 0 then -1 else if btr (byN W sc R x y false t (wtN W x y false lt)) (byN W sc R x y true t (wtN W x y true lt)) = true then 1 else 0) else if wtN W x y false lt < 0 ∧ wtN W x y true lt < 0 then -1 else if gsel k rv (wtN W x y false lt) (wtN W x y true lt) (lfA W x) (upA W y) = true then 1 else 0
/-- every rule is an expression's codes -/
def ExA (W : Nat → Int) (RC : Nat → List (Nat × Int)) : Prop := ∀ r : Nat, (r : Int) < W 8 → ∃ s d e, exAt s d e (RC r)
theorem byN_bt (hW : TW W) (hR : Rb W R) {x y : Nat} {w : Bool} {t lt : Int} (hx : (x : Int) < W 0) (hy : (y : Int) < W 1) : -1 ≤ byN W (scN wst) R x y w t (wtN W x y w lt) ∧ byN W (scN wst) R x y w t (wtN W x y w lt) ≤ 1260000 := by
  have hs := scN_b wst
  have := byN_b (sc := scN wst) (R := R) (x := x) (y := y) (w := w) (t := t) (wt := wtN W x y w lt) (B := 1170000) hW hs (wtN_b hW hx hy).2 (fun q => by
    have e := (cg_ev (wtN_cg q)).1
    have := th_in e hx hy
    exact (hR _ _ _ this.1 this.2.1).2) (by omega)
  omega
theorem t_b66 {rc : Int32 → Int32 → Int32 → TS → Option (Int32 × TS)} {a b : Int} (ha : -1 ≤ a ∧ a ≤ 1260000) (hb : -1 ≤ b ∧ b ≤ 1260000) : T_wayOf_b66 nf rc (i32 a) (i32 b) τ = some (i32 (if a < 0 ∧ b < 0 then -1 else if btr a b = true then 1 else 0), τ) := by
  unfold T_wayOf_b66 btr
  by_cases q1 : a < 0 <;> by_cases q2 : b < 0 <;> by_cases q3 : b < a <;> simp (disch := omega) only [nrm, wps, cmps, if_pos, if_neg, eq_self, if_true, if_false, Bool.false_eq_true, decide_eq_true_eq]
theorem t_wayOf (hn : 1200 ≤ nf) (hW : TW W) (hR : Rb W R) (hE : ExA W RC) (hk : (k : Int) < 4 + W 8) {rc : Int32 → Int32 → Int32 → TS → Option (Int32 × TS)} {x y : Nat} (hx : (x : Int) < W 0) (hy : (y : Int) < W 1) (hrc : k = 3 → RcN W S V m Tp RC k wst wat sh R rc x y) {t lt : Int} (h0 : 0 ≤ t) (h1 : t ≤ 1800000000) (l0 : 0 ≤ lt) (l1 : lt ≤ 1900000000) (tb : TB W S V m Tp RC τ) (hc : Cc W k wst wat sh R τ) : Ok (T_wayOf nf rc (i32 x) (i32 y) (i32 t) (i32 lt) τ) fun p => p.1 = i32 (wyT W k (goR RC) (scN wst) R x y t lt) ∧ Cc W k wst wat sh R p.2 ∧ Tw τ p.2 := by
  have w0 := hW.1
  have w1 := hW.2.1
  have w8 := hW.2.2.2.2.2.2.2.2.1
  have a1 := wtN_b (w := false) (t := lt) hW hx hy
  have a2 := wtN_b (w := true) (t := lt) hW hx hy
  have e0 : T_canGo τ (i32 x) (i32 y) 0 = some (bi (cgA W x y false)) := s_canGo (way := false) hW tb.1 (by omega) (by omega)
  have e1 : T_canGo τ (i32 x) (i32 y) 1 = some (bi (cgA W x y true)) := s_canGo (way := true) hW tb.1 (by omega) (by omega)
  have n0 : ∀ w, cgA W x y w = false → wtN W x y w lt = -1 := fun w z => by unfold wtN; rw [if_neg (by rw [z]; decide)]
  have n1 : ∀ w, cgA W x y w = true → wtN W x y w lt = wtA W x y w lt ∧ 0 ≤ wtN W x y w lt := fun w z => by
    have := wt_b (sec := lt) hW (x := x) (y := y) (by omega) (by omega) (cg_ev z).2.2
    unfold wtN
    rw [if_pos z]
    exact ⟨rfl, this.1⟩
  unfold T_wayOf wyT
  refine ok_be e0 (ok_be e1 ?_)
  rw [hc.1, show (3 : Int32) = i32 3 from rfl]
  refine ok_q ⟨by omega, by omega⟩ ⟨by omega, by omega⟩ (fun q3 => ?_) (fun q3 => ?_)
  · have q3 : k = 3 := by omega
    rw [if_pos q3]
    have go : ∀ (a : Int) (τ1 : TS), a = byN W (scN wst) R x y false t (wtN W x y false lt) → TB W S V m Tp RC τ1 → Cc W k wst wat sh R τ1 → Tw τ τ1 → Ok (T_wayOf_b45 nf rc (i32 x) (i32 y) (i32 t) (i32 lt) (bi (cgA W x y true)) (i32 a) τ1) fun p => p.1 = i32 (if byN W (scN wst) R x y false t (wtN W x y false lt) < 0 ∧ byN W (scN wst) R x y true t (wtN W x y true lt) < 0 then -1 else if btr (byN W (scN wst) R x y false t (wtN W x y false lt)) (byN W (scN wst) R x y true t (wtN W x y true lt)) = true then 1 else 0) ∧ Cc W k wst wat sh R p.2 ∧ Tw τ p.2 := fun a τ1 ea tb1 hc1 hq1 => by
      have ba := byN_bt (wst := wst) (w := false) (t := t) (lt := lt) hW hR hx hy
      have bb := byN_bt (wst := wst) (w := true) (t := t) (lt := lt) hW hR hx hy
      rw [← ea] at ba ⊢
      unfold T_wayOf_b45
      cases q : cgA W x y true with
      | false =>
        rw [if_pos (show bi false = (0 : Int32) from rfl)]
        have eb : byN W (scN wst) R x y true t (wtN W x y true lt) = -1 := by
          unfold byN
          rw [n0 true q, if_pos (by omega)]
        rw [eb, show (-1 : Int32) = i32 (-1) from rfl, t_b66 ba ⟨by omega, by omega⟩]
        exact ok_s ⟨rfl, hc1, hq1⟩
      | true =>
        rw [if_neg (show ¬ bi true = (0 : Int32) by decide)]
        refine ok_2 (t_worthBy (w := true) (by omega) hW hR hx hy q (hrc q3) h0 h1 l0 l1 tb1 hc1) fun v τ2 hv => ?_
        have v1 : v = _ := hv.1
        rw [v1, t_b66 ba bb]
        exact ok_s ⟨rfl, hv.2.1, hq1.tr hv.2.2⟩
    cases q : cgA W x y false with
    | false =>
      rw [if_pos (show bi false = (0 : Int32) from rfl), show (-1 : Int32) = i32 (-1) from rfl]
      refine go (-1) τ ?_ tb hc Tm.rf
      unfold byN
      rw [n0 false q, if_pos (by omega)]
    | true =>
      rw [if_neg (show ¬ bi true = (0 : Int32) by decide)]
      refine ok_2 (t_worthBy (w := false) (by omega) hW hR hx hy q (hrc q3) h0 h1 l0 l1 tb hc) fun v τ2 hv => ?_
      have v1 : v = _ := hv.1
      rw [v1]
      exact go _ τ2 rfl (tb.q hv.2.2.q') hv.2.1 hv.2.2
  · have q3 : ¬ k = 3 := by omega
    rw [if_neg q3]
    unfold T_wayOf_b110
    cases qa : cgA W x y false with
    | false =>
      have ea := n0 false qa
      rw [if_pos (show bi false = (0 : Int32) from rfl), if_pos (show bi false = (0 : Int32) from rfl)]
      cases qb : cgA W x y true with
      | false =>
        have eb := n0 true qb
        rw [if_pos (show bi false = (0 : Int32) from rfl), if_pos ⟨by omega, by omega⟩]
        exact ok_s ⟨rfl, hc, Tm.rf⟩
      | true =>
        have eb := n1 true qb
        rw [if_neg (show ¬ bi true = (0 : Int32) by decide), if_neg (show ¬ (wtN W x y false lt < 0 ∧ wtN W x y true lt < 0) by omega)]
        have eg : gsel k (goR RC) (wtN W x y false lt) (wtN W x y true lt) (lfA W x) (upA W y) = true := by unfold gsel; rw [if_pos (by omega)]
        rw [eg, if_pos rfl]
        exact ok_s ⟨rfl, hc, Tm.rf⟩
    | true =>
      have ea := n1 false qa
      rw [if_neg (show ¬ bi true = (0 : Int32) by decide), if_neg (show ¬ (wtN W x y false lt < 0 ∧ wtN W x y true lt < 0) by omega)]
      cases qb : cgA W x y true with
      | false =>
        have eb := n0 true qb
        rw [if_pos (show bi false = (0 : Int32) from rfl), if_neg (show ¬ bi true = (0 : Int32) by decide)]
        have eg : gsel k (goR RC) (wtN W x y false lt) (wtN W x y true lt) (lfA W x) (upA W y) = false := by unfold gsel; rw [if_neg (by omega), if_pos (by omega)]
        rw [eg, if_neg (by decide)]
        exact ok_s ⟨rfl, hc, Tm.rf⟩
      | true =>
        have eb := n1 true qb
        rw [if_neg (show ¬ bi true = (0 : Int32) by decide)]
        have f0 : T_waitFor nf τ (i32 x) (i32 y) 0 (i32 lt) = some (i32 (wtN W x y false lt)) := by
          rw [ea.1]
          exact s_waitFor (way := false) (by omega) hW tb.1 (by omega) (by omega) ⟨l0, l1⟩ (cg_ev qa).2.2
        have f1 : T_waitFor nf τ (i32 x) (i32 y) 1 (i32 lt) = some (i32 (wtN W x y true lt)) := by
          rw [eb.1]
          exact s_waitFor (way := true) (by omega) hW tb.1 (by omega) (by omega) ⟨l0, l1⟩ (cg_ev qb).2.2
        refine ok_be f0 (ok_be f1 ?_)
        obtain ⟨a, hae⟩ : ∃ a, a = wtN W x y false lt := ⟨_, rfl⟩
        obtain ⟨c, hce⟩ : ∃ c, c = wtN W x y true lt := ⟨_, rfl⟩
        have ha : 0 ≤ a ∧ a ≤ 59 := by rw [hae]; exact ⟨ea.2, a1.2⟩
        have hcc : 0 ≤ c ∧ c ≤ 59 := by rw [hce]; exact ⟨eb.2, a2.2⟩
        rw [← hae, ← hce]
        refine ok_le ⟨by omega, by omega⟩ ⟨by omega, by omega⟩ (fun q4 => ?_) (fun q4 => ?_)
        · have h4 : 4 ≤ k := by omega
          rw [show (0 : Int32) = i32 0 from rfl]
          refine ok_sA (by omega) (by omega) (by decide) ?_
          rw [show (1 : Int32) = i32 1 from rfl]
          refine ok_sA (by omega) (by omega) (by decide) ?_
          have g1 : Tm [17, 18] τ (sA (sA τ 17 (0 : Int).toNat (i32 a)) 17 (1 : Int).toNat (i32 c)) := (Tm.sA rfl).tr (Tm.sA rfl)
          refine ok_be (s_wide (tb.q g1.w.q').1) ?_
          rw [i32_sub, i32_sub, show (2 : Int32) = i32 2 from rfl]
          refine ok_sA (by omega) (by omega) (by decide) ?_
          have g2 := g1.tr (Tm.sA (ks := [17, 18]) (k := 17) (i := (2 : Int).toNat) (v := i32 (W 0 - 1 - (x : Int))) rfl)
          refine ok_be (s_deep (tb.q g2.w.q').1) ?_
          rw [i32_sub, i32_sub]
          refine ok_sA (by omega) (by omega) (by decide) ?_
          have g3 := g2.tr (Tm.sA (ks := [17, 18]) (k := 17) (i := (3 : Int).toNat) (v := i32 (W 1 - 1 - (y : Int))) rfl)
          have hφ : ∀ j, j < 4 → tA (sA (sA (sA (sA τ 17 (0 : Int).toNat (i32 a)) 17 (1 : Int).toNat (i32 c)) 17 (2 : Int).toNat (i32 (W 0 - 1 - (x : Int)))) 17 (3 : Int).toNat (i32 (W 1 - 1 - (y : Int)))) 17 j = fcN a c (lfA W x) (upA W y) j := fun j hj => by
            unfold fcN
            rw [if_neg (show ¬ a < 0 by omega), if_neg (show ¬ c < 0 by omega)]
            simp only [tA_sA, if_true]
            unfold upd
            rcases (show j = 0 ∨ j = 1 ∨ j = 2 ∨ j = 3 by omega) with rfl | rfl | rfl | rfl <;> rfl
          generalize sA (sA (sA (sA τ 17 (0 : Int).toNat (i32 a)) 17 (1 : Int).toNat (i32 c)) 17 (2 : Int).toNat (i32 (W 0 - 1 - (x : Int)))) 17 (3 : Int).toNat (i32 (W 1 - 1 - (y : Int))) = τ3 at g3 hφ ⊢
          have tb3 := tb.q g3.w.q'
          have hc3 := hc.mv g3
          rw [hc3.1, show (280 : Int32) = i32 280 from rfl, show (4 : Int32) = i32 4 from rfl, i32_add, i32_sub, show (280 : Int) + (k : Int) - 4 = ((280 + (k - 4) : Nat) : Int) by omega, s_ld τ3 tb3.1 (by omega)]
          obtain ⟨se, de, ee, hex⟩ := hE (k - 4) (by omega)
          refine ok_2 (ru_t hex hn hφ (tb3.2.2.2.2.2.2.2 (k - 4) (by omega))) fun v τ4 hv => ?_
          have v1 : v = _ := hv.1
          have g4 := g3.tr hv.2.w1
          have eg : gsel k (goR RC) a c (lfA W x) (upA W y) = decide (ruV (RC (k - 4)) (fcN a c (lfA W x) (upA W y)) = 0) := by
            unfold gsel
            rw [if_neg (show ¬ a < 0 by omega), if_neg (show ¬ c < 0 by omega), if_neg (show ¬ k = 0 by omega), if_neg (show ¬ k = 1 by omega), if_neg (show ¬ k = 2 by omega)]
            rfl
          rw [v1, eg]
          refine ok_if (fun q5 => ?_) (fun q5 => ?_)
          · rw [decide_eq_true (show _ = (0 : Int32) from q5), if_pos rfl]
            exact ok_s ⟨rfl, hc.mv g4, g4.w⟩
          · rw [decide_eq_false (show ¬ _ = (0 : Int32) from q5), if_neg (by decide)]
            exact ok_s ⟨rfl, hc.mv g4, g4.w⟩
        · rw [show (2 : Int32) = i32 2 from rfl]
          refine ok_le ⟨by omega, by omega⟩ ⟨by omega, by omega⟩ (fun q5 => ?_) (fun q5 => ?_)
          · have ek : k = 2 := by omega
            have eg : gsel k (goR RC) a c (lfA W x) (upA W y) = decide (c < a) := by
              unfold gsel
              rw [if_neg (show ¬ a < 0 by omega), if_neg (show ¬ c < 0 by omega), if_neg (show ¬ k = 0 by omega), if_neg (show ¬ k = 1 by omega), if_pos ek]
            rw [eg]
            refine ok_lt ⟨by omega, by omega⟩ ⟨by omega, by omega⟩ (fun q6 => ?_) (fun q6 => ?_)
            · rw [decide_eq_true q6, if_pos rfl]
              exact ok_s ⟨rfl, hc, Tm.rf⟩
            · rw [decide_eq_false (by omega), if_neg (by decide)]
              exact ok_s ⟨rfl, hc, Tm.rf⟩
          · rcases (show k = 0 ∨ k = 1 by omega) with ek | ek
            · have eg : gsel k (goR RC) a c (lfA W x) (upA W y) = false := by
                unfold gsel
                rw [if_neg (show ¬ a < 0 by omega), if_neg (show ¬ c < 0 by omega), if_pos ek]
              rw [eg, if_neg (by decide)]
              exact ok_s ⟨by rw [ek]; rfl, hc, Tm.rf⟩
            · have eg : gsel k (goR RC) a c (lfA W x) (upA W y) = true := by
                unfold gsel
                rw [if_neg (show ¬ a < 0 by omega), if_neg (show ¬ c < 0 by omega), if_neg (show ¬ k = 0 by omega), if_pos ek]
              rw [eg, if_pos rfl]
              exact ok_s ⟨by rw [ek]; rfl, hc, Tm.rf⟩
theorem byN_m {sc : Int} {x y : Nat} {w : Bool} {t wt : Int} (hs : 1 ≤ sc) (h2 : 1 ≤ W 2) : -1 ≤ byN W sc R x y w t wt := by
  unfold byN
  split
  · omega
  · split
    · omega
    · have h1 : 0 ≤ (wt + W 2) * sc := Int.mul_nonneg (by omega) (by omega)
      omega
theorem wyT_sn {rv : Nat → Int → Int → Int → Int → Bool} {sc : Int} {x y : Nat} {t lt : Int} (hs : 1 ≤ sc) (h2 : 1 ≤ W 2) : (wyT W k rv sc R x y t lt = -1 ∨ wyT W k rv sc R x y t lt = 0 ∨ wyT W k rv sc R x y t lt = 1) ∧ snN W k rv sc R x y t lt = if wyT W k rv sc R x y t lt < 0 then -1 else if wyT W k rv sc R x y t lt = 1 then byN W sc R x y true t (wtN W x y true lt) else byN W sc R x y false t (wtN W x y false lt) := by
  unfold wyT snN
  by_cases q3 : k = 3
  · rw [if_pos q3, if_pos q3]
    obtain ⟨a, ha⟩ : ∃ a, a = byN W sc R x y false t (wtN W x y false lt) := ⟨_, rfl⟩
    obtain ⟨b, hb⟩ : ∃ b, b = byN W sc R x y true t (wtN W x y true lt) := ⟨_, rfl⟩
    have b1 : -1 ≤ a := by rw [ha]; exact byN_m hs h2
    have b2 : -1 ≤ b := by rw [hb]; exact byN_m hs h2
    rw [← ha, ← hb]
    unfold btr
    by_cases p1 : a < 0 <;> by_cases p2 : b < 0 <;> by_cases p3 : b < a <;> first | omega | (simp (disch := omega) only [if_pos, if_neg, if_true, if_false, decide_eq_true_eq]; done) | (simp (disch := omega) [if_pos, if_neg, p1, p2, p3]; done)
  · rw [if_neg q3, if_neg q3]
    by_cases q : wtN W x y false lt < 0 ∧ wtN W x y true lt < 0
    · rw [if_pos q, if_pos q]
      exact ⟨.inl rfl, rfl⟩
    · rw [if_neg q, if_neg q]
      cases gsel k rv (wtN W x y false lt) (wtN W x y true lt) (lfA W x) (upA W y) with
      | true => exact ⟨.inr (.inr rfl), rfl⟩
      | false => exact ⟨.inr (.inl rfl), rfl⟩
end TWW
