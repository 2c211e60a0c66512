/-! LAYER 2: what it takes by goers: the plain law -/
set_option maxRecDepth 100000
/-- which way a goer (not the best) goes, when he can go one; true: on -/
def gsel (k : Nat) (rv : Nat → Int → Int → Int → Int → Bool) (a b l u : Int) : Bool := if a < 0 then true else if b < 0 then false else if k = 0 then false else if k = 1 then true else if k = 2 then decide (b < a) else rv (k - 4) a b l u
def wtN (W : Nat → Int) (x y : Nat) (w : Bool) (t : Int) : Int := if cgA W x y w = true then wtA W x y w t else -1
def nx (w : Bool) (x : Nat) : Nat := if w = true then x else x + 1
def ny (w : Bool) (y : Nat) : Nat := if w = true then y + 1 else y
def byN (W : Nat → Int) (sc : Int) (R : Nat → Nat → Int → Int) (x y : Nat) (w : Bool) (t wt : Int) : Int := if wt < 0 then -1 else if R (nx w x) (ny w y) ((t + (wt + W 2)) % W 9) < 0 then -1 else (wt + W 2) * sc + R (nx w x) (ny w y) ((t + (wt + W 2)) % W 9)
def lfA (W : Nat → Int) (x : Nat) : Int := W 0 - 1 - x
def upA (W : Nat → Int) (y : Nat) : Int := W 1 - 1 - y
/-- the best way, by what both take: on -/
def btr (a b : Int) : Bool := decide (a < 0 ∨ (0 ≤ b ∧ b < a))
/-- what one takes with the light at a second -/
def snN (W : Nat → Int) (k : Nat) (rv : Nat → Int → Int → Int → Int → Bool) (sc : Int) (R : Nat → Nat → Int → Int) (x y : Nat) (t lt : Int) : Int := if k = 3 then (if btr (byN W sc R x y false t (wtN W x y false lt)) (byN W sc R x y true t (wtN W x y true lt)) = true then byN W sc R x y true t (wtN W x y true lt) else byN W sc R x y false t (wtN W x y false lt)) else if wtN W x y false lt < 0 ∧ wtN W x y true lt < 0 then -1 else if gsel k rv (wtN W x y false lt) (wtN W x y true lt) (lfA W x) (upA W y) = true then byN W sc R x y true t (wtN W x y true lt) else byN W sc R x y false t (wtN W x y false lt)
def smN (f : Nat → Int) : Nat → Int
  | 0 => 0
  | n + 1 => smN f n + f n
def mxN (f : Nat → Int) : Nat → Int
  | 0 => 0
  | n + 1 => if mxN f n < f n then f n else mxN f n
def anyN (f : Nat → Int) : Nat → Bool
  | 0 => false
  | n + 1 => anyN f n || decide (f n < 0)
def hdN (wst : Bool) (f : Nat → Int) (n : Nat) : Int := if anyN f n = true then -1 else if wst = true then mxN f n else smN f n / (n : Int)
def scN (wst : Bool) : Int := if wst = true then 1 else 1000
/-- one corner -/
def stN (W σ : Nat → Int) (k : Nat) (rv : Nat → Int → Int → Int → Int → Bool) (wst told : Bool) (wat sh : Int) (R : Nat → Nat → Int → Int) (x y : Nat) (t : Int) : Int := if ((6 * y + x : Nat) : Int) = wat then snN W k rv (scN wst) R x y t (t + sh) else if told = false ∧ unA W σ (6 * y + x) = true then hdN wst (fun s => snN W k rv (scN wst) R x y t s) (W (11 + 4 * (6 * y + x))).toNat else snN W k rv (scN wst) R x y t t
/-- all corners -/
def VS (W σ : Nat → Int) (k : Nat) (rv : Nat → Int → Int → Int → Int → Bool) (wst told : Bool) (wat sh : Int) (V : Nat → Nat → Int → Int) : Prop := ∀ (x y : Nat) (t : Int), (x : Int) < W 0 → (y : Int) < W 1 → 0 ≤ t → t < W 9 → V x y t = if hmA W x y = true then 0 else stN W σ k rv wst told wat sh V x y t
def dsA (W : Nat → Int) (x y : Nat) : Nat := (W 0 - 1 - x).toNat + (W 1 - 1 - y).toNat
/-- there is such a table -/
def vN (W σ : Nat → Int) (k : Nat) (rv : Nat → Int → Int → Int → Int → Bool) (wst told : Bool) (wat sh : Int) : Nat → Nat → Nat → Int → Int
  | 0, _, _, _ => 0
  | n + 1, x, y, t => stN W σ k rv wst told wat sh (vN W σ k rv wst told wat sh n) x y t
def vT (W σ : Nat → Int) (k : Nat) (rv : Nat → Int → Int → Int → Int → Bool) (wst told : Bool) (wat sh : Int) : Nat → Nat → Int → Int := fun x y t => vN W σ k rv wst told wat sh (dsA W x y) x y t
theorem th_in {W : Nat → Int} {x y : Nat} {w : Bool} (h : thA W x y w = true) (hx : (x : Int) < W 0) (hy : (y : Int) < W 1) : (nx w x : Int) < W 0 ∧ (ny w y : Int) < W 1 ∧ dsA W x y = dsA W (nx w x) (ny w y) + 1 := by
  unfold thA at h
  unfold nx ny dsA
  cases w with
  | true =>
    rw [if_pos rfl] at h
    have h := of_decide_eq_true h
    simp only [if_true]
    refine ⟨hx, by omega, by omega⟩
  | false =>
    rw [if_neg (by decide)] at h
    have h := of_decide_eq_true h
    simp only [Bool.false_eq_true, if_false]
    refine ⟨by omega, hy, by omega⟩
theorem wtN_cg {W : Nat → Int} {x y : Nat} {w : Bool} {t : Int} (h : ¬ wtN W x y w t < 0) : cgA W x y w = true := by
  unfold wtN at h
  by_cases q : cgA W x y w = true
  · exact q
  · rw [if_neg q] at h
    omega
theorem wtN_b {W : Nat → Int} {x y : Nat} {w : Bool} {t : Int} (hW : TW W) (hx : (x : Int) < W 0) (hy : (y : Int) < W 1) : -1 ≤ wtN W x y w t ∧ wtN W x y w t ≤ 59 := by
  have w0 := hW.1
  have w1 := hW.2.1
  unfold wtN
  by_cases q : cgA W x y w = true
  · rw [if_pos q]
    have := wt_b (sec := t) hW (by omega) (by omega) (cg_ev q).2.2
    omega
  · rw [if_neg q]
    omega
theorem byN_congr {W : Nat → Int} {sc : Int} {R R' : Nat → Nat → Int → Int} {x y : Nat} {w : Bool} {t wt : Int} (h : ¬ wt < 0 → ∀ t', R (nx w x) (ny w y) (t' % W 9) = R' (nx w x) (ny w y) (t' % W 9)) : byN W sc R x y w t wt = byN W sc R' x y w t wt := by
  unfold byN
  by_cases q : wt < 0
  · rw [if_pos q, if_pos q]
  · rw [if_neg q, if_neg q, h q]
theorem snN_congr {W : Nat → Int} {k : Nat} {rv : Nat → Int → Int → Int → Int → Bool} {sc : Int} {R R' : Nat → Nat → Int → Int} {x y : Nat} {t lt : Int} (h : ∀ w, cgA W x y w = true → ∀ t', R (nx w x) (ny w y) (t' % W 9) = R' (nx w x) (ny w y) (t' % W 9)) : snN W k rv sc R x y t lt = snN W k rv sc R' x y t lt := by
  have e : ∀ w, byN W sc R x y w t (wtN W x y w lt) = byN W sc R' x y w t (wtN W x y w lt) := fun w => byN_congr fun q => h w (wtN_cg q)
  unfold snN
  rw [e true, e false]
theorem hdN_congr {wst : Bool} {f f' : Nat → Int} {n : Nat} (h : ∀ i, i < n → f i = f' i) : hdN wst f n = hdN wst f' n := by
  have e : ∀ j, j ≤ n → smN f j = smN f' j ∧ mxN f j = mxN f' j ∧ anyN f j = anyN f' j := by
    intro j
    induction j with
    | zero => intro _; exact ⟨rfl, rfl, rfl⟩
    | succ j ih =>
      intro hj
      obtain ⟨e1, e2, e3⟩ := ih (by omega)
      refine ⟨?_, ?_, ?_⟩
      · show smN f j + f j = smN f' j + f' j
        rw [e1, h j (by omega)]
      · show (if mxN f j < f j then f j else mxN f j) = (if mxN f' j < f' j then f' j else mxN f' j)
        rw [e2, h j (by omega)]
      · show (anyN f j || decide (f j < 0)) = (anyN f' j || decide (f' j < 0))
        rw [e3, h j (by omega)]
  obtain ⟨e1, e2, e3⟩ := e n (Nat.le_refl n)
  unfold hdN
  rw [e1, e2, e3]
theorem stN_congr {W σ : Nat → Int} {k : Nat} {rv : Nat → Int → Int → Int → Int → Bool} {wst told : Bool} {wat sh : Int} {R R' : Nat → Nat → Int → Int} {x y : Nat} {t : Int} (h : ∀ w, cgA W x y w = true → ∀ t', R (nx w x) (ny w y) (t' % W 9) = R' (nx w x) (ny w y) (t' % W 9)) : stN W σ k rv wst told wat sh R x y t = stN W σ k rv wst told wat sh R' x y t := by
  unfold stN
  rw [snN_congr h, snN_congr h, hdN_congr fun i _ => snN_congr h]
theorem vT_VS {W σ : Nat → Int} {k : Nat} {rv : Nat → Int → Int → Int → Int → Bool} {wst told : Bool} {wat sh : Int} : VS W σ k rv wst told wat sh (vT W σ k rv wst told wat sh) := by
  intro x y t hx hy h0 h1
  unfold vT
  by_cases q : hmA W x y = true
  · rw [if_pos q]
    have q := of_decide_eq_true q
    rw [show dsA W x y = 0 by unfold dsA; omega]
    rfl
  · rw [if_neg q]
    obtain ⟨n, hn⟩ : ∃ n, dsA W x y = n + 1 := by
      refine ⟨dsA W x y - 1, ?_⟩
      have : ¬ dsA W x y = 0 := by
        intro e
        apply q
        unfold hmA
        unfold dsA at e
        exact decide_eq_true (by omega)
      omega
    rw [hn]
    show stN W σ k rv wst told wat sh (vN W σ k rv wst told wat sh n) x y t = _
    refine stN_congr fun w hw t' => ?_
    have := th_in (cg_ev hw).1 hx hy
    show _ = vN W σ k rv wst told wat sh (dsA W (nx w x) (ny w y)) (nx w x) (ny w y) (t' % W 9)
    rw [show dsA W (nx w x) (ny w y) = n by omega]
theorem wtN_ev {W : Nat → Int} (hW : TW W) {t : Int} : 0 ≤ t % W 9 ∧ t % W 9 < W 9 := ⟨Int.emod_nonneg _ (by have := hW.2.2.2.2.2.2.2.2.2.1; omega), Int.emod_lt_of_pos _ (by have := hW.2.2.2.2.2.2.2.2.2.1; omega)⟩
theorem byN_b {W : Nat → Int} {sc B : Int} {R : Nat → Nat → Int → Int} {x y : Nat} {w : Bool} {t wt : Int} (hW : TW W) (hs : 1 ≤ sc ∧ sc ≤ 1000) (hw : wt ≤ 59) (hR : ¬ wt < 0 → R (nx w x) (ny w y) ((t + (wt + W 2)) % W 9) ≤ B) (hB : 0 ≤ B) : -1 ≤ byN W sc R x y w t wt ∧ byN W sc R x y w t wt ≤ B + 90 * sc := by
  have w2 := hW.2.2.1
  unfold byN
  by_cases q : wt < 0
  · rw [if_pos q]; omega
  · rw [if_neg q]
    have := hR q
    generalize R (nx w x) (ny w y) ((t + (wt + W 2)) % W 9) = r at this ⊢
    by_cases q2 : r < 0
    · rw [if_pos q2]; omega
    · rw [if_neg q2]
      have h1 : 0 ≤ (wt + W 2) * sc := Int.mul_nonneg (by omega) (by omega)
      have h2 : (wt + W 2) * sc ≤ 90 * sc := Int.mul_le_mul_of_nonneg_right (by omega) (by omega)
      omega
theorem snN_b {W : Nat → Int} {k : Nat} {rv : Nat → Int → Int → Int → Int → Bool} {sc B : Int} {R : Nat → Nat → Int → Int} {x y : Nat} {t lt : Int} (hW : TW W) (hx : (x : Int) < W 0) (hy : (y : Int) < W 1) (hs : 1 ≤ sc ∧ sc ≤ 1000) (hR : ∀ w, cgA W x y w = true → ∀ t', R (nx w x) (ny w y) (t' % W 9) ≤ B) (hB : 0 ≤ B) : -1 ≤ snN W k rv sc R x y t lt ∧ snN W k rv sc R x y t lt ≤ B + 90 * sc := by
  have e : ∀ w, -1 ≤ byN W sc R x y w t (wtN W x y w lt) ∧ byN W sc R x y w t (wtN W x y w lt) ≤ B + 90 * sc := fun w => byN_b hW hs (wtN_b hW hx hy).2 (fun q => hR w (wtN_cg q) _) hB
  have e0 := e false
  have e1 := e true
  unfold snN
  split
  · split <;> assumption
  · split
    · omega
    · split <;> assumption
theorem hdN_b {wst : Bool} {f : Nat → Int} {n : Nat} {B : Int} (hn : 0 < n) (h : ∀ i, i < n → -1 ≤ f i ∧ f i ≤ B) (hB : 0 ≤ B) : -1 ≤ hdN wst f n ∧ hdN wst f n ≤ B ∧ (anyN f n = false → 0 ≤ hdN wst f n) := by
  have e : ∀ j, j ≤ n → (anyN f j = false → 0 ≤ smN f j ∧ smN f j ≤ (j : Int) * B ∧ 0 ≤ mxN f j ∧ mxN f j ≤ B) := by
    intro j
    induction j with
    | zero => intro _ _; exact ⟨Int.le_refl 0, by show (0 : Int) ≤ ((0 : Nat) : Int) * B; simp, Int.le_refl 0, hB⟩
    | succ j ih =>
      intro hj ha
      have ha : (anyN f j || decide (f j < 0)) = false := ha
      have ha := Bool.or_eq_false_iff.mp ha
      obtain ⟨e1, e2, e3, e4⟩ := ih (by omega) ha.1
      have hj2 := h j (by omega)
      have hf := of_decide_eq_false ha.2
      refine ⟨?_, ?_, ?_, ?_⟩
      · show 0 ≤ smN f j + f j
        omega
      · show smN f j + f j ≤ ((j + 1 : Nat) : Int) * B
        rw [show ((j + 1 : Nat) : Int) = (j : Int) + 1 from rfl, Int.add_mul]
        omega
      · show 0 ≤ (if mxN f j < f j then f j else mxN f j)
        split <;> omega
      · show (if mxN f j < f j then f j else mxN f j) ≤ B
        split <;> omega
  unfold hdN
  cases ha : anyN f n with
  | true =>
    rw [if_pos rfl]
    exact ⟨by omega, by omega, fun q => by cases q⟩
  | false =>
    obtain ⟨e1, e2, e3, e4⟩ := e n (Nat.le_refl n) ha
    rw [if_neg (by decide)]
    cases wst with
    | true => rw [if_pos rfl]; exact ⟨by omega, e4, fun _ => e3⟩
    | false =>
      rw [if_neg (by decide)]
      have h1 : 0 ≤ smN f n / (n : Int) := Int.ediv_nonneg e1 (by omega)
      have h2 : smN f n / (n : Int) ≤ B := by
        apply Int.ediv_le_of_le_mul (by omega)
        rw [Int.mul_comm]
        exact e2
      exact ⟨by omega, h2, fun _ => h1⟩
theorem scN_b (wst : Bool) : 1 ≤ scN wst ∧ scN wst ≤ 1000 := by cases wst <;> unfold scN <;> decide
theorem un_rd {W σ : Nat → Int} {c : Nat} (hW : TW W) (hc : c < 54) (h : unA W σ c = true) : 1 ≤ W (11 + 4 * c) ∧ W (11 + 4 * c) ≤ 60 := by
  have h := of_decide_eq_true h
  exact ((hW.2.2.2.2.2.2.2.2.2.2.1 c hc).2 (by omega)).1
/-- a table's numbers are small -/
theorem VS_b {W σ : Nat → Int} {k : Nat} {rv : Nat → Int → Int → Int → Int → Bool} {wst told : Bool} {wat sh : Int} {V : Nat → Nat → Int → Int} (hW : TW W) (h : VS W σ k rv wst told wat sh V) : ∀ (n x y : Nat) (t : Int), (x : Int) < W 0 → (y : Int) < W 1 → 0 ≤ t → t < W 9 → dsA W x y ≤ n → -1 ≤ V x y t ∧ V x y t ≤ 90000 * (n : Int) := by
  have w0 := hW.1
  have w1 := hW.2.1
  intro n
  induction n with
  | zero =>
    intro x y t hx hy h0 h1 hd
    rw [h x y t hx hy h0 h1, if_pos (by unfold hmA; unfold dsA at hd; exact decide_eq_true (by omega))]
    omega
  | succ n ih =>
    intro x y t hx hy h0 h1 hd
    rw [h x y t hx hy h0 h1]
    by_cases q : hmA W x y = true
    · rw [if_pos q]; omega
    · rw [if_neg q]
      have hR : ∀ w, cgA W x y w = true → ∀ t', V (nx w x) (ny w y) (t' % W 9) ≤ 90000 * (n : Int) := fun w hw t' => by
        have := th_in (cg_ev hw).1 hx hy
        exact (ih _ _ _ this.1 this.2.1 (wtN_ev hW).1 (wtN_ev hW).2 (by omega)).2
      have hsc := scN_b wst
      have hb : ∀ lt, -1 ≤ snN W k rv (scN wst) V x y t lt ∧ snN W k rv (scN wst) V x y t lt ≤ 90000 * ((n + 1 : Nat) : Int) := fun lt => by
        have := snN_b (k := k) (rv := rv) (t := t) (lt := lt) hW hx hy hsc hR (by omega)
        omega
      unfold stN
      split
      · exact hb _
      · split
        · rename_i q2
          have := hdN_b (wst := wst) (f := fun s : Nat => snN W k rv (scN wst) V x y t s) (n := (W (11 + 4 * (6 * y + x))).toNat) (B := 90000 * ((n + 1 : Nat) : Int)) (by have := un_rd hW (by omega) q2.2; omega) (fun i _ => hb _) (by omega)
          exact ⟨this.1, this.2.1⟩
        · exact hb _
theorem ds_b {W : Nat → Int} {x y : Nat} (hW : TW W) : dsA W x y ≤ 13 := by
  have w0 := hW.1
  have w1 := hW.2.1
  unfold dsA
  omega
theorem VS_b13 {W σ : Nat → Int} {k : Nat} {rv : Nat → Int → Int → Int → Int → Bool} {wst told : Bool} {wat sh : Int} {V : Nat → Nat → Int → Int} (hW : TW W) (h : VS W σ k rv wst told wat sh V) {x y : Nat} {t : Int} (hx : (x : Int) < W 0) (hy : (y : Int) < W 1) (h0 : 0 ≤ t) (h1 : t < W 9) : -1 ≤ V x y t ∧ V x y t ≤ 1170000 := by
  have := VS_b hW h 13 x y t hx hy h0 h1 (ds_b hW)
  omega
/-- two tables of the same law are one; a watched light is of no matter to corners that don't come to it -/
theorem VS_one {W σ σ' : Nat → Int} {k : Nat} {rv : Nat → Int → Int → Int → Int → Bool} {wst told : Bool} {wat wat' sh sh' : Int} {V V' : Nat → Nat → Int → Int} (hW : TW W) (P : Nat → Nat → Prop) (hP : ∀ (x y : Nat) (w : Bool), P x y → thA W x y w = true → P (nx w x) (ny w y)) (h : VS W σ k rv wst told wat sh V) (h' : VS W σ' k rv wst told wat' sh' V') (hw : ∀ (x y : Nat), P x y → (x : Int) < W 0 → (y : Int) < W 1 → (((6 * y + x : Nat) : Int) = wat ∧ ((6 * y + x : Nat) : Int) = wat' ∧ sh = sh') ∨ (¬ ((6 * y + x : Nat) : Int) = wat ∧ ¬ ((6 * y + x : Nat) : Int) = wat')) (hs : ∀ c, c < 54 → unA W σ c = unA W σ' c) : ∀ (n x y : Nat) (t : Int), P x y → (x : Int) < W 0 → (y : Int) < W 1 → 0 ≤ t → t < W 9 → dsA W x y ≤ n → V x y t = V' x y t := by
  have w0 := hW.1
  have w1 := hW.2.1
  intro n
  induction n with
  | zero =>
    intro x y t hp hx hy h0 h1 hd
    have e : hmA W x y = true := by unfold hmA; unfold dsA at hd; exact decide_eq_true (by omega)
    rw [h x y t hx hy h0 h1, h' x y t hx hy h0 h1, if_pos e, if_pos e]
  | succ n ih =>
    intro x y t hp hx hy h0 h1 hd
    rw [h x y t hx hy h0 h1, h' x y t hx hy h0 h1]
    by_cases q : hmA W x y = true
    · rw [if_pos q, if_pos q]
    · rw [if_neg q, if_neg q]
      have e : stN W σ k rv wst told wat sh V x y t = stN W σ k rv wst told wat sh V' x y t := stN_congr fun w hw' t' => by
        have := th_in (cg_ev hw').1 hx hy
        exact ih _ _ _ (hP x y w hp (cg_ev hw').1) this.1 this.2.1 (wtN_ev hW).1 (wtN_ev hW).2 (by omega)
      rw [e]
      unfold stN
      rw [hs (6 * y + x) (by omega)]
      rcases hw x y hp hx hy with ⟨e1, e2, e3⟩ | ⟨e1, e2⟩
      · rw [if_pos e1, if_pos e2, e3]
      · rw [if_neg e1, if_neg e2]
/-- home is within reach of a corner, whatever the second -/
def rcA (W : Nat → Int) : Nat → Nat → Nat → Bool
  | 0, _, _ => true
  | n + 1, x, y => (cgA W x y false && rcA W n (x + 1) y) || (cgA W x y true && rcA W n x (y + 1))
theorem rc_byN {W : Nat → Int} {sc : Int} {R : Nat → Nat → Int → Int} {x y n : Nat} {w : Bool} {t lt : Int} (hW : TW W) (hs : 1 ≤ sc) (hx : (x : Int) < W 0) (hy : (y : Int) < W 1) (hR : cgA W x y w = true → ∀ t', (0 ≤ R (nx w x) (ny w y) (t' % W 9) ↔ rcA W n (nx w x) (ny w y) = true)) : (0 ≤ byN W sc R x y w t (wtN W x y w lt) ↔ (cgA W x y w && rcA W n (nx w x) (ny w y)) = true) := by
  have w0 := hW.1
  have w1 := hW.2.1
  have w2 := hW.2.2.1
  unfold byN
  by_cases q : cgA W x y w = true
  · have e := wt_b (sec := lt) hW (x := x) (y := y) (way := w) (by omega) (by omega) (cg_ev q).2.2
    have e2 : wtN W x y w lt = wtA W x y w lt := by unfold wtN; rw [if_pos q]
    have hr := hR q (t + (wtA W x y w lt + W 2))
    rw [e2, if_neg (by omega), q, Bool.true_and, ← hr]
    have h1 : 0 ≤ (wtA W x y w lt + W 2) * sc := Int.mul_nonneg (by omega) (by omega)
    split
    · constructor <;> intro z <;> omega
    · constructor <;> intro z <;> omega
  · have e2 : wtN W x y w lt = -1 := by unfold wtN; rw [if_neg q]
    rw [e2, if_pos (by omega), Bool.eq_false_iff.mpr q, Bool.false_and]
    constructor
    · intro z; omega
    · intro z; cases z
theorem anyN_of {f : Nat → Int} {n : Nat} {p : Prop} (hn : 0 < n) (h : ∀ i, i < n → (0 ≤ f i ↔ p)) : (anyN f n = false ↔ p) := by
  induction n with
  | zero => omega
  | succ n ih =>
    show (anyN f n || decide (f n < 0)) = false ↔ p
    have hf := h n (by omega)
    rcases Nat.eq_zero_or_pos n with rfl | hp
    · show (false || decide (f 0 < 0)) = false ↔ p
      rw [Bool.false_or, decide_eq_false_iff_not, ← hf]
      omega
    · have := ih hp fun i hi => h i (by omega)
      rw [Bool.or_eq_false_iff, this, decide_eq_false_iff_not, ← hf]
      constructor
      · intro z; omega
      · intro z; exact ⟨z, by omega⟩
/-- the best comes home just where home is within reach -/
theorem VS_rc {W σ : Nat → Int} {rv : Nat → Int → Int → Int → Int → Bool} {wst told : Bool} {wat sh : Int} {V : Nat → Nat → Int → Int} (hW : TW W) (h : VS W σ 3 rv wst told wat sh V) : ∀ (n x y : Nat) (t : Int), (x : Int) < W 0 → (y : Int) < W 1 → 0 ≤ t → t < W 9 → dsA W x y = n → (0 ≤ V x y t ↔ rcA W n x y = true) := by
  have w0 := hW.1
  have w1 := hW.2.1
  intro n
  induction n with
  | zero =>
    intro x y t hx hy h0 h1 hd
    rw [h x y t hx hy h0 h1, if_pos (by unfold hmA; unfold dsA at hd; exact decide_eq_true (by omega))]
    exact ⟨fun _ => rfl, fun _ => Int.le_refl 0⟩
  | succ n ih =>
    intro x y t hx hy h0 h1 hd
    rw [h x y t hx hy h0 h1, if_neg (by intro z; have z := of_decide_eq_true z; unfold dsA at hd; omega)]
    have hsc := scN_b wst
    have hR : ∀ w, cgA W x y w = true → ∀ t', (0 ≤ V (nx w x) (ny w y) (t' % W 9) ↔ rcA W n (nx w x) (ny w y) = true) := fun w hw t' => by
      have := th_in (cg_ev hw).1 hx hy
      exact ih _ _ _ this.1 this.2.1 (wtN_ev hW).1 (wtN_ev hW).2 (by omega)
    have hsn : ∀ lt, (0 ≤ snN W 3 rv (scN wst) V x y t lt ↔ rcA W (n + 1) x y = true) := fun lt => by
      have e0 := rc_byN (sc := scN wst) (t := t) (lt := lt) hW hsc.1 hx hy (hR false)
      have e1 := rc_byN (sc := scN wst) (t := t) (lt := lt) hW hsc.1 hx hy (hR true)
      unfold snN
      rw [if_pos rfl]
      show _ ↔ ((cgA W x y false && rcA W n (x + 1) y) || (cgA W x y true && rcA W n x (y + 1))) = true
      have e0 : _ ↔ (cgA W x y false && rcA W n (x + 1) y) = true := e0
      have e1 : _ ↔ (cgA W x y true && rcA W n x (y + 1)) = true := e1
      rw [Bool.or_eq_true_iff, ← e0, ← e1]
      unfold btr
      split
      · rename_i q
        have q := of_decide_eq_true q
        constructor <;> intro z <;> omega
      · rename_i q
        have q : ¬ _ := fun z => q (decide_eq_true z)
        constructor <;> intro z <;> omega
    unfold stN
    split
    · exact hsn _
    · split
      · rename_i q2
        have hr := un_rd hW (by omega) q2.2
        have ha := anyN_of (f := fun s : Nat => snN W 3 rv (scN wst) V x y t s) (n := (W (11 + 4 * (6 * y + x))).toNat) (by omega) (fun i _ => hsn i)
        rw [← ha]
        have hb : ∀ lt, -1 ≤ snN W 3 rv (scN wst) V x y t lt ∧ snN W 3 rv (scN wst) V x y t lt ≤ 1170000 + 90 * scN wst := fun lt => snN_b hW hx hy hsc (fun w hw t' => by
          have := th_in (cg_ev hw).1 hx hy
          exact (VS_b13 hW h this.1 this.2.1 (wtN_ev hW).1 (wtN_ev hW).2).2) (by omega)
        have hh := hdN_b (wst := wst) (f := fun s : Nat => snN W 3 rv (scN wst) V x y t s) (n := (W (11 + 4 * (6 * y + x))).toNat) (B := 1170000 + 90 * scN wst) (by omega) (fun i _ => hb _) (by omega)
        constructor
        · intro z
          cases q3 : anyN (fun s : Nat => snN W 3 rv (scN wst) V x y t s) (W (11 + 4 * (6 * y + x))).toNat with
          | false => rfl
          | true =>
            unfold hdN at z
            rw [q3, if_pos rfl] at z
            omega
        · exact hh.2.2
      · exact hsn _
