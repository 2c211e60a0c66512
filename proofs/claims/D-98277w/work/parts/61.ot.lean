/-! LAYER 2: odds, the twin -/
set_option maxRecDepth 100000
/-- the arrays that odds change -/
abbrev To (τ τ' : TS) : Prop := Tm [17, 18, 23, 24, 31, 32] τ τ'
theorem Tw.o' {τ τ' : TS} (h : Tw τ τ') : To τ τ' := h.le fun j e => by
  cases e2 : [17, 18, 23, 24].contains j with
  | false => rfl
  | true =>
    simp only [List.contains_cons, Bool.or_eq_true, beq_iff_eq, List.contains_nil, or_false, Bool.false_eq_true] at e2
    rcases e2 with rfl | rfl | rfl | rfl <;> cases e
theorem To.q' {τ τ' : TS} (h : To τ τ') : Tq τ τ' := h.q fun j q => by
  unfold tsA at q
  cases e : [17, 18, 23, 24, 31, 32].contains j with
  | false => rfl
  | true =>
    simp only [List.contains_cons, Bool.or_eq_true, beq_iff_eq, List.contains_nil, or_false, Bool.false_eq_true] at e
    rcases e with rfl | rfl | rfl | rfl | rfl | rfl <;> cases q
section OT
variable {W : Nat → Int} {S : Nat → Nat → Int} {V m Tp : Nat → Int} {RC : Nat → List (Nat × Int)} {τ : TS} {T N : Int} {nf : Nat} {σ : Nat → Int} {k : Nat} {sec due : Int}
def Mp (W σ : Nat → Int) (RC : Nat → List (Nat × Int)) (k : Nat) (sec due : Int) (τ : TS) : Prop := (∀ (x y : Nat) (i : Int), (x : Int) < W 0 → (y : Int) < W 1 → 0 ≤ i → i < 1171 → tA τ 32 (wIx x y i) = tI τ 33 → tA τ 31 (wIx x y i) = i32 (prV W σ RC k sec due x y i)) ∧ ∀ j, j < 64800 → (tA τ 32 j).toInt ≤ (tI τ 33).toInt
def Cd (W σ : Nat → Int) (RC : Nat → List (Nat × Int)) (k : Nat) (sec due : Int) (τ : TS) : Prop := Cc W k false (-1) 0 (vG W σ RC k false) τ ∧ tI τ 34 = i32 sec ∧ tI τ 35 = i32 due ∧ Mp W σ RC k sec due τ
theorem Cd.w {τ' : TS} (h : Cd W σ RC k sec due τ) (q : Tw τ τ') (hc : Cc W k false (-1) 0 (vG W σ RC k false) τ') : Cd W σ RC k sec due τ' := by
  refine ⟨hc, by rw [q.1]; exact h.2.1, by rw [q.1]; exact h.2.2.1, ?_⟩
  unfold Mp
  rw [q.1, q.2.2.2 31 rfl, q.2.2.2 32 rfl]
  exact h.2.2.2
theorem Cd.put (hW : TW W) {x y : Nat} {i : Int} (hx : (x : Int) < W 0) (h0 : 0 ≤ i) (h1 : i < 1171) (hc : Cd W σ RC k sec due τ) : Cd W σ RC k sec due (sA (sA τ 31 (wIx x y i) (i32 (prV W σ RC k sec due x y i))) 32 (wIx x y i) (tI τ 33)) := by
  have w0 := hW.1
  obtain ⟨c1, c2, c3, c4, c5⟩ := hc
  have e32 : tA (sA (sA τ 31 (wIx x y i) (i32 (prV W σ RC k sec due x y i))) 32 (wIx x y i) (tI τ 33)) 32 = upd (tA τ 32) (wIx x y i) (tI τ 33) := rfl
  have e31 : tA (sA (sA τ 31 (wIx x y i) (i32 (prV W σ RC k sec due x y i))) 32 (wIx x y i) (tI τ 33)) 31 = upd (tA τ 31) (wIx x y i) (i32 (prV W σ RC k sec due x y i)) := rfl
  refine ⟨c1, c2, c3, fun x' y' i' hx' hy' h0' h1' e => ?_, fun j hj => ?_⟩
  · have e : tA (sA (sA τ 31 (wIx x y i) (i32 (prV W σ RC k sec due x y i))) 32 (wIx x y i) (tI τ 33)) 32 (wIx x' y' i') = tI τ 33 := e
    rw [e32] at e
    rw [e31]
    by_cases q : wIx x' y' i' = wIx x y i
    · obtain ⟨rfl, rfl, rfl⟩ := wIx_i (by omega) (by omega) h0' (by omega) h0 (by omega) q
      rw [upd_e]
    · rw [upd_n _ _ q]
      rw [upd_n _ _ q] at e
      exact c4 x' y' i' hx' hy' h0' h1' e
  · show (tA (sA (sA τ 31 (wIx x y i) (i32 (prV W σ RC k sec due x y i))) 32 (wIx x y i) (tI τ 33)) 32 j).toInt ≤ (tI τ 33).toInt
    rw [e32]
    by_cases q : j = wIx x y i
    · rw [q, upd_e]
      exact Int.le_refl _
    · rw [upd_n _ _ q]
      exact c5 j hj
def RcR (W : Nat → Int) (S : Nat → Nat → Int) (V m Tp : Nat → Int) (RC : Nat → List (Nat × Int)) (k : Nat) (sec due : Int) (rc : Int32 → Int32 → Int32 → TS → Option (Int32 × TS)) (d : Nat) : Prop := ∀ (x y : Nat) (i : Int) (τ : TS), (x : Int) < W 0 → (y : Int) < W 1 → dsA W x y = d → 0 ≤ i → i + 89 * d ≤ 1170 → 0 ≤ vG W (S 0) RC k false x y ((sec + i) % W 9) → TB W S V m Tp RC τ → Cd W (S 0) RC k sec due τ → Ok (rc (i32 x) (i32 y) (i32 i) τ) fun p => p.1 = i32 (prV W (S 0) RC k sec due x y i) ∧ Cd W (S 0) RC k sec due p.2 ∧ To τ p.2
theorem wt_perA (hW : TW W) {x y : Nat} {w : Bool} {t : Int} (hx : x < 6) (hy : y < 9) (hw : cgA W x y w = true) : wtA W x y w (t % W 9) = wtA W x y w t := by
  have := wt_per (w := w) (t := t) hW hx hy
  unfold wtN at this
  rwa [if_pos hw, if_pos hw] at this
/-- one light's second -/
theorem t_one (hn : 2000 ≤ nf) (hW : TW W) (hS : SW W T (S 0)) (hE : ExA W RC) (hk : (k : Int) < 4 + W 8) (hsec : 0 ≤ sec ∧ sec ≤ 1000000) {rc : Int32 → Int32 → Int32 → TS → Option (Int32 × TS)} {d : Nat} (hrc : RcR W S V m Tp RC k sec due rc d) {x y : Nat} {i lt ls : Int} (hx : (x : Int) < W 0) (hy : (y : Int) < W 1) (hd : dsA W x y = d + 1) (h0 : 0 ≤ i) (h1 : i + 89 * (d + 1 : Nat) ≤ 1170) (l0 : 0 ≤ ls) (l1 : ls ≤ 1100000) (hl : ls = lt ∨ ls = lt % W 9) (hs : 0 ≤ snN W k (goR RC) 1000 (vG W (S 0) RC k false) x y (sec + i) lt) (tb : TB W S V m Tp RC τ) (hc : Cd W (S 0) RC k sec due τ) {w : Bool} (hw : w = wyN W k (goR RC) 1000 (vG W (S 0) RC k false) x y (sec + i) lt) {k102 : Int32 → Int32 → Int32 → Int32 → Int32 → Int32 → Int32 → Int32 → TS → Option (Int32 × TS)} {x4 x7 x8 : Int32} {sum : Int} {Q : Int32 × TS → Prop} (K : ∀ τ', Cd W (S 0) RC k sec due τ' → To τ τ' → Ok (k102 (i32 x) (i32 y) (i32 i) x4 (i32 ((sec + i) % W 9)) (i32 (sum + prN W (S 0) RC k sec due d (nx w x) (ny w y) (i + wtA W x y w lt + W 2))) x7 (x8 + 1) τ') Q) : Ok (T_chanceFrom_b125 nf rc k102 (i32 x) (i32 y) (i32 i) x4 (i32 ((sec + i) % W 9)) (i32 sum) x7 x8 (i32 ls) τ) Q := by
  have w0 := hW.1
  have w1 := hW.2.1
  have w2 := hW.2.2.1
  have w9 := hW.2.2.2.2.2.2.2.2.2.1
  have hmm := wtN_ev hW (t := sec + i)
  have hV : VS W (S 0) k (goR RC) false false (-1) 0 (vG W (S 0) RC k false) := vT_VS
  have hR := VS_Rb hW hV
  obtain ⟨p1, p2, p3, p4, p5, p6, p7⟩ := od_step hW hx hy hs hw
  obtain ⟨-, -, q4, q5⟩ := sn_way hs
  have ewl : ∀ v, wtN W x y v ls = wtN W x y v lt := fun v => by
    rcases hl with e | e
    · rw [e]
    · rw [e, wt_per hW (by omega) (by omega)]
  have ewa : wtA W x y w ls = wtA W x y w lt := by
    have := ewl w
    unfold wtN at this
    rwa [if_pos p1, if_pos p1] at this
  have ewy : wyT W k (goR RC) 1000 (vG W (S 0) RC k false) x y ((sec + i) % W 9) ls = if w = true then 1 else 0 := by
    have e1 : wyT W k (goR RC) 1000 (vG W (S 0) RC k false) x y ((sec + i) % W 9) ls = wyT W k (goR RC) 1000 (vG W (S 0) RC k false) x y (sec + i) lt := by
      unfold wyT
      rw [ewl, ewl, byN_per, byN_per]
    rw [e1, q5, ← hw]
  have hrn : k = 3 → RcN W S V m Tp RC k false (-1) 0 (vG W (S 0) RC k false) (T_worthFrom nf 20) x y := fun _ v hv => by
    have := th_in hv hx hy
    exact t_from (by omega) hW hS hE hk (by omega) (by omega) hV _ 20 _ _ this.1 this.2.1 rfl (by have := ds_b (x := nx v x) (y := ny v y) hW; omega)
  unfold T_chanceFrom_b125
  refine ok_2 (t_wayOf (by omega) hW hR hE hk hx hy hrn hmm.1 (by omega) l0 (by omega) tb hc.1) fun v τ1 hv => ?_
  have v1 : v = wy w := by
    have : v = i32 (wyT W k (goR RC) (scN false) (vG W (S 0) RC k false) x y ((sec + i) % W 9) ls) := hv.1
    rw [this]
    have e : wyT W k (goR RC) (scN false) (vG W (S 0) RC k false) x y ((sec + i) % W 9) ls = if w = true then 1 else 0 := ewy
    rw [e]
    cases w <;> rfl
  have tb1 := tb.q hv.2.2.q'
  have hc1 := hc.w hv.2.2 hv.2.1
  rw [v1]
  refine ok_be (s_waitFor (by omega) hW tb1.1 (by omega) (by omega) ⟨l0, by omega⟩ (cg_ev p1).2.2) ?_
  rw [ewa, show (2 : Int32) = i32 ((2 : Nat) : Int) from rfl, s_ld τ1 tb1.1 (by omega), (xy_n (x := x) (y := y) w).1, (xy_n (x := x) (y := y) w).2, i32_add, i32_add]
  have L := hrc (nx w x) (ny w y) (i + wtA W x y w lt + W 2) τ1 p2 p3 (by omega) (by omega) (by omega) (by rw [show sec + (i + wtA W x y w lt + W 2) = sec + i + (wtA W x y w lt + W 2) by omega]; exact p7) tb1 hc1
  refine ok_2 L fun u τ2 hu => ?_
  have u1 : u = i32 (prN W (S 0) RC k sec due d (nx w x) (ny w y) (i + wtA W x y w lt + W 2)) := by
    have : u = _ := hu.1
    rw [this]
    unfold prV
    rw [show dsA W (nx w x) (ny w y) = d by omega]
  rw [u1, nm_eq, i32_add]
  exact K τ2 hu.2.1 ((Tw.o' hv.2.2).tr hu.2.2)
theorem wUn (hW : TW W) (hS : SW W T (S 0)) (tb : TB W S V m Tp RC τ) (hc : Cd W (S 0) RC k sec due τ) {x y : Nat} (hx : x < 6) (hy : y < 9) : T_isUnknown τ (i32 x) (i32 y) = some (bi (unA W (S 0) (6 * y + x))) := by
  rw [s_isUnknown tb hx hy hW hS (w := -1) ⟨by omega, by omega⟩ hc.1.2.2.1]
  congr 2
  cases unA W (S 0) (6 * y + x) with
  | false => exact decide_eq_false (fun z => by cases z.1)
  | true => exact decide_eq_true ⟨rfl, by omega⟩
/-- a corner's end: the number is kept -/
theorem t_end (hW : TW W) {rc : Int32 → Int32 → Int32 → TS → Option (Int32 × TS)} {x y : Nat} {i sum rd : Int} (hx : (x : Int) < W 0) (hy : (y : Int) < W 1) (h0 : 0 ≤ i) (h1 : i < 1171) (hs : 0 ≤ sum ∧ sum ≤ 100000000) (hr : 0 < rd ∧ rd ≤ 60) (he : prV W (S 0) RC k sec due x y i = sum / rd) (hc : Cd W (S 0) RC k sec due τ) {n : Nat} {x5 : Int32} : Ok (T_chanceFrom_b102 nf rc (n + 1) (i32 x) (i32 y) (i32 i) (i32 (1200 * (6 * (y : Int) + (x : Int)) + i)) x5 (i32 sum) (i32 rd) (i32 rd) τ) fun p => p.1 = i32 (prV W (S 0) RC k sec due x y i) ∧ Cd W (S 0) RC k sec due p.2 ∧ To τ p.2 := by
  have w0 := hW.1
  have w1 := hW.2.1
  rw [show T_chanceFrom_b102 nf rc (n + 1) = T_chanceFrom_b102_s nf rc (T_chanceFrom_b102 nf rc n) from rfl]
  unfold T_chanceFrom_b102_s
  refine ok_le ⟨by omega, by omega⟩ ⟨by omega, by omega⟩ (fun _ => ?_) (fun z => by omega)
  refine ok_d32 (by omega) (by omega) ?_
  rw [div_c hs.1 (by omega) (by omega) (by omega), ← he]
  refine ok_sA (by omega) (by show _ < ((64800 : Nat) : Int); omega) (by decide) (ok_sA (by omega) (by show _ < ((64800 : Nat) : Int); omega) (by decide) (ok_ld (by omega) (by show _ < ((64800 : Nat) : Int); omega) (by decide) ?_))
  have hix : (1200 * (6 * (y : Int) + (x : Int)) + i).toNat = wIx x y i := rfl
  rw [hix]
  refine ok_s ⟨?_, hc.put hW hx h0 h1, (Tm.sA rfl).tr (Tm.sA rfl)⟩
  have e31 : tA (sA (sA τ 31 (wIx x y i) (i32 (prV W (S 0) RC k sec due x y i))) 32 (wIx x y i) (tI (sA τ 31 (wIx x y i) (i32 (prV W (S 0) RC k sec due x y i))) 33)) 31 = upd (tA τ 31) (wIx x y i) (i32 (prV W (S 0) RC k sec due x y i)) := rfl
  show tA (sA (sA τ 31 (wIx x y i) (i32 (prV W (S 0) RC k sec due x y i))) 32 (wIx x y i) (tI (sA τ 31 (wIx x y i) (i32 (prV W (S 0) RC k sec due x y i))) 33)) 31 (wIx x y i) = _
  rw [e31, upd_e]
theorem tc_loop (hn : 2000 ≤ nf) (hW : TW W) (hS : SW W T (S 0)) (hE : ExA W RC) (hk : (k : Int) < 4 + W 8) (hsec : 0 ≤ sec ∧ sec ≤ 1000000) {rc : Int32 → Int32 → Int32 → TS → Option (Int32 × TS)} {d0 : Nat} (hrc : RcR W S V m Tp RC k sec due rc d0) {x y : Nat} {i : Int} (hx : (x : Int) < W 0) (hy : (y : Int) < W 1) (hd0 : dsA W x y = d0 + 1) (h0 : 0 ≤ i) (h1 : i + 89 * (d0 + 1 : Nat) ≤ 1170) (hu : unA W (S 0) (6 * y + x) = true) (hv : 0 ≤ vG W (S 0) RC k false x y ((sec + i) % W 9)) {F : Nat → Int} (hF : F = fun s : Nat => prN W (S 0) RC k sec due d0 (nx (wyN W k (goR RC) 1000 (vG W (S 0) RC k false) x y (sec + i) s) x) (ny (wyN W k (goR RC) 1000 (vG W (S 0) RC k false) x y (sec + i) s) y) (i + wtA W x y (wyN W k (goR RC) 1000 (vG W (S 0) RC k false) x y (sec + i) s) s + W 2)) {rd : Nat} (erd : W (11 + 4 * (6 * y + x)) = rd) {τ0 : TS} (tb0 : TB W S V m Tp RC τ0) : ∀ (d n j : Nat) (τ : TS), j + d = rd → d < n → To τ0 τ → Cd W (S 0) RC k sec due τ → Ok (T_chanceFrom_b102 nf rc n (i32 x) (i32 y) (i32 i) (i32 (1200 * (6 * (y : Int) + (x : Int)) + i)) (i32 ((sec + i) % W 9)) (i32 (smN F j)) (i32 (rd : Int)) (i32 (j : Int)) τ) fun p => p.1 = i32 (prV W (S 0) RC k sec due x y i) ∧ Cd W (S 0) RC k sec due p.2 ∧ To τ0 p.2 := by
  have w0 := hW.1
  have w1 := hW.2.1
  have w2 := hW.2.2.1
  have hr := un_rd hW (c := 6 * y + x) (by omega) hu
  have hh : hmA W x y = false := by unfold hmA; unfold dsA at hd0; exact decide_eq_false (by omega)
  obtain ⟨o1, -⟩ := od_sn hW hx hy hh hv
  have hFb : ∀ j : Nat, j < rd → 0 ≤ F j ∧ F j ≤ 1000000 := fun j hj => by
    obtain ⟨-, p2, p3, p4, -, p6, p7⟩ := od_step hW hx hy (o1 hu j (by omega)) rfl
    rw [show sec + i + (wtA W x y (wyN W k (goR RC) 1000 (vG W (S 0) RC k false) x y (sec + i) j) j + W 2) = sec + (i + wtA W x y (wyN W k (goR RC) 1000 (vG W (S 0) RC k false) x y (sec + i) j) j + W 2) by omega] at p7
    have := prN_b (σ := S 0) (RC := RC) (k := k) (sec := sec) (due := due) hW d0 _ _ (i + wtA W x y (wyN W k (goR RC) 1000 (vG W (S 0) RC k false) x y (sec + i) j) j + W 2) p2 p3 (by omega) (by omega) p7
    rw [hF]
    exact ⟨this.1, this.2.1⟩
  have hpr : prV W (S 0) RC k sec due x y i = smN F rd / (rd : Int) := by
    unfold prV
    rw [hd0]
    unfold prN
    rw [hu, if_pos rfl, ← hF, erd]
    rfl
  have hsb : ∀ j, j ≤ rd → 0 ≤ smN F j ∧ smN F j ≤ 1000000 * (j : Int) := fun j hj => smN_b fun q hq => hFb q (by omega)
  intro d
  induction d with
  | zero =>
    intro n j τ hd hn2 hq hc
    obtain ⟨n, rfl⟩ : ∃ q, n = q + 1 := ⟨n - 1, by omega⟩
    have ej : j = rd := by omega
    subst ej
    have e := hsb j (by omega)
    exact ok_w (t_end hW hx hy h0 (by omega) ⟨e.1, by omega⟩ ⟨by omega, by omega⟩ hpr hc) fun p hp => ⟨hp.1, hp.2.1, hq.tr hp.2.2⟩
  | succ d ih =>
    intro n j τ hd hn2 hq hc
    obtain ⟨n, rfl⟩ : ∃ q, n = q + 1 := ⟨n - 1, by omega⟩
    have e := hsb j (by omega)
    have tb := tb0.q hq.q'
    rw [show T_chanceFrom_b102 nf rc (n + 1) = T_chanceFrom_b102_s nf rc (T_chanceFrom_b102 nf rc n) from rfl]
    unfold T_chanceFrom_b102_s
    refine ok_le ⟨by omega, by omega⟩ ⟨by omega, by omega⟩ (fun z => by omega) (fun _ => ?_)
    refine ok_be (wUn hW hS tb hc (by omega) (by omega)) ?_
    rw [hu, if_neg (show ¬ bi true = (0 : Int32) by decide)]
    refine t_one hn hW hS hE hk hsec hrc hx hy hd0 h0 h1 (lt := (j : Int)) (ls := (j : Int)) (by omega) (by omega) (.inl rfl) (o1 hu j (by omega)) tb hc rfl fun τ' c' q' => ?_
    have := ih n (j + 1) τ' (by omega) (by omega) (hq.tr q') c'
    have es : smN F (j + 1) = smN F j + F j := rfl
    rw [es] at this
    rw [show (1 : Int32) = i32 1 from rfl, i32_add]
    rw [hF] at this ⊢
    exact this
theorem t_chance (hn : 2000 ≤ nf) (hW : TW W) (hS : SW W T (S 0)) (hE : ExA W RC) (hk : (k : Int) < 4 + W 8) (hsec : 0 ≤ sec ∧ sec ≤ 1000000) (hdue : 0 ≤ due ∧ due ≤ 1000000) : ∀ (d dp : Nat), d < dp → RcR W S V m Tp RC k sec due (T_chanceFrom nf dp) d := by
  have w0 := hW.1
  have w1 := hW.2.1
  have w2 := hW.2.2.1
  have w9 := hW.2.2.2.2.2.2.2.2.2.1
  intro d
  induction d with
  | zero =>
    intro dp hdp x y i τ hx hy hd h0 h1 hv tb hc
    obtain ⟨dp, rfl⟩ : ∃ q, dp = q + 1 := ⟨dp - 1, by omega⟩
    have hh : hmA W x y = true := by unfold hmA; unfold dsA at hd; exact decide_eq_true (by omega)
    show Ok (T_chanceFrom_s nf (T_chanceFrom nf dp) _ _ _ τ) _
    unfold T_chanceFrom_s
    refine ok_be (s_isHome hW tb.1 (by omega) (by omega)) ?_
    rw [hh, if_neg (show ¬ bi true = (0 : Int32) by decide), hc.2.1, hc.2.2.1, i32_add]
    unfold prV
    rw [hd]
    unfold prN
    refine ok_lt ⟨by omega, by omega⟩ ⟨by omega, by omega⟩ (fun q => ?_) (fun q => ?_)
    · rw [if_neg (by omega)]
      exact ok_s ⟨rfl, hc, Tm.rf⟩
    · rw [if_pos (by omega)]
      exact ok_s ⟨rfl, hc, Tm.rf⟩
  | succ d ih =>
    intro dp hdp x y i τ hx hy hd h0 h1 hv tb hc
    obtain ⟨dp, rfl⟩ : ∃ q, dp = q + 1 := ⟨dp - 1, by omega⟩
    obtain ⟨nf, rfl⟩ : ∃ q, nf = q + 2 := ⟨nf - 2, by omega⟩
    have hh : hmA W x y = false := by unfold hmA; unfold dsA at hd; exact decide_eq_false (by omega)
    have hrc := ih dp (by omega)
    obtain ⟨o1, o2⟩ := od_sn hW hx hy hh hv
    have hmm := wtN_ev hW (t := sec + i)
    show Ok (T_chanceFrom_s (nf + 2) (T_chanceFrom (nf + 2) dp) _ _ _ τ) _
    unfold T_chanceFrom_s
    refine ok_be (s_isHome hW tb.1 (by omega) (by omega)) ?_
    rw [hh, if_pos (show bi false = (0 : Int32) from rfl), nm_eq, show (6 : Int32) = i32 6 from rfl, show (1200 : Int32) = i32 1200 from rfl, i32_mul, i32_add, i32_mul, i32_add]
    have hix : (1200 * (6 * (y : Int) + (x : Int)) + i).toNat = wIx x y i := rfl
    refine ok_ld (by omega) (by show _ < ((64800 : Nat) : Int); omega) (by decide) ?_
    rw [hix]
    refine ok_if (fun q => ?_) (fun q => ?_)
    · refine ok_ld (by omega) (by show _ < ((64800 : Nat) : Int); omega) (by decide) ?_
      rw [hix]
      exact ok_s ⟨hc.2.2.2.1 x y i hx hy h0 (by omega) q, hc, Tm.rf⟩
    · rw [show (9 : Int32) = i32 ((9 : Nat) : Int) from rfl, s_ld τ tb.1 (by omega)]
      refine ok_d32 (by omega) (by omega) ?_
      rw [nm_eq, hc.2.1, i32_add, rem_c (by omega) (by omega) (by omega) (by omega)]
      refine ok_be (wUn hW hS tb hc (by omega) (by omega)) ?_
      cases hu : unA W (S 0) (6 * y + x) with
      | false =>
        rw [if_pos (show bi false = (0 : Int32) from rfl)]
        rw [show T_chanceFrom_b102 (nf + 2) (T_chanceFrom (nf + 2) dp) (nf + 2) = T_chanceFrom_b102_s (nf + 2) (T_chanceFrom (nf + 2) dp) (T_chanceFrom_b102 (nf + 2) (T_chanceFrom (nf + 2) dp) (nf + 1)) from rfl]
        unfold T_chanceFrom_b102_s
        rw [if_neg (show ¬ (1 : Int32) ≤ 0 by decide)]
        refine ok_be (wUn hW hS tb hc (by omega) (by omega)) ?_
        rw [hu, if_pos (show bi false = (0 : Int32) from rfl)]
        refine t_one (sum := 0) hn hW hS hE hk hsec hrc hx hy hd h0 h1 (lt := sec + i) (ls := (sec + i) % W 9) hmm.1 (by omega) (.inr rfl) (o2 hu) tb hc rfl fun τ' c' q' => ?_
        have hpb := prN_b (σ := S 0) (RC := RC) (k := k) (sec := sec) (due := due) hW (d + 1) x y i hx hy hd (by omega) hv
        have epr : prV W (S 0) RC k sec due x y i = prN W (S 0) RC k sec due d (nx (wyN W k (goR RC) 1000 (vG W (S 0) RC k false) x y (sec + i) (sec + i)) x) (ny (wyN W k (goR RC) 1000 (vG W (S 0) RC k false) x y (sec + i) (sec + i)) y) (i + wtA W x y (wyN W k (goR RC) 1000 (vG W (S 0) RC k false) x y (sec + i) (sec + i)) (sec + i) + W 2) := by
          unfold prV
          rw [hd]
          conv => lhs; unfold prN
          rw [hu, if_neg (by decide)]
        have epr2 : prV W (S 0) RC k sec due x y i = prN W (S 0) RC k sec due (d + 1) x y i := by unfold prV; rw [hd]
        rw [← epr, Int.zero_add]
        exact ok_w (t_end hW hx hy h0 (by omega) (sum := prV W (S 0) RC k sec due x y i) (rd := 1) ⟨by rw [epr2]; exact hpb.1, by rw [epr2]; have := hpb.2.1; omega⟩ ⟨by omega, by omega⟩ (by rw [Int.ediv_one]) c') fun p hp => ⟨hp.1, hp.2.1, q'.tr hp.2.2⟩
      | true =>
        rw [if_neg (show ¬ bi true = (0 : Int32) by decide)]
        have hr := un_rd hW (c := 6 * y + x) (by omega) hu
        refine ok_be (s_rd hW tb.1 (by omega) (by omega)) ?_
        have L := tc_loop (nf := nf + 2) hn hW hS hE hk hsec hrc hx hy hd h0 h1 hu hv rfl (rd := (W (11 + 4 * (6 * y + x))).toNat) (by omega) tb (W (11 + 4 * (6 * y + x))).toNat (nf + 2) 0 τ (by omega) (by omega) Tm.rf hc
        rw [Int.toNat_of_nonneg (by omega)] at L
        exact L
theorem t_odds (hn : 2000 ≤ nf) (hW : TW W) (hS : SW W T (S 0)) (hE : ExA W RC) (hN : N < 1800000000) (tb : TB W S V m Tp RC τ) (h : Cv W (S 0) RC N τ) {kk sec due : Int} (hk : ok32 kk) (hsec : ok32 sec) (hdue : ok32 due) : Ok (T_odds nf (i32 kk) (i32 sec) (i32 due) τ) fun p => p.1 = i32 (odV W (S 0) RC kk sec due) ∧ Tq τ p.2 ∧ Cv W (S 0) RC (N + 2) p.2 := by
  have w0 := hW.1
  have w1 := hW.2.1
  have w8 := hW.2.2.2.2.2.2.2.2.1
  have w9 := hW.2.2.2.2.2.2.2.2.2.1
  have hmm := wtN_ev hW (t := sec)
  unfold T_odds odV
  rw [nm_eq]
  have q0 := tk_z τ
  have tb1 := tb.q q0.1
  have c1 := h.k q0
  generalize sI τ 0 0 = τ1 at q0 tb1 c1 ⊢
  have out : ∀ z : Int, z = -1 → Ok (some ((-1 : Int32), τ1)) fun p => p.1 = i32 z ∧ Tq τ p.2 ∧ Cv W (S 0) RC (N + 2) p.2 := fun z hz => ok_s ⟨by rw [hz]; rfl, q0.1, c1.le (by omega)⟩
  have nomn : ¬ ((0 ≤ kk ∧ kk ≤ 3 + W 8) ∧ 0 ≤ sec ∧ sec ≤ 1000000) → mnV W (S 0) RC false kk 0 0 sec < 0 := fun z => by
    unfold mnV
    rw [if_neg (fun q => z ⟨q.1, q.2.2⟩)]
    decide
  refine ok_be (t_isGoer hW tb1.1 hk) ?_
  by_cases qk : 0 ≤ kk ∧ kk ≤ 3 + W 8
  · rw [decide_eq_true qk, if_neg (show ¬ bi true = (0 : Int32) by decide)]
    refine ok_be (s_isSecond hsec) ?_
    by_cases qs : 0 ≤ sec ∧ sec ≤ 1000000
    · rw [decide_eq_true qs, if_neg (show ¬ bi true = (0 : Int32) by decide)]
      refine ok_be (s_isSecond hdue) ?_
      by_cases qd : 0 ≤ due ∧ due ≤ 1000000
      · rw [decide_eq_true qd, if_neg (show ¬ bi true = (0 : Int32) by decide), if_pos qd, toI qk.1]
        have em : mnV W (S 0) RC false kk 0 0 sec = vG W (S 0) RC kk.toNat false 0 0 (sec % W 9) := by
          unfold mnV
          rw [if_pos ⟨qk, ⟨⟨by omega, by omega⟩, by omega, by omega⟩, qs⟩]
          rfl
        rw [em]
        refine t_askK (k := kk.toNat) (wst := false) (wat := -1) (sh := 0) (x := 0) (y := 0) (by omega) hW hS hE (by omega) (by omega) (by omega) (by omega) tb1 c1 (by omega) (by omega) qs.1 (by omega) rfl rfl rfl rfl rfl rfl rfl fun v τ2 v1 v2 v3 v4 => ?_
        have v1 : v = i32 (vG W (S 0) RC kk.toNat false 0 0 (sec % W 9)) := v1
        have hvb : -1 ≤ vG W (S 0) RC kk.toNat false 0 0 (sec % W 9) ∧ vG W (S 0) RC kk.toNat false 0 0 (sec % W 9) ≤ 1170000 := VS_b13 hW vT_VS (by omega) (by omega) hmm.1 hmm.2
        rw [v1, show (0 : Int32) = i32 0 from rfl]
        refine ok_le ⟨by omega, by omega⟩ ⟨by omega, by omega⟩ (fun qv => ?_) (fun qv => ?_)
        · rw [if_neg (show ¬ vG W (S 0) RC kk.toNat false 0 0 (sec % W 9) < 0 by omega), nm_eq, nm_eq, nm_eq]
          obtain ⟨τ3, hτ⟩ : ∃ τ3, τ3 = sI (sI (sI τ2 33 (tI τ2 33 + 1)) 34 (i32 sec)) 35 (i32 due) := ⟨_, rfl⟩
          rw [← hτ]
          have g33 : tI τ3 33 = tI τ2 33 + 1 := by rw [hτ]; rfl
          have g34 : tI τ3 34 = i32 sec := by rw [hτ]; rfl
          have g35 : tI τ3 35 = i32 due := by rw [hτ]; rfl
          have gI : ∀ j, j ≠ 33 → j ≠ 34 → j ≠ 35 → tI τ3 j = tI τ2 j := fun j a1 a2 a3 => by rw [hτ, tI_sI, if_neg a3, tI_sI, if_neg a2, tI_sI, if_neg a1]
          have gA : ∀ j, tA τ3 j = tA τ2 j := fun j => by rw [hτ]; rfl
          have hq3 : Tq τ2 τ3 := by rw [hτ]; exact ((Tq.sI rfl).tr (Tq.sI rfl)).tr (Tq.sI rfl)
          obtain ⟨n1, n2, n3, n4, n5, n6⟩ := v4
          have e33 : (tI τ3 33).toInt = (tI τ2 33).toInt + 1 := by
            rw [g33, ← i32_of (tI τ2 33), show (1 : Int32) = i32 1 from rfl, i32_add, i32_toInt ⟨by omega, by omega⟩, i32_toInt ⟨by omega, by omega⟩]
          have hcc : Cc W kk.toNat false (-1) 0 (vG W (S 0) RC kk.toNat false) τ3 := by
            unfold Cc Kp
            rw [gI 26 (by decide) (by decide) (by decide), gI 27 (by decide) (by decide) (by decide), gI 29 (by decide) (by decide) (by decide), gI 30 (by decide) (by decide) (by decide), gI 25 (by decide) (by decide) (by decide), gA, gA]
            exact v2
          have hcd : Cd W (S 0) RC kk.toNat sec due τ3 := by
            refine ⟨hcc, g34, g35, fun x y i hx hy h0 h1 e => ?_, fun j hj => ?_⟩
            · exfalso
              have e2 := congrArg Int32.toInt e
              rw [gA, e33] at e2
              have := n5 (wIx x y i) (by unfold wIx; omega)
              omega
            · rw [gA, e33]
              have := n5 j hj
              omega
          have hd13 := ds_b (x := 0) (y := 0) hW
          have L : Ok (T_chanceFrom nf 20 0 0 0 τ3) fun p => p.1 = i32 (prV W (S 0) RC kk.toNat sec due 0 0 0) ∧ Cd W (S 0) RC kk.toNat sec due p.2 ∧ To τ3 p.2 := t_chance (nf := nf) (S := S) (V := V) (m := m) (Tp := Tp) (RC := RC) hn hW hS hE (by omega) qs qd (dsA W 0 0) 20 (by omega) 0 0 0 τ3 (by omega) (by omega) rfl (by omega) (by omega) (by rw [Int.add_zero]; exact qv) ((tb1.q v3.q).q hq3) hcd
          refine ok_2 L fun u τ4 hu => ?_
          obtain ⟨u1, u2, u3⟩ := hu
          refine ok_s ⟨u1, ((q0.1.tr v3.q).tr hq3).tr u3.q', ?_⟩
          refine ⟨u2.1.2.2.2.2.1, by rw [u3.1, gI 25 (by decide) (by decide) (by decide)]; have := n2; omega, by rw [u3.1, u3.1, gI 28 (by decide) (by decide) (by decide), gI 22 (by decide) (by decide) (by decide)]; have := n3; omega, fun _ k' wst' wat' sh' a1 a2 a3 a4 a5 a6 a7 => ?_, u2.2.2.2.2, by rw [u3.1, e33]; omega⟩
          have e1 : k' = kk.toNat := by
            rw [u2.1.1] at a4
            have := (i32_eq ⟨by omega, by omega⟩ ⟨by omega, by omega⟩).mp a4
            omega
          have e2 : wst' = false := by
            rw [u2.1.2.1] at a5
            exact (bi_inj a5).symm
          have e3 : wat' = -1 := by
            rw [u2.1.2.2.1] at a6
            exact ((i32_eq ⟨by omega, by omega⟩ ⟨by omega, by omega⟩).mp a6).symm
          have e4 : sh' = 0 := by
            rw [u2.1.2.2.2.1] at a7
            exact ((i32_eq ⟨by omega, by omega⟩ ⟨by omega, by omega⟩).mp a7).symm
          subst e1 e2 e3 e4
          exact u2.1.2.2.2.2.2
        · rw [if_pos qv]
          exact ok_s ⟨rfl, q0.1.tr v3.q, v4.le (by omega)⟩
      · rw [decide_eq_false qd, if_pos (show bi false = (0 : Int32) from rfl), if_neg qd]
        exact out _ rfl
    · rw [decide_eq_false qs, if_pos (show bi false = (0 : Int32) from rfl)]
      refine out _ ?_
      split
      · rw [if_pos (nomn (fun z => qs z.2))]
      · rfl
  · rw [decide_eq_false qk, if_pos (show bi false = (0 : Int32) from rfl)]
    refine out _ ?_
    split
    · rw [if_pos (nomn (fun z => qk z.1))]
    · rfl
end OT
