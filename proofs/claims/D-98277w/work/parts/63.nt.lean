/-! LAYER 2: nights, the twin -/
set_option maxRecDepth 100000
section NT_
variable {W : Nat → Int} {S : Nat → Nat → Int} {V m Tp : Nat → Int} {RC : Nat → List (Nat × Int)} {τ : TS} {T N : Int} {nf : Nat} {σ : Nat → Int} {k : Nat} {G : Int}
/-- the twin's frame of a night -/
def Ty (τ τ' : TS) : Prop := (∀ j, tI τ' j = tI τ j) ∧ (∀ j, tB τ' j = tB τ j) ∧ ∀ j, [17, 18, 23, 24, 47].contains j = false → tA τ' j = tA τ j
theorem Ty.rf : Ty τ τ := ⟨fun _ => rfl, fun _ => rfl, fun _ _ => rfl⟩
theorem Ty.tr {τ1 τ2 : TS} (h : Ty τ τ1) (k : Ty τ1 τ2) : Ty τ τ2 := ⟨fun j => (k.1 j).trans (h.1 j), fun j => (k.2.1 j).trans (h.2.1 j), fun j q => (k.2.2 j q).trans (h.2.2 j q)⟩
theorem Tw.y {τ1 : TS} (h : Tw τ τ1) : Ty τ τ1 := ⟨h.1, h.2.2.1, fun j e => h.2.2.2 j (by
  cases e2 : [17, 18, 23, 24].contains j with
  | false => rfl
  | true =>
    simp only [List.contains_cons, Bool.or_eq_true, beq_iff_eq, List.contains_nil, or_false, Bool.false_eq_true] at e2
    rcases e2 with rfl | rfl | rfl | rfl <;> cases e)⟩
theorem Ty.q {τ1 : TS} (h : Ty τ τ1) : Tq τ τ1 := ⟨fun j _ => h.1 j, fun j e => h.2.2 j (by
  unfold tsA at e
  cases e2 : [17, 18, 23, 24, 47].contains j with
  | false => rfl
  | true =>
    simp only [List.contains_cons, Bool.or_eq_true, beq_iff_eq, List.contains_nil, or_false, Bool.false_eq_true] at e2
    rcases e2 with rfl | rfl | rfl | rfl | rfl <;> cases e), h.2.1 9⟩
theorem Ty.sL {j : Nat} {v : Int64} : Ty τ (sL τ j v) := ⟨fun _ => rfl, fun _ => rfl, fun _ _ => rfl⟩
theorem Ty.s47 {i : Nat} {v : Int32} : Ty τ (sA τ 47 i v) := by
  refine ⟨fun _ => rfl, fun _ => rfl, fun j e => ?_⟩
  rw [tA_sA, if_neg]
  rintro rfl
  cases e
theorem Cc.s47 {wst : Bool} {wat sh : Int} {R : Nat → Nat → Int → Int} {i : Nat} {v : Int32} (h : Cc W k wst wat sh R τ) : Cc W k wst wat sh R (sA τ 47 i v) := h
theorem Cc.sL {wst : Bool} {wat sh : Int} {R : Nat → Nat → Int → Int} {i : Nat} {v : Int64} (h : Cc W k wst wat sh R τ) : Cc W k wst wat sh R (sL τ i v) := h
theorem t_draw (hG : 0 ≤ G ∧ G < 2147483648) (hJ : tL τ 46 = i64 G) {rd : Int} (hr : 1 ≤ rd ∧ rd ≤ 60) : T_draw (i32 rd) τ = some (i32 ((lcg G / 65536) % rd), sL τ 46 (i64 (lcg G))) := by
  unfold T_draw
  rw [hJ, lcg64 hG, nm_eq, show tL (sL τ 46 (i64 (lcg G))) 46 = i64 (lcg G) from rfl, dr64 hr, i32_long ⟨by omega, by omega⟩, d64_n ⟨by omega, by omega⟩ (by omega)]
theorem td_loop (hW : TW W) (hS : SW W T (S 0)) (hG : 0 ≤ G ∧ G < 2147483648) {τ0 : TS} (tb0 : TB W S V m Tp RC τ0) {R : Nat → Nat → Int → Int} : ∀ (d n c : Nat) (τ : TS), c + d = 54 → d < n → Ty τ0 τ → Cc W k false (-1) 0 R τ → tL τ 46 = i64 (gN W (S 0) G c) → (∀ q, q < c → tA τ 47 q = i32 (shN W (S 0) G q)) → Ok (T_draws_b2 nf n (i32 (c : Int)) τ) fun τ' => Ty τ0 τ' ∧ Cc W k false (-1) 0 R τ' ∧ tL τ' 46 = i64 (gN W (S 0) G 54) ∧ ∀ q, q < 54 → tA τ' 47 q = i32 (shN W (S 0) G q) := by
  intro d
  induction d with
  | zero =>
    intro n c τ hd hn hq hc hJ hsh
    obtain ⟨n, rfl⟩ : ∃ q, n = q + 1 := ⟨n - 1, by omega⟩
    have ec : c = 54 := by omega
    subst ec
    rw [show T_draws_b2 nf (n + 1) = T_draws_b2_s nf (T_draws_b2 nf n) from rfl]
    unfold T_draws_b2_s
    rw [if_pos (show (54 : Int32) ≤ i32 ((54 : Nat) : Int) by decide)]
    exact ok_s ⟨hq, hc, hJ, hsh⟩
  | succ d ih =>
    intro n c τ hd hn hq hc hJ hsh
    obtain ⟨n, rfl⟩ : ∃ q, n = q + 1 := ⟨n - 1, by omega⟩
    have tb := tb0.q hq.q
    have er : rem32 (i32 (c : Int)) 6 = i32 ((c % 6 : Nat) : Int) := by
      rw [show (6 : Int32) = i32 6 from rfl, rem_c (by omega) (by omega) (by omega) (by omega)]
      rfl
    have ed : (i32 (c : Int)) / 6 = i32 ((c / 6 : Nat) : Int) := by
      rw [show (6 : Int32) = i32 6 from rfl, div_c (by omega) (by omega) (by omega) (by omega)]
      rfl
    have ec : 6 * (c / 6) + c % 6 = c := by omega
    have hsk := hS.2.2.2.2 c (by omega)
    have hkk := kw_b hW (c := c) (by omega)
    have hst : gN W (S 0) G (c + 1) = if unA W (S 0) c = true then lcg (gN W (S 0) G c) else gN W (S 0) G c := rfl
    have ek : kdA W (c % 6) (c / 6) = W (10 + 4 * c) - 1 := by unfold kdA; rw [ec]
    have upq : ∀ (τ1 : TS) (v : Int32), tA τ1 47 = tA τ 47 → v = i32 (shN W (S 0) G c) → ∀ q, q < c + 1 → tA (sA τ1 47 c v) 47 q = i32 (shN W (S 0) G q) := fun τ1 v e1 e2 q hq1 => by
      rw [tA_sA, if_pos rfl, e1]
      by_cases e : q = c
      · rw [e, upd_e, e2]
      · rw [upd_n _ _ e]
        exact hsh q (by omega)
    have skip : unA W (S 0) c = false → Ok (T_draws_b44 nf (T_draws_b2 nf n) (i32 (c : Int)) 0 τ) fun τ' => Ty τ0 τ' ∧ Cc W k false (-1) 0 R τ' ∧ tL τ' 46 = i64 (gN W (S 0) G 54) ∧ ∀ q, q < 54 → tA τ' 47 q = i32 (shN W (S 0) G q) := fun hu => by
      unfold T_draws_b44
      rw [hu, if_neg (by decide)] at hst
      rw [if_pos rfl, show (0 : Int32) = i32 0 from rfl]
      refine ok_sA (by omega) (by show _ < ((54 : Nat) : Int); omega) (by decide) ?_
      rw [show (1 : Int32) = i32 1 from rfl, i32_add, Int.toNat_natCast]
      refine ih n (c + 1) _ (by omega) (by omega) (hq.tr Ty.s47) hc.s47 (by rw [hst]; exact hJ) (upq τ _ rfl ?_)
      unfold shN
      rw [hu, if_neg (by decide)]
    rw [show T_draws_b2 nf (n + 1) = T_draws_b2_s nf (T_draws_b2 nf n) from rfl]
    unfold T_draws_b2_s
    rw [show (54 : Int32) = i32 54 from rfl]
    refine ok_le ⟨by omega, by omega⟩ ⟨by omega, by omega⟩ (fun z => by omega) (fun _ => ?_)
    rw [er, ed]
    refine ok_be (s_kindAt tb.1 (by omega) (by omega)) ?_
    rw [show (1 : Int32) = i32 1 from rfl]
    refine ok_q ⟨by omega, by omega⟩ ⟨by omega, by omega⟩ (fun qk => ?_) (fun qk => ?_)
    · have ekn := s_isKnown tb (x := c % 6) (y := c / 6) (by omega) (by omega) hW hS
      rw [ec] at ekn
      refine ok_be ekn ?_
      by_cases qs : S 0 (4 + c) = 1
      · rw [decide_eq_true (show W (10 + 4 * c) = 2 ∧ S 0 (4 + c) = 1 by omega), if_neg (show ¬ bi true = (0 : Int32) by decide)]
        exact skip (decide_eq_false (by omega))
      · have hu : unA W (S 0) c = true := decide_eq_true (by omega)
        have hr := un_rd hW (c := c) (by omega) hu
        rw [hu, if_pos rfl] at hst
        rw [decide_eq_false (show ¬ (W (10 + 4 * c) = 2 ∧ S 0 (4 + c) = 1) by omega), if_pos (show bi false = (0 : Int32) from rfl)]
        unfold T_draws_b44
        rw [if_neg (show ¬ (i32 1 : Int32) = 0 by decide), er, ed]
        have el := s_rd hW tb.1 (x := c % 6) (y := c / 6) (by omega) (by omega)
        rw [ec] at el
        refine ok_be el (ok_2e (t_draw (gN_b hG c) hJ hr) ?_)
        refine ok_sA (by omega) (by show _ < ((54 : Nat) : Int); omega) (by decide) ?_
        rw [show (1 : Int32) = i32 1 from rfl, i32_add, Int.toNat_natCast]
        refine ih n (c + 1) _ (by omega) (by omega) ((hq.tr Ty.sL).tr Ty.s47) hc.sL.s47 (by rw [hst]; rfl) (upq _ _ rfl ?_)
        unfold shN
        rw [hu, if_pos rfl]
    · exact skip (decide_eq_false (by omega))
theorem tn_loop (hn0 : 2000 ≤ nf) (hW : TW W) (hS : SW W T (S 0)) (hE : ExA W RC) (hk : (k : Int) < 4 + W 8) {τ0 : TS} (tb0 : TB W S V m Tp RC τ0) (hsh : ∀ c, c < 54 → tA τ0 47 c = i32 (shN W (S 0) G c)) : ∀ (d n x y : Nat) (t : Int) (τ : TS), (x : Int) < W 0 → (y : Int) < W 1 → dsA W x y = d → d < n → 0 ≤ t → t + 89 * d ≤ 1000000 → 0 ≤ vG W (S 0) RC k false x y (t % W 9) → Tw τ0 τ → Cc W k false (-1) 0 (vG W (S 0) RC k false) τ → Ok (T_night_b6 nf n (i32 x) (i32 y) (i32 t) τ) fun p => p.1 = i32 (niN W (S 0) RC k G d x y t) ∧ Tw τ0 p.2 ∧ Cc W k false (-1) 0 (vG W (S 0) RC k false) p.2 := by
  have w0 := hW.1
  have w1 := hW.2.1
  have w2 := hW.2.2.1
  have w9 := hW.2.2.2.2.2.2.2.2.2.1
  have hV : VS W (S 0) k (goR RC) false false (-1) 0 (vG W (S 0) RC k false) := vT_VS
  have hR := VS_Rb hW hV
  intro d
  induction d with
  | zero =>
    intro n x y t τ hx hy hd hn h0 h1 hv hq hc
    obtain ⟨n, rfl⟩ : ∃ q, n = q + 1 := ⟨n - 1, by omega⟩
    have hh : hmA W x y = true := by unfold hmA; unfold dsA at hd; exact decide_eq_true (by omega)
    rw [show T_night_b6 nf (n + 1) = T_night_b6_s nf (T_night_b6 nf n) from rfl]
    unfold T_night_b6_s
    refine ok_be (s_isHome hW (tb0.q hq.q').1 (by omega) (by omega)) ?_
    rw [hh, if_neg (show ¬ bi true = (0 : Int32) by decide)]
    exact ok_s ⟨rfl, hq, hc⟩
  | succ d ih =>
    intro n x y t τ hx hy hd hn h0 h1 hv hq hc
    obtain ⟨n, rfl⟩ : ∃ q, n = q + 1 := ⟨n - 1, by omega⟩
    have hh : hmA W x y = false := by unfold hmA; unfold dsA at hd; exact decide_eq_false (by omega)
    have tb := tb0.q hq.q'
    have hmm := wtN_ev hW (t := t)
    have hb0 := shN_b (σ := S 0) (G := G) hW (c := 6 * y + x) (by omega)
    have hs := ni_sn (G := G) hW hx hy hh hv
    obtain ⟨w, hw⟩ : ∃ w, w = wyN W k (goR RC) 1000 (vG W (S 0) RC k false) x y t (t + shN W (S 0) G (6 * y + x)) := ⟨_, rfl⟩
    obtain ⟨p1, p2, p3, p4, p5, p6, p7⟩ := od_step hW hx hy hs hw
    obtain ⟨-, -, q4, q5⟩ := sn_way hs
    have hni : niN W (S 0) RC k G (d + 1) x y t = niN W (S 0) RC k G d (nx w x) (ny w y) (t + wtA W x y w (t + shN W (S 0) G (6 * y + x)) + W 2) := by rw [hw]; rfl
    obtain ⟨lt, hlt⟩ : ∃ lt, lt = t + shN W (S 0) G (6 * y + x) := ⟨_, rfl⟩
    rw [← hlt] at hs hw p5 p6 p7 q4 q5 hni
    have esh : tA τ 47 (6 * (y : Int) + (x : Int)).toNat = i32 (shN W (S 0) G (6 * y + x)) := by
      rw [hq.2.2.2 47 rfl, show (6 * (y : Int) + (x : Int)).toNat = 6 * y + x by omega]
      exact hsh _ (by omega)
    have hrn : k = 3 → RcN W S V m Tp RC k false (-1) 0 (vG W (S 0) RC k false) (T_worthFrom nf 20) x y := fun _ v hv => by
      have := th_in hv hx hy
      exact t_from (by omega) hW hS hE hk (by omega) (by omega) hV _ 20 _ _ this.1 this.2.1 rfl (by have := ds_b (x := nx v x) (y := ny v y) hW; omega)
    rw [show T_night_b6 nf (n + 1) = T_night_b6_s nf (T_night_b6 nf n) from rfl]
    unfold T_night_b6_s
    refine ok_be (s_isHome hW tb.1 (by omega) (by omega)) ?_
    rw [hh, if_pos (show bi false = (0 : Int32) from rfl), show (6 : Int32) = i32 6 from rfl, i32_mul, i32_add]
    refine ok_ld (by omega) (by show _ < ((54 : Nat) : Int); omega) (by decide) ?_
    rw [esh, nm_eq, i32_add, ← hlt, show (9 : Int32) = i32 ((9 : Nat) : Int) from rfl, s_ld τ tb.1 (by omega)]
    refine ok_d32 (by omega) (by omega) ?_
    rw [rem_c h0 (by omega) (by omega) (by omega)]
    refine ok_2 (t_wayOf (by omega) hW hR hE hk hx hy hrn hmm.1 (by omega) (by omega) (by omega) tb hc) fun v τ1 hv1 => ?_
    have v1 : v = wy w := by
      have e0 : v = i32 (wyT W k (goR RC) 1000 (vG W (S 0) RC k false) x y (t % W 9) lt) := hv1.1
      have e1 : wyT W k (goR RC) 1000 (vG W (S 0) RC k false) x y (t % W 9) lt = wyT W k (goR RC) 1000 (vG W (S 0) RC k false) x y t lt := by
        unfold wyT
        rw [byN_per, byN_per]
      rw [e0, e1, q5, ← hw]
      cases w <;> rfl
    have hq1 : Tw τ0 τ1 := hq.tr hv1.2.2
    have tb1 : TB W S V m Tp RC τ1 := tb0.q (Tw.q' hq1)
    rw [v1]
    refine ok_be (s_waitFor (by omega) hW tb1.1 (by omega) (by omega) ⟨by omega, by omega⟩ (cg_ev p1).2.2) ?_
    have ex : i32 (x : Int) + (1 - wy w) = i32 ((nx w x : Nat) : Int) := by
      cases w
      · show i32 (x : Int) + (i32 1 - i32 0) = _
        rw [i32_sub, i32_add]
        rfl
      · show i32 (x : Int) + (i32 1 - i32 1) = _
        rw [i32_sub, i32_add]
        congr 1
    rw [show (2 : Int32) = i32 ((2 : Nat) : Int) from rfl, s_ld τ1 tb1.1 (by omega), nm_eq, nm_eq, nm_eq, ex, (xy_n (x := x) (y := y) w).2, i32_add, i32_add, ← Int.add_assoc]
    have L := ih n (nx w x) (ny w y) (t + wtA W x y w lt + W 2) τ1 p2 p3 (by omega) (by omega) (by omega) (by omega) (by rw [Int.add_assoc]; exact p7) hq1 hv1.2.1
    rw [← hni] at L
    exact L
theorem tns_loop (hn0 : 2000 ≤ nf) (hW : TW W) (hS : SW W T (S 0)) (hE : ExA W RC) (hk : (k : Int) < 4 + W 8) {seed : Int} (hse : 0 ≤ seed ∧ seed ≤ 9999) (hv : 0 ≤ vG W (S 0) RC k false 0 0 (0 % W 9)) {τ0 : TS} (tb0 : TB W S V m Tp RC τ0) {many : Nat} (hm : many ≤ 30) {what : Int} (hw : 0 ≤ what ∧ what ≤ 1) : ∀ (d n j : Nat) (τ : TS), j + d = many → d < n → Ty τ0 τ → Cc W k false (-1) 0 (vG W (S 0) RC k false) τ → tL τ 46 = i64 (ngG W (S 0) seed j) → Ok (T_nights_b81 nf n (i32 (many : Int)) (i32 what) (i32 (smN (ngT W (S 0) RC k seed) j)) (i32 (mxN (ngT W (S 0) RC k seed) j)) (i32 (j : Int)) τ) fun p => p.1 = i32 (if what = 0 then smN (ngT W (S 0) RC k seed) many else mxN (ngT W (S 0) RC k seed) many) ∧ Ty τ0 p.2 ∧ Cc W k false (-1) 0 (vG W (S 0) RC k false) p.2 := by
  have w0 := hW.1
  have w1 := hW.2.1
  have hTb := fun j => ngT_b (σ := S 0) (RC := RC) (k := k) (seed := seed) hW hv j
  intro d
  induction d with
  | zero =>
    intro n j τ hd hn hq hc hJ
    obtain ⟨n, rfl⟩ : ∃ q, n = q + 1 := ⟨n - 1, by omega⟩
    have ej : j = many := by omega
    subst ej
    rw [show T_nights_b81 nf (n + 1) = T_nights_b81_s nf (T_nights_b81 nf n) from rfl]
    unfold T_nights_b81_s
    refine ok_le ⟨by omega, by omega⟩ ⟨by omega, by omega⟩ (fun _ => ?_) (fun z => by omega)
    rw [show (0 : Int32) = i32 0 from rfl]
    refine ok_q ⟨by omega, by omega⟩ ⟨by omega, by omega⟩ (fun q => ?_) (fun q => ?_)
    · rw [if_pos q]
      exact ok_s ⟨rfl, hq, hc⟩
    · rw [if_neg q]
      exact ok_s ⟨rfl, hq, hc⟩
  | succ d ih =>
    intro n j τ hd hn hq hc hJ
    obtain ⟨n, rfl⟩ : ∃ q, n = q + 1 := ⟨n - 1, by omega⟩
    have hsb := smN_b (f := ngT W (S 0) RC k seed) (B := 1157) (n := j) fun i _ => hTb i
    have hmb := mxN_b (f := ngT W (S 0) RC k seed) (B := 1157) (n := j) (by omega) fun i _ => hTb i
    have htj := hTb j
    have hd13 := ds_b (x := 0) (y := 0) hW
    rw [show T_nights_b81 nf (n + 1) = T_nights_b81_s nf (T_nights_b81 nf n) from rfl]
    unfold T_nights_b81_s
    refine ok_le ⟨by omega, by omega⟩ ⟨by omega, by omega⟩ (fun z => by omega) (fun _ => ?_)
    have D : Ok (T_draws nf τ) fun τ' => Ty τ0 τ' ∧ Cc W k false (-1) 0 (vG W (S 0) RC k false) τ' ∧ tL τ' 46 = i64 (ngG W (S 0) seed (j + 1)) ∧ ∀ q, q < 54 → tA τ' 47 q = i32 (shN W (S 0) (ngG W (S 0) seed j) q) := td_loop (nf := nf) (G := ngG W (S 0) seed j) hW hS (ngG_b hse j) tb0 54 nf 0 τ (by omega) (by omega) hq hc hJ (fun q z => by omega)
    refine ok_b D fun τ1 h1 => ?_
    obtain ⟨q1, c1, j1, s1⟩ := h1
    have Nn : Ok (T_night nf τ1) fun p => p.1 = i32 (ngT W (S 0) RC k seed j) ∧ Tw τ1 p.2 ∧ Cc W k false (-1) 0 (vG W (S 0) RC k false) p.2 := tn_loop (nf := nf) (G := ngG W (S 0) seed j) hn0 hW hS hE hk (tb0.q q1.q) s1 (dsA W 0 0) nf 0 0 0 τ1 (by omega) (by omega) rfl (by omega) (by omega) (by omega) hv Tm.rf c1
    refine ok_2 Nn fun v τ2 h2 => ?_
    have v1 : v = _ := h2.1
    have est : mxN (ngT W (S 0) RC k seed) (j + 1) = if mxN (ngT W (S 0) RC k seed) j < ngT W (S 0) RC k seed j then ngT W (S 0) RC k seed j else mxN (ngT W (S 0) RC k seed) j := rfl
    have ess : smN (ngT W (S 0) RC k seed) (j + 1) = smN (ngT W (S 0) RC k seed) j + ngT W (S 0) RC k seed j := rfl
    have K := ih n (j + 1) τ2 (by omega) (by omega) (q1.tr (Tw.y h2.2.1)) h2.2.2 (by rw [h2.2.1.2.1]; exact j1)
    rw [est, ess] at K
    rw [v1, nm_eq, i32_add, show (1 : Int32) = i32 1 from rfl, i32_add]
    refine ok_le ⟨by omega, by omega⟩ ⟨by omega, by omega⟩ (fun q => ?_) (fun q => ?_)
    · rw [if_neg (show ¬ mxN (ngT W (S 0) RC k seed) j < ngT W (S 0) RC k seed j by omega)] at K
      exact K
    · rw [if_pos q] at K
      exact K
theorem t_nights (hn0 : 2000 ≤ nf) (hW : TW W) (hS : SW W T (S 0)) (hE : ExA W RC) (hN : N < 1800000000) (tb : TB W S V m Tp RC τ) (h : Cv W (S 0) RC N τ) {seed many kk what : Int} (h1 : ok32 seed) (h2 : ok32 many) (h3 : ok32 kk) (h4 : ok32 what) : Ok (T_nights nf (i32 seed) (i32 many) (i32 kk) (i32 what) τ) fun p => p.1 = i32 (nsV W (S 0) RC seed many kk what) ∧ Tq τ p.2 ∧ Cv W (S 0) RC (N + 1) p.2 := by
  have w0 := hW.1
  have w1 := hW.2.1
  have w8 := hW.2.2.2.2.2.2.2.2.1
  have w9 := hW.2.2.2.2.2.2.2.2.2.1
  unfold T_nights nsV
  rw [nm_eq, show (9999 : Int32) = i32 9999 from rfl, show (30 : Int32) = i32 30 from rfl, show (1 : Int32) = i32 1 from rfl]
  have q0 := tk_z τ
  have tb1 := tb.q q0.1
  have c1 := h.k q0
  generalize sI τ 0 0 = τ1 at q0 tb1 c1 ⊢
  have out : ∀ z : Int, z = -1 → Ok (some ((-1 : Int32), τ1)) fun p => p.1 = i32 z ∧ Tq τ p.2 ∧ Cv W (S 0) RC (N + 1) p.2 := fun z hz => ok_s ⟨by rw [hz]; rfl, q0.1, c1.le (by omega)⟩
  refine ok_be (s_w3 h1 0 9999 (by omega)) ?_
  by_cases q1 : 0 ≤ seed ∧ seed ≤ 9999
  · rw [decide_eq_true q1, if_neg (show ¬ bi true = (0 : Int32) by decide)]
    refine ok_be (s_w3 h2 1 30 (by omega)) ?_
    by_cases q2 : 1 ≤ many ∧ many ≤ 30
    · rw [decide_eq_true q2, if_neg (show ¬ bi true = (0 : Int32) by decide)]
      refine ok_be (t_isGoer hW tb1.1 h3) ?_
      by_cases qk : 0 ≤ kk ∧ kk ≤ 3 + W 8
      · rw [decide_eq_true qk, if_neg (show ¬ bi true = (0 : Int32) by decide)]
        refine ok_be (s_w3 h4 0 1 (by omega)) ?_
        by_cases q3 : 0 ≤ what ∧ what ≤ 1
        · rw [decide_eq_true q3, if_neg (show ¬ bi true = (0 : Int32) by decide), toI qk.1]
          have hmm := wtN_ev hW (t := 0)
          have em : mnV W (S 0) RC false kk 0 0 0 = vG W (S 0) RC kk.toNat false 0 0 (0 % W 9) := by
            unfold mnV
            rw [if_pos ⟨qk, ⟨⟨by omega, by omega⟩, by omega, by omega⟩, by omega, by omega⟩]
            rfl
          rw [em]
          refine t_askK (k := kk.toNat) (wst := false) (wat := -1) (sh := 0) (x := 0) (y := 0) (t := 0) (by omega) hW hS hE (by omega) (by omega) (by omega) (by omega) tb1 c1 (by omega) (by omega) (by omega) (by omega) rfl rfl rfl rfl rfl rfl rfl fun v τ2 v1 v2 v3 v4 => ?_
          have v1 : v = i32 (vG W (S 0) RC kk.toNat false 0 0 (0 % W 9)) := v1
          have hvb : -1 ≤ vG W (S 0) RC kk.toNat false 0 0 (0 % W 9) ∧ vG W (S 0) RC kk.toNat false 0 0 (0 % W 9) ≤ 1170000 := VS_b13 hW vT_VS (by omega) (by omega) hmm.1 hmm.2
          rw [v1, show (0 : Int32) = i32 0 from rfl]
          refine ok_le ⟨by omega, by omega⟩ ⟨by omega, by omega⟩ (fun qv => ?_) (fun qv => ?_)
          · rw [if_pos ⟨q1, q2, q3, qv⟩, nm_eq]
            have L := tns_loop (nf := nf) (k := kk.toNat) hn0 hW hS hE (by omega) q1 qv (tb1.q v3.q) (many := many.toNat) (by omega) q3 many.toNat nf 0 (sL τ2 46 (i32 seed).toInt64) (by omega) (by omega) Ty.sL v2.sL (by rw [i32_long ⟨by omega, by omega⟩]; rfl)
            rw [Int.toNat_of_nonneg (show 0 ≤ many by omega)] at L
            refine ok_w L fun p hp => ⟨hp.1, (q0.1.tr v3.q).tr hp.2.1.q, ?_⟩
            obtain ⟨n1, n2, n3, n4, n5, n6⟩ := v4
            have y := hp.2.1
            refine ⟨hp.2.2.2.2.2.2.1, by rw [y.1]; exact n2, by rw [y.1, y.1]; exact n3, fun _ k' wst' wat' sh' a1 a2 a3 a4 a5 a6 a7 => ?_, by rw [y.1, y.2.2 32 rfl]; exact n5, by rw [y.1]; exact n6⟩
            have e1 : k' = kk.toNat := by
              rw [hp.2.2.1] at a4
              have := (i32_eq ⟨by omega, by omega⟩ ⟨by omega, by omega⟩).mp a4
              omega
            have e2 : wst' = false := by
              rw [hp.2.2.2.1] at a5
              exact (bi_inj a5).symm
            have e3 : wat' = -1 := by
              rw [hp.2.2.2.2.1] at a6
              exact ((i32_eq ⟨by omega, by omega⟩ ⟨by omega, by omega⟩).mp a6).symm
            have e4 : sh' = 0 := by
              rw [hp.2.2.2.2.2.1] at a7
              exact ((i32_eq ⟨by omega, by omega⟩ ⟨by omega, by omega⟩).mp a7).symm
            subst e1 e2 e3 e4
            exact hp.2.2.2.2.2.2.2
          · rw [if_neg (fun z => by omega)]
            exact ok_s ⟨rfl, q0.1.tr v3.q, v4⟩
        · rw [decide_eq_false q3, if_pos (show bi false = (0 : Int32) from rfl), if_neg (fun z => q3 z.2.2.1)]
          exact out _ rfl
      · rw [decide_eq_false qk, if_pos (show bi false = (0 : Int32) from rfl), if_neg]
        · exact out _ rfl
        · intro z
          have z4 := z.2.2.2
          unfold mnV at z4
          rw [if_neg (fun q => qk q.1)] at z4
          omega
    · rw [decide_eq_false q2, if_pos (show bi false = (0 : Int32) from rfl), if_neg (fun z => q2 z.2.1)]
      exact out _ rfl
  · rw [decide_eq_false q1, if_pos (show bi false = (0 : Int32) from rfl), if_neg (fun z => q1 z.1)]
    exact out _ rfl
end NT_
