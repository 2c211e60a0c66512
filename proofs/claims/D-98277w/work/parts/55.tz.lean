/-! LAYER 2: the twin's watch, worthiest, rules -/
set_option maxRecDepth 100000
section TZS
variable {W : Nat → Int} {S : Nat → Nat → Int} {V m Tp : Nat → Int} {RC : Nat → List (Nat × Int)} {τ : TS} {T N : Int} {nf : Nat} {σ : Nat → Int}
theorem s_rd (hW : TW W) (h : Rw W τ) {x y : Nat} (hx : x < 6) (hy : y < 9) : T_lightAt τ (i32 x) (i32 y) 1 = some (i32 (W (11 + 4 * (6 * y + x)))) := by
  have := s_lightAt (what := 1) h (x := x) (y := y) hx hy (by omega)
  unfold ltA at this
  rw [show 10 + 4 * (6 * y + x) + 1 = 11 + 4 * (6 * y + x) by omega] at this
  exact this
theorem tw_loop (hn : 2000 ≤ nf) (hW : TW W) (hS : SW W T (S 0)) (hE : ExA W RC) {wx wyy : Nat} (hwx : (wx : Int) < W 0) (hwy : (wyy : Int) < W 1) {t M : Int} (h0 : 0 ≤ t) (h1 : t ≤ 1000000) (hM : 0 ≤ M ∧ M ≤ 1170000) {rd : Nat} (erd : W (11 + 4 * (6 * wyy + wx)) = rd) (hr : 0 < rd ∧ rd ≤ 60) (hre : ∀ i : Nat, 0 ≤ vW W (S 0) RC ((6 * wyy + wx : Nat) : Int) i 0 0 (t % W 9)) {τ0 : TS} (tb0 : TB W S V m Tp RC τ0) : ∀ (d n i : Nat) (τ : TS) (N : Int), N + 100 * (d : Int) < 1900000000 → i + d = rd → d < n → Tq τ0 τ → Cv W (S 0) RC N τ → Ok (T_watch_b59 nf n (i32 wx) (i32 wyy) (i32 t) (i32 M) (i64 (smN (fun i : Nat => vW W (S 0) RC ((6 * wyy + wx : Nat) : Int) i 0 0 (t % W 9)) i)) (i32 (i : Int)) τ) fun p => p.1 = i32 (M - smN (fun i : Nat => vW W (S 0) RC ((6 * wyy + wx : Nat) : Int) i 0 0 (t % W 9)) rd / (rd : Int)) ∧ Tq τ0 p.2 ∧ Cv W (S 0) RC (N + d) p.2 := by
  have w0 := hW.1
  have w1 := hW.2.1
  have w8 := hW.2.2.2.2.2.2.2.2.1
  obtain ⟨F, hF⟩ : ∃ F, F = fun i : Nat => vW W (S 0) RC ((6 * wyy + wx : Nat) : Int) i 0 0 (t % W 9) := ⟨_, rfl⟩
  rw [← hF]
  have hm := wtN_ev hW (t := t)
  have hFb : ∀ i : Nat, 0 ≤ F i ∧ F i ≤ 1170000 := fun i => by
    have e : F i = vW W (S 0) RC ((6 * wyy + wx : Nat) : Int) i 0 0 (t % W 9) := by rw [hF]
    rw [e]
    exact ⟨hre i, (VS_b13 hW vT_VS (by omega) (by omega) hm.1 hm.2).2⟩
  have hsum : ∀ i, i ≤ 60 → 0 ≤ smN F i ∧ smN F i ≤ 1170000 * (i : Int) := by
    intro i
    induction i with
    | zero => intro _; exact ⟨Int.le_refl 0, Int.le_refl 0⟩
    | succ i ih =>
      intro hi
      have e := ih (by omega)
      have hfi := hFb i
      refine ⟨?_, ?_⟩
      · show 0 ≤ smN F i + F i
        omega
      · show smN F i + F i ≤ 1170000 * ((i + 1 : Nat) : Int)
        omega
  intro d
  induction d with
  | zero =>
    intro n i τ N hN hd hn2 hq hv
    obtain ⟨n, rfl⟩ : ∃ q, n = q + 1 := ⟨n - 1, by omega⟩
    have ei : i = rd := by omega
    subst ei
    obtain ⟨e1, e2⟩ := hsum i (by omega)
    have tb := tb0.q hq
    rw [show T_watch_b59 nf (n + 1) = T_watch_b59_s nf (T_watch_b59 nf n) from rfl]
    unfold T_watch_b59_s T_watch_b109
    refine ok_be (s_rd hW tb.1 (by omega) (by omega)) ?_
    rw [erd]
    refine ok_le ⟨by omega, by omega⟩ ⟨by omega, by omega⟩ (fun _ => ?_) (fun z => by omega)
    rw [show (0 : Int32) = i32 0 from rfl]
    refine ok_le ⟨by omega, by omega⟩ ⟨by omega, by omega⟩ (fun _ => ?_) (fun z => by omega)
    refine ok_be (s_rd hW tb.1 (by omega) (by omega)) ?_
    rw [erd]
    have hq1 : 0 ≤ smN F i / (i : Int) := Int.ediv_nonneg e1 (by omega)
    have hq2 : smN F i / (i : Int) ≤ smN F i := Int.ediv_le_self _ e1
    rw [i32_long ⟨by omega, by omega⟩, d64_n ⟨by omega, by omega⟩ (by omega), i64_div ⟨by omega, by omega⟩ ⟨by omega, by omega⟩ e1 (by omega), i64_int ⟨by omega, by omega⟩, i32_sub]
    exact ok_s ⟨rfl, hq, hv.le (by omega)⟩
  | succ d ih =>
    intro n i τ N hN hd hn2 hq hv
    obtain ⟨n, rfl⟩ : ∃ q, n = q + 1 := ⟨n - 1, by omega⟩
    obtain ⟨e1, e2⟩ := hsum i (by omega)
    have hfi := hFb i
    have tb := tb0.q hq
    rw [show T_watch_b59 nf (n + 1) = T_watch_b59_s nf (T_watch_b59 nf n) from rfl]
    unfold T_watch_b59_s
    refine ok_be (s_rd hW tb.1 (by omega) (by omega)) ?_
    rw [erd]
    refine ok_le ⟨by omega, by omega⟩ ⟨by omega, by omega⟩ (fun z => by omega) (fun _ => ?_)
    rw [show (0 : Int32) = i32 0 from rfl]
    refine ok_lt ⟨by omega, by omega⟩ ⟨by omega, by omega⟩ (fun z => by omega) (fun _ => ?_)
    have ec : (6 * (i32 (wyy : Int)) + i32 (wx : Int) : Int32) = i32 ((6 * wyy + wx : Nat) : Int) := by
      rw [show (6 : Int32) = i32 6 from rfl, i32_mul, i32_add]
      congr 1
    refine t_askK (k := 3) (wst := false) (wat := ((6 * wyy + wx : Nat) : Int)) (sh := i) (x := 0) (y := 0) (by omega) hW hS hE (by omega) (by omega) (by omega) (by omega) tb hv (by omega) (by omega) h0 (by omega) rfl rfl ec rfl rfl rfl rfl fun v τ2 v1 v2 v3 v4 => ?_
    have v1 : v = i32 (F i) := by rw [hF]; exact v1
    rw [v1, nm_eq, i32_long ⟨by omega, by omega⟩, i64_add, show (1 : Int32) = i32 1 from rfl, i32_add]
    have K := ih n (i + 1) τ2 (N + 1) (by omega) (by omega) (by omega) (hq.tr v3.q) v4
    refine ok_w K fun p hp => ⟨hp.1, hp.2.1, hp.2.2.le (by omega)⟩
theorem t_watch (hn : 2000 ≤ nf) (hW : TW W) (hS : SW W T (S 0)) (hE : ExA W RC) (hN : N < 1800000000) (tb : TB W S V m Tp RC τ) (h : Cv W (S 0) RC N τ) {x y t : Int} (hx : ok32 x) (hy : ok32 y) (ht : ok32 t) : Ok (T_watch nf (i32 x) (i32 y) (i32 t) τ) fun p => p.1 = i32 (wcV W (S 0) RC x y t) ∧ Tq τ p.2 ∧ Cv W (S 0) RC (N + 61) p.2 := by
  have w0 := hW.1
  have w1 := hW.2.1
  have w8 := hW.2.2.2.2.2.2.2.2.1
  have hm := wtN_ev hW (t := t)
  unfold T_watch wcV
  rw [nm_eq]
  have q0 := tk_z τ
  have tb1 := tb.q q0.1
  have c1 := h.k q0
  generalize sI τ 0 0 = τ1 at q0 tb1 c1 ⊢
  refine ok_be (s_isPlace hW tb1.1 hx hy ht) ?_
  by_cases q2 : ((0 ≤ x ∧ x < W 0) ∧ 0 ≤ y ∧ y < W 1) ∧ 0 ≤ t ∧ t ≤ 1000000
  · rw [decide_eq_true q2, if_neg (show ¬ bi true = (0 : Int32) by decide)]
    obtain ⟨xn, exn⟩ : ∃ xn : Nat, x = xn := ⟨x.toNat, by omega⟩
    obtain ⟨yn, eyn⟩ : ∃ yn : Nat, y = yn := ⟨y.toNat, by omega⟩
    subst exn
    subst eyn
    rw [Int.toNat_natCast, Int.toNat_natCast]
    have hkk := kw_b hW (c := 6 * yn + xn) (by omega)
    have hsk := hS.2.2.2.2 (6 * yn + xn) (by omega)
    refine ok_be (s_kindAt tb1.1 (by omega) (by omega)) ?_
    have ek : kdA W xn yn = W (10 + 4 * (6 * yn + xn)) - 1 := rfl
    rw [show (1 : Int32) = i32 1 from rfl]
    refine ok_q ⟨by omega, by omega⟩ ⟨by omega, by omega⟩ (fun qk => ?_) (fun qk => ?_)
    · refine ok_be (s_isKnown tb1 (by omega) (by omega) hW hS) ?_
      by_cases qs : S 0 (4 + (6 * yn + xn)) = 1
      · rw [decide_eq_true (show W (10 + 4 * (6 * yn + xn)) = 2 ∧ S 0 (4 + (6 * yn + xn)) = 1 by omega), if_neg (show ¬ bi true = (0 : Int32) by decide), if_neg (fun z => by have z2 := of_decide_eq_true z.2; omega)]
        exact ok_s ⟨rfl, q0.1, c1.le (by omega)⟩
      · have qu : unA W (S 0) (6 * yn + xn) = true := decide_eq_true (by omega)
        have hr := un_rd hW (c := 6 * yn + xn) (by omega) qu
        rw [decide_eq_false (show ¬ (W (10 + 4 * (6 * yn + xn)) = 2 ∧ S 0 (4 + (6 * yn + xn)) = 1) by omega), if_pos (show bi false = (0 : Int32) from rfl), if_pos ⟨q2, qu⟩]
        refine t_askK (k := 3) (wst := false) (wat := -1) (sh := 0) (x := 0) (y := 0) (by omega) hW hS hE (by omega) (by omega) (by omega) (by omega) tb1 c1 (by omega) (by omega) q2.2.1 (by omega) rfl rfl rfl rfl rfl rfl rfl fun v τ2 v1 v2 v3 v4 => ?_
        have hMb : -1 ≤ vG W (S 0) RC 3 false 0 0 (t % W 9) ∧ vG W (S 0) RC 3 false 0 0 (t % W 9) ≤ 1170000 := VS_b13 hW vT_VS (by omega) (by omega) hm.1 hm.2
        have v1 : v = i32 (vG W (S 0) RC 3 false 0 0 (t % W 9)) := v1
        obtain ⟨M, hMe⟩ : ∃ M, M = vG W (S 0) RC 3 false 0 0 (t % W 9) := ⟨_, rfl⟩
        rw [← hMe] at hMb v1 ⊢
        rw [v1]
        have tb2 := tb1.q v3.q
        by_cases qm : M < 0
        · obtain ⟨n, rfl⟩ : ∃ n, nf = n + 1 := ⟨nf - 1, by omega⟩
          rw [if_pos qm]
          rw [show T_watch_b59 (n + 1) (n + 1) = T_watch_b59_s (n + 1) (T_watch_b59 (n + 1) n) from rfl]
          unfold T_watch_b59_s T_watch_b109
          refine ok_be (s_rd hW tb2.1 (by omega) (by omega)) ?_
          rw [show (0 : Int32) = i32 0 from rfl]
          refine ok_le ⟨by omega, by omega⟩ ⟨by omega, by omega⟩ (fun z => by omega) (fun _ => ?_)
          refine ok_lt ⟨by omega, by omega⟩ ⟨by omega, by omega⟩ (fun _ => ?_) (fun z => by omega)
          refine ok_le ⟨by omega, by omega⟩ ⟨by omega, by omega⟩ (fun z => by omega) (fun _ => ?_)
          exact ok_s ⟨rfl, q0.1.tr v3.q, v4.le (by omega)⟩
        · rw [if_neg qm]
          have hre : ∀ i : Nat, 0 ≤ vW W (S 0) RC ((6 * yn + xn : Nat) : Int) i 0 0 (t % W 9) := fun i => (vW_rc hW (by omega) (by omega) hm.1 hm.2 hm.1 hm.2).mp (show 0 ≤ vW W (S 0) RC (-1) 0 0 0 (t % W 9) by rw [← vG_vW]; omega)
          have L := tw_loop (M := M) (rd := (W (11 + 4 * (6 * yn + xn))).toNat) hn hW hS hE (wx := xn) (wyy := yn) q2.1.1.2 q2.1.2.2 q2.2.1 q2.2.2 ⟨by omega, by omega⟩ (by omega) (by omega) hre tb2 (W (11 + 4 * (6 * yn + xn))).toNat nf 0 τ2 (N + 1) (by omega) (by omega) (by omega) Tq.rf v4
          rw [Int.toNat_of_nonneg (by omega)] at L
          exact ok_w L fun p hp => ⟨hp.1, (q0.1.tr v3.q).tr hp.2.1, hp.2.2.le (by omega)⟩
    · rw [if_neg (fun z => by have z2 := of_decide_eq_true z.2; omega)]
      exact ok_s ⟨rfl, q0.1, c1.le (by omega)⟩
  · rw [decide_eq_false q2, if_pos (show bi false = (0 : Int32) from rfl), if_neg (fun z => q2 z.1)]
    exact ok_s ⟨rfl, q0.1, c1.le (by omega)⟩
theorem tr_loop (hn : 2000 ≤ nf) (hW : TW W) (hS : SW W T (S 0)) (hE : ExA W RC) {τ0 : TS} (tb0 : TB W S V m Tp RC τ0) : ∀ (d n k : Nat) (τ : TS) (N : Int), N + 100 * (d : Int) < 1900000000 → (k : Int) + d = W 8 → d < n → Tq τ0 τ → Cv W (S 0) RC N τ → Ok (T_rules_b11 nf n (i32 (rlN W (S 0) RC k).1) (i32 (rlN W (S 0) RC k).2) (i32 (k : Int)) τ) fun p => p.1 = i32 (rlN W (S 0) RC (W 8).toNat).1 ∧ Tq τ0 p.2 ∧ Cv W (S 0) RC (N + d) p.2 := by
  have w0 := hW.1
  have w1 := hW.2.1
  have w8 := hW.2.2.2.2.2.2.2.2.1
  have w9 := hW.2.2.2.2.2.2.2.2.2.1
  intro d
  induction d with
  | zero =>
    intro n k τ N hN hd hn2 hq hv
    obtain ⟨n, rfl⟩ : ∃ q, n = q + 1 := ⟨n - 1, by omega⟩
    have tb := tb0.q hq
    rw [show T_rules_b11 nf (n + 1) = T_rules_b11_s nf (T_rules_b11 nf n) from rfl]
    unfold T_rules_b11_s
    rw [show (8 : Int32) = i32 ((8 : Nat) : Int) from rfl, s_ld τ tb.1 (by omega)]
    refine ok_le ⟨by omega, by omega⟩ ⟨by omega, by omega⟩ (fun _ => ?_) (fun z => by omega)
    rw [show (W 8).toNat = k by omega]
    exact ok_s ⟨rfl, hq, hv.le (by omega)⟩
  | succ d ih =>
    intro n k τ N hN hd hn2 hq hv
    obtain ⟨n, rfl⟩ : ∃ q, n = q + 1 := ⟨n - 1, by omega⟩
    have tb := tb0.q hq
    have hb := mnV_b (RC := RC) (wst := false) (σ := S 0) (k := 4 + k) (x := 0) (y := 0) (t := 0) hW
    have hrb := rlN_b (RC := RC) hW (σ := S 0) k
    rw [show T_rules_b11 nf (n + 1) = T_rules_b11_s nf (T_rules_b11 nf n) from rfl]
    unfold T_rules_b11_s
    rw [show (8 : Int32) = i32 ((8 : Nat) : Int) from rfl, s_ld τ tb.1 (by omega)]
    refine ok_le ⟨by omega, by omega⟩ ⟨by omega, by omega⟩ (fun z => by omega) (fun _ => ?_)
    have ek : (4 : Int32) + i32 (k : Int) = i32 ((4 + k : Nat) : Int) := by
      rw [show (4 : Int32) = i32 4 from rfl, i32_add]
      congr 1
    refine t_askK (k := 4 + k) (wst := false) (wat := -1) (sh := 0) (x := 0) (y := 0) (t := 0) (by omega) hW hS hE (by omega) (by omega) (by omega) (by omega) tb hv (by omega) (by omega) (by omega) (by omega) ek rfl rfl rfl rfl rfl rfl fun v τ2 v1 v2 v3 v4 => ?_
    have em : mnV W (S 0) RC false (4 + k) 0 0 0 = vT W (S 0) (4 + k) (goR RC) false false (-1) 0 0 0 (0 % W 9) := by
      unfold mnV
      rw [if_pos ⟨⟨by omega, by omega⟩, ⟨⟨by omega, by omega⟩, by omega, by omega⟩, by omega, by omega⟩, show ((4 : Int) + (k : Int)).toNat = 4 + k by omega]
      rfl
    rw [← em] at v1
    have hst : rlN W (S 0) RC (k + 1) = if mnV W (S 0) RC false (4 + k) 0 0 0 < 0 then rlN W (S 0) RC k else if (rlN W (S 0) RC k).1 < 0 ∨ mnV W (S 0) RC false (4 + k) 0 0 0 < (rlN W (S 0) RC k).2 then ((k : Int), mnV W (S 0) RC false (4 + k) 0 0 0) else rlN W (S 0) RC k := rfl
    have K := ok_w (ih n (k + 1) τ2 (N + 1) (by omega) (by omega) (by omega) (hq.tr v3.q) v4) fun p hp => (⟨hp.1, hp.2.1, hp.2.2.le (show N + 1 + (d : Int) ≤ N + ((d + 1 : Nat) : Int) by omega)⟩ : p.1 = i32 (rlN W (S 0) RC (W 8).toNat).1 ∧ Tq τ0 p.2 ∧ Cv W (S 0) RC (N + ((d + 1 : Nat) : Int)) p.2)
    rw [hst] at K
    rw [show ((k + 1 : Nat) : Int) = (k : Int) + 1 from rfl] at K
    rw [v1, show (0 : Int32) = i32 0 from rfl, show (1 : Int32) = i32 1 from rfl, i32_add]
    refine ok_lt ⟨by omega, by omega⟩ ⟨by omega, by omega⟩ (fun q => ?_) (fun q => ?_)
    · rw [if_pos q] at K
      exact K
    · rw [if_neg (show ¬ mnV W (S 0) RC false (4 + k) 0 0 0 < 0 by omega)] at K
      refine ok_lt ⟨by omega, by omega⟩ ⟨by omega, by omega⟩ (fun q2 => ?_) (fun q2 => ?_)
      · rw [if_pos (.inl q2)] at K
        exact K
      · refine ok_le ⟨by omega, by omega⟩ ⟨by omega, by omega⟩ (fun q3 => ?_) (fun q3 => ?_)
        · rw [if_neg (show ¬ ((rlN W (S 0) RC k).1 < 0 ∨ mnV W (S 0) RC false (4 + k) 0 0 0 < (rlN W (S 0) RC k).2) by omega)] at K
          exact K
        · rw [if_pos (.inr q3)] at K
          exact K
theorem t_rules (hn : 2000 ≤ nf) (hW : TW W) (hS : SW W T (S 0)) (hE : ExA W RC) (hN : N < 1800000000) (tb : TB W S V m Tp RC τ) (h : Cv W (S 0) RC N τ) : Ok (T_rules nf τ) fun p => p.1 = i32 (rlN W (S 0) RC (W 8).toNat).1 ∧ Tq τ p.2 ∧ Cv W (S 0) RC (N + 4) p.2 := by
  have w8 := hW.2.2.2.2.2.2.2.2.1
  unfold T_rules
  rw [nm_eq]
  have q0 := tk_z τ
  exact ok_w (tr_loop hn hW hS hE (tb.q q0.1) (W 8).toNat nf 0 _ N (by omega) (by omega) (by omega) Tq.rf (h.k q0)) fun p hp => ⟨hp.1, q0.1.tr hp.2.1, hp.2.2.le (by omega)⟩
/-- the worthiest as the twin keeps it: over and on in one -/
def xyC (b : Int) : Int := if b < 0 then -1 else b / 6 * 8 + b % 6
theorem tws_loop (hn : 2000 ≤ nf) (hW : TW W) (hL : LW_ W) (hS : SW W T (S 0)) (hE : ExA W RC) {t : Int} (ht : ok32 t) {τ0 : TS} (tb0 : TB W S V m Tp RC τ0) : ∀ (d n c : Nat) (τ : TS) (N : Int), N + 100 * (d : Int) < 1700000000 → c + d = 54 → d < n → Tq τ0 τ → Cv W (S 0) RC N τ → ∀ v u : Int, ((0 ≤ t ∧ t ≤ 1000000) ∧ 0 ≤ vG W (S 0) RC 3 false 0 0 (t % W 9) → v = xyC (wsN W (S 0) RC t c).1 ∧ u = (wsN W (S 0) RC t c).2) → (¬ ((0 ≤ t ∧ t ≤ 1000000) ∧ 0 ≤ vG W (S 0) RC 3 false 0 0 (t % W 9)) → v = -1 ∧ u = 0) → Ok (T_worthiest_b7 nf n (i32 t) (i32 v) (i32 u) (i32 (c : Int)) τ) fun p => p.1 = i32 (wzV W (S 0) RC t) ∧ Tq τ0 p.2 ∧ Cv W (S 0) RC (N + 62 * d) p.2 := by
  have w0 := hW.1
  have w1 := hW.2.1
  have w8 := hW.2.2.2.2.2.2.2.2.1
  have hm := wtN_ev hW (t := t)
  have hMb : -1 ≤ vG W (S 0) RC 3 false 0 0 (t % W 9) ∧ vG W (S 0) RC 3 false 0 0 (t % W 9) ≤ 1170000 := VS_b13 hW vT_VS (by omega) (by omega) hm.1 hm.2
  intro d
  induction d with
  | zero =>
    intro n c τ N hN hd hn2 hq hv v u hv1 hu1
    obtain ⟨n, rfl⟩ : ∃ q, n = q + 1 := ⟨n - 1, by omega⟩
    have ec : c = 54 := by omega
    subst ec
    have hwb := wsN_b (RC := RC) hW (σ := S 0) (t := t) 54
    rw [show T_worthiest_b7 nf (n + 1) = T_worthiest_b7_s nf (T_worthiest_b7 nf n) from rfl]
    unfold T_worthiest_b7_s
    rw [show (54 : Int32) = i32 54 from rfl]
    refine ok_le ⟨by omega, by omega⟩ ⟨by omega, by omega⟩ (fun _ => ?_) (fun z => by omega)
    rw [nm_eq]
    have q0 := tk_z τ
    have ev : v = wzV W (S 0) RC t := by
      unfold wzV
      by_cases q : (0 ≤ t ∧ t ≤ 1000000) ∧ 0 ≤ vG W (S 0) RC 3 false 0 0 (t % W 9)
      · rw [if_pos q, (hv1 q).1]
        unfold xyC
        split <;> split <;> omega
      · rw [if_neg q, (hu1 q).1]
    rw [ev]
    exact ok_s ⟨rfl, hq.tr q0.1, (hv.k q0).le (by omega)⟩
  | succ d ih =>
    intro n c τ N hN hd hn2 hq hv v u hv1 hu1
    obtain ⟨n, rfl⟩ : ∃ q, n = q + 1 := ⟨n - 1, by omega⟩
    have tb := tb0.q hq
    have hwb := wsN_b (RC := RC) hW (σ := S 0) (t := t) c
    have hcb := wcV_b (RC := RC) hW (σ := S 0) (x := ((c % 6 : Nat) : Int)) (y := ((c / 6 : Nat) : Int)) (t := t)
    have er : rem32 (i32 (c : Int)) 6 = i32 ((c % 6 : Nat) : Int) := by
      rw [show (6 : Int32) = i32 6 from rfl, rem_c (by omega) (by omega) (by omega) (by omega)]
      rfl
    have ed : (i32 (c : Int)) / 6 = i32 ((c / 6 : Nat) : Int) := by
      rw [show (6 : Int32) = i32 6 from rfl, div_c (by omega) (by omega) (by omega) (by omega)]
      rfl
    have ec : 6 * (c / 6) + c % 6 = c := by omega
    have hsk := hS.2.2.2.2 c (by omega)
    have hkk := kw_b hW (c := c) (by omega)
    have hst : wsN W (S 0) RC t (c + 1) = if unA W (S 0) c = true then (if (wsN W (S 0) RC t c).1 < 0 ∨ (wsN W (S 0) RC t c).2 < wcV W (S 0) RC ((c % 6 : Nat) : Int) ((c / 6 : Nat) : Int) t then ((c : Int), wcV W (S 0) RC ((c % 6 : Nat) : Int) ((c / 6 : Nat) : Int) t) else wsN W (S 0) RC t c) else wsN W (S 0) RC t c := rfl
    have hub : (v = -1 ∧ u = 0) ∨ (v = xyC (wsN W (S 0) RC t c).1 ∧ u = (wsN W (S 0) RC t c).2) := by
      by_cases q : (0 ≤ t ∧ t ≤ 1000000) ∧ 0 ≤ vG W (S 0) RC 3 false 0 0 (t % W 9)
      · exact .inr (hv1 q)
      · exact .inl (hu1 q)
    have hxb : -1 ≤ xyC (wsN W (S 0) RC t c).1 ∧ xyC (wsN W (S 0) RC t c).1 < 100 ∧ ((wsN W (S 0) RC t c).1 < 0 ↔ xyC (wsN W (S 0) RC t c).1 < 0) := by
      unfold xyC
      split <;> omega
    -- nothing here
    have skip : ∀ τ1 (N1 : Int), N1 < 1800000000 → Tq τ0 τ1 → Cv W (S 0) RC N1 τ1 → N1 ≤ N + 62 → (((0 ≤ t ∧ t ≤ 1000000) ∧ 0 ≤ vG W (S 0) RC 3 false 0 0 (t % W 9)) → unA W (S 0) c = false) → Ok (T_worthiest_b76 nf (T_worthiest_b7 nf n) (i32 t) (i32 v) (i32 u) (i32 (c : Int)) (i32 ((c % 6 : Nat) : Int)) (i32 ((c / 6 : Nat) : Int)) 0 τ1) fun p => p.1 = i32 (wzV W (S 0) RC t) ∧ Tq τ0 p.2 ∧ Cv W (S 0) RC (N + 62 * ((d + 1 : Nat) : Int)) p.2 := fun τ1 N1 hN1 hq1 hv2 hle hno => by
      unfold T_worthiest_b76 T_worthiest_b96
      rw [if_pos rfl, if_pos rfl, show (1 : Int32) = i32 1 from rfl, i32_add]
      refine ok_w (ih n (c + 1) τ1 (N + 62) (by omega) (by omega) (by omega) hq1 (hv2.le hle) v u (fun q => ?_) hu1) fun p hp => ⟨hp.1, hp.2.1, hp.2.2.le (by omega)⟩
      rw [hst, hno q, if_neg (by decide)]
      exact hv1 q
    rw [show T_worthiest_b7 nf (n + 1) = T_worthiest_b7_s nf (T_worthiest_b7 nf n) from rfl]
    unfold T_worthiest_b7_s
    rw [show (54 : Int32) = i32 54 from rfl]
    refine ok_le ⟨by omega, by omega⟩ ⟨by omega, by omega⟩ (fun z => by omega) (fun _ => ?_)
    rw [nm_eq, nm_eq, er, ed]
    refine ok_be (s_isPlace hW tb.1 ⟨by omega, by omega⟩ ⟨by omega, by omega⟩ ht) ?_
    by_cases qp : ((0 ≤ ((c % 6 : Nat) : Int) ∧ ((c % 6 : Nat) : Int) < W 0) ∧ 0 ≤ ((c / 6 : Nat) : Int) ∧ ((c / 6 : Nat) : Int) < W 1) ∧ 0 ≤ t ∧ t ≤ 1000000
    · rw [decide_eq_true qp, if_neg (show ¬ bi true = (0 : Int32) by decide)]
      refine ok_be (s_kindAt tb.1 (by omega) (by omega)) ?_
      have ek : kdA W (c % 6) (c / 6) = W (10 + 4 * c) - 1 := by unfold kdA; rw [ec]
      rw [show (1 : Int32) = i32 1 from rfl]
      refine ok_q ⟨by omega, by omega⟩ ⟨by omega, by omega⟩ (fun qk => ?_) (fun qk => ?_)
      · have ekn := s_isKnown tb (x := c % 6) (y := c / 6) (by omega) (by omega) hW hS
        rw [ec] at ekn
        refine ok_be ekn ?_
        by_cases qs : S 0 (4 + c) = 1
        · rw [decide_eq_true (show W (10 + 4 * c) = 2 ∧ S 0 (4 + c) = 1 by omega), if_neg (show ¬ bi true = (0 : Int32) by decide)]
          exact skip τ N (by omega) hq hv (by omega) (fun _ => decide_eq_false (by omega))
        · have qu : unA W (S 0) c = true := decide_eq_true (by omega)
          rw [decide_eq_false (show ¬ (W (10 + 4 * c) = 2 ∧ S 0 (4 + c) = 1) by omega), if_pos (show bi false = (0 : Int32) from rfl)]
          have em : Ok (T_meanFrom0 nf (i32 t) τ) fun p => p.1 = i32 (vG W (S 0) RC 3 false 0 0 (t % W 9)) ∧ Tq τ p.2 ∧ Cv W (S 0) RC (N + 1) p.2 := by
            unfold T_meanFrom0
            exact t_askK (k := 3) (wst := false) (wat := -1) (sh := 0) (x := 0) (y := 0) (by omega) hW hS hE (by omega) (by omega) (by omega) (by omega) tb hv (by omega) (by omega) qp.2.1 (by omega) rfl rfl rfl rfl rfl rfl rfl fun v τ2 v1 v2 v3 v4 => ok_s ⟨v1, v3.q, v4⟩
          refine ok_2 em fun v0 τ2 hm2 => ?_
          have e0 : v0 = _ := hm2.1
          rw [e0, show (0 : Int32) = i32 0 from rfl]
          refine ok_lt ⟨by omega, by omega⟩ ⟨by omega, by omega⟩ (fun qm => ?_) (fun qm => ?_)
          · exact skip τ2 (N + 1) (by omega) (hq.tr hm2.2.1) hm2.2.2 (by omega) (fun z => by omega)
          · obtain ⟨ev, eu⟩ := hv1 ⟨qp.2, qm⟩
            unfold T_worthiest_b76
            rw [if_neg (show ¬ (i32 1 : Int32) = 0 by decide)]
            refine ok_2 (t_watch (x := ((c % 6 : Nat) : Int)) (y := ((c / 6 : Nat) : Int)) hn hW hS hE (by omega) (tb.q hm2.2.1) hm2.2.2 ⟨by omega, by omega⟩ ⟨by omega, by omega⟩ ht) fun nn τ3 h3 => ?_
            have e3 : nn = _ := h3.1
            have q3 := (hq.tr hm2.2.1).tr h3.2.1
            have c3 := h3.2.2
            rw [e3]
            unfold T_worthiest_b96 T_worthiest_b113
            rw [if_neg (show ¬ (i32 1 : Int32) = 0 by decide)]
            rw [qu, if_pos rfl] at hst
            have fin : ∀ v' u', v' = xyC (wsN W (S 0) RC t (c + 1)).1 → u' = (wsN W (S 0) RC t (c + 1)).2 → Ok (T_worthiest_b7 nf n (i32 t) (i32 v') (i32 u') (i32 ((c : Int) + 1)) τ3) fun p => p.1 = i32 (wzV W (S 0) RC t) ∧ Tq τ0 p.2 ∧ Cv W (S 0) RC (N + 62 * ((d + 1 : Nat) : Int)) p.2 := fun v' u' e1 e2 =>
              ok_w (ih n (c + 1) τ3 (N + 62) (by omega) (by omega) (by omega) q3 (c3.le (by omega)) v' u' (fun _ => ⟨e1, e2⟩) (fun z => absurd ⟨qp.2, qm⟩ z)) fun p hp => ⟨hp.1, hp.2.1, hp.2.2.le (by omega)⟩
            have exy : (8 * i32 ((c / 6 : Nat) : Int) + i32 ((c % 6 : Nat) : Int) : Int32) = i32 (xyC (c : Int)) := by
              rw [show (8 : Int32) = i32 8 from rfl, i32_mul, i32_add]
              congr 1
              unfold xyC
              rw [if_neg (by omega)]
              omega
            rw [nm_eq, exy, show (1 : Int32) = i32 1 from rfl, show (0 : Int32) = i32 0 from rfl, i32_add]
            refine ok_lt ⟨by omega, by omega⟩ ⟨by omega, by omega⟩ (fun q4 => ?_) (fun q4 => ?_)
            · rw [if_pos (.inl (by omega))] at hst
              exact fin _ _ (by rw [hst]) (by rw [hst])
            · refine ok_le ⟨by omega, by omega⟩ ⟨by omega, by omega⟩ (fun q5 => ?_) (fun q5 => ?_)
              · rw [if_neg (by omega)] at hst
                exact fin _ _ (by rw [hst]; exact ev) (by rw [hst]; exact eu)
              · rw [if_pos (.inr (by omega))] at hst
                exact fin _ _ (by rw [hst]) (by rw [hst])
      · exact skip τ N (by omega) hq hv (by omega) (fun _ => decide_eq_false (by omega))
    · rw [decide_eq_false qp, if_pos (show bi false = (0 : Int32) from rfl)]
      refine skip τ N (by omega) hq hv (by omega) (fun z => ?_)
      refine decide_eq_false (fun z2 => ?_)
      have := hL.1 c (by omega) (by omega)
      omega
theorem t_worthiest (hn : 2000 ≤ nf) (hW : TW W) (hL : LW_ W) (hS : SW W T (S 0)) (hE : ExA W RC) (hN : N < 1600000000) (tb : TB W S V m Tp RC τ) (h : Cv W (S 0) RC N τ) {t : Int} (ht : ok32 t) : Ok (T_worthiest nf (i32 t) τ) fun p => p.1 = i32 (wzV W (S 0) RC t) ∧ Tq τ p.2 ∧ Cv W (S 0) RC (N + 3400) p.2 := by
  unfold T_worthiest
  exact ok_w (tws_loop hn hW hL hS hE ht tb 54 nf 0 τ N (by omega) (by omega) (by omega) Tq.rf h (-1) 0 (fun _ => ⟨rfl, rfl⟩) (fun _ => ⟨rfl, rfl⟩)) fun p hp => ⟨hp.1, hp.2.1, hp.2.2.le (by omega)⟩
end TZS
