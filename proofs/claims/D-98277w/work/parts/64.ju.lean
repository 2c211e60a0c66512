/-! LAYER 2: a walk, judged -/
set_option maxRecDepth 100000
/-- whether one who came at a second may begin to cross at another one -/
def soB (W : Nat → Int) (x y : Nat) (w : Bool) (came sec : Int) : Bool := decide (came ≤ sec) && (evA W x y w && (if kdA W x y = 2 then decide (wtA W x y w came ≤ sec - came) else decide (wtA W x y w sec = 0)))
/-- the first line that can't be -/
def jdV (W V : Nat → Int) : Nat → Nat → Int → Int
  | 0, _, _ => -1
  | d + 1, k, came => if soB W (xW V k) (k - xW V k) (decide (V (1 + 2 * k) = 1)) came (V (2 + 2 * k)) = true then jdV W V d (k + 1) (V (2 + 2 * k) + W 2) else k
theorem jdV_s {W V : Nat → Int} {d k : Nat} {came : Int} : jdV W V (d + 1) k came = if soB W (xW V k) (k - xW V k) (decide (V (1 + 2 * k) = 1)) came (V (2 + 2 * k)) = true then jdV W V d (k + 1) (V (2 + 2 * k) + W 2) else k := rfl
theorem jdV_b {W V : Nat → Int} : ∀ (d k : Nat) (c : Int), -1 ≤ jdV W V d k c ∧ jdV W V d k c < k + d + 1 := by
  intro d
  induction d with
  | zero => intro k c; unfold jdV; omega
  | succ d ih =>
    intro k c
    unfold jdV
    split
    · have := ih (k + 1) (V (2 + 2 * k) + W 2)
      omega
    · omega
section JU
variable {g : Nat → Nat} {ρ : Nat → Nat × Nat} {W : Nat → Int} {S : Nat → Nat → Int} {V m Tp : Nat → Int} {RC : Nat → List (Nat × Int)} {s : CS} {τ : TS} {T : Int} {nf : Nat}
theorem c_vWaits (hW : TW W) {x y l : Nat} {w : Bool} {t : Int} (hx : x < 6) (hy : y < 9) (hl : Rl s W (6 * y + x) l) (h1 : 0 < W (10 + 4 * (6 * y + x))) (he : evA W x y w = true) (ht : 0 ≤ t) (ht2 : t ≤ 1900000000) : V11_waits s l (wy w) (i32 t) = some (i32 (wtA W x y w t)) := by
  have hk := kw_b hW (c := 6 * y + x) (by omega)
  have ek : kdA W x y = W (10 + 4 * (6 * y + x)) - 1 := rfl
  obtain ⟨wr, n, ⟨e, h⟩ | ⟨e, h⟩ | ⟨e, h⟩ | ⟨e, h⟩⟩ := rl_k hl h1 hk.2
  · have hi : isK s l [12, 13] = true := isK_o h rfl
    unfold V11_waits
    rw [if_pos hi, c_timed hW hx hy (show tmA W x y = true from decide_eq_true (by omega)) hi hl ⟨ht, ht2⟩, if_pos he]
  · have hi : isK s l [12, 13] = true := isK_o h rfl
    unfold V11_waits
    rw [if_pos hi, c_timed hW hx hy (show tmA W x y = true from decide_eq_true (by omega)) hi hl ⟨ht, ht2⟩, if_pos he]
  · have hi : ¬ isK s l [12, 13] = true := by rw [isK_i h]; decide
    have hj : isK s l [14] = true := isK_o h rfl
    unfold V11_waits FX14_waits wtA
    rw [if_neg hi, if_pos hj, hj, if_pos (show kdA W x y = 2 by omega)]
    cases w
    · rw [gd_eq, if_pos (show wy false = (0 : Int32) from rfl), gI_t hj, if_neg (by decide), hl.2.2.1]
      show some (i32 (W (12 + 4 * (6 * y + x)))) = some (i32 (W (10 + 4 * (6 * y + x) + 2)))
      rw [show 10 + 4 * (6 * y + x) + 2 = 12 + 4 * (6 * y + x) by omega]
    · rw [gd_eq, if_neg (show ¬ wy true = (0 : Int32) by decide), if_pos rfl]
      rfl
  · have hi : ¬ isK s l [12, 13] = true := by rw [isK_i h]; decide
    have hi2 : ¬ isK s l [14] = true := by rw [isK_i h]; decide
    have hj : isK s l [15] = true := isK_o h rfl
    unfold V11_waits FX15_waits wtA
    rw [if_neg hi, if_neg hi2, if_pos hj, hj, if_neg (show ¬ kdA W x y = 2 by omega), if_neg (show ¬ tmA W x y = true by unfold tmA; rw [decide_eq_false (by omega)]; decide)]
    rfl
theorem c_isSo (b : B g ρ W S V m Tp RC s) (hW : TW W) {x y : Nat} {w : Bool} {came sec : Int} (hx : x < 6) (hy : y < 9) (hth : thA W x y w = true) (hbr : brA W x y w = false) (hc : 0 ≤ came ∧ came ≤ 100000) (hs : 0 ≤ sec ∧ sec ≤ 100000) : FX0_isSo s (g 0) (i32 x) (i32 y) (wy w) (i32 came) (i32 sec) = some (bi (soB W x y w came sec)) := by
  have hk := kw_b hW (c := 6 * y + x) (by omega)
  have ek : kdA W x y = W (10 + 4 * (6 * y + x)) - 1 := rfl
  have ecg : cgA W x y w = evA W x y w := by unfold cgA; rw [hth, hbr]; rfl
  have hwt := c_wts b hW (way := w) hx hy hs.1 (by omega : sec ≤ 1900000000)
  rw [ecg] at hwt
  unfold FX0_isSo soB
  rw [(bcp b).1, hwt, c_ltAt b hx hy]
  by_cases q1 : came ≤ sec
  · rw [decide_eq_true q1, if_neg (show ¬ i32 sec < i32 came from fun z => by have := (i32_lt ⟨by omega, by omega⟩ ⟨by omega, by omega⟩).mp z; omega)]
    cases he : evA W x y w with
    | false =>
      rw [bd_eq, if_neg (show ¬ false = true by decide), if_neg (show ¬ (0 : Int32) ≤ i32 (-1) by decide)]
      rfl
    | true =>
      have hb := wt_b (sec := sec) hW hx hy he
      have hb2 := wt_b (sec := came) hW hx hy he
      rw [bd_eq, if_pos rfl, show (0 : Int32) = i32 0 from rfl, if_pos ((i32_le (a := 0) (b := wtA W x y w sec) ⟨by omega, by omega⟩ ⟨by omega, by omega⟩).mpr hb.1), bd_eq]
      rcases c_light0 b (c := 6 * y + x) (by omega) with ⟨h0, hq⟩ | ⟨h0, l, hq, hl⟩
      · have e0 : wtA W x y w sec = 0 := by
          unfold wtA
          rw [if_neg (by omega), if_neg (show ¬ tmA W x y = true by unfold tmA; rw [decide_eq_false (by omega)]; decide)]
        rw [hq, if_neg (by omega), e0]
        rfl
      · rw [hq, nul_eS, c_vButton hl h0 hk.2, bd_eq, c_vWaits hW hx hy hl h0 he hc.1 (by omega), c_vWaits hW hx hy hl h0 he hs.1 (by omega)]
        by_cases q3 : W (10 + 4 * (6 * y + x)) = 3
        · rw [decide_eq_true q3, if_neg (by decide), bd_eq, i32_sub, if_pos (show kdA W x y = 2 by omega)]
          by_cases q4 : wtA W x y w came ≤ sec - came
          · rw [decide_eq_true q4, if_neg (fun z => by have := (i32_lt ⟨by omega, by omega⟩ ⟨by omega, by omega⟩).mp z; omega)]
            rfl
          · rw [decide_eq_false q4, if_pos ((i32_lt ⟨by omega, by omega⟩ ⟨by omega, by omega⟩).mpr (by omega))]
            rfl
        · rw [decide_eq_false q3, if_pos (by decide), bd_eq, if_neg (show ¬ kdA W x y = 2 by omega)]
          by_cases q4 : wtA W x y w sec = 0
          · rw [decide_eq_true q4, if_pos ((i32_eq ⟨by omega, by omega⟩ ⟨by omega, by omega⟩).mpr q4)]
            rfl
          · rw [decide_eq_false q4, if_neg (fun z => q4 ((i32_eq ⟨by omega, by omega⟩ ⟨by omega, by omega⟩).mp z))]
            rfl
  · rw [decide_eq_false q1, if_pos ((i32_lt ⟨by omega, by omega⟩ ⟨by omega, by omega⟩).mpr (by omega))]
    rfl
theorem vw_k {k : Nat} (hW : TW W) (hV : VW W V) (hk : (k : Int) < V 0) : V (1 + 2 * k) = (if V (1 + 2 * k) = 1 then 1 else 0) ∧ i32 (V (1 + 2 * k)) = wy (decide (V (1 + 2 * k) = 1)) ∧ xW V k < 6 ∧ k - xW V k < 9 ∧ (k : Int) < 13 := by
  have w0 := hW.1
  have w1 := hW.2.1
  obtain ⟨v1, v2, v3, v4, v5, v6, v7⟩ := hV.2 k hk
  have := hV.1
  refine ⟨?_, ?_, by omega, by omega, by omega⟩
  · rcases v1 with e | e <;> rw [e] <;> rfl
  · rcases v1 with e | e <;> rw [e] <;> rfl
theorem vw_s {k : Nat} (hV : VW W V) (hk : (k : Int) < V 0) : (decide (V (1 + 2 * k) = 1) = false ∧ xW V (k + 1) = xW V k + 1 ∧ k + 1 - xW V (k + 1) = k - xW V k) ∨ (decide (V (1 + 2 * k) = 1) = true ∧ xW V (k + 1) = xW V k ∧ k + 1 - xW V (k + 1) = k - xW V k + 1) := by
  obtain ⟨v1, v2, v3, -⟩ := hV.2 k hk
  rcases v1 with e | e
  · left
    have : xW V (k + 1) = xW V k + 1 := by show xW V k + (if V (1 + 2 * k) = 0 then 1 else 0) = _; rw [if_pos e]
    exact ⟨by rw [e]; rfl, this, by omega⟩
  · right
    have : xW V (k + 1) = xW V k := by show xW V k + (if V (1 + 2 * k) = 0 then 1 else 0) = _; rw [if_neg (by omega)]; rfl
    exact ⟨by rw [e]; rfl, this, by omega⟩
theorem b_way (b : B g ρ W S V m Tp RC s) {k : Nat} (hk : (k : Int) < V 0) : cA s (g 13) k = i32 (V (1 + 2 * k)) ∧ cA s (g 14) k = i32 (V (2 + 2 * k)) := b.2.2.2.2.2.1.2 k hk
theorem cju_loop (b : B g ρ W S V m Tp RC s) (hW : TW W) (hV : VW W V) : ∀ (d n k : Nat) (came : Int), (k : Int) + d = V 0 → d < n → 0 ≤ came → came ≤ 100000 → FX0_judged_b9 nf s n (g 0) (i32 (xW V k : Int)) (i32 ((k - xW V k : Nat) : Int)) (i32 came) (i32 (k : Int)) = some (i32 (jdV W V d k came)) := by
  have v0 := hV.1
  have w2 := hW.2.2.1
  intro d
  induction d with
  | zero =>
    intro n k came h1 h2 h3 h4
    obtain ⟨n, rfl⟩ : ∃ q, n = q + 1 := ⟨n - 1, by omega⟩
    rw [show FX0_judged_b9 nf s (n + 1) = FX0_judged_b9_s nf s (FX0_judged_b9 nf s n) from rfl]
    unfold FX0_judged_b9_s jdV
    (try simp only [lits]) <;> simp (disch := omega) only [↓wps, ↓bcp b, bci b, nrm, wps, cmps, if_pos, if_neg, eq_self, if_true, if_false, Bool.false_eq_true, Bool.true_eq_false, dec_f]
  | succ d ih =>
    intro n k came h1 h2 h3 h4
    have hk : (k : Int) < V 0 := by omega
    obtain ⟨n, rfl⟩ : ∃ q, n = q + 1 := ⟨n - 1, by omega⟩
    obtain ⟨k1, k2, k3, k4, k5⟩ := vw_k hW hV hk
    obtain ⟨v1, v2, v3, v4, v5, v6, v7⟩ := hV.2 k hk
    have hso := c_isSo b hW (w := decide (V (1 + 2 * k) = 1)) k3 k4 v4 v5 ⟨h3, h4⟩ ⟨v2.1, by omega⟩
    have en : (k : Int).toNat = k := Int.toNat_natCast k
    have hw := c_walk b hW
    rw [show FX0_judged_b9 nf s (n + 1) = FX0_judged_b9_s nf s (FX0_judged_b9 nf s n) from rfl]
    unfold FX0_judged_b9_s
    (try simp only [lits]) <;> simp (disch := omega) only [↓wps, ↓bcp b, bci b, nrm, wps, cmps, if_pos, if_neg, eq_self, if_true, if_false, Bool.false_eq_true, Bool.true_eq_false, dec_f, bld b, en, b_way b hk]
    rw [k2, hso]
    unfold jdV
    cases hq : soB W (xW V k) (k - xW V k) (decide (V (1 + 2 * k) = 1)) came (V (2 + 2 * k)) with
    | false =>
      rw [bd_eq, if_pos (show bi false = i32 0 from rfl), if_neg (by decide)]
    | true =>
      rw [bd_eq, if_neg (show ¬ bi true = i32 0 by decide), if_pos rfl]
      (try simp only [lits]) <;> simp (disch := omega) only [↓wps, ↓bd_t (hw), nrm, wps, cmps, if_pos, if_neg, eq_self, if_true, if_false, Bool.false_eq_true, Bool.true_eq_false, dec_f]
      have L := ih n (k + 1) (V (2 + 2 * k) + W 2) (by omega) (by omega) (by omega) (by omega)
      rcases vw_s hV hk with ⟨e1, e2, e3⟩ | ⟨e1, e2, e3⟩
      · rw [e3, e2] at L
        rw [if_pos (show V (1 + 2 * k) = 0 by have := of_decide_eq_false e1; omega)]
        exact L
      · rw [e3, e2] at L
        rw [if_neg (show ¬ V (1 + 2 * k) = 0 by have := of_decide_eq_true e1; omega)]
        exact L
/-- the first line of the walk that can't be -/
def jgV (W V : Nat → Int) : Int := jdV W V (V 0).toNat 0 0
theorem c_judged (hn : 100 ≤ nf) (b : B g ρ W S V m Tp RC s) (hW : TW W) (hV : VW W V) : FX0_judged nf s (g 0) = some (i32 (jgV W V)) := by
  have v0 := hV.1
  unfold FX0_judged
  rw [(bcp b).1]
  exact cju_loop b hW hV (V 0).toNat nf 0 0 (by omega) (by omega) (by omega) (by omega)
theorem s_soB (hW : TW W) {x y : Nat} {w : Bool} {t : Int} (hx : x < 6) (hy : y < 9) (ht : tmA W x y = true) (h0 : 0 ≤ t) : grA W x y w t = (evA W x y w && decide (wtA W x y w t = 0)) := by
  cases he : evA W x y w with
  | true => rw [wt_gr hW hx hy he ht]; rfl
  | false =>
    have hk := of_decide_eq_true ht
    obtain ⟨l1, l2, l3, -⟩ := ltA_b hW hx hy (by omega)
    have p0 : 0 ≤ phA W x y t := Int.emod_nonneg _ (by omega)
    have p1 : phA W x y t < ltA W x y 1 := Int.emod_lt_of_pos _ (by omega)
    unfold evA at he
    rw [ht] at he
    unfold grA
    cases w with
    | false =>
      have he : decide (0 < ltA W x y 3) = false := he
      have he := of_decide_eq_false he
      rw [if_neg (by decide), decide_eq_false (by omega)]
      rfl
    | true =>
      have he : decide (ltA W x y 3 < ltA W x y 1) = false := he
      have he := of_decide_eq_false he
      rw [if_pos rfl, decide_eq_false (by omega)]
      rfl
theorem s_wk (tb : TB W S V m Tp RC τ) {k : Nat} (hk : k < 27) {α : Type} {K : Int32 → Option α} : ld (tA τ 16) 60 (i32 (k : Int)) K = K (i32 (V k)) := by
  rw [ld_n (by omega) (by omega), tb.2.2.1 k hk]
theorem tju_79 (hn : 100 ≤ nf) (tb : TB W S V m Tp RC τ) (hW : TW W) {x y k : Nat} {w : Bool} {came sec due : Int} {k14 : Int32 → Int32 → Int32 → Int32 → TS → Option (Int32 × TS)} (hx : x < 6) (hy : y < 9) (hc : 0 ≤ came ∧ came ≤ 100000) (hs : 0 ≤ sec ∧ sec ≤ 100000) (hd : due = came + (if kdA W x y = 2 then wtA W x y w came else 0)) : T_judged_b79 nf k14 (i32 x) (i32 y) (i32 k) (wy w) (i32 sec) (i32 due) τ = if soB W x y w came sec = true then k14 (i32 ((nx w x : Nat) : Int)) (i32 ((ny w y : Nat) : Int)) (i32 (sec + W 2)) (i32 ((k + 1 : Nat) : Int)) τ else some (i32 k, τ) := by
  have w2 := hW.2.2.1
  have hkd := kdA_b (x := x) (y := y) hW hx hy
  have hb : kdA W x y = 2 → evA W x y w = true ∧ 0 ≤ wtA W x y w came ∧ wtA W x y w came ≤ 59 := fun q => by
    have he : evA W x y w = true := by unfold evA tmA; rw [decide_eq_false (by omega)]; rfl
    exact ⟨he, wt_b hW hx hy he⟩
  have hdb : 0 ≤ due ∧ due ≤ 100100 := by
    rw [hd]
    split
    · rename_i q
      have := hb q
      omega
    · omega
  have hz : T_judged_b113 nf k14 (i32 x) (i32 y) (i32 k) (wy w) (i32 sec) τ = k14 (i32 ((nx w x : Nat) : Int)) (i32 ((ny w y : Nat) : Int)) (i32 (sec + W 2)) (i32 ((k + 1 : Nat) : Int)) τ := by
    have ex : i32 (x : Int) + (1 - wy w) = i32 ((nx w x : Nat) : Int) := by
      cases w
      · show i32 (x : Int) + (i32 1 - i32 0) = _
        rw [i32_sub, i32_add]
        rfl
      · show i32 (x : Int) + (i32 1 - i32 1) = _
        rw [i32_sub, i32_add]
        congr 1
    unfold T_judged_b113
    rw [show (2 : Int32) = i32 ((2 : Nat) : Int) from rfl, s_ld τ tb.1 (by omega), nm_eq, nm_eq, nm_eq, i32_add, (xy_n (x := x) (y := y) w).2, ex, show (1 : Int32) = i32 1 from rfl, i32_add]
    rfl
  unfold T_judged_b79
  rw [hz, s_isTimed hW tb.1 hx hy, bd_eq]
  by_cases q1 : sec < due
  · rw [if_pos ((i32_lt ⟨by omega, by omega⟩ ⟨by omega, by omega⟩).mpr q1), if_neg]
    intro z
    unfold soB at z
    have z1 := Bool.and_eq_true_iff.mp z
    have z2 := Bool.and_eq_true_iff.mp z1.2
    have z3 := of_decide_eq_true z1.1
    by_cases q2 : kdA W x y = 2
    · rw [if_pos q2] at z2 hd
      have := of_decide_eq_true z2.2
      omega
    · rw [if_neg q2] at hd
      omega
  · rw [if_neg (fun z => q1 ((i32_lt ⟨by omega, by omega⟩ ⟨by omega, by omega⟩).mp z))]
    cases ht : tmA W x y with
    | false =>
      rw [if_pos (show bi false = (0 : Int32) from rfl), if_pos]
      unfold soB
      have he : evA W x y w = true := by unfold evA; rw [ht]; rfl
      rw [he]
      by_cases q2 : kdA W x y = 2
      · have := hb q2
        rw [if_pos q2] at hd
        rw [if_pos q2, decide_eq_true (show came ≤ sec by omega), decide_eq_true (show wtA W x y w came ≤ sec - came by omega)]
        rfl
      · have e0 : wtA W x y w sec = 0 := by unfold wtA; rw [if_neg q2, if_neg (by rw [ht]; decide)]
        rw [if_neg q2] at hd
        rw [if_neg q2, decide_eq_true (show came ≤ sec by omega), e0]
        rfl
    | true =>
      have hk2 := of_decide_eq_true ht
      have q2 : ¬ kdA W x y = 2 := by omega
      rw [if_neg q2] at hd
      rw [if_neg (show ¬ bi true = (0 : Int32) by decide), s_isGreen hW tb.1 hx hy (by omega) ⟨by omega, by omega⟩, bd_eq, s_soB hW hx hy ht hs.1]
      unfold soB
      rw [if_neg q2, decide_eq_true (show came ≤ sec by omega), Bool.true_and]
      cases (evA W x y w && decide (wtA W x y w sec = 0))
      · rfl
      · rfl
theorem tju_loop (hn : 100 ≤ nf) (tb : TB W S V m Tp RC τ) (hW : TW W) (hV : VW W V) : ∀ (d n k : Nat) (came : Int), (k : Int) + d = V 0 → d < n → 0 ≤ came → came ≤ 100000 → T_judged_b14 nf n (i32 (xW V k : Int)) (i32 ((k - xW V k : Nat) : Int)) (i32 came) (i32 (k : Int)) τ = some (i32 (jdV W V d k came), τ) := by
  have v0 := hV.1
  have w2 := hW.2.2.1
  intro d
  induction d with
  | zero =>
    intro n k came h1 h2 h3 h4
    obtain ⟨n, rfl⟩ : ∃ q, n = q + 1 := ⟨n - 1, by omega⟩
    rw [show T_judged_b14 nf (n + 1) = T_judged_b14_s nf (T_judged_b14 nf n) from rfl]
    unfold T_judged_b14_s jdV
    rw [show (0 : Int32) = i32 ((0 : Nat) : Int) from rfl, s_wk tb (by omega), if_pos ((i32_le (a := V 0) (b := (k : Int)) ⟨by omega, by omega⟩ ⟨by omega, by omega⟩).mpr (by omega))]
    rfl
  | succ d ih =>
    intro n k came h1 h2 h3 h4
    have hk : (k : Int) < V 0 := by omega
    obtain ⟨n, rfl⟩ : ∃ q, n = q + 1 := ⟨n - 1, by omega⟩
    obtain ⟨k1, k2, k3, k4, k5⟩ := vw_k hW hV hk
    obtain ⟨v1, v2, v3, v4, v5, v6, v7⟩ := hV.2 k hk
    have hkd := kdA_b (x := xW V k) (y := k - xW V k) hW k3 k4
    have L := ih n (k + 1) (V (2 + 2 * k) + W 2) (by omega) (by omega) (by omega) (by omega)
    have L2 : T_judged_b14 nf n (i32 ((nx (decide (V (1 + 2 * k) = 1)) (xW V k) : Nat) : Int)) (i32 ((ny (decide (V (1 + 2 * k) = 1)) (k - xW V k) : Nat) : Int)) (i32 (V (2 + 2 * k) + W 2)) (i32 ((k + 1 : Nat) : Int)) τ = some (i32 (jdV W V d (k + 1) (V (2 + 2 * k) + W 2)), τ) := by
      rcases vw_s hV hk with ⟨e1, e2, e3⟩ | ⟨e1, e2, e3⟩
      · rw [e3, e2] at L
        rw [e1]
        exact L
      · rw [e3, e2] at L
        rw [e1]
        exact L
    have F : ∀ due : Int, due = came + (if kdA W (xW V k) (k - xW V k) = 2 then wtA W (xW V k) (k - xW V k) (decide (V (1 + 2 * k) = 1)) came else 0) → T_judged_b79 nf (T_judged_b14 nf n) (i32 (xW V k : Int)) (i32 ((k - xW V k : Nat) : Int)) (i32 (k : Int)) (wy (decide (V (1 + 2 * k) = 1))) (i32 (V (2 + 2 * k))) (i32 due) τ = some (i32 (jdV W V (d + 1) k came), τ) := fun due hd => by
      rw [tju_79 hn tb hW k3 k4 ⟨h3, h4⟩ ⟨v2.1, by omega⟩ hd, L2]
      rw [jdV_s]
      split <;> rfl
    rw [show T_judged_b14 nf (n + 1) = T_judged_b14_s nf (T_judged_b14 nf n) from rfl]
    unfold T_judged_b14_s
    rw [show (0 : Int32) = i32 ((0 : Nat) : Int) from rfl, s_wk tb (by omega), if_neg (fun z => by have := (i32_le (a := V 0) (b := (k : Int)) ⟨by omega, by omega⟩ ⟨by omega, by omega⟩).mp z; omega), show (1 : Int32) + 2 * i32 (k : Int) = i32 ((1 + 2 * k : Nat) : Int) by rw [show (1 : Int32) = i32 1 from rfl, show (2 : Int32) = i32 2 from rfl, i32_mul, i32_add]; rfl, show (2 : Int32) + 2 * i32 (k : Int) = i32 ((2 + 2 * k : Nat) : Int) by rw [show (2 : Int32) = i32 2 from rfl, i32_mul, i32_add]; rfl, s_wk tb (by omega), s_wk tb (by omega), s_kindAt tb.1 k3 k4, bd_eq, k2]
    by_cases q2 : kdA W (xW V k) (k - xW V k) = 2
    · rw [if_pos (show i32 (kdA W (xW V k) (k - xW V k)) = (2 : Int32) by rw [q2]; rfl)]
      rw [if_pos q2] at F
      cases hw : decide (V (1 + 2 * k) = 1) with
      | true =>
        rw [hw] at F
        rw [if_neg (show ¬ wy true = i32 ((0 : Nat) : Int) by decide)]
        exact F _ (by unfold wtA; rw [if_pos q2, if_pos rfl]; omega)
      | false =>
        rw [hw] at F
        rw [if_pos (show wy false = i32 ((0 : Nat) : Int) from rfl), show (2 : Int32) = i32 ((2 : Nat) : Int) from rfl, s_lightAt tb.1 k3 k4 (by omega), bd_eq, i32_add]
        exact F _ (by unfold wtA; rw [if_pos q2, if_neg (by decide)])
    · rw [if_neg (show ¬ i32 (kdA W (xW V k) (k - xW V k)) = (2 : Int32) from fun z => q2 ((i32_eq ⟨by omega, by omega⟩ ⟨by omega, by omega⟩).mp z))]
      rw [if_neg q2] at F
      exact F _ (by omega)
theorem t_judged (hn : 100 ≤ nf) (tb : TB W S V m Tp RC τ) (hW : TW W) (hV : VW W V) : T_judged nf τ = some (i32 (jgV W V), sI τ 0 0) := by
  have v0 := hV.1
  unfold T_judged
  exact tju_loop hn (tb.q (tk_z τ).1) hW hV (V 0).toNat nf 0 0 (by omega) (by omega) (by omega) (by omega)
end JU
