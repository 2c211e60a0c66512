/-! LAYER 2: turning so often at most: the twin -/
set_option maxRecDepth 100000
def oI : Option Bool → Int32
  | none => i32 (-1)
  | some w => wy w
section TT
variable {W : Nat → Int} {S : Nat → Nat → Int} {V m Tp : Nat → Int} {RC : Nat → List (Nat × Int)} {τ : TS} {T : Int} {nf : Nat}
theorem t_tu46 (hn : 100 ≤ nf) (hW : TW W) (h : Rw W τ) {d x y : Nat} {t : Int} {o : Option Bool} {l : Nat} {rc : Int32 → Int32 → Int32 → Int32 → Int32 → Option Int32} {k19 : Int32 → Int32 → Int32 → Int32 → Int32 → Int32 → Int32 → Option Int32} {bst s0 : Int} {w : Bool} (hx : (x : Int) < W 0) (hy : (y : Int) < W 1) (hd : dsA W x y = d + 1) (h0 : 0 ≤ t) (h1 : t + 89 * (d + 1) ≤ 90000000) (hl : l ≤ 12) (hs : s0 = (l : Int) - tcO o w) (hb : 0 ≤ bst ∧ bst ≤ 2000000000) (hrc : ∀ (x2 y2 : Nat) (t2 : Int) (w2 : Bool) (l2 : Nat), (x2 : Int) < W 0 → (y2 : Int) < W 1 → dsA W x2 y2 = d → 0 ≤ t2 → t2 + 89 * d ≤ 90000000 → l2 ≤ 12 → rc (i32 x2) (i32 y2) (i32 t2) (wy w2) (i32 l2) = some (i32 (tuF W d x2 y2 t2 (some w2) l2))) : T_turnsFrom_b46 nf rc τ k19 (i32 x) (i32 y) (i32 t) (oI o) (i32 l) (i32 bst) (wy w) (i32 s0) = k19 (i32 x) (i32 y) (i32 t) (oI o) (i32 l) (i32 (mn2 bst (tuA W d x y t o l w))) (wy w + 1) := by
  have w0 := hW.1
  have w1 := hW.2.1
  have w2 := hW.2.2.1
  have htc : tcO o w ≤ 1 := by unfold tcO; split <;> first | omega | (split <;> omega)
  unfold T_turnsFrom_b46 tuA
  by_cases q1 : tcO o w ≤ l
  · rw [if_neg (show ¬ i32 s0 < (0 : Int32) from fun z => by have := (i32_lt (b := 0) ⟨by omega, by omega⟩ ⟨by omega, by omega⟩).mp z; omega), s_canGo hW h (by omega) (by omega), bd_eq]
    cases hcg : cgA W x y w with
    | false =>
      rw [if_pos (show bi false = (0 : Int32) from rfl), if_neg (fun z => by cases z.2)]
      unfold mn2
      rw [if_neg (by omega)]
    | true =>
      obtain ⟨i1, i2, i3, i4, i5, i6⟩ := cg_in hW (t := t) hx hy hcg
      have hbd := tuF_b hW d (nx w x) (ny w y) (t + wtA W x y w t + W 2) (some w) (l - tcO o w) i1 i2 (by omega) (by omega) (by omega)
      rw [if_neg (show ¬ bi true = (0 : Int32) by decide), s_waitFor hn hW h (by omega) (by omega) ⟨h0, by omega⟩ i6, bd_eq, show (2 : Int32) = i32 ((2 : Nat) : Int) from rfl, s_ld τ h (by omega), show (1 : Int32) = i32 1 from rfl]
      have ex := (xy_n (x := x) (y := y) w)
      rw [show (1 : Int32) = i32 1 from rfl] at ex
      rw [ex.1, ex.2, i32_add, i32_add, show s0 = ((l - tcO o w : Nat) : Int) by omega, hrc _ _ _ _ _ i1 i2 (by omega) (by omega) (by omega) (by omega), bd_eq, if_pos (show tcO o w ≤ l ∧ true = true from ⟨q1, rfl⟩)]
      unfold mn2
      by_cases q3 : tuF W d (nx w x) (ny w y) (t + wtA W x y w t + W 2) (some w) (l - tcO o w) < bst
      · rw [if_pos q3, if_neg (fun z => by have := (i32_le ⟨by omega, by omega⟩ ⟨by omega, by omega⟩).mp z; omega)]
      · rw [if_neg q3, if_pos ((i32_le ⟨by omega, by omega⟩ ⟨by omega, by omega⟩).mpr (by omega))]
  · rw [if_pos (show i32 s0 < (0 : Int32) from (i32_lt (b := 0) ⟨by omega, by omega⟩ ⟨by omega, by omega⟩).mpr (by omega)), if_neg (fun z => q1 z.1)]
    unfold mn2
    rw [if_neg (by omega)]
theorem t_turnsFrom (hn : 100 ≤ nf) (hW : TW W) (h : Rw W τ) : ∀ (d dp x y : Nat) (t : Int) (o : Option Bool) (l : Nat), (x : Int) < W 0 → (y : Int) < W 1 → dsA W x y = d → d < dp → 0 ≤ t → t + 89 * d ≤ 90000000 → l ≤ 12 → T_turnsFrom nf τ dp (i32 x) (i32 y) (i32 t) (oI o) (i32 l) = some (i32 (tuF W d x y t o l)) := by
  have w0 := hW.1
  have w1 := hW.2.1
  intro d
  induction d with
  | zero =>
    intro dp x y t o l hx hy hd hdp h0 h1 hl
    obtain ⟨dp, rfl⟩ : ∃ q, dp = q + 1 := ⟨dp - 1, by omega⟩
    have hh : hmA W x y = true := by unfold hmA; unfold dsA at hd; exact decide_eq_true (by omega)
    show T_turnsFrom_s nf (T_turnsFrom nf τ dp) τ _ _ _ _ _ = _
    unfold T_turnsFrom_s
    rw [s_isHome hW h (by omega) (by omega), hh, bd_eq, if_neg (show ¬ bi true = (0 : Int32) by decide)]
    rfl
  | succ d ih =>
    intro dp x y t o l hx hy hd hdp h0 h1 hl
    obtain ⟨dp, rfl⟩ : ∃ q, dp = q + 1 := ⟨dp - 1, by omega⟩
    have hh : hmA W x y = false := by unfold hmA; unfold dsA at hd; exact decide_eq_false (by omega)
    have hrc : ∀ (x2 y2 : Nat) (t2 : Int) (w2 : Bool) (l2 : Nat), (x2 : Int) < W 0 → (y2 : Int) < W 1 → dsA W x2 y2 = d → 0 ≤ t2 → t2 + 89 * d ≤ 90000000 → l2 ≤ 12 → T_turnsFrom nf τ dp (i32 x2) (i32 y2) (i32 t2) (wy w2) (i32 l2) = some (i32 (tuF W d x2 y2 t2 (some w2) l2)) := fun x2 y2 t2 w2 l2 a1 a2 a3 a4 a5 a6 => ih dp x2 y2 t2 (some w2) l2 a1 a2 a3 (by omega) a4 a5 a6
    have st : ∀ (n : Nat) (bst : Int) (w : Bool), 0 ≤ bst ∧ bst ≤ 2000000000 → T_turnsFrom_b19 nf (T_turnsFrom nf τ dp) τ (n + 1) (i32 x) (i32 y) (i32 t) (oI o) (i32 l) (i32 bst) (wy w) = T_turnsFrom_b19 nf (T_turnsFrom nf τ dp) τ n (i32 x) (i32 y) (i32 t) (oI o) (i32 l) (i32 (mn2 bst (tuA W d x y t o l w))) (wy w + 1) := fun n bst w hb => by
      rw [show T_turnsFrom_b19 nf (T_turnsFrom nf τ dp) τ (n + 1) = T_turnsFrom_b19_s nf (T_turnsFrom nf τ dp) τ (T_turnsFrom_b19 nf (T_turnsFrom nf τ dp) τ n) from rfl]
      unfold T_turnsFrom_b19_s
      rw [if_neg (show ¬ (2 : Int32) ≤ wy w by cases w <;> decide)]
      cases o with
      | none =>
        rw [if_pos (show oI none < (0 : Int32) by decide)]
        exact t_tu46 (o := none) hn hW h hx hy hd h0 (by omega) hl (by show (l : Int) = (l : Int) - ((0 : Nat) : Int); omega) hb hrc
      | some w3 =>
        rw [if_neg (show ¬ oI (some w3) < (0 : Int32) by cases w3 <;> decide)]
        by_cases q : w = w3
        · rw [if_pos (show wy w = oI (some w3) by rw [q]; rfl)]
          exact t_tu46 (o := some w3) hn hW h hx hy hd h0 (by omega) hl (by rw [q, tc_e]; omega) hb hrc
        · rw [if_neg (show ¬ wy w = oI (some w3) by revert q; cases w <;> cases w3 <;> decide), show (1 : Int32) = i32 1 from rfl, i32_sub]
          exact t_tu46 (o := some w3) hn hW h hx hy hd h0 (by omega) hl (by rw [tc_n q]; omega) hb hrc
    show T_turnsFrom_s nf (T_turnsFrom nf τ dp) τ _ _ _ _ _ = _
    unfold T_turnsFrom_s
    rw [s_isHome hW h (by omega) (by omega), hh, bd_eq, if_pos (show bi false = (0 : Int32) from rfl)]
    obtain ⟨N, rfl⟩ : ∃ n, nf = n + 1 + 1 + 1 := ⟨nf - 3, by omega⟩
    have hA : ∀ w, 0 ≤ tuA W d x y t o l w ∧ tuA W d x y t o l w ≤ 2000000000 := fun w => by
      unfold tuA
      by_cases q : tcO o w ≤ l ∧ cgA W x y w = true
      · rw [if_pos q]
        obtain ⟨i1, i2, i3, i4, i5, -⟩ := cg_in hW (t := t) hx hy q.2
        have w2 := hW.2.2.1
        exact tuF_b hW d _ _ _ _ _ i1 i2 (by omega) (by omega) (by omega)
      · rw [if_neg q]
        omega
    have a0 := hA false
    have s1 := st (N + 1 + 1) 2000000000 false (by omega)
    have em : mn2 2000000000 (tuA W d x y t o l false) = tuA W d x y t o l false := by unfold mn2; split <;> omega
    rw [em] at s1
    have s2 := st (N + 1) (tuA W d x y t o l false) true (by omega)
    have e1 : T_turnsFrom_b19 (N + 1 + 1 + 1) (T_turnsFrom (N + 1 + 1 + 1) τ dp) τ (N + 1 + 1 + 1) (i32 x) (i32 y) (i32 t) (oI o) (i32 l) 2000000000 0 = T_turnsFrom_b19 (N + 1 + 1 + 1) (T_turnsFrom (N + 1 + 1 + 1) τ dp) τ (N + 1 + 1) (i32 x) (i32 y) (i32 t) (oI o) (i32 l) (i32 (tuA W d x y t o l false)) (wy true) := s1
    rw [e1, s2, show T_turnsFrom_b19 (N + 1 + 1 + 1) (T_turnsFrom (N + 1 + 1 + 1) τ dp) τ (N + 1) = T_turnsFrom_b19_s (N + 1 + 1 + 1) (T_turnsFrom (N + 1 + 1 + 1) τ dp) τ (T_turnsFrom_b19 (N + 1 + 1 + 1) (T_turnsFrom (N + 1 + 1 + 1) τ dp) τ N) from rfl]
    unfold T_turnsFrom_b19_s
    rw [if_pos (show (2 : Int32) ≤ wy true + 1 by decide), tuF_s]
theorem t_turning (hn : 100 ≤ nf) (tb : TB W S V m Tp RC τ) (hW : TW W) {sec often : Int} (hs : ok32 sec) (ho : ok32 often) : T_turning nf (i32 sec) (i32 often) τ = some (i32 (tuV W sec often), sI τ 0 0) := by
  have w0 := hW.1
  have w1 := hW.2.1
  have h2 : Rw W (sI τ 0 0) := tb.1
  unfold T_turning tuV
  rw [nm_eq]
  generalize sI τ 0 0 = τ1 at h2 ⊢
  rw [s_isSecond hs, bd_eq]
  by_cases q1 : 0 ≤ sec ∧ sec ≤ 1000000
  · have hd13 := ds_b (x := 0) (y := 0) hW
    rw [decide_eq_true q1, if_neg (show ¬ bi true = (0 : Int32) by decide), show T_within τ1 (i32 often) 0 12 = T_within τ1 (i32 often) (i32 0) (i32 12) from rfl, s_w3 ho 0 12 (by omega), bd_eq]
    by_cases q2 : 0 ≤ often ∧ often ≤ 12
    · have hb := tuF_b hW (dsA W 0 0) 0 0 sec none often.toNat (by omega) (by omega) rfl q1.1 (by omega)
      have L : T_turnsFrom nf τ1 20 0 0 (i32 sec) (-1) (i32 often.toNat) = some (i32 (tuF W (dsA W 0 0) 0 0 sec none often.toNat)) := t_turnsFrom hn hW h2 (dsA W 0 0) 20 0 0 sec none often.toNat (by omega) (by omega) rfl (by omega) q1.1 (by omega) (by omega)
      rw [← toI q2.1] at L
      rw [decide_eq_true q2, if_neg (show ¬ bi true = (0 : Int32) by decide), if_pos ⟨q1, q2⟩, L, bd_eq]
      unfold T_turning_b38
      by_cases q3 : tuF W (dsA W 0 0) 0 0 sec none often.toNat = 2000000000
      · rw [if_pos q3, if_pos (show i32 (tuF W (dsA W 0 0) 0 0 sec none often.toNat) = (2000000000 : Int32) by rw [q3]; rfl)]
        rfl
      · rw [if_neg q3, if_neg (show ¬ i32 (tuF W (dsA W 0 0) 0 0 sec none often.toNat) = (2000000000 : Int32) from fun z => q3 ((i32_eq (b := 2000000000) ⟨by omega, by omega⟩ ⟨by omega, by omega⟩).mp z))]
    · rw [decide_eq_false q2, if_pos (show bi false = (0 : Int32) from rfl), if_neg (fun z => q2 z.2)]
      rfl
  · rw [decide_eq_false q1, if_pos (show bi false = (0 : Int32) from rfl), if_neg (fun z => q1 z.1)]
    rfl
end TT
