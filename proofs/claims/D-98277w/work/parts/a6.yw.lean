/-! LAYER 2: the twin reads walks -/
set_option maxRecDepth 100000
/-- a walk's reading changes nothing else -/
def Twk (τ τ' : TS) : Prop := (∀ f, ¬ f = 7 → ¬ f = 8 → tI τ' f = tI τ f) ∧ (∀ j, ¬ j = 16 → tA τ' j = tA τ j) ∧ (∀ i, i < 30 → tA τ' 16 i = tA τ 16 i) ∧ tB τ' = tB τ
theorem Twk.rf {τ : TS} : Twk τ τ := ⟨fun _ _ _ => rfl, fun _ _ => rfl, fun _ _ => rfl, rfl⟩
theorem Twk.tr {τ τ1 τ2 : TS} (h : Twk τ τ1) (k : Twk τ1 τ2) : Twk τ τ2 := ⟨fun f a b => (k.1 f a b).trans (h.1 f a b), fun j a => (k.2.1 j a).trans (h.2.1 j a), fun i a => (k.2.2.1 i a).trans (h.2.2.1 i a), k.2.2.2.trans h.2.2.2⟩
theorem Twk.n {τ τ' : TS} (h : Tn τ τ') : Twk τ τ' := ⟨h.1, fun j _ => by rw [h.2.1], fun i _ => by rw [h.2.1], h.2.2⟩
theorem Twk.a16 {τ : TS} {i : Nat} {v : Int32} (h : 30 ≤ i) : Twk τ (sA τ 16 i v) := ⟨fun _ _ _ => rfl, fun j a => by rw [tA_sA, if_neg a], fun j a => by rw [rd_sA, if_neg (fun z => by omega)], rfl⟩
theorem Tkk.a16 {t : Nat → Int} {n k i : Nat} {τ : TS} {v : Int32} (h : Tkk t n k τ) : Tkk t n k (sA τ 16 i v) := ⟨h.1.r (by rw [tA_sA, if_neg (by decide)]) (by rw [tA_sA, if_neg (by decide)]) rfl rfl, h.2⟩
/-- the lines of a walk under way -/
def UVV (v : WKV) (τ : TS) : Prop := ∀ i, i < v.2.1 → tA τ 16 (30 + 2 * i) = i32 (v.1 (1 + 2 * i)) ∧ tA τ 16 (31 + 2 * i) = i32 (v.1 (2 + 2 * i))
def Tnv (τ : TS) (o : Int ⊕ (WKV × Nat)) (p : Int32 × TS) : Prop := match o with
  | .inl e => p.1 = i32 e ∧ Twk τ p.2
  | .inr (v, _) => p.1 = i32 0 ∧ tA p.2 16 0 = i32 (v.2.1 : Int) ∧ (∀ k, 1 ≤ k → k ≤ 2 * v.2.1 → tA p.2 16 k = i32 (v.1 k)) ∧ (∀ k, 2 * v.2.1 < k → k < 30 → tA p.2 16 k = tA τ 16 k) ∧ (∀ f, ¬ f = 7 → ¬ f = 8 → tI p.2 f = tI τ f) ∧ (∀ j, ¬ j = 16 → tA p.2 j = tA τ j) ∧ tB p.2 = tB τ
section YWK
variable {t : Nat → Int} {n nf : Nat} {τ τ0 τ1 : TS} {k : Nat} {v : WKV} {e : Int} {W : Nat → Int}
theorem s_wk170 {a : Int32} (h : (1 ≤ e ∧ e < 100000) ∧ tI τ1 8 = i32 e) : T_walk_b170 nf a τ1 = some (i32 e, τ1) := by
  unfold T_walk_b170
  rw [if_neg (flt h.1 h.2).2, h.2]
theorem s_wk15 {m : Nat} {a b c : Int32} (h : (1 ≤ e ∧ e < 100000) ∧ tI τ1 8 = i32 e) : T_walk_b15 nf (m + 1) a b c τ1 = some (i32 e, τ1) := by
  rw [show T_walk_b15 nf (m + 1) = T_walk_b15_s nf (T_walk_b15 nf m) from rfl]
  unfold T_walk_b15_s
  rw [if_neg (flt h.1 h.2).1, s_wk170 h]
theorem s_wk97 {m : Nat} {a b c d : Int32} (h : (1 ≤ e ∧ e < 100000) ∧ tI τ1 8 = i32 e) : T_walk_b97 nf (T_walk_b15 nf (m + 1)) a b c d τ1 = some (i32 e, τ1) := by
  unfold T_walk_b97 T_walk_b161
  rw [if_neg (flt h.1 h.2).1, s_takeSign (flt h.1 h.2).1, bd_eq, s_wk15 h]
/-- the walk read is laid where it is asked -/
theorem t_wk170 (hnf : 2000 ≤ nf) (h : Tkk t n k τ1) (hU : UVV v τ1) (hv : v.2.1 ≤ 13) (f : Twk τ τ1) (k' : Nat) : Ok (T_walk_b170 nf (i32 (v.2.1 : Int)) τ1) (Tnv τ (.inr (v, k'))) := by
  have L : ∀ (d m j : Nat) (τ2 : TS), j + d = 2 * v.2.1 → d < m → tA τ2 16 0 = i32 (v.2.1 : Int) → (∀ i, 1 ≤ i → i ≤ j → tA τ2 16 i = i32 (v.1 i)) → (∀ i, j < i → tA τ2 16 i = tA τ1 16 i) → (∀ f, tI τ2 f = tI τ1 f) → (∀ j, ¬ j = 16 → tA τ2 j = tA τ1 j) → tB τ2 = tB τ1 → Ok (T_walk_b192 nf m (i32 (v.2.1 : Int)) (i32 (j : Int)) τ2) (Tnv τ (.inr (v, k'))) := by
    intro d
    induction d with
    | zero =>
      intro m j τ2 h1 h2 e0 e1 e2 e3 e4 e5
      obtain ⟨m, rfl⟩ : ∃ q, m = q + 1 := ⟨m - 1, by omega⟩
      rw [show T_walk_b192 nf (m + 1) = T_walk_b192_s nf (T_walk_b192 nf m) from rfl]
      unfold T_walk_b192_s
      rw [show (2 : Int32) = i32 2 from rfl, i32_mul]
      refine ok_le ⟨by omega, by omega⟩ ⟨by omega, by omega⟩ (fun _ => ok_s ⟨rfl, e0, fun i a b => e1 i a (by omega), fun i a b => ?_, fun g a b => (e3 g).trans (f.1 g a b), fun i a => (e4 i a).trans (f.2.1 i a), e5.trans f.2.2.2⟩) (fun z => by omega)
      show tA τ2 16 i = _
      rw [e2 i (by omega)]
      exact f.2.2.1 i b
    | succ d ih =>
      intro m j τ2 h1 h2 e0 e1 e2 e3 e4 e5
      obtain ⟨m, rfl⟩ : ∃ q, m = q + 1 := ⟨m - 1, by omega⟩
      rw [show T_walk_b192 nf (m + 1) = T_walk_b192_s nf (T_walk_b192 nf m) from rfl]
      unfold T_walk_b192_s
      rw [show (2 : Int32) = i32 2 from rfl, i32_mul]
      refine ok_le ⟨by omega, by omega⟩ ⟨by omega, by omega⟩ (fun z => by omega) (fun _ => ?_)
      rw [show (30 : Int32) = i32 30 from rfl, show (1 : Int32) = i32 1 from rfl, i32_add, i32_add, i32_add, show (30 : Int) + (j : Int) = ((30 + j : Nat) : Int) by omega, show (1 : Int) + (j : Int) = ((1 + j : Nat) : Int) by omega, show (j : Int) + 1 = ((j + 1 : Nat) : Int) by omega]
      refine ok_ld (by omega) (by omega) (by omega) (ok_sA (by omega) (by omega) (by omega) ?_)
      rw [Int.toNat_natCast, Int.toNat_natCast, e2 (30 + j) (by omega)]
      have ev : tA τ1 16 (30 + j) = i32 (v.1 (1 + j)) := by
        obtain ⟨q1, q2⟩ := hU (j / 2) (by omega)
        by_cases q : j % 2 = 0
        · rw [show 30 + j = 30 + 2 * (j / 2) by omega, q1, show 1 + 2 * (j / 2) = 1 + j by omega]
        · rw [show 30 + j = 31 + 2 * (j / 2) by omega, q2, show 2 + 2 * (j / 2) = 1 + j by omega]
      rw [ev]
      refine ih m (j + 1) _ (by omega) (by omega) ?_ (fun i a b => ?_) (fun i a => ?_) e3 (fun i a => ?_) e5
      · rw [rd_sA, if_neg (fun z => by omega)]
        exact e0
      · rw [rd_sA]
        by_cases q : i = 1 + j
        · rw [if_pos ⟨rfl, q⟩, q]
        · rw [if_neg (fun z => q z.2)]
          exact e1 i a (by omega)
      · rw [rd_sA, if_neg (fun z => by omega)]
        exact e2 i (by omega)
      · rw [tA_sA, if_neg a]
        exact e4 i a
  unfold T_walk_b170
  rw [if_pos (show tI τ1 8 ≤ 0 by rw [h.2.2.2]; decide), show (0 : Int32) = i32 ((0 : Nat) : Int) from rfl]
  refine ok_sA (by omega) (by omega) (by omega) (L (2 * v.2.1) nf 0 _ (by omega) (by omega) ?_ (fun i a b => by omega) (fun i a => ?_) (fun _ => rfl) (fun i a => ?_) rfl)
  · rw [rd_sA, if_pos ⟨rfl, rfl⟩]
  · rw [rd_sA, if_neg (fun z => by have := z.2; omega)]
  · rw [tA_sA, if_neg a]
theorem wy_i {j : Int} (hj : j = 0 ∨ j = 1) : i32 j = wy (decide (j = 1)) := by
  rcases hj with rfl | rfl <;> rfl
theorem t_wkL (hnf : 2000 ≤ nf) (hT : TO t n) (hW : TW W) (hR : Rw W τ) : ∀ (d m : Nat) (v : WKV) (k : Nat) (τ1 : TS), n - tP t n k < d → d ≤ m → Tkk t n k τ1 → UVV v τ1 → WII W v → Twk τ τ1 → Ok (T_walk_b15 nf m (i32 (v.2.1 : Int)) (i32 (v.2.2.1 : Int)) (i32 (v.2.2.2 : Int)) τ1) (Tnv τ (wkL t n W d v k)) := by
  have hn := hT.1
  have w0 := hW.1
  have w1 := hW.2.1
  intro d
  induction d with
  | zero => intro m v k τ1 h; omega
  | succ d ih =>
    intro m v k τ1 h1 h2 h hU hI f
    obtain ⟨m, rfl⟩ : ∃ q, m = q + 1 := ⟨m - 1, by omega⟩
    have hk := h.2.1.kn
    have hpk := (tP_b (t := t) (n := n) k).1
    have hs := (tS_b (t := t) (n := n) (f := tP t n k))
    have hb := whV_b owW t n (tP t n k)
    have hl : (owW.length : Int) = 2 := rfl
    obtain ⟨c1, c2, c3, c4, c5, c6⟩ := id hI
    have H := t_wordHere (nf := nf) (x := 10) (m := 2) (by omega) hT h (by omega)
    rw [owW_d.1] at H
    have hR1 : Rw W τ1 := fun i hi => by rw [f.2.1 10 (by decide)]; exact hR i hi
    unfold wkL
    rw [show T_walk_b15 nf (m + 1) = T_walk_b15_s nf (T_walk_b15 nf m) from rfl]
    unfold T_walk_b15_s
    rw [if_pos (show tI τ1 8 = 0 from h.2.2.2), h.2.2.1]
    refine ok_ld (by omega) (by omega) (by omega) ?_
    rw [Int.toNat_natCast, (h.1.1 k h.2.1).1, show (0 : Int32) = i32 0 from rfl]
    refine ok_q ⟨by omega, by omega⟩ ⟨by omega, by omega⟩ (fun q => ?_) (fun q => ?_)
    · rw [if_pos (show tS t n (tP t n k) = 0 by omega)]
      exact t_wk170 hnf h hU c1 f k
    · rw [if_neg (show ¬ tS t n (tP t n k) = 0 by omega), show (10 : Int32) = i32 ((10 : Nat) : Int) from rfl, show (2 : Int32) = i32 ((2 : Nat) : Int) from rfl, H, bd_eq]
      have hlt := tS_lt (t := t) (show ¬ tS t n (tP t n k) = 0 by omega)
      obtain ⟨m, rfl⟩ : ∃ q, m = q + 1 := ⟨m - 1, by omega⟩
      have E : ∀ (kd : Int) (a b c d : Int32), 1 ≤ kd ∧ kd ≤ 10 → Ok ((T_wrong (i32 kd) τ1).bind fun τ6 => T_walk_b97 nf (T_walk_b15 nf (m + 1)) a b c d τ6) (Tnv τ (.inl (kd + 16 * (tP t n k : Int)))) := fun kd a b c d hkd => by
        rw [t_wrong h hT, bd_eq, s_wk97 (e := kd + 16 * (tP t n k : Int)) ⟨by omega, sI_t⟩]
        exact ok_s ⟨rfl, f.tr (Twk.n (Tn.sI (.inr rfl)))⟩
      refine ok_le ⟨by omega, by omega⟩ ⟨by omega, by omega⟩ (fun q1 => ?_) (fun q1 => ?_)
      · rw [if_neg (show ¬ whV owW t n (tP t n k) < 0 by omega)]
        have hj : whV owW t n (tP t n k) = 0 ∨ whV owW t n (tP t n k) = 1 := by omega
        have A := s_isThere (x := v.2.2.1) (y := v.2.2.2) (way := decide (whV owW t n (tP t n k) = 1)) hW hR1 (by omega) (by omega)
        have B := s_isBarred (x := v.2.2.1) (y := v.2.2.2) (way := decide (whV owW t n (tP t n k) = 1)) hW hR1 (by omega) (by omega)
        have ew := wy_i hj
        generalize whV owW t n (tP t n k) = j at *
        rw [← ew] at A B
        rw [A, bd_eq]
        unfold T_walk_b78
        cases hth : thA W v.2.2.1 v.2.2.2 (decide (j = 1)) with
        | false =>
          rw [if_pos (show bi false = i32 0 from rfl), Bool.false_and, if_pos rfl, show (2 : Int32) = i32 2 from rfl]
          exact E 2 _ _ _ _ (by omega)
        | true =>
          rw [if_neg (show ¬ bi true = i32 0 by decide), Bool.true_and, B, bd_eq]
          cases hbr : brA W v.2.2.1 v.2.2.2 (decide (j = 1)) with
          | true =>
            rw [if_neg (show ¬ bi true = i32 0 by decide), if_pos (show (!true) = false from rfl), show (2 : Int32) = i32 2 from rfl]
            exact E 2 _ _ _ _ (by omega)
          | false =>
            rw [if_pos (show bi false = i32 0 from rfl), if_neg (show ¬ (!false) = false by decide), show (13 : Int32) = i32 13 from rfl]
            refine ok_q ⟨by omega, by omega⟩ ⟨by omega, by omega⟩ (fun q3 => ?_) (fun q3 => ?_)
            · rw [if_pos (show v.2.1 = 13 by omega), show (5 : Int32) = i32 5 from rfl]
              exact E 5 _ _ _ _ (by omega)
            · rw [if_neg (show ¬ v.2.1 = 13 by omega)]
              unfold T_walk_b97 T_walk_b161
              rw [if_pos (show tI τ1 8 = 0 from h.2.2.2), h.up, nm_eq, show (0 : Int32) = i32 0 from rfl, show (30 : Int32) = i32 30 from rfl, show (31 : Int32) = i32 31 from rfl, show (2 : Int32) = i32 2 from rfl, show (1 : Int32) = i32 1 from rfl, show (9999 : Int32) = i32 9999 from rfl, show (59 : Int32) = i32 59 from rfl, i32_mul, i32_add, i32_add, i32_add, i32_sub, i32_add, i32_add, show (30 : Int) + 2 * (v.2.1 : Int) = ((30 + 2 * v.2.1 : Nat) : Int) by omega, show (31 : Int) + 2 * (v.2.1 : Int) = ((31 + 2 * v.2.1 : Nat) : Int) by omega, show (v.2.1 : Int) + 1 = ((v.2.1 + 1 : Nat) : Int) by omega]
              refine ok_sA (by omega) (by omega) (by omega) ?_
              rw [Int.toNat_natCast]
              have h1' := (h.s hlt).a16 (i := 30 + 2 * v.2.1) (v := i32 j)
              have f1 : Twk τ (sA (sI τ1 7 (i32 ((k + 1 : Nat) : Int))) 16 (30 + 2 * v.2.1) (i32 j)) := (f.tr (Twk.n (Tn.sI (.inl rfl)))).tr (Twk.a16 (by omega))
              refine ok_2 (t_num h1' hT ⟨by omega, by omega⟩ ⟨by omega, by omega⟩) fun a τ3 h3 => ?_
              obtain ⟨g1, g2⟩ := h3
              have f3 := f1.tr (Twk.n g1)
              refine ok_sA (by omega) (by omega) (by omega) ?_
              rw [Int.toNat_natCast, nm_eq, nm_eq]
              have f4 := f3.tr (Twk.a16 (i := 31 + 2 * v.2.1) (v := a) (by omega))
              cases hx : nmP t n 0 9999 (tP t n (k + 1)) (k + 1) with
              | inl e =>
                rw [hx] at g2
                have gf : (1 ≤ e ∧ e < 100000) ∧ tI (sA τ3 16 (31 + 2 * v.2.1) a) 8 = i32 e := ⟨g2.2.1, g2.2.2⟩
                rw [s_takeSign (flt gf.1 gf.2).1, bd_eq, s_wk15 gf]
                exact ok_s ⟨rfl, f4⟩
              | inr y =>
                obtain ⟨s, k2⟩ := y
                rw [hx] at g2
                obtain ⟨g2, g3⟩ := g2
                have g2 : a = i32 s := g2
                have g3 : Tkk t n k2 τ3 := g3
                obtain ⟨x1, rfl, x3, x4⟩ := nmP_i hx
                subst g2
                have hp2 := (tP_b (t := t) (n := n) (k + 1 + 1)).1
                have h4 := g3.a16 (i := 31 + 2 * v.2.1) (v := i32 s)
                rw [t_takeSign h4 hT (by omega), bd_eq]
                show Ok _ (Tnv τ (bP (ndP (isSg t n 59 (tP t n (k + 1 + 1))) (tP t n (k + 1 + 1)) (k + 1 + 1)) fun _ k2 => wkL t n W d (wkS v j s) k2))
                unfold ndP
                cases hs2 : isSg t n 59 (tP t n (k + 1 + 1)) with
                | false =>
                  rw [if_neg (show ¬ (false = true) by decide), if_neg (show ¬ (false = true) by decide), s_wk15 (e := 1 + 16 * (tP t n (k + 1 + 1) : Int)) ⟨by omega, sI_t⟩]
                  exact ok_s ⟨rfl, f4.tr (Twk.n (Tn.sI (.inr rfl)))⟩
                | true =>
                  rw [if_pos rfl, if_pos rfl]
                  have l1 := tP_lt hlt
                  have l2 := tP_lt x1
                  have l3 := tP_lt (isSg_lt hs2)
                  have hI2 := wkS_g (s := s) hI hj ⟨x3, x4⟩ hth hbr (by omega)
                  have hU2 : UVV (wkS v j s) (sI (sA τ3 16 (31 + 2 * v.2.1) (i32 s)) 7 (i32 ((k + 1 + 1 + 1 : Nat) : Int))) := fun i hi => by
                    have hi : i < v.2.1 + 1 := hi
                    have e16 : tA τ3 16 = upd (tA τ1 16) (30 + 2 * v.2.1) (i32 j) := by
                      have g1 : Tn (sA (sI τ1 7 (i32 ((k + 1 : Nat) : Int))) 16 (30 + 2 * v.2.1) (i32 j)) τ3 := g1
                      rw [g1.2.1, tA_sA, if_pos rfl]
                      rfl
                    show tA (sA τ3 16 (31 + 2 * v.2.1) (i32 s)) 16 (30 + 2 * i) = i32 (upW (upW v.1 (1 + 2 * v.2.1) j) (2 + 2 * v.2.1) s (1 + 2 * i)) ∧ tA (sA τ3 16 (31 + 2 * v.2.1) (i32 s)) 16 (31 + 2 * i) = i32 (upW (upW v.1 (1 + 2 * v.2.1) j) (2 + 2 * v.2.1) s (2 + 2 * i))
                    rw [rd_sA, if_neg (fun z => by omega), rd_sA, e16, upW_n (by omega)]
                    by_cases q : i = v.2.1
                    · rw [q, upd_e, upW_t, if_pos ⟨rfl, rfl⟩, upW_t]
                      exact ⟨rfl, rfl⟩
                    · rw [upd_n _ _ (by omega), upW_n (by omega), if_neg (fun z => by omega), upd_n _ _ (by omega), upW_n (by omega), upW_n (by omega)]
                      exact hU i (by omega)
                  have := ih (m + 1) (wkS v j s) (k + 1 + 1 + 1) _ (by omega) (by omega) (h4.s (isSg_lt hs2)) hU2 hI2 (f4.tr (Twk.n (Tn.sI (.inl rfl))))
                  rcases hj with rfl | rfl
                  · show Ok (T_walk_b15 nf (m + 1) (i32 ((v.2.1 + 1 : Nat) : Int)) (i32 ((v.2.2.1 : Int) + (1 - 0))) (i32 ((v.2.2.2 : Int) + 0)) _) _
                    rw [show (v.2.2.1 : Int) + (1 - 0) = ((v.2.2.1 + 1 : Nat) : Int) by omega, show (v.2.2.2 : Int) + 0 = ((v.2.2.2 : Nat) : Int) by omega]
                    exact this
                  · show Ok (T_walk_b15 nf (m + 1) (i32 ((v.2.1 + 1 : Nat) : Int)) (i32 ((v.2.2.1 : Int) + (1 - 1))) (i32 ((v.2.2.2 : Int) + 1)) _) _
                    rw [show (v.2.2.1 : Int) + (1 - 1) = ((v.2.2.1 : Nat) : Int) by omega, show (v.2.2.2 : Int) + 1 = ((v.2.2.2 + 1 : Nat) : Int) by omega]
                    exact this
      · rw [if_pos q1, show (1 : Int32) = i32 1 from rfl]
        exact E 1 _ _ _ _ (by omega)
/-- the twin's walk -/
theorem t_walk (hnf : 2000 ≤ nf) (hT : TO t n) (hW : TW W) (hR : Rw W τ) (h2 : tI τ 2 = i32 (n : Int)) (ht : ∀ i, i < n → tA τ 1 i = i32 (t i)) (hw : ∀ k, k < 22 → tB τ 9 k = wordsL.getD k 0) : Ok (T_walk nf τ) fun p => ∃ τc, Tnv τc (wkX t n W) p ∧ tI τc 2 = i32 0 ∧ (∀ f, [0, 2, 3, 7, 8].contains f = false → tI τc f = tI τ f) ∧ (∀ j, ¬ j = 4 → ¬ j = 5 → tA τc j = tA τ j) ∧ ∀ j, ¬ j = 6 → tB τc j = tB τ j := by
  have hn := hT.1
  have w0 := hW.1
  have w1 := hW.2.1
  unfold T_walk wkX
  rw [nm_eq]
  refine ok_b (t_cutAll (τ := sI τ 0 0) hnf hT ((sI_n (by decide)).trans h2) ht hw) fun τ2 h => ?_
  obtain ⟨g1, g2, g3, g4, g5⟩ := h
  have cf : ∀ f, [0, 2, 3, 7, 8].contains f = false → tI τ2 f = tI τ f := fun f q => by
    have hx : ¬ f = 0 ∧ ¬ f = 2 ∧ ¬ f = 3 ∧ ¬ f = 7 ∧ ¬ f = 8 := by
      simp at q
      omega
    exact (g3 f hx.2.1 hx.2.2.1 hx.2.2.2.1 hx.2.2.2.2).trans (sI_n hx.1)
  refine ok_w (P := Tnv τ2 (wkL t n W 1001 (fun _ => 0, 0, 0, 0) 0)) ?_ fun p hp => ⟨_, hp, g2, cf, g4, g5⟩
  rw [show (0 : Int32) = i32 ((0 : Nat) : Int) from rfl]
  exact t_wkL hnf hT hW (fun i hi => by rw [g4 10 (by decide) (by decide)]; exact hR i hi) 1001 nf (fun _ => 0, 0, 0, 0) 0 τ2 (by omega) (by omega) g1 (fun i hi => absurd hi (Nat.not_lt_zero i)) ⟨Nat.zero_le _, rfl, rfl, by show ((0 : Nat) : Int) < W 0; omega, by show ((0 : Nat) : Int) < W 1; omega, fun k hk => absurd hk (Nat.not_lt_zero k)⟩ Twk.rf
end YWK
