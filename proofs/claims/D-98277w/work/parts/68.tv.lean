/-! LAYER 2: turning so often at most: the component -/
set_option maxRecDepth 100000
theorem tc_e (w : Bool) : tcO (some w) w = 0 := by cases w <;> rfl
theorem tc_n {w w' : Bool} (h : ¬ w' = w) : tcO (some w) w' = 1 := by cases w <;> cases w' <;> first | rfl | exact absurd rfl h
section TV
variable {g : Nat → Nat} {ρ : Nat → Nat × Nat} {W : Nat → Int} {S : Nat → Nat → Int} {V m Tp : Nat → Int} {RC : Nat → List (Nat × Int)} {s : CS} {τ : TS} {T : Int} {nf : Nat} {O : Nat} {An : Int}
/-- the component's table of comings -/
def Cm (s : CS) (g : Nat → Nat) (c : Nat → Int) : Prop := ∀ j, j < 1404 → cA s (g 21) j = i32 (c j)
theorem c_comesAt (b : B g ρ W S V m Tp RC s) {x y k : Nat} {w : Bool} : FX0_comesAt s (g 0) (i32 x) (i32 y) (wy w) (i32 k) = some (i32 ((ixT x y w k : Nat) : Int)) := by
  have ew : (wy w : Int32) = i32 ((if w = true then 1 else 0 : Nat) : Int) := by cases w <;> rfl
  unfold FX0_comesAt
  rw [(bcp b).1, ew, show (6 : Int32) = i32 6 from rfl, show (2 : Int32) = i32 2 from rfl, show (13 : Int32) = i32 13 from rfl, i32_mul, i32_add, i32_mul, i32_add, i32_mul, i32_add]
  unfold ixT
  congr 2
  omega
theorem ix_b {x y k : Nat} {w : Bool} (hx : x < 6) (hy : y < 9) (hk : k ≤ 12) : ixT x y w k < 1404 := by
  unfold ixT
  cases w <;> simp only [Bool.false_eq_true, if_false, if_true] <;> omega
theorem ok_on (b : B g ρ W S V m Tp RC s) (hW : TW W) {c : Nat → Int} (hC : Cm s g c) (hb : ∀ j, 0 ≤ c j ∧ c j ≤ 2147483647) {x y k : Nat} {w : Bool} {t : Int} (hx : (x : Int) < W 0) (hy : (y : Int) < W 1) (ht : 0 ≤ t) (ht2 : t ≤ 2000000) (hk : k ≤ 12) : Ok (FX0_turnsOn (g 0) (i32 x) (i32 y) (wy w) (i32 t) (i32 k) s) fun s' => Fq ρ s s' ∧ Cm s' g (onV W c x y w t k) := by
  have w0 := hW.1
  have w1 := hW.2.1
  have w2 := hW.2.2.1
  unfold FX0_turnsOn
  refine ok_mq (ρ := ρ) ?_ (fun z hz => hz.1)
  refine ok_gd b.1 rfl (ok_be (c_wts b hW (by omega) (by omega) ht (by omega)) ?_)
  unfold onV
  by_cases q : cgA W x y w = true
  · obtain ⟨i1, i2, i3, i4, i5, i6⟩ := cg_in hW (t := t) hx hy q
    have hix := ix_b (x := nx w x) (y := ny w y) (w := w) (by omega) (by omega) hk
    have hbc := hb (ixT (nx w x) (ny w y) w k)
    rw [if_pos q, if_pos q, show (0 : Int32) = i32 0 from rfl, if_pos ((i32_le (a := 0) (b := wtA W x y w t) ⟨by omega, by omega⟩ ⟨by omega, by omega⟩).mpr i4)]
    have L : Ok (FX0_turnsOn_b40 (g 0) (wy w) (i32 t) (i32 k) (i32 (wtA W x y w t)) (i32 ((ny w y : Nat) : Int)) (i32 ((nx w x : Nat) : Int)) (g 0) s) fun s' => Fq ρ s s' ∧ Cm s' g (updI c (ixT (nx w x) (ny w y) w k) (mn2 (c (ixT (nx w x) (ny w y) w k)) (t + wtA W x y w t + W 2))) := by
      unfold FX0_turnsOn_b40
      refine ok_be (c_comesAt b) ?_
      refine ok_gRs b.1 rfl (b.2.1 7 _ rfl).1 (ok_gRs b.1 rfl (b.2.1 7 _ rfl).1 (ok_nn ?_))
      refine ok_lI (b.2.1 7 _ rfl).2.1 (by omega) (by show _ < ((1404 : Nat) : Int); omega) (by decide) ?_
      refine ok_gRs b.1 rfl (b.2.1 2 _ rfl).1 (ok_nn (ok_be (c_walk b hW) (ok_nn ?_)))
      rw [Int.toNat_natCast, hC _ hix, i32_add, i32_add, mn_c (by omega) (by omega) (by omega) (by omega)]
      refine ok_tI (b.2.1 7 _ rfl).2.1 (by omega) (by show _ < ((1404 : Nat) : Int); omega) (by decide) ?_
      refine ok_s ⟨Fq.uA (by rw [(b.2.1 7 _ rfl).2.2]; rfl), fun j hj => ?_⟩
      rw [Int.toNat_natCast]
      show (if g 21 = g 21 then upd (cA s (g 21)) _ _ else cA s (g 21)) j = _
      rw [if_pos rfl]
      unfold updI
      by_cases e : j = ixT (nx w x) (ny w y) w k
      · rw [e, upd_e, if_pos rfl]
        rfl
      · rw [upd_n _ _ e, if_neg e, hC j hj]
    cases w
    · rw [if_pos (show wy false = i32 0 from rfl)]
      unfold FX0_turnsOn_b29
      rw [if_pos (show wy false = (0 : Int32) from rfl), show (1 : Int32) = i32 1 from rfl, i32_add]
      exact L
    · rw [if_neg (show ¬ wy true = i32 0 by decide)]
      unfold FX0_turnsOn_b29
      rw [if_neg (show ¬ wy true = (0 : Int32) by decide), show (1 : Int32) = i32 1 from rfl, i32_add]
      exact L
  · rw [if_neg q, if_neg q, if_neg (show ¬ (0 : Int32) ≤ i32 (-1) by decide)]
    exact ok_s ⟨Fq.rf, hC⟩
/-- one cell's row of turns -/
theorem cfr_12 (hW : TW W) (hO : O ≤ 12) {x y : Nat} {w : Bool} (hx : (x : Int) < W 0) (hy : (y : Int) < W 1) {s0 : CS} {k3 : Nat → Int32 → Int32 → Int32 → Int32 → CS → Option CS} {Q : CS → Prop} (hk3 : ∀ s' c', Fq ρ s0 s' → B g ρ W S V m Tp RC s' → Cm s' g c' → tJ W O An c' (ixT x y w O + 1) → Ok (k3 (g 0) (i32 x) (i32 y) (i32 O) (wy w + 1) s') Q) : ∀ (d n k : Nat) (s : CS) (c : Nat → Int), k + d = O + 1 → d < n → Fq ρ s0 s → B g ρ W S V m Tp RC s → Cm s g c → tJ W O An c (ixT x y w k) → Ok (FX0_turnsFrom_b12 nf k3 n (g 0) (i32 x) (i32 y) (i32 O) (wy w) (i32 k) s) Q := by
  have w0 := hW.1
  have w1 := hW.2.1
  have w2 := hW.2.2.1
  intro d
  induction d with
  | zero =>
    intro n k s c h1 h2 hf b hC hJ
    obtain ⟨n, rfl⟩ : ∃ q, n = q + 1 := ⟨n - 1, by omega⟩
    rw [show FX0_turnsFrom_b12 nf k3 (n + 1) = FX0_turnsFrom_b12_s nf k3 (FX0_turnsFrom_b12 nf k3 n) from rfl]
    unfold FX0_turnsFrom_b12_s
    refine ok_lt ⟨by omega, by omega⟩ ⟨by omega, by omega⟩ (fun _ => ?_) (fun z => by omega)
    refine hk3 s c hf b hC ?_
    rw [show ixT x y w O + 1 = ixT x y w k by unfold ixT; omega]
    exact hJ
  | succ d ih =>
    intro n k s c h1 h2 hf b hC hJ
    obtain ⟨n, rfl⟩ : ∃ q, n = q + 1 := ⟨n - 1, by omega⟩
    have hk : k ≤ O := by omega
    have hix := ix_b (x := x) (y := y) (w := w) (k := k) (by omega) (by omega) (by omega)
    have hd : dmT W O x y k := ⟨hx, hy, hk⟩
    have hj0 := hJ.1 (ixT x y w k)
    have e1 : ixT x y w (k + 1) = ixT x y w k + 1 := rfl
    rw [show FX0_turnsFrom_b12 nf k3 (n + 1) = FX0_turnsFrom_b12_s nf k3 (FX0_turnsFrom_b12 nf k3 n) from rfl]
    unfold FX0_turnsFrom_b12_s
    refine ok_lt ⟨by omega, by omega⟩ ⟨by omega, by omega⟩ (fun z => by omega) (fun _ => ?_)
    refine ok_gRs b.1 rfl (b.2.1 7 _ rfl).1 (ok_be (c_comesAt b) (ok_nn ?_))
    refine ok_lI (b.2.1 7 _ rfl).2.1 (by omega) (by show _ < ((1404 : Nat) : Int); omega) (by decide) ?_
    rw [Int.toNat_natCast, hC _ hix, show (2147483647 : Int32) = i32 2147483647 from rfl]
    obtain ⟨t, ht⟩ : ∃ t, c (ixT x y w k) = t := ⟨_, rfl⟩
    rw [ht] at hj0 ⊢
    refine ok_q ⟨by omega, by omega⟩ ⟨by omega, by omega⟩ (fun q => ?_) (fun q => ?_)
    · rw [show (1 : Int32) = i32 1 from rfl, i32_add]
      refine ih n (k + 1) s c (by omega) (by omega) hf b hC (tJ_skip hJ (by omega) fun x2 y2 w2' k2 hd2 hle => ?_)
      by_cases e : ixT x2 y2 w2' k2 = ixT x y w k
      · exact .inr (.inr (by rw [e, ht, q]))
      · exact .inl (by omega)
    · have hb := (hJ.2.1 x y w k hd (by rw [ht]; exact q)).1
      rw [ht] at hb
      have t1 := tJ_on hW hO (w' := w) hJ hd (.inl (Nat.le_refl _)) ht q (by rw [tc_e]; omega)
      have ec0 : k + tcO (some w) w = k := by rw [tc_e]; rfl
      rw [ec0] at t1
      obtain ⟨u1, u2, u3, u4⟩ := t1
      have O1 := ok_on b hW hC hJ.1 (w := w) (k := k) hx hy hj0.1 (by omega : t ≤ 2000000) (by omega)
      refine ok_b O1 fun s1 hs1 => ?_
      have b1 := b.q hs1.1
      have ht1 : onV W c x y w t k (ixT x y w k) = t := by rw [u3 x y w k hd (Nat.le_refl _), ht]
      by_cases q2 : O ≤ k
      · rw [if_pos ((i32_le ⟨by omega, by omega⟩ ⟨by omega, by omega⟩).mpr (by omega)), show (1 : Int32) = i32 1 from rfl, i32_add]
        refine ih n (k + 1) s1 _ (by omega) (by omega) (hf.tr hs1.1) b1 hs1.2 ?_
        rw [e1]
        refine tJ_done hW hO u1 hd ht1 q fun w' hw' hcg => ?_
        by_cases ew : w' = w
        · subst ew
          rw [ec0]
          exact u4 hcg
        · exfalso
          rw [tc_n ew] at hw'
          omega
      · rw [if_neg (fun z => by have := (i32_le ⟨by omega, by omega⟩ ⟨by omega, by omega⟩).mp z; omega)]
        have ew1 : (1 : Int32) - wy w = wy (!w) := by cases w <;> rfl
        have etc : tcO (some w) (!w) = 1 := tc_n (by cases w <;> decide)
        have t2 := tJ_on hW hO (w' := !w) u1 hd (.inl (Nat.le_refl _)) ht1 q (by omega)
        rw [etc] at t2
        obtain ⟨v1, v2, v3, v4⟩ := t2
        have O2 := ok_on b1 hW hs1.2 u1.1 (w := !w) (k := k + 1) hx hy hj0.1 (by omega : t ≤ 2000000) (by omega)
        rw [ew1, show (1 : Int32) = i32 1 from rfl, i32_add]
        refine ok_b O2 fun s2 hs2 => ?_
        have b2 := b1.q hs2.1
        refine ih n (k + 1) s2 _ (by omega) (by omega) ((hf.tr hs1.1).tr hs2.1) b2 hs2.2 ?_
        rw [e1]
        refine tJ_done hW hO v1 hd (by rw [v3 x y w k hd (Nat.le_refl _), ht1]) q fun w' hw' hcg => ?_
        by_cases ew : w' = w
        · subst ew
          rw [ec0]
          exact Int.le_trans (v2 _) (u4 hcg)
        · have ew2 : w' = !w := by cases w <;> cases w' <;> first | rfl | exact absurd rfl ew
          subst ew2
          rw [etc]
          exact v4 hcg
theorem ok_turnsFrom (hn : 100 ≤ nf) (b : B g ρ W S V m Tp RC s) (hW : TW W) (hO : O ≤ 12) {x y : Nat} (hx : (x : Int) < W 0) (hy : (y : Int) < W 1) {c : Nat → Int} (hC : Cm s g c) (hJ : tJ W O An c (ixT x y false 0)) : Ok (FX0_turnsFrom nf (g 0) (i32 x) (i32 y) (i32 O) s) fun s' => Fq ρ s s' ∧ ∃ c', Cm s' g c' ∧ tJ W O An c' (ixT x y true O + 1) := by
  have w0 := hW.1
  have w1 := hW.2.1
  unfold FX0_turnsFrom
  refine ok_mq (ρ := ρ) ?_ (fun z hz => hz.1)
  refine ok_gd b.1 rfl ?_
  obtain ⟨N, rfl⟩ : ∃ n, nf = n + 1 + 1 + 1 := ⟨nf - 3, by omega⟩
  rw [show FX0_turnsFrom_b3 (N + 1 + 1 + 1) ((N + 1 + 1) + 1) = FX0_turnsFrom_b3_s (N + 1 + 1 + 1) (FX0_turnsFrom_b3 (N + 1 + 1 + 1) (N + 1 + 1)) from rfl]
  unfold FX0_turnsFrom_b3_s
  rw [if_neg (show ¬ (1 : Int32) < 0 by decide)]
  refine cfr_12 (w := false) hW hO hx hy (s0 := s) (fun s1 c1 hf1 b1 hC1 hJ1 => ?_) (O + 1) _ 0 s c (by omega) (by omega) Fq.rf b hC hJ
  rw [show FX0_turnsFrom_b3 (N + 1 + 1 + 1) ((N + 1) + 1) = FX0_turnsFrom_b3_s (N + 1 + 1 + 1) (FX0_turnsFrom_b3 (N + 1 + 1 + 1) (N + 1)) from rfl]
  unfold FX0_turnsFrom_b3_s
  rw [if_neg (show ¬ (1 : Int32) < wy false + 1 by decide)]
  have hJ2 : tJ W O An c1 (ixT x y true 0) := tJ_skip hJ1 (by unfold ixT; simp only [Bool.false_eq_true, if_false, if_true]; omega) fun x2 y2 w2 k2 hd2 hle => by
    left
    have := hd2.2.2
    have := hd2.1
    unfold ixT at hle ⊢
    cases w2 <;> simp only [Bool.false_eq_true, if_false, if_true] at hle ⊢ <;> omega
  refine cfr_12 (w := true) hW hO hx hy (s0 := s) (fun s2 c2 hf2 b2 hC2 hJ3 => ?_) (O + 1) _ 0 s1 c1 (by omega) (by omega) hf1 b1 hC1 hJ2
  rw [show FX0_turnsFrom_b3 (N + 1 + 1 + 1) (N + 1) = FX0_turnsFrom_b3_s (N + 1 + 1 + 1) (FX0_turnsFrom_b3 (N + 1 + 1 + 1) N) from rfl]
  unfold FX0_turnsFrom_b3_s
  rw [if_pos (show (1 : Int32) < wy true + 1 by decide)]
  exact ok_s ⟨hf2, c2, hC2, hJ3⟩
end TV
