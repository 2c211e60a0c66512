/-! LAYER 2: the component's watch, worthiest, rules -/
set_option maxRecDepth 100000
def wcV (W σ : Nat → Int) (RC : Nat → List (Nat × Int)) (x y t : Int) : Int := if (((0 ≤ x ∧ x < W 0) ∧ 0 ≤ y ∧ y < W 1) ∧ 0 ≤ t ∧ t ≤ 1000000) ∧ unA W σ (6 * y.toNat + x.toNat) = true then (if vG W σ RC 3 false 0 0 (t % W 9) < 0 then -1 else vG W σ RC 3 false 0 0 (t % W 9) - smN (fun i : Nat => vW W σ RC ((6 * y.toNat + x.toNat : Nat) : Int) i 0 0 (t % W 9)) (W (11 + 4 * (6 * y.toNat + x.toNat))).toNat / W (11 + 4 * (6 * y.toNat + x.toNat))) else -1
section WC
variable {g : Nat → Nat} {ρ : Nat → Nat × Nat} {W : Nat → Int} {S : Nat → Nat → Int} {V m Tp : Nat → Int} {RC : Nat → List (Nat × Int)} {s : CS} {T : Int} {nf : Nat}
theorem vW_out {σ : Nat → Int} (hW : TW W) {wx wyy : Nat} (hwx : wx < 6) {wat wat' sh sh' : Int} (h1 : wat = -1 ∨ wat = ((6 * wyy + wx : Nat) : Int)) (h2 : wat' = -1 ∨ wat' = ((6 * wyy + wx : Nat) : Int)) {x y : Nat} {t : Int} (hp : ¬ (x ≤ wx ∧ y ≤ wyy)) (hx : (x : Int) < W 0) (hy : (y : Int) < W 1) (h0 : 0 ≤ t) (ht : t < W 9) : vW W σ RC wat sh x y t = vW W σ RC wat' sh' x y t := by
  have w0 := hW.1
  unfold vW
  refine VS_one hW (fun x y => ¬ (x ≤ wx ∧ y ≤ wyy)) (fun x y w hp hw => ?_) vT_VS vT_VS (fun x y hp hx hy => ?_) (fun _ _ => rfl) (dsA W x y) x y t hp hx hy h0 ht (Nat.le_refl _)
  · rcases nx_c (x := x) (y := y) (w := w) with ⟨e1, e2⟩ | ⟨e1, e2⟩ <;> rw [e1, e2] <;> omega
  · refine .inr ⟨?_, ?_⟩
    · rcases h1 with e | e <;> rw [e] <;> omega
    · rcases h2 with e | e <;> rw [e] <;> omega
theorem vW_rc {σ : Nat → Int} (hW : TW W) {wat sh wat' sh' : Int} {x y : Nat} {t t' : Int} (hx : (x : Int) < W 0) (hy : (y : Int) < W 1) (h0 : 0 ≤ t) (ht : t < W 9) (h0' : 0 ≤ t') (ht' : t' < W 9) : 0 ≤ vW W σ RC wat sh x y t ↔ 0 ≤ vW W σ RC wat' sh' x y t' := by
  unfold vW
  rw [VS_rc hW vT_VS (dsA W x y) x y t hx hy h0 ht rfl, VS_rc hW vT_VS (dsA W x y) x y t' hx hy h0' ht' rfl]
theorem vG_vW {σ : Nat → Int} : vG W σ RC 3 false = vW W σ RC (-1) 0 := rfl
/-- at the watch's loop -/
def Wl (g : Nat → Nat) (ρ : Nat → Nat × Nat) (W : Nat → Int) (S : Nat → Nat → Int) (V m Tp : Nat → Int) (RC : Nat → List (Nat × Int)) (T : Int) (wx wyy i : Nat) (s : CS) : Prop := (∃ o, FJ2_get s (g 11) (i32 3) = some (some o) ∧ isK s o [4, 5, 6, 16] = true ∧ Tcx g ρ W S V m Tp RC T 3 o false false ((6 * wyy + wx : Nat) : Int) i s) ∧ Dn s g W (vW W (S 0) RC ((6 * wyy + wx : Nat) : Int) i) (fun x y => ¬ (x ≤ wx ∧ y ≤ wyy))
theorem wl_loop (hnf : 2000 ≤ nf) (hW : TW W) {wx wyy : Nat} (hwx : (wx : Int) < W 0) (hwy : (wyy : Int) < W 1) {t M : Int} (h0 : 0 ≤ t) (h1 : t ≤ 1000000) (hM : 0 ≤ M ∧ M ≤ 1170000) {rd : Nat} (hr : 0 < rd ∧ rd ≤ 60) (hre : ∀ i : Nat, 0 ≤ vW W (S 0) RC ((6 * wyy + wx : Nat) : Int) i 0 0 (t % W 9)) {s0 : CS} : ∀ d n i s, i + d = rd → d < n → Fq ρ s0 s → cI s 12 (g 0) = i32 (i : Int) → Wl g ρ W S V m Tp RC T wx wyy i s → Ok (FX0_watch_b73 nf n (g 0) (i32 wx) (i32 wyy) (i32 t) (i32 M) (i32 (rd : Int)) (i64 (smN (fun i : Nat => vW W (S 0) RC ((6 * wyy + wx : Nat) : Int) i 0 0 (t % W 9)) i)) s) fun p => p.1 = i32 (M - smN (fun i : Nat => vW W (S 0) RC ((6 * wyy + wx : Nat) : Int) i 0 0 (t % W 9)) rd / (rd : Int)) ∧ Fq ρ s0 p.2 := by
  have w0 := hW.1
  have w1 := hW.2.1
  obtain ⟨F, hF⟩ : ∃ F, F = fun i : Nat => vW W (S 0) RC ((6 * wyy + wx : Nat) : Int) i 0 0 (t % W 9) := ⟨_, rfl⟩
  rw [← hF]
  have hm := wtN_ev hW (t := t)
  have hFb : ∀ i : Nat, 0 ≤ F i ∧ F i ≤ 1170000 := fun i => by
    have e : F i = vW W (S 0) RC ((6 * wyy + wx : Nat) : Int) i 0 0 (t % W 9) := by rw [hF]
    rw [e]
    exact ⟨hre i, (VS_b13 hW vT_VS (by omega) (by omega) hm.1 hm.2).2⟩
  have hsum : ∀ i, i ≤ 60 → 0 ≤ smN F i ∧ smN F i ≤ 1170000 * (i : Int) := by
    intro i
    induction i with
    | zero => intro _; exact ⟨Int.le_refl 0, Int.le_refl 0⟩
    | succ i ih =>
      intro hi
      have e := ih (by omega)
      have hfi := hFb i
      refine ⟨?_, ?_⟩
      · show 0 ≤ smN F i + F i
        omega
      · show smN F i + F i ≤ 1170000 * ((i + 1 : Nat) : Int)
        omega
  intro d
  induction d with
  | zero =>
    intro n i s hd hn hf h12 hw
    obtain ⟨n, rfl⟩ : ∃ q, n = q + 1 := ⟨n - 1, by omega⟩
    have ei : i = rd := by omega
    subst ei
    obtain ⟨e1, e2⟩ := hsum i (by omega)
    obtain ⟨⟨o, g1, g2, hc⟩, hD⟩ := hw
    rw [show FX0_watch_b73 nf (n + 1) = FX0_watch_b73_s nf (FX0_watch_b73 nf n) from rfl]
    unfold FX0_watch_b73_s
    refine ok_gI hc.1.1 rfl ?_
    rw [h12]
    refine ok_le ⟨by omega, by omega⟩ ⟨by omega, by omega⟩ (fun _ => ?_) (fun z => by omega)
    have hq1 : 0 ≤ smN F i / (i : Int) := Int.ediv_nonneg e1 (by omega)
    have hq2 : smN F i / (i : Int) ≤ smN F i := Int.ediv_le_self _ e1
    rw [i32_long ⟨by omega, by omega⟩, d64_n ⟨by omega, by omega⟩ (by omega), i64_div ⟨by omega, by omega⟩ ⟨by omega, by omega⟩ e1 (by omega), i64_int ⟨by omega, by omega⟩, i32_sub]
    exact ok_s ⟨rfl, hf⟩
  | succ d ih =>
    intro n i s hd hn hf h12 hw
    obtain ⟨n, rfl⟩ : ∃ q, n = q + 1 := ⟨n - 1, by omega⟩
    obtain ⟨e1, e2⟩ := hsum i (by omega)
    obtain ⟨⟨o, g1, g2, hc⟩, hD⟩ := hw
    have b := hc.1
    rw [show FX0_watch_b73 nf (n + 1) = FX0_watch_b73_s nf (FX0_watch_b73 nf n) from rfl]
    unfold FX0_watch_b73_s
    refine ok_gI b.1 rfl ?_
    rw [h12]
    refine ok_le ⟨by omega, by omega⟩ ⟨by omega, by omega⟩ (fun z => by omega) (fun _ => ?_)
    refine ok_gRs b.1 rfl (b.2.1 2 _ rfl).1 (ok_nn (ok_gRs (b.2.1 2 _ rfl).2.1 rfl (b.2.1 19 _ rfl).1 (ok_nn ?_)))
    refine ok_be g1 (ok_nn (ok_g g2 ?_))
    refine ok_b (ok_tab2 (R := vW W (S 0) RC ((6 * wyy + wx : Nat) : Int) i) hnf vT_VS hwx hwy hc hD) fun s8 h8 => ?_
    have hc8 := hc.w h8.1
    have b8 := hc8.1
    have f8 := h8.1.q (b_20 b)
    have eT := c_takesAt b8 hW (h8.2 0 0 trivial (by omega) (by omega)) (by omega) (by omega) h0 (by omega)
    have eT : FX0_takesAt s8 (g 0) 0 0 (i32 t) = some (i32 (F i)) := by rw [hF]; exact eT
    refine ok_be eT ?_
    have hfi := hFb i
    rw [show (0 : Int32) = i32 0 from rfl]
    refine ok_le ⟨by omega, by omega⟩ ⟨by omega, by omega⟩ (fun _ => ?_) (fun z => by omega)
    rw [nm_eq, i32_long ⟨by omega, by omega⟩, i64_add]
    refine ok_gI b8.1 rfl (ok_pI b8.1 rfl ?_)
    have e12 : cI s8 12 (g 0) = i32 (i : Int) := by rw [h8.1.2.1]; exact h12
    rw [e12, show (1 : Int32) = i32 1 from rfl, i32_add]
    have f9 : Fq ρ s8 (uI s8 12 (g 0) (i32 ((i : Int) + 1))) := Fq.uI rfl
    have c12 : cI (uI s8 12 (g 0) (i32 ((i : Int) + 1))) 12 (g 0) = i32 ((i + 1 : Nat) : Int) := by simp [cI, uI, up2]
    have c9 : cI (uI s8 12 (g 0) (i32 ((i : Int) + 1))) 9 (g 0) = cI s8 9 (g 0) := by simp [cI, uI, up2]
    have c10 : cI (uI s8 12 (g 0) (i32 ((i : Int) + 1))) 10 (g 0) = cI s8 10 (g 0) := by simp [cI, uI, up2]
    have c11 : cI (uI s8 12 (g 0) (i32 ((i : Int) + 1))) 11 (g 0) = cI s8 11 (g 0) := by simp [cI, uI, up2]
    have cA9 : cA (uI s8 12 (g 0) (i32 ((i : Int) + 1))) = cA s8 := rfl
    have g1' := get_q (f8.tr f9) g1
    have g2' : isK (uI s8 12 (g 0) (i32 ((i : Int) + 1))) o [4, 5, 6, 16] = true := by rw [← g2]; unfold isK; rw [(f8.tr f9).1]
    generalize uI s8 12 (g 0) (i32 ((i : Int) + 1)) = s9 at f9 c12 c9 c10 c11 cA9 g1' g2' ⊢
    refine ih n (i + 1) s9 (by omega) (by omega) ((hf.tr f8).tr f9) c12 ⟨⟨o, g1', g2', ?_⟩, fun x' y' hp hx' hy' => ?_⟩
    · obtain ⟨q1, q2, q3, q4, q5, q6, q7, q8, q9, q10, q11⟩ := hc8
      exact ⟨b8.q f9, hW, q3, q4.q f9, by rw [c10]; exact q5, by rw [c9]; exact q6, by rw [c11]; exact q7, fun _ => c12, q9, by omega, by omega⟩
    · intro t' h0' h1'
      have := h8.2 x' y' trivial hx' hy' t' h0' h1'
      rw [cA9, this]
      congr 1
      exact vW_out hW (by omega) (.inr rfl) (.inr rfl) hp hx' hy' h0' h1'
theorem ok_watch (hnf : 2000 ≤ nf) (b : B g ρ W S V m Tp RC s) (hW : TW W) (hS : SW W T (S 0)) {x y t : Int} (hx : ok32 x) (hy : ok32 y) (ht : ok32 t) : Ok (FX0_watch nf (g 0) (i32 x) (i32 y) (i32 t) s) fun p => p.1 = i32 (wcV W (S 0) RC x y t) ∧ Fq ρ s p.2 := by
  have w0 := hW.1
  have w1 := hW.2.1
  have w8 := hW.2.2.2.2.2.2.2.2.1
  have hm := wtN_ev hW (t := t)
  unfold FX0_watch wcV
  refine ok_mq (ρ := ρ) (ok_gd b.1 rfl ?_) (fun z hz => hz.2)
  have out : ∀ s', Fq ρ s s' → Ok (FX0_watch_b35 nf (g 0) (i32 x) (i32 y) (i32 t) (-1) s') fun p => p.1 = i32 (-1) ∧ Fq ρ s p.2 := fun s' f => by
    unfold FX0_watch_b35
    rw [if_neg (by decide)]
    exact ok_s ⟨rfl, f⟩
  refine ok_be (c_isAsked b hW hx hy ht) ?_
  by_cases q2 : ((0 ≤ x ∧ x < W 0) ∧ 0 ≤ y ∧ y < W 1) ∧ 0 ≤ t ∧ t ≤ 1000000
  · rw [decide_eq_true q2, if_neg (show ¬ bi true = (0 : Int32) by decide)]
    obtain ⟨xn, exn⟩ : ∃ xn : Nat, x = xn := ⟨x.toNat, by omega⟩
    obtain ⟨yn, eyn⟩ : ∃ yn : Nat, y = yn := ⟨y.toNat, by omega⟩
    subst exn
    subst eyn
    rw [Int.toNat_natCast, Int.toNat_natCast]
    have eu := c_isUnknown b hW hS (c := 6 * yn + xn) (by omega)
    rw [show ((6 * yn + xn : Nat) : Int) = (yn : Int) * 6 + (xn : Int) by omega] at eu
    rw [show (6 : Int32) = i32 6 from rfl, i32_mul, i32_add]
    refine ok_be eu ?_
    cases qu : unA W (S 0) (6 * yn + xn) with
    | false =>
      rw [if_pos (show bi false = (0 : Int32) from rfl), if_neg (fun z => by cases z.2)]
      exact out s Fq.rf
    | true =>
      rw [if_neg (show ¬ bi true = (0 : Int32) by decide), if_pos ⟨q2, rfl⟩]
      have hu2 := of_decide_eq_true qu
      have hr := un_rd hW (c := 6 * yn + xn) (by omega) qu
      have hkk := kw_b hW (c := 6 * yn + xn) (by omega)
      refine ok_2 (ok_mn (k := 3) (x := 0) (y := 0) hnf b hW hS ⟨by omega, by omega⟩ ⟨by omega, by omega⟩ ⟨by omega, by omega⟩ ht) fun v s1 hv => ?_
      obtain ⟨v1, f1, v3⟩ := hv
      have v1 : v = _ := v1
      obtain ⟨⟨o, g1, g2, hc⟩, hD⟩ := v3 ⟨⟨by omega, by omega⟩, ⟨⟨by omega, by omega⟩, by omega, by omega⟩, q2.2⟩
      have hM : mnV W (S 0) RC false 3 0 0 t = vG W (S 0) RC 3 false 0 0 (t % W 9) := by
        unfold mnV
        rw [if_pos ⟨⟨by omega, by omega⟩, ⟨⟨by omega, by omega⟩, by omega, by omega⟩, q2.2⟩]
        rfl
      rw [hM] at v1
      rw [v1]
      have hMb : -1 ≤ vG W (S 0) RC 3 false 0 0 (t % W 9) ∧ vG W (S 0) RC 3 false 0 0 (t % W 9) ≤ 1170000 := VS_b13 hW vT_VS (by omega) (by omega) hm.1 hm.2
      obtain ⟨M, hMe⟩ : ∃ M, M = vG W (S 0) RC 3 false 0 0 (t % W 9) := ⟨_, rfl⟩
      rw [← hMe] at hMb ⊢
      have b1 := b.q f1
      unfold FX0_watch_b35
      rw [show (0 : Int32) = i32 0 from rfl]
      refine ok_le ⟨by omega, by omega⟩ ⟨by omega, by omega⟩ (fun qm => ?_) (fun qm => ?_)
      · rw [if_neg (show ¬ M < 0 by omega)]
        refine ok_be (c_ltAt b1 (by omega) (by omega)) ?_
        rcases c_light0 b1 (c := 6 * yn + xn) (by omega) with ⟨z, -⟩ | ⟨-, l, hq, hl⟩
        · omega
        · rw [hq, nn_eq, (lf_cx hl (by omega) hkk.2).1]
          refine ok_pI b1.1 rfl ?_
          rw [show (6 : Int32) = i32 6 from rfl, i32_mul, i32_add]
          have f2 : Fq ρ s1 (uI s1 11 (g 0) (i32 ((yn : Int) * 6 + (xn : Int)))) := Fq.uI rfl
          have c11 : cI (uI s1 11 (g 0) (i32 ((yn : Int) * 6 + (xn : Int)))) 11 (g 0) = i32 ((6 * yn + xn : Nat) : Int) := by
            rw [show ((6 * yn + xn : Nat) : Int) = (yn : Int) * 6 + (xn : Int) by omega]
            simp [cI, uI, up2]
          have c9 : cI (uI s1 11 (g 0) (i32 ((yn : Int) * 6 + (xn : Int)))) 9 (g 0) = cI s1 9 (g 0) := by simp [cI, uI, up2]
          have c10 : cI (uI s1 11 (g 0) (i32 ((yn : Int) * 6 + (xn : Int)))) 10 (g 0) = cI s1 10 (g 0) := by simp [cI, uI, up2]
          have cA2 : cA (uI s1 11 (g 0) (i32 ((yn : Int) * 6 + (xn : Int)))) = cA s1 := rfl
          generalize uI s1 11 (g 0) (i32 ((yn : Int) * 6 + (xn : Int))) = s2 at f2 c11 c9 c10 cA2 ⊢
          have b2 := b1.q f2
          refine ok_pI b2.1 rfl ?_
          have f3 : Fq ρ s2 (uI s2 12 (g 0) (i32 0)) := Fq.uI rfl
          have d12 : cI (uI s2 12 (g 0) (i32 0)) 12 (g 0) = i32 ((0 : Nat) : Int) := by simp [cI, uI, up2]
          have d11 : cI (uI s2 12 (g 0) (i32 0)) 11 (g 0) = i32 ((6 * yn + xn : Nat) : Int) := by rw [← c11]; simp [cI, uI, up2]
          have d9 : cI (uI s2 12 (g 0) (i32 0)) 9 (g 0) = cI s1 9 (g 0) := by rw [← c9]; simp [cI, uI, up2]
          have d10 : cI (uI s2 12 (g 0) (i32 0)) 10 (g 0) = cI s1 10 (g 0) := by rw [← c10]; simp [cI, uI, up2]
          have cA3 : cA (uI s2 12 (g 0) (i32 0)) = cA s1 := by rw [← cA2]; rfl
          generalize uI s2 12 (g 0) (i32 0) = s3 at f3 d12 d11 d9 d10 cA3 ⊢
          have b3 := b2.q f3
          obtain ⟨q1', q2', q3', q4', q5', q6', q7', q8', q9', q10', q11'⟩ := hc
          have hre : ∀ i : Nat, 0 ≤ vW W (S 0) RC ((6 * yn + xn : Nat) : Int) i 0 0 (t % W 9) := fun i => (vW_rc hW (by omega) (by omega) hm.1 hm.2 hm.1 hm.2).mp (show 0 ≤ vW W (S 0) RC (-1) 0 0 0 (t % W 9) by rw [← vG_vW]; omega)
          have := wl_loop (s0 := s) (M := M) (rd := (W (11 + 4 * (6 * yn + xn))).toNat) (wx := xn) (wyy := yn) hnf hW q2.1.1.2 q2.1.2.2 q2.2.1 q2.2.2 ⟨by omega, by omega⟩ (by omega) hre (W (11 + 4 * (6 * yn + xn))).toNat nf 0 s3 (by omega) (by omega) ((f1.tr f2).tr f3) d12 ⟨⟨o, get_q (f2.tr f3) g1, by rw [← g2]; unfold isK; rw [(f2.tr f3).1], b3, hW, hS, q4'.q (f2.tr f3), by rw [d10]; exact q5', by rw [d9]; exact q6', d11, fun _ => d12, ⟨by omega, by omega⟩, by omega, by omega⟩, fun x' y' hp hx' hy' t' h0' h1' => ?_⟩
          · rw [Int.toNat_of_nonneg (by omega)] at this
            exact this
          · have := hD x' y' trivial hx' hy' t' h0' h1'
            rw [cA3, this]
            congr 1
            exact vW_out hW (by omega) (.inl rfl) (.inr rfl) hp hx' hy' h0' h1'
      · rw [if_pos (show M < 0 by omega)]
        exact ok_s ⟨rfl, f1⟩
  · rw [decide_eq_false q2, if_pos (show bi false = (0 : Int32) from rfl), if_neg (fun z => q2 z.1)]
    exact out s Fq.rf
def rlN (W σ : Nat → Int) (RC : Nat → List (Nat × Int)) : Nat → Int × Int
  | 0 => (-1, 0)
  | k + 1 => if mnV W σ RC false (4 + k) 0 0 0 < 0 then rlN W σ RC k else if (rlN W σ RC k).1 < 0 ∨ mnV W σ RC false (4 + k) 0 0 0 < (rlN W σ RC k).2 then ((k : Int), mnV W σ RC false (4 + k) 0 0 0) else rlN W σ RC k
theorem rlN_b (hW : TW W) {σ : Nat → Int} : ∀ k : Nat, (-1 ≤ (rlN W σ RC k).1 ∧ (rlN W σ RC k).1 < k ∨ (rlN W σ RC k).1 = -1) ∧ -1 ≤ (rlN W σ RC k).2 ∧ (rlN W σ RC k).2 ≤ 1170000 := by
  intro k
  induction k with
  | zero => exact ⟨.inr rfl, by show (-1 : Int) ≤ 0; omega, by show (0 : Int) ≤ 1170000; omega⟩
  | succ k ih =>
    have hb := mnV_b (RC := RC) (wst := false) (σ := σ) (k := 4 + k) (x := 0) (y := 0) (t := 0) hW
    unfold rlN
    split
    · exact ⟨by omega, ih.2⟩
    · split
      · exact ⟨.inl ⟨by show (-1 : Int) ≤ k; omega, by show (k : Int) < ((k + 1 : Nat) : Int); omega⟩, hb⟩
      · exact ⟨by omega, ih.2⟩
theorem rl_loop (hnf : 2000 ≤ nf) (hW : TW W) (hS : SW W T (S 0)) {s0 : CS} (b0 : B g ρ W S V m Tp RC s0) : ∀ (d n k : Nat) (s : CS), (k : Int) + d = W 8 → d < n → Fq ρ s0 s → Ok (FX0_rules_b6 nf n (g 0) (i32 (rlN W (S 0) RC k).1) (i32 (rlN W (S 0) RC k).2) (i32 (k : Int)) s) fun p => p.1 = i32 (rlN W (S 0) RC (W 8).toNat).1 ∧ Fq ρ s0 p.2 := by
  have w0 := hW.1
  have w1 := hW.2.1
  have w8 := hW.2.2.2.2.2.2.2.2.1
  have w9 := hW.2.2.2.2.2.2.2.2.2.1
  intro d
  induction d with
  | zero =>
    intro n k s hd hn hf
    obtain ⟨n, rfl⟩ : ∃ q, n = q + 1 := ⟨n - 1, by omega⟩
    have b := b0.q hf
    rw [show FX0_rules_b6 nf (n + 1) = FX0_rules_b6_s nf (FX0_rules_b6 nf n) from rfl]
    unfold FX0_rules_b6_s FJ2_size
    refine ok_gRs b.1 rfl (b.2.1 2 _ rfl).1 (ok_nn (ok_gRs (b.2.1 2 _ rfl).2.1 rfl (b.2.1 18 _ rfl).1 (ok_nn ?_)))
    (try simp only [lits]) <;> simp (disch := omega) only [↓wps, ↓bcp b, bci b, nrm, wps, cmps, if_pos, if_neg, eq_self, if_true, if_false, Bool.false_eq_true, Bool.true_eq_false, dec_f]
    rw [show (W 8).toNat = k by omega]
    exact ok_s ⟨rfl, hf⟩
  | succ d ih =>
    intro n k s hd hn hf
    obtain ⟨n, rfl⟩ : ∃ q, n = q + 1 := ⟨n - 1, by omega⟩
    have b := b0.q hf
    have hb := mnV_b (RC := RC) (wst := false) (σ := S 0) (k := 4 + k) (x := 0) (y := 0) (t := 0) hW
    have hrb := rlN_b (RC := RC) hW (σ := S 0) k
    rw [show FX0_rules_b6 nf (n + 1) = FX0_rules_b6_s nf (FX0_rules_b6 nf n) from rfl]
    unfold FX0_rules_b6_s FJ2_size
    refine ok_gRs b.1 rfl (b.2.1 2 _ rfl).1 (ok_nn (ok_gRs (b.2.1 2 _ rfl).2.1 rfl (b.2.1 18 _ rfl).1 (ok_nn ?_)))
    (try simp only [lits]) <;> simp (disch := omega) only [↓wps, ↓bcp b, bci b, nrm, wps, cmps, if_pos, if_neg, eq_self, if_true, if_false, Bool.false_eq_true, Bool.true_eq_false, dec_f]
    refine ok_2 (ok_mn (k := 4 + k) (x := 0) (y := 0) (t := 0) hnf b hW hS ⟨by omega, by omega⟩ ⟨by omega, by omega⟩ ⟨by omega, by omega⟩ ⟨by omega, by omega⟩) fun v s1 hv => ?_
    have v1 : v = _ := hv.1
    have f1 := hf.tr hv.2.1
    have hst : rlN W (S 0) RC (k + 1) = if mnV W (S 0) RC false (4 + k) 0 0 0 < 0 then rlN W (S 0) RC k else if (rlN W (S 0) RC k).1 < 0 ∨ mnV W (S 0) RC false (4 + k) 0 0 0 < (rlN W (S 0) RC k).2 then ((k : Int), mnV W (S 0) RC false (4 + k) 0 0 0) else rlN W (S 0) RC k := rfl
    have K := ih n (k + 1) s1 (by omega) (by omega) f1
    rw [hst] at K
    rw [show ((k + 1 : Nat) : Int) = (k : Int) + 1 from rfl] at K
    rw [v1]
    refine ok_lt ⟨by omega, by omega⟩ ⟨by omega, by omega⟩ (fun q => ?_) (fun q => ?_)
    · rw [if_pos q] at K
      exact K
    · rw [if_neg (show ¬ mnV W (S 0) RC false (4 + k) 0 0 0 < 0 by omega)] at K
      refine ok_if (fun q2 => ?_) (fun q2 => ?_)
      · rw [if_pos (.inl q2)] at K
        exact K
      · refine ok_lt ⟨by omega, by omega⟩ ⟨by omega, by omega⟩ (fun q3 => ?_) (fun q3 => ?_)
        · rw [if_pos (.inr q3)] at K
          exact K
        · rw [if_neg (show ¬ ((rlN W (S 0) RC k).1 < 0 ∨ mnV W (S 0) RC false (4 + k) 0 0 0 < (rlN W (S 0) RC k).2) by omega)] at K
          exact K
theorem ok_rules (hnf : 2000 ≤ nf) (b : B g ρ W S V m Tp RC s) (hW : TW W) (hS : SW W T (S 0)) : Ok (FX0_rules nf (g 0) s) fun p => p.1 = i32 (rlN W (S 0) RC (W 8).toNat).1 ∧ Fq ρ s p.2 := by
  have w8 := hW.2.2.2.2.2.2.2.2.1
  unfold FX0_rules
  refine ok_mq (ρ := ρ) (ok_gd b.1 rfl ?_) (fun z hz => hz.2)
  exact rl_loop hnf hW hS b (W 8).toNat nf 0 s (by omega) (by omega) Fq.rf
def wsN (W σ : Nat → Int) (RC : Nat → List (Nat × Int)) (t : Int) : Nat → Int × Int
  | 0 => (-1, 0)
  | c + 1 => if unA W σ c = true then (if (wsN W σ RC t c).1 < 0 ∨ (wsN W σ RC t c).2 < wcV W σ RC ((c % 6 : Nat) : Int) ((c / 6 : Nat) : Int) t then ((c : Int), wcV W σ RC ((c % 6 : Nat) : Int) ((c / 6 : Nat) : Int) t) else wsN W σ RC t c) else wsN W σ RC t c
theorem wcV_b (hW : TW W) {σ : Nat → Int} {x y t : Int} : -70200000 ≤ wcV W σ RC x y t ∧ wcV W σ RC x y t ≤ 1170000 := by
  have w0 := hW.1
  have w1 := hW.2.1
  have hm := wtN_ev hW (t := t)
  unfold wcV
  by_cases q : (((0 ≤ x ∧ x < W 0) ∧ 0 ≤ y ∧ y < W 1) ∧ 0 ≤ t ∧ t ≤ 1000000) ∧ unA W σ (6 * y.toNat + x.toNat) = true
  · rw [if_pos q]
    have hMb : -1 ≤ vG W σ RC 3 false 0 0 (t % W 9) ∧ vG W σ RC 3 false 0 0 (t % W 9) ≤ 1170000 := VS_b13 hW vT_VS (by omega) (by omega) hm.1 hm.2
    by_cases q2 : vG W σ RC 3 false 0 0 (t % W 9) < 0
    · rw [if_pos q2]; omega
    · rw [if_neg q2]
      have hr := un_rd hW (c := 6 * y.toNat + x.toNat) (by omega) q.2
      have hre : ∀ i : Nat, 0 ≤ vW W σ RC ((6 * y.toNat + x.toNat : Nat) : Int) i 0 0 (t % W 9) := fun i => (vW_rc hW (by omega) (by omega) hm.1 hm.2 hm.1 hm.2).mp (show 0 ≤ vW W σ RC (-1) 0 0 0 (t % W 9) by rw [← vG_vW]; omega)
      have hsum : ∀ i, i ≤ 60 → 0 ≤ smN (fun i : Nat => vW W σ RC ((6 * y.toNat + x.toNat : Nat) : Int) i 0 0 (t % W 9)) i ∧ smN (fun i : Nat => vW W σ RC ((6 * y.toNat + x.toNat : Nat) : Int) i 0 0 (t % W 9)) i ≤ 1170000 * (i : Int) := by
        intro i
        induction i with
        | zero => intro _; exact ⟨Int.le_refl 0, Int.le_refl 0⟩
        | succ i ih =>
          intro hi
          have e := ih (by omega)
          have h1 := hre i
          have h2 : vW W σ RC ((6 * y.toNat + x.toNat : Nat) : Int) i 0 0 (t % W 9) ≤ 1170000 := (VS_b13 hW vT_VS (by omega) (by omega) hm.1 hm.2).2
          have e3 : smN (fun i : Nat => vW W σ RC ((6 * y.toNat + x.toNat : Nat) : Int) i 0 0 (t % W 9)) (i + 1) = smN (fun i : Nat => vW W σ RC ((6 * y.toNat + x.toNat : Nat) : Int) i 0 0 (t % W 9)) i + vW W σ RC ((6 * y.toNat + x.toNat : Nat) : Int) i 0 0 (t % W 9) := rfl
          rw [e3]
          omega
      have hs := hsum (W (11 + 4 * (6 * y.toNat + x.toNat))).toNat (by omega)
      have hq1 := Int.ediv_nonneg hs.1 (show 0 ≤ W (11 + 4 * (6 * y.toNat + x.toNat)) by omega)
      have hq2 := Int.ediv_le_self (W (11 + 4 * (6 * y.toNat + x.toNat))) hs.1
      omega
  · rw [if_neg q]; omega
theorem wsN_b (hW : TW W) {σ : Nat → Int} {t : Int} : ∀ c : Nat, ((wsN W σ RC t c).1 = -1 ∨ 0 ≤ (wsN W σ RC t c).1 ∧ (wsN W σ RC t c).1 < c) ∧ -70200000 ≤ (wsN W σ RC t c).2 ∧ (wsN W σ RC t c).2 ≤ 1170000 := by
  intro c
  induction c with
  | zero => exact ⟨.inl rfl, by show (-70200000 : Int) ≤ 0; omega, by show (0 : Int) ≤ 1170000; omega⟩
  | succ c ih =>
    have hb := wcV_b (RC := RC) hW (σ := σ) (x := ((c % 6 : Nat) : Int)) (y := ((c / 6 : Nat) : Int)) (t := t)
    unfold wsN
    split
    · split
      · exact ⟨.inr ⟨by show (0 : Int) ≤ c; omega, by show (c : Int) < ((c + 1 : Nat) : Int); omega⟩, hb⟩
      · exact ⟨by omega, ih.2⟩
    · exact ⟨by omega, ih.2⟩
def wzV (W σ : Nat → Int) (RC : Nat → List (Nat × Int)) (t : Int) : Int := if (0 ≤ t ∧ t ≤ 1000000) ∧ 0 ≤ vG W σ RC 3 false 0 0 (t % W 9) then (if 0 ≤ (wsN W σ RC t 54).1 then (wsN W σ RC t 54).1 / 6 * 8 + (wsN W σ RC t 54).1 % 6 else -1) else -1
theorem c_b88 {b : Int} (hb : b = -1 ∨ 0 ≤ b ∧ b < 54) : FX0_worthiest_b88 nf (i32 b) s = some (i32 (if 0 ≤ b then b / 6 * 8 + b % 6 else -1), s) := by
  unfold FX0_worthiest_b88
  by_cases q : 0 ≤ b
  · simp (disch := omega) only [nrm, wps, cmps, if_pos, if_neg, eq_self, if_true, if_false, Bool.false_eq_true, div_c, rem_c]
  · simp (disch := omega) only [nrm, wps, cmps, if_pos, if_neg, eq_self, if_true, if_false, Bool.false_eq_true]
theorem ws_loop (hnf : 2000 ≤ nf) (hW : TW W) (hL : LW_ W) (hS : SW W T (S 0)) {t : Int} (h0 : 0 ≤ t) (h1 : t ≤ 1000000) {s0 : CS} (b0 : B g ρ W S V m Tp RC s0) : ∀ d n c s, c + d = 54 → d < n → Fq ρ s0 s → (∀ v u : Int, (0 ≤ vG W (S 0) RC 3 false 0 0 (t % W 9) → v = (wsN W (S 0) RC t c).1 ∧ u = (wsN W (S 0) RC t c).2) → (¬ 0 ≤ vG W (S 0) RC 3 false 0 0 (t % W 9) → v = -1 ∧ u = 0) → Ok (FX0_worthiest_b7 nf n (g 0) (i32 t) (i32 v) (i32 u) (i32 (c : Int)) s) fun p => p.1 = i32 (wzV W (S 0) RC t) ∧ Fq ρ s0 p.2) := by
  have w0 := hW.1
  have w1 := hW.2.1
  have hm := wtN_ev hW (t := t)
  have hMe : mnV W (S 0) RC false 3 0 0 t = vG W (S 0) RC 3 false 0 0 (t % W 9) := by
    unfold mnV
    rw [if_pos ⟨⟨by omega, by have := hW.2.2.2.2.2.2.2.2.1; omega⟩, ⟨⟨by omega, by omega⟩, by omega, by omega⟩, h0, h1⟩]
    rfl
  have hMb : -1 ≤ vG W (S 0) RC 3 false 0 0 (t % W 9) ∧ vG W (S 0) RC 3 false 0 0 (t % W 9) ≤ 1170000 := VS_b13 hW vT_VS (by omega) (by omega) hm.1 hm.2
  intro d
  induction d with
  | zero =>
    intro n c s hd hn hf v u hv hu
    obtain ⟨n, rfl⟩ : ∃ q, n = q + 1 := ⟨n - 1, by omega⟩
    have ec : c = 54 := by omega
    subst ec
    have hwb := wsN_b (RC := RC) hW (σ := S 0) (t := t) 54
    rw [show FX0_worthiest_b7 nf (n + 1) = FX0_worthiest_b7_s nf (FX0_worthiest_b7 nf n) from rfl]
    unfold FX0_worthiest_b7_s
    rw [show (54 : Int32) = i32 54 from rfl]
    refine ok_le ⟨by omega, by omega⟩ ⟨by omega, by omega⟩ (fun _ => ?_) (fun z => by omega)
    by_cases q : 0 ≤ vG W (S 0) RC 3 false 0 0 (t % W 9)
    · obtain ⟨rfl, rfl⟩ := hv q
      rw [c_b88 (by omega)]
      unfold wzV
      rw [if_pos (show (0 ≤ t ∧ t ≤ 1000000) ∧ 0 ≤ vG W (S 0) RC 3 false 0 0 (t % W 9) from ⟨⟨h0, h1⟩, q⟩)]
      exact ok_s ⟨rfl, hf⟩
    · obtain ⟨rfl, rfl⟩ := hu q
      rw [c_b88 (by omega)]
      unfold wzV
      rw [if_neg (show ¬ ((0 ≤ t ∧ t ≤ 1000000) ∧ 0 ≤ vG W (S 0) RC 3 false 0 0 (t % W 9)) from fun z => q z.2)]
      exact ok_s ⟨rfl, hf⟩
  | succ d ih =>
    intro n c s hd hn hf v u hv hu
    obtain ⟨n, rfl⟩ : ∃ q, n = q + 1 := ⟨n - 1, by omega⟩
    have b := b0.q hf
    rw [show FX0_worthiest_b7 nf (n + 1) = FX0_worthiest_b7_s nf (FX0_worthiest_b7 nf n) from rfl]
    unfold FX0_worthiest_b7_s
    rw [show (54 : Int32) = i32 54 from rfl]
    refine ok_le ⟨by omega, by omega⟩ ⟨by omega, by omega⟩ (fun z => by omega) (fun _ => ?_)
    refine ok_be (c_isSecond ⟨by omega, by omega⟩) ?_
    rw [decide_eq_true ⟨h0, h1⟩, if_neg (show ¬ bi true = (0 : Int32) by decide)]
    refine ok_be (c_isUnknown b hW hS (c := c) (by omega)) ?_
    have hst : wsN W (S 0) RC t (c + 1) = if unA W (S 0) c = true then (if (wsN W (S 0) RC t c).1 < 0 ∨ (wsN W (S 0) RC t c).2 < wcV W (S 0) RC ((c % 6 : Nat) : Int) ((c / 6 : Nat) : Int) t then ((c : Int), wcV W (S 0) RC ((c % 6 : Nat) : Int) ((c / 6 : Nat) : Int) t) else wsN W (S 0) RC t c) else wsN W (S 0) RC t c := rfl
    cases qu : unA W (S 0) c with
    | false =>
      rw [if_pos (show bi false = (0 : Int32) from rfl), show (1 : Int32) = i32 1 from rfl, i32_add]
      rw [qu, if_neg (by decide)] at hst
      exact ih n (c + 1) s (by omega) (by omega) hf v u (fun q => by rw [hst]; exact hv q) hu
    | true =>
      rw [if_neg (show ¬ bi true = (0 : Int32) by decide)]
      rw [qu, if_pos rfl] at hst
      have hwb := wsN_b (RC := RC) hW (σ := S 0) (t := t) c
      have hcb := wcV_b (RC := RC) hW (σ := S 0) (x := ((c % 6 : Nat) : Int)) (y := ((c / 6 : Nat) : Int)) (t := t)
      have er : rem32 (i32 (c : Int)) 6 = i32 ((c % 6 : Nat) : Int) := by
        rw [show (6 : Int32) = i32 6 from rfl, rem_c (by omega) (by omega) (by omega) (by omega)]
        rfl
      have ed : (i32 (c : Int)) / 6 = i32 ((c / 6 : Nat) : Int) := by
        rw [show (6 : Int32) = i32 6 from rfl, div_c (by omega) (by omega) (by omega) (by omega)]
        rfl
      rw [er, ed]
      refine ok_2 (ok_watch hnf b hW hS ⟨by omega, by omega⟩ ⟨by omega, by omega⟩ ⟨by omega, by omega⟩) fun n1 s1 h1' => ?_
      have e1 : n1 = _ := h1'.1
      refine ok_2 (ok_mn (k := 3) (x := 0) (y := 0) hnf (b.q h1'.2) hW hS ⟨by omega, by omega⟩ ⟨by omega, by omega⟩ ⟨by omega, by omega⟩ ⟨by omega, by omega⟩) fun n2 s2 h2' => ?_
      have e2 : n2 = _ := h2'.1
      rw [hMe] at e2
      have f2 := (hf.tr h1'.2).tr h2'.2.1
      rw [e1, e2, show (0 : Int32) = i32 0 from rfl, show (1 : Int32) = i32 1 from rfl, i32_add]
      refine ok_le ⟨by omega, by omega⟩ ⟨by omega, by omega⟩ (fun q => ?_) (fun q => ?_)
      · obtain ⟨rfl, rfl⟩ := hv q
        refine ok_lt ⟨by omega, by omega⟩ ⟨by omega, by omega⟩ (fun q2 => ?_) (fun q2 => ?_)
        · rw [if_pos (.inl q2)] at hst
          exact ih n (c + 1) s2 (by omega) (by omega) f2 _ _ (fun _ => by rw [hst]; exact ⟨rfl, rfl⟩) (fun z => absurd q z)
        · refine ok_lt ⟨by omega, by omega⟩ ⟨by omega, by omega⟩ (fun q3 => ?_) (fun q3 => ?_)
          · rw [if_pos (.inr q3)] at hst
            exact ih n (c + 1) s2 (by omega) (by omega) f2 _ _ (fun _ => by rw [hst]; exact ⟨rfl, rfl⟩) (fun z => absurd q z)
          · rw [if_neg (by omega)] at hst
            exact ih n (c + 1) s2 (by omega) (by omega) f2 _ _ (fun _ => by rw [hst]; exact ⟨rfl, rfl⟩) (fun z => absurd q z)
      · unfold wzV
        rw [if_neg (fun z => by omega)]
        exact ok_s ⟨rfl, f2⟩
theorem ok_worthiest (hnf : 2000 ≤ nf) (b : B g ρ W S V m Tp RC s) (hW : TW W) (hL : LW_ W) (hS : SW W T (S 0)) {t : Int} (ht : ok32 t) : Ok (FX0_worthiest nf (g 0) (i32 t) s) fun p => p.1 = i32 (wzV W (S 0) RC t) ∧ Fq ρ s p.2 := by
  unfold FX0_worthiest
  refine ok_mq (ρ := ρ) (ok_gd b.1 rfl ?_) (fun z hz => hz.2)
  by_cases q : 0 ≤ t ∧ t ≤ 1000000
  · exact ws_loop hnf hW hL hS q.1 q.2 b 54 nf 0 s (by omega) (by omega) Fq.rf (-1) 0 (fun _ => ⟨rfl, rfl⟩) (fun _ => ⟨rfl, rfl⟩)
  · obtain ⟨n, rfl⟩ : ∃ n, nf = n + 1 := ⟨nf - 1, by omega⟩
    rw [show FX0_worthiest_b7 (n + 1) (n + 1) = FX0_worthiest_b7_s (n + 1) (FX0_worthiest_b7 (n + 1) n) from rfl]
    unfold FX0_worthiest_b7_s
    rw [if_neg (by decide)]
    refine ok_be (c_isSecond ht) ?_
    rw [decide_eq_false q, if_pos (show bi false = (0 : Int32) from rfl)]
    have := c_b88 (nf := n + 1) (s := s) (b := -1) (.inl rfl)
    have this : FX0_worthiest_b88 (n + 1) (-1) s = _ := this
    rw [this]
    unfold wzV
    rw [if_neg (show ¬ ((0 ≤ t ∧ t ≤ 1000000) ∧ 0 ≤ vG W (S 0) RC 3 false 0 0 (t % W 9)) from fun z => q z.1)]
    exact ok_s ⟨rfl, Fq.rf⟩
end WC
