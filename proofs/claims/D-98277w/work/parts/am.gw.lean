/-! LAYER 2: the numbers stay well behind each writing op -/
set_option maxRecDepth 100000
section GM
variable {W : Nat → Int} {S S' : Nat → Nat → Int} {V m m' Tp Tp' σ σ' : Nat → Int} {T T' : Int} {n : Nat}
theorem SW_e (h : SW W T σ) (hT : T ≤ T') (e : ∀ k, k < 58 → σ' k = σ k) : SW W T' σ' := by
  obtain ⟨h1, h2, h3, h4, h5⟩ := h
  refine ⟨by rw [e 0 (by omega)]; exact h1, by rw [e 1 (by omega)]; exact h2, by rw [e 2 (by omega)]; exact ⟨h3.1, by omega⟩, by rw [e 3 (by omega)]; exact h4, fun c hc => ?_⟩
  rw [e (4 + c) (by omega)]
  exact h5 c hc
theorem SW2_e (h : SW2 W σ) (e : ∀ k, 58 ≤ k → σ' k = σ k) : SW2 W σ' := by
  obtain ⟨h1, h2, h3, h4⟩ := h
  refine ⟨by rw [e 58 (by omega)]; exact h1, by rw [e 59 (by omega)]; exact h2, fun k hk => ?_, fun k hk => ?_⟩
  · rw [e 58 (by omega)] at hk
    rw [e (60 + 3 * k) (by omega), e (61 + 3 * k) (by omega), e (62 + 3 * k) (by omega)]
    exact h3 k hk
  · rw [e 59 (by omega)] at hk
    rw [e (92 + 3 * k) (by omega), e (93 + 3 * k) (by omega), e (94 + 3 * k) (by omega)]
    exact h4 k hk
theorem GW.u (h : GW W S V m Tp T) (hT : T ≤ T' ∧ T' ≤ 200000) (h1 : ∀ j, j < 21 → act m' j → SW W T' (S' j)) (h2 : ∀ j, j < 5 → act m' j → SW2 W (S' j)) (h3 : m' 0 = m 0) (h4 : 0 ≤ m' 1 ∧ m' 1 ≤ 16) (h5 : ∀ j, j < 4 → m' (2 + j) = 0 ∨ m' (2 + j) = 1) : GW W S' V m' Tp T' := by
  obtain ⟨a1, a2, a3, a4, a5, a6, a7, a8, a9, a10⟩ := h
  exact ⟨a1, a2, a3, h1, h2, by rw [h3]; exact a6, h4, h5, ⟨by omega, hT.2⟩, fun k hk => a10 k (by rw [h3] at hk; exact hk)⟩
/-- another row for the state now -/
theorem GW.r (h : GW W S V m Tp T) (hT : T ≤ T' ∧ T' ≤ 200000) (e0 : SW W T' (S' 0) ∧ SW2 W (S' 0)) (e1 : ∀ j, ¬ j = 0 → S' j = S j) : GW W S' V m Tp T' := by
  obtain ⟨a1, a2, a3, a4, a5, a6, a7, a8, a9, a10⟩ := id h
  refine h.u hT (fun j hj ha => ?_) (fun j hj ha => ?_) rfl a7 a8
  · by_cases q : j = 0
    · rw [q]; exact e0.1
    · rw [e1 j q]; exact SW_e (a4 j hj ha) hT.1 fun _ _ => rfl
  · by_cases q : j = 0
    · rw [q]; exact e0.2
    · rw [e1 j q]; exact a5 j hj ha
theorem GW.s0 (h : GW W S V m Tp T) : SW W T (S 0) ∧ SW2 W (S 0) := ⟨h.2.2.2.1 0 (by omega) (.inl rfl), h.2.2.2.2.1 0 (by omega) (.inl rfl)⟩
theorem GW.tl (h : GW W S V m Tp T) : 0 ≤ T ∧ T ≤ 200000 := h.2.2.2.2.2.2.2.2.1
theorem GW.t (h : GW W S V m Tp T) (hT : T ≤ T' ∧ T' ≤ 200000) : GW W S V m Tp T' := h.r hT ⟨SW_e h.s0.1 hT.1 fun _ _ => rfl, h.s0.2⟩ fun _ _ => rfl
theorem GW.kp (h : GW W S V m Tp T) : GW W (kpS S m) V (kpM m) Tp T := by
  obtain ⟨a1, a2, a3, a4, a5, a6, a7, a8, a9, a10⟩ := id h
  have ek : ∀ i, ¬ i = 1 → kpM m i = m i := fun i hi => if_neg hi
  have e1 : kpM m 1 = if m 1 = 16 then 16 else m 1 + 1 := by unfold kpM; exact if_pos rfl
  have lo : ∀ j, j < 5 → kpS S m j = S j := fun j hj => by
    unfold kpS
    by_cases q : m 1 = 16
    · rw [if_pos q]
      funext k
      unfold cpS shS
      rw [if_neg (by omega), if_neg (by omega)]
    · rw [if_neg q]
      funext k
      unfold cpS
      rw [if_neg (by omega)]
  have al : ∀ j, j < 5 → act (kpM m) j → act m j := fun j hj a => by
    rcases a with a | ⟨b1, b2, b3⟩ | ⟨b1, b2⟩
    · exact .inl a
    · rw [ek _ (by omega)] at b3
      exact .inr (.inl ⟨b1, b2, b3⟩)
    · omega
  refine h.u ⟨Int.le_refl _, a9.2⟩ (fun j hj ha => ?_) (fun j hj ha => by rw [lo j hj]; exact a5 j hj (al j hj ha)) (ek 0 (by decide)) ?_ (fun j hj => by rw [ek _ (by omega)]; exact a8 j hj)
  · by_cases q5 : j < 5
    · rw [lo j q5]; exact a4 j hj (al j q5 ha)
    · have hb : (j : Int) - 5 < kpM m 1 := by
        rcases ha with a | ⟨b1, b2, b3⟩ | ⟨b1, b2⟩
        · omega
        · omega
        · exact b2
      rw [e1] at hb
      unfold kpS
      by_cases q : m 1 = 16
      · rw [if_pos q]
        rw [if_pos q] at hb
        by_cases q2 : j = 20
        · refine SW_e h.s0.1 (Int.le_refl _) fun k hk => ?_
          unfold cpS
          rw [if_pos ⟨q2, hk⟩]
          unfold shS
          rw [if_neg (by omega)]
        · refine SW_e (a4 (j + 1) (by omega) (.inr (.inr ⟨by omega, by omega⟩))) (Int.le_refl _) fun k hk => ?_
          unfold cpS
          rw [if_neg (by omega)]
          unfold shS
          rw [if_pos (by omega)]
      · rw [if_neg q]
        rw [if_neg q] at hb
        by_cases q2 : j = 5 + (m 1).toNat
        · refine SW_e h.s0.1 (Int.le_refl _) fun k hk => ?_
          unfold cpS
          rw [if_pos ⟨q2, hk⟩]
        · refine SW_e (a4 j hj (.inr (.inr ⟨by omega, by omega⟩))) (Int.le_refl _) fun k hk => ?_
          unfold cpS
          rw [if_neg (by omega)]
  · rw [e1]
    by_cases q : m 1 = 16
    · rw [if_pos q]; omega
    · rw [if_neg q]; omega
theorem GW.st (h : GW W S V m Tp T) (hT : T + 1000 ≤ 200000) (x : Int) : GW W (stS S m x) V (stM m x) Tp (T + 1000) := by
  unfold stS stM
  by_cases q : 1 ≤ x ∧ x ≤ 1000
  · rw [if_pos q, if_pos q]
    have hk := h.kp
    have h0 := h.s0
    refine hk.r ⟨by omega, hT⟩ ?_ fun j hj => upS_n hj
    rw [upS_0, kpS_0]
    obtain ⟨h1, h2, h3, h4, h5⟩ := h0.1
    refine ⟨⟨h1, h2, ?_, h4, fun c hc => ?_⟩, SW2_e h0.2 fun k hk => if_neg (by omega)⟩
    · show 0 ≤ S 0 2 + x ∧ S 0 2 + x ≤ T + 1000
      omega
    · show (if 4 + c = 2 then S 0 2 + x else S 0 (4 + c)) = 0 ∨ (if 4 + c = 2 then S 0 2 + x else S 0 (4 + c)) = 1 ∧ _
      rw [if_neg (by omega)]
      exact h5 c hc
  · rw [if_neg q, if_neg q]
    exact h.t ⟨by omega, hT⟩
theorem GW.lk (h : GW W S V m Tp T) : GW W (lkS W S m) V (lkM W S m) Tp T := by
  unfold lkS lkM
  by_cases q : unA W (S 0) (nwC (S 0)) = true
  · rw [if_pos q, if_pos q]
    have q2 : W (10 + 4 * nwC (S 0)) = 2 ∧ S 0 (4 + nwC (S 0)) = 0 := of_decide_eq_true q
    have hk := h.kp
    have h0 := h.s0
    refine hk.r ⟨Int.le_refl _, h.tl.2⟩ ?_ fun j hj => upS_n hj
    rw [upS_0, kpS_0]
    obtain ⟨h1, h2, h3, h4, h5⟩ := h0.1
    have w0 := h.1.1
    have w1 := h.1.2.1
    have hc : nwC (S 0) < 54 := by unfold nwC; omega
    have ef : ∀ k, k < 4 → upF (S 0) (4 + nwC (S 0)) 1 k = S 0 k := fun k hk => if_neg (by omega)
    refine ⟨⟨by rw [ef 0 (by omega)]; exact h1, by rw [ef 1 (by omega)]; exact h2, by rw [ef 2 (by omega)]; exact h3, by rw [ef 3 (by omega)]; exact h4, fun c hc2 => ?_⟩, SW2_e h0.2 fun k hk => if_neg (by omega)⟩
    by_cases qc : c = nwC (S 0)
    · rw [qc]
      exact .inr ⟨if_pos rfl, q2.1⟩
    · rw [show upF (S 0) (4 + nwC (S 0)) 1 (4 + c) = S 0 (4 + c) from if_neg (by omega)]
      exact h5 c hc2
  · rw [if_neg q, if_neg q]
    exact h
theorem GW.un (h : GW W S V m Tp T) : GW W (unS S m) V (unM m) Tp T := by
  obtain ⟨a1, a2, a3, a4, a5, a6, a7, a8, a9, a10⟩ := id h
  unfold unS unM
  by_cases q : m 1 = 0
  · rw [if_pos q, if_pos q]; exact h
  · rw [if_neg q, if_neg q]
    have ek : ∀ i, ¬ i = 1 → upM m 1 (m 1 - 1) i = m i := fun i hi => if_neg hi
    have e1 : upM m 1 (m 1 - 1) 1 = m 1 - 1 := if_pos rfl
    have al : ∀ j, act (upM m 1 (m 1 - 1)) j → act m j := fun j a => by
      rcases a with a | ⟨b1, b2, b3⟩ | ⟨b1, b2⟩
      · exact .inl a
      · rw [ek _ (by omega)] at b3
        exact .inr (.inl ⟨b1, b2, b3⟩)
      · rw [e1] at b2
        exact .inr (.inr ⟨b1, by omega⟩)
    refine h.u ⟨Int.le_refl _, a9.2⟩ (fun j hj ha => ?_) (fun j hj ha => ?_) (ek 0 (by decide)) (by rw [e1]; omega) (fun j hj => by rw [ek _ (by omega)]; exact a8 j hj)
    · by_cases q0 : j = 0
      · refine SW_e (a4 (5 + (m 1 - 1).toNat) (by omega) (.inr (.inr ⟨by omega, by omega⟩))) (Int.le_refl _) fun k hk => ?_
        unfold cpS
        rw [if_pos ⟨q0, hk⟩]
      · refine SW_e (a4 j hj (al j ha)) (Int.le_refl _) fun k hk => ?_
        unfold cpS
        rw [if_neg (by omega)]
    · refine SW2_e (a5 j hj (al j ha)) fun k hk => ?_
      unfold cpS
      rw [if_neg (by omega)]
theorem GW.go (h : GW W S V m Tp T) (hT : T + 1000 ≤ 200000) (way : Int) (r : Bool) : GW W (goS W S m way r) V (goM W S m way r) Tp (T + 1000) := by
  unfold goS goM
  by_cases q : goOk W (S 0) way r = true
  · rw [if_pos q, if_pos q]
    have hk := h.kp
    have h0 := h.s0
    have hW := h.1
    have w0 := hW.1
    have w1 := hW.2.1
    have w2 := hW.2.2.1
    have rb := rn_b hW
    obtain ⟨h1, h2, h3, h4, h5⟩ := id h0.1
    unfold goOk at q
    obtain ⟨q1, q2⟩ := Bool.and_eq_true_iff.mp q
    obtain ⟨q3, q4⟩ := Bool.and_eq_true_iff.mp q2
    have q1 : 0 ≤ way ∧ way ≤ 1 := of_decide_eq_true q1
    have hwt := wt_b (sec := S 0 2) hW (x := (S 0 0).toNat) (y := (S 0 1).toNat) (by omega) (by omega) (cg_ev q3).2.2
    have hth := (cg_ev q3).1
    have hk0 : ∀ k, kpS S m 0 k = S 0 k := fun k => by rw [kpS_0]
    refine hk.r ⟨by omega, hT⟩ ⟨⟨?_, ?_, ?_, ?_, fun c hc => ?_⟩, SW2_e h0.2 fun k hk => ?_⟩ fun j hj => funext fun k => ?_
    · show 0 ≤ S 0 0 + (1 - way) ∧ S 0 0 + (1 - way) < W 0
      by_cases qw : way = 1
      · omega
      · unfold thA at hth
        rw [decide_eq_false qw, if_neg (by decide)] at hth
        have := of_decide_eq_true hth
        omega
    · show 0 ≤ S 0 1 + way ∧ S 0 1 + way < W 1
      by_cases qw : way = 1
      · unfold thA at hth
        rw [decide_eq_true qw, if_pos rfl] at hth
        have := of_decide_eq_true hth
        omega
      · omega
    · show 0 ≤ goT W (S 0) way r ∧ goT W (S 0) way r ≤ T + 1000
      unfold goT
      cases r with
      | true => rw [if_pos rfl]; omega
      | false => rw [if_neg (by decide)]; omega
    · show 0 ≤ S 0 3 + (if r = true then 1 else 0) ∧ S 0 3 + (if r = true then 1 else 0) ≤ _
      cases r with
      | false => rw [if_neg (by decide), Int.add_zero]; exact h4
      | true =>
        have q4 : S 0 3 < rsA W := of_decide_eq_true (by simpa using q4)
        unfold rsA at q4
        rw [if_pos rfl]
        omega
    · dsimp only
      rw [if_neg (by omega), if_neg (by omega), if_neg (by omega), if_neg (by omega), hk0]
      exact h5 c hc
    · rw [if_neg (by omega), if_neg (by omega), if_neg (by omega), if_neg (by omega), hk0]
    · rw [if_neg (by omega), if_neg (by omega), if_neg (by omega), if_neg (by omega)]
  · rw [if_neg q, if_neg q]
    exact h.t ⟨by omega, hT⟩
theorem GW.tr (h : GW W S V m Tp T) (x y : Int) (p : Bool) (w : Int) : GW W (trS W S x y p w) V m Tp T := by
  unfold trS
  by_cases q : trK W (S 0) x y w = true
  · rw [if_pos q]
    obtain ⟨⟨⟨⟨p1, p2⟩, p3, p4⟩, p5⟩, p6, p7⟩ := (of_decide_eq_true q : (((0 ≤ x ∧ x < W 0) ∧ 0 ≤ y ∧ y < W 1) ∧ W (10 + 4 * (6 * y.toNat + x.toNat)) = 3) ∧ (0 ≤ w ∧ w ≤ 59) ∧ ¬ S 0 58 = 10)
    have h0 := h.s0
    have w0 := h.1.1
    have w1 := h.1.2.1
    obtain ⟨s1, s2, s3, s4⟩ := id h0.2
    obtain ⟨k, hk⟩ : ∃ k : Nat, S 0 58 = (k : Int) := ⟨(S 0 58).toNat, by omega⟩
    have er : ∀ j, upS (upS (upS (upS S 0 (60 + 3 * (S 0 58).toNat) (6 * y + x)) 0 (61 + 3 * (S 0 58).toNat) (if p = true then 1 else 0)) 0 (62 + 3 * (S 0 58).toNat) w) 0 58 (S 0 58 + 1) 0 j = if j = 58 then S 0 58 + 1 else if j = 62 + 3 * k then w else if j = 61 + 3 * k then (if p = true then 1 else 0) else if j = 60 + 3 * k then 6 * y + x else S 0 j := fun j => by
      rw [upS_r, upS_r, upS_r, upS_r, hk, Int.toNat_natCast]
    refine h.r ⟨Int.le_refl _, h.tl.2⟩ ⟨SW_e h0.1 (Int.le_refl _) fun j hj => ?_, ⟨?_, ?_, fun i hi => ?_, fun i hi => ?_⟩⟩ fun j hj => ?_
    · rw [er, if_neg (by omega), if_neg (by omega), if_neg (by omega), if_neg (by omega)]
    · rw [er, if_pos rfl]; omega
    · rw [er, if_neg (by omega), if_neg (by omega), if_neg (by omega), if_neg (by omega)]; exact s2
    · rw [er, if_pos rfl] at hi
      rw [er, er, er]
      by_cases q : i = k
      · rw [if_neg (show ¬ 60 + 3 * i = 58 by omega), if_neg (show ¬ 60 + 3 * i = 62 + 3 * k by omega), if_neg (show ¬ 60 + 3 * i = 61 + 3 * k by omega), if_pos (show 60 + 3 * i = 60 + 3 * k by omega), if_neg (show ¬ 61 + 3 * i = 58 by omega), if_neg (show ¬ 61 + 3 * i = 62 + 3 * k by omega), if_pos (show 61 + 3 * i = 61 + 3 * k by omega), if_neg (show ¬ 62 + 3 * i = 58 by omega), if_pos (show 62 + 3 * i = 62 + 3 * k by omega)]
        refine ⟨by omega, ?_, by omega⟩
        cases p with
        | true => rw [if_pos rfl]; omega
        | false => rw [if_neg (by decide)]; omega
      · rw [if_neg (show ¬ 60 + 3 * i = 58 by omega), if_neg (show ¬ 60 + 3 * i = 62 + 3 * k by omega), if_neg (show ¬ 60 + 3 * i = 61 + 3 * k by omega), if_neg (show ¬ 60 + 3 * i = 60 + 3 * k by omega), if_neg (show ¬ 61 + 3 * i = 58 by omega), if_neg (show ¬ 61 + 3 * i = 62 + 3 * k by omega), if_neg (show ¬ 61 + 3 * i = 61 + 3 * k by omega), if_neg (show ¬ 61 + 3 * i = 60 + 3 * k by omega), if_neg (show ¬ 62 + 3 * i = 58 by omega), if_neg (show ¬ 62 + 3 * i = 62 + 3 * k by omega), if_neg (show ¬ 62 + 3 * i = 61 + 3 * k by omega), if_neg (show ¬ 62 + 3 * i = 60 + 3 * k by omega)]
        exact s3 i (by omega)
    · rw [er, if_neg (by omega), if_neg (by omega), if_neg (by omega), if_neg (by omega)] at hi
      have h58 : k < 10 := by omega
      rw [er, er, er]
      rw [if_neg (show ¬ 92 + 3 * i = 58 by omega), if_neg (show ¬ 92 + 3 * i = 62 + 3 * k by omega), if_neg (show ¬ 92 + 3 * i = 61 + 3 * k by omega), if_neg (show ¬ 92 + 3 * i = 60 + 3 * k by omega), if_neg (show ¬ 93 + 3 * i = 58 by omega), if_neg (show ¬ 93 + 3 * i = 62 + 3 * k by omega), if_neg (show ¬ 93 + 3 * i = 61 + 3 * k by omega), if_neg (show ¬ 93 + 3 * i = 60 + 3 * k by omega), if_neg (show ¬ 94 + 3 * i = 58 by omega), if_neg (show ¬ 94 + 3 * i = 62 + 3 * k by omega), if_neg (show ¬ 94 + 3 * i = 61 + 3 * k by omega), if_neg (show ¬ 94 + 3 * i = 60 + 3 * k by omega)]
      exact s4 i hi
    · rw [upS_n hj, upS_n hj, upS_n hj, upS_n hj]
  · rw [if_neg q]
    exact h
theorem GW.wa (h : GW W S V m Tp T) (x y t : Int) : GW W (waS W S x y t) V m Tp T := by
  unfold waS
  by_cases q : waK W (S 0) x y t = true
  · rw [if_pos q]
    obtain ⟨⟨⟨p1, p2⟩, p3, p4⟩, ⟨p6, p7⟩, p8⟩ := (of_decide_eq_true q : ((0 ≤ x ∧ x < W 0) ∧ 0 ≤ y ∧ y < W 1) ∧ (0 ≤ t ∧ t ≤ 9999) ∧ ¬ S 0 59 = 8)
    have h0 := h.s0
    obtain ⟨s1, s2, s3, s4⟩ := id h0.2
    obtain ⟨k, hk⟩ : ∃ k : Nat, S 0 59 = (k : Int) := ⟨(S 0 59).toNat, by omega⟩
    have er : ∀ j, upS (upS (upS (upS S 0 (92 + 3 * (S 0 59).toNat) x) 0 (93 + 3 * (S 0 59).toNat) y) 0 (94 + 3 * (S 0 59).toNat) t) 0 59 (S 0 59 + 1) 0 j = if j = 59 then S 0 59 + 1 else if j = 94 + 3 * k then t else if j = 93 + 3 * k then y else if j = 92 + 3 * k then x else S 0 j := fun j => by
      rw [upS_r, upS_r, upS_r, upS_r, hk, Int.toNat_natCast]
    refine h.r ⟨Int.le_refl _, h.tl.2⟩ ⟨SW_e h0.1 (Int.le_refl _) fun j hj => ?_, ⟨?_, ?_, fun i hi => ?_, fun i hi => ?_⟩⟩ fun j hj => ?_
    · rw [er, if_neg (by omega), if_neg (by omega), if_neg (by omega), if_neg (by omega)]
    · rw [er, if_neg (by omega), if_neg (by omega), if_neg (by omega), if_neg (by omega)]; exact s1
    · rw [er, if_pos rfl]; omega
    · rw [er, if_neg (by omega), if_neg (by omega), if_neg (by omega), if_neg (by omega)] at hi
      have hi9 : i < 10 := by omega
      rw [er, er, er]
      rw [if_neg (show ¬ 60 + 3 * i = 59 by omega), if_neg (show ¬ 60 + 3 * i = 94 + 3 * k by omega), if_neg (show ¬ 60 + 3 * i = 93 + 3 * k by omega), if_neg (show ¬ 60 + 3 * i = 92 + 3 * k by omega), if_neg (show ¬ 61 + 3 * i = 59 by omega), if_neg (show ¬ 61 + 3 * i = 94 + 3 * k by omega), if_neg (show ¬ 61 + 3 * i = 93 + 3 * k by omega), if_neg (show ¬ 61 + 3 * i = 92 + 3 * k by omega), if_neg (show ¬ 62 + 3 * i = 59 by omega), if_neg (show ¬ 62 + 3 * i = 94 + 3 * k by omega), if_neg (show ¬ 62 + 3 * i = 93 + 3 * k by omega), if_neg (show ¬ 62 + 3 * i = 92 + 3 * k by omega)]
      exact s3 i hi
    · rw [er, if_pos rfl] at hi
      rw [er, er, er]
      by_cases q : i = k
      · rw [if_neg (show ¬ 92 + 3 * i = 59 by omega), if_neg (show ¬ 92 + 3 * i = 94 + 3 * k by omega), if_neg (show ¬ 92 + 3 * i = 93 + 3 * k by omega), if_pos (show 92 + 3 * i = 92 + 3 * k by omega), if_neg (show ¬ 93 + 3 * i = 59 by omega), if_neg (show ¬ 93 + 3 * i = 94 + 3 * k by omega), if_pos (show 93 + 3 * i = 93 + 3 * k by omega), if_neg (show ¬ 94 + 3 * i = 59 by omega), if_pos (show 94 + 3 * i = 94 + 3 * k by omega)]
        exact ⟨⟨p1, p2⟩, ⟨p3, p4⟩, p6, p7⟩
      · rw [if_neg (show ¬ 92 + 3 * i = 59 by omega), if_neg (show ¬ 92 + 3 * i = 94 + 3 * k by omega), if_neg (show ¬ 92 + 3 * i = 93 + 3 * k by omega), if_neg (show ¬ 92 + 3 * i = 92 + 3 * k by omega), if_neg (show ¬ 93 + 3 * i = 59 by omega), if_neg (show ¬ 93 + 3 * i = 94 + 3 * k by omega), if_neg (show ¬ 93 + 3 * i = 93 + 3 * k by omega), if_neg (show ¬ 93 + 3 * i = 92 + 3 * k by omega), if_neg (show ¬ 94 + 3 * i = 59 by omega), if_neg (show ¬ 94 + 3 * i = 94 + 3 * k by omega), if_neg (show ¬ 94 + 3 * i = 93 + 3 * k by omega), if_neg (show ¬ 94 + 3 * i = 92 + 3 * k by omega)]
        exact s4 i (by omega)
    · rw [upS_n hj, upS_n hj, upS_n hj, upS_n hj]
  · rw [if_neg q]
    exact h
theorem GW.mk (h : GW W S V m Tp T) (x : Int) (bk : Bool) : GW W (mkS S m x bk) V (mkM m x bk) Tp T := by
  obtain ⟨a1, a2, a3, a4, a5, a6, a7, a8, a9, a10⟩ := id h
  unfold mkS mkM
  by_cases q : mkK m x bk = true
  · rw [if_pos q, if_pos q]
    unfold mkK at q
    obtain ⟨q1, q2⟩ := Bool.and_eq_true_iff.mp q
    have q1 : 0 ≤ x ∧ x ≤ 3 := of_decide_eq_true q1
    cases bk with
    | true =>
      have q2 : m (2 + x.toNat) = 1 := of_decide_eq_true (by simpa using q2)
      rw [if_pos rfl]
      have al : ∀ j, act (fun j => if j = 1 ∧ true = true then 0 else if j = 2 + x.toNat then 1 else m j) j → act m j := fun j a => by
        rcases a with a | ⟨b1, b2, b3⟩ | ⟨b1, b2⟩
        · exact .inl a
        · refine .inr (.inl ⟨b1, b2, ?_⟩)
          dsimp only at b3
          rw [if_neg (by omega)] at b3
          by_cases q : 1 + j = 2 + x.toNat
          · rw [q]; exact q2
          · rw [if_neg q] at b3
            exact b3
        · dsimp only at b2
          rw [if_pos ⟨rfl, rfl⟩] at b2
          omega
      have am : act m (1 + x.toNat) := .inr (.inl ⟨by omega, by omega, by rw [show 1 + (1 + x.toNat) = 2 + x.toNat by omega]; exact q2⟩)
      have e : ∀ j, cpA S (1 + x.toNat) 0 j = if j = 0 then S (1 + x.toNat) else S j := fun j => by
        unfold cpA
        by_cases q : j = 0
        · rw [if_pos q, funext fun k => if_pos q]
        · rw [if_neg q, funext fun k => if_neg q]
      refine h.u ⟨Int.le_refl _, a9.2⟩ (fun j hj ha => ?_) (fun j hj ha => ?_) ?_ ?_ (fun j hj => ?_)
      · rw [e]
        by_cases q : j = 0
        · rw [if_pos q]; exact a4 _ (by omega) am
        · rw [if_neg q]; exact a4 j hj (al j ha)
      · rw [e]
        by_cases q : j = 0
        · rw [if_pos q]; exact a5 _ (by omega) am
        · rw [if_neg q]; exact a5 j hj (al j ha)
      · rw [if_neg (by omega), if_neg (by omega)]
      · rw [if_pos ⟨rfl, rfl⟩]; omega
      · rw [if_neg (by omega)]
        by_cases q : 2 + j = 2 + x.toNat
        · rw [if_pos q]; exact .inr rfl
        · rw [if_neg q]; exact a8 j hj
    | false =>
      rw [if_neg (by decide)]
      have al : ∀ j, ¬ j = 1 + x.toNat → act (fun j => if j = 1 ∧ false = true then 0 else if j = 2 + x.toNat then 1 else m j) j → act m j := fun j hj a => by
        rcases a with a | ⟨b1, b2, b3⟩ | ⟨b1, b2⟩
        · exact .inl a
        · dsimp only at b3
          rw [if_neg (by omega), if_neg (by omega)] at b3
          exact .inr (.inl ⟨b1, b2, b3⟩)
        · dsimp only at b2
          rw [if_neg (fun z => by cases z.2), if_neg (by omega)] at b2
          exact .inr (.inr ⟨b1, b2⟩)
      have e : ∀ j, cpA S 0 (1 + x.toNat) j = if j = 1 + x.toNat then S 0 else S j := fun j => by
        unfold cpA
        by_cases q : j = 1 + x.toNat
        · rw [if_pos q, funext fun k => if_pos q]
        · rw [if_neg q, funext fun k => if_neg q]
      refine h.u ⟨Int.le_refl _, a9.2⟩ (fun j hj ha => ?_) (fun j hj ha => ?_) ?_ ?_ (fun j hj => ?_)
      · rw [e]
        by_cases q : j = 1 + x.toNat
        · rw [if_pos q]; exact h.s0.1
        · rw [if_neg q]; exact a4 j hj (al j q ha)
      · rw [e]
        by_cases q : j = 1 + x.toNat
        · rw [if_pos q]; exact h.s0.2
        · rw [if_neg q]; exact a5 j hj (al j q ha)
      · rw [if_neg (by omega), if_neg (by omega)]
      · rw [if_neg (fun z => by cases z.2), if_neg (by omega)]; exact a7
      · rw [if_neg (by omega)]
        by_cases q : 2 + j = 2 + x.toNat
        · rw [if_pos q]; exact .inr rfl
        · rw [if_neg q]; exact a8 j hj
  · rw [if_neg q, if_neg q]
    exact h
theorem GW.fd (h : GW W S V m Tp T) (x y z : Int64) : GW W S V (upM m 0 ((fdA x y z m Tp).1 : Int)) (fdA x y z m Tp).2 T ∧ fdQ (fdA x y z m Tp) := by
  obtain ⟨a1, a2, a3, a4, a5, a6, a7, a8, a9, a10⟩ := id h
  have hq : fdQ ((m 0).toNat, Tp) := ⟨by show (m 0).toNat ≤ 1000; omega, fun k hk => a10 k (by have hk : k < (m 0).toNat := hk; omega)⟩
  have hf : fdQ (fdA x y z m Tp) := fdV_q 8 _ (fdV_q 8 _ (fdV_q 8 _ hq))
  have ek : ∀ i, ¬ i = 0 → upM m 0 ((fdA x y z m Tp).1 : Int) i = m i := fun i hi => if_neg hi
  have e0 : upM m 0 ((fdA x y z m Tp).1 : Int) 0 = ((fdA x y z m Tp).1 : Int) := if_pos rfl
  have al : ∀ j, act (upM m 0 ((fdA x y z m Tp).1 : Int)) j → act m j := fun j a => by
    rcases a with a | ⟨b1, b2, b3⟩ | ⟨b1, b2⟩
    · exact .inl a
    · rw [ek _ (by omega)] at b3
      exact .inr (.inl ⟨b1, b2, b3⟩)
    · rw [ek _ (by omega)] at b2
      exact .inr (.inr ⟨b1, b2⟩)
  refine ⟨⟨a1, a2, a3, fun j hj ha => a4 j hj (al j ha), fun j hj ha => a5 j hj (al j ha), ?_, ?_, fun j hj => ?_, a9, fun k hk => ?_⟩, hf⟩
  · rw [e0]
    have := hf.1
    omega
  · rw [ek 1 (by decide)]; exact a7
  · rw [ek _ (by omega)]; exact a8 j hj
  · rw [e0] at hk
    exact hf.2 k (by omega)
/-- the tape wiped -/
theorem GW.rd (h : GW W S V m Tp T) : GW W S V (upM m 0 0) Tp T := by
  obtain ⟨a1, a2, a3, a4, a5, a6, a7, a8, a9, a10⟩ := id h
  have ek : ∀ i, ¬ i = 0 → upM m 0 0 i = m i := fun i hi => if_neg hi
  have e0 : upM m 0 0 0 = 0 := if_pos rfl
  have al : ∀ j, act (upM m 0 0) j → act m j := fun j a => by
    rcases a with a | ⟨b1, b2, b3⟩ | ⟨b1, b2⟩
    · exact .inl a
    · rw [ek _ (by omega)] at b3
      exact .inr (.inl ⟨b1, b2, b3⟩)
    · rw [ek _ (by omega)] at b2
      exact .inr (.inr ⟨b1, b2⟩)
  refine ⟨a1, a2, a3, fun j hj ha => a4 j hj (al j ha), fun j hj ha => a5 j hj (al j ha), by rw [e0]; omega, by rw [ek 1 (by decide)]; exact a7, fun j hj => by rw [ek _ (by omega)]; exact a8 j hj, a9, fun k hk => ?_⟩
  rw [e0] at hk
  omega
theorem GW.wk (h : GW W S V m Tp T) {V' : Nat → Int} (hV : VW W V') : GW W S V' m Tp T := by
  obtain ⟨a1, a2, a3, a4⟩ := h
  exact ⟨a1, a2, hV, a4⟩
theorem GW.tw (hT : 0 ≤ T ∧ T ≤ 200000) (h1 : TW W) (h2 : LW_ W) : GW W (S00 S) (upW V 0 0) (fun _ => 0) Tp T := by
  have e0 : S00 S 0 = fun _ => 0 := funext fun k => if_pos rfl
  have al : ∀ j, act (fun _ => 0) j → j = 0 := fun j a => by
    rcases a with a | ⟨b1, b2, b3⟩ | ⟨b1, b2⟩
    · exact a
    · exact absurd (show (0 : Int) = 1 from b3) (by decide)
    · dsimp only at b2
      omega
  refine ⟨h1, h2, ⟨by rw [upW_t]; omega, fun k hk => ?_⟩, fun j hj ha => ?_, fun j hj ha => ?_, (show (0 : Int) ≤ 0 ∧ (0 : Int) ≤ 1000 by omega), (show (0 : Int) ≤ 0 ∧ (0 : Int) ≤ 16 by omega), fun j hj => .inl rfl, hT, fun k hk => ?_⟩
  · rw [upW_t] at hk
    omega
  · rw [al j ha, e0]
    exact SW_0 h1 hT.1
  · rw [al j ha, e0]
    exact SW2_0
  · have hk : (k : Int) < 0 := hk
    omega
end GM
