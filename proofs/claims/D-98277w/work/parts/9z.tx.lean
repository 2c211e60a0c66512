/-! LAYER 2: a town under way stays well -/
set_option maxRecDepth 100000
theorem TW_e {W W' : Nat → Int} (h : TW W) (e : ∀ j, 9 ≤ j → j < 280 → W' j = W j) (f : (1 ≤ W' 0 ∧ W' 0 ≤ 6) ∧ (1 ≤ W' 1 ∧ W' 1 ≤ 9) ∧ (1 ≤ W' 2 ∧ W' 2 ≤ 30) ∧ (W' 3 = -1 ∨ (1 ≤ W' 3 ∧ W' 3 ≤ 30)) ∧ (W' 4 = -1 ∨ (1 ≤ W' 4 ∧ W' 4 ≤ 30)) ∧ (0 ≤ W' 5 ∧ W' 5 ≤ 9) ∧ (0 ≤ W' 6 ∧ W' 6 ≤ 1) ∧ (0 ≤ W' 7 ∧ W' 7 ≤ 54) ∧ (0 ≤ W' 8 ∧ W' 8 ≤ 4)) : TW W' := by
  obtain ⟨a0, a1, a2, a3, a4, a5, a6, a7, a8, a9, a10, a11⟩ := h
  obtain ⟨f0, f1, f2, f3, f4, f5, f6, f7, f8⟩ := f
  refine ⟨f0, f1, f2, f3, f4, f5, f6, f7, f8, by rw [e 9 (by omega) (by omega)]; exact a9, fun c hc => ?_, fun c hc => ?_⟩
  · rw [e (10 + 4 * c) (by omega) (by omega), e (11 + 4 * c) (by omega) (by omega), e (12 + 4 * c) (by omega) (by omega), e (13 + 4 * c) (by omega) (by omega), e 9 (by omega) (by omega)]
    exact a10 c hc
  · rw [e (226 + c) (by omega) (by omega)]
    exact a11 c hc
theorem LW_e {W W' : Nat → Int} (h : LW_ W) (e : ∀ j, 7 ≤ j → ¬ j = 8 → j < 226 → W' j = W j) (e0 : W' 0 = W 0 ∧ W' 1 = W 1) : LW_ W' := by
  refine ⟨fun c hc q => ?_, ?_⟩
  · rw [e0.1, e0.2]
    rw [e _ (by omega) (by omega) (by omega)] at q
    exact h.1 c hc q
  · rw [e 7 (by omega) (by omega) (by omega), h.2]
    congr 2
    apply List.filter_congr
    intro c hc
    have := List.mem_range.mp hc
    rw [e _ (by omega) (by omega) (by omega)]
theorem wrd_b {t : Nat → Int} {n f : Nat} (h : tS t n f = 1) : (wrd t n f).length ≤ 8 ∧ ∀ z ∈ wrd t n f, 97 ≤ z ∧ z ≤ 122 := by
  obtain ⟨g1, g2, g3, g4, g5⟩ := tS_le h
  refine ⟨?_, (tS_1 h).2⟩
  unfold wrd
  rw [lts_n]
  exact g4
section TXI
variable {t : Nat → Int} {n : Nat} {w w' : TV} {k k' : Nat}
theorem tdR_e {b : Nat} {W W' : Nat → Int} (h : tdR b W) (e : ∀ j, 2 ≤ j → j < 7 → W' j = W j) : tdR b W' := by
  unfold tdR
  rw [e 2 (by omega) (by omega), e 3 (by omega) (by omega), e 4 (by omega) (by omega), e 5 (by omega) (by omega), e 6 (by omega) (by omega)]
  exact h
/-- the lines' words and rules stay, the text goes on -/
theorem TII_e (h : TII t n w k) (h1 : TW w'.1) (h2 : LW_ w'.1) (h3 : tdR w'.2.1 w'.1) (h4 : w'.2.2 = w.2.2) (h5 : w'.1 8 = w.1 8) (h6 : ∀ r, r < 4 → w'.1 (280 + r) = w.1 (280 + r)) (hk : tP t n k ≤ tP t n k') : TII t n w' k' := by
  obtain ⟨a1, a2, a3, a4, a5, a6, a7, a8⟩ := h
  have := a1.2.2.2.2.2.2.2.2.1
  refine ⟨h1, h2, h3, by rw [h4, h5]; exact a4, by rw [h4]; exact a5, by rw [h4]; omega, fun r hr => ?_, by rw [h4]; exact a8⟩
  rw [h4] at hr ⊢
  rw [h6 r (by omega)]
  exact a7 r hr
theorem onS_g (h : TII t n w k) {j : Nat} {v : Int} (hj : j < 5) (h0 : w.2.1.testBit j = false) (hv : (j < 3 → 1 ≤ v ∧ v ≤ 30) ∧ (j = 3 → 0 ≤ v ∧ v ≤ 9) ∧ (j = 4 → v = 1)) (hk : tP t n k ≤ tP t n k') : TII t n (onS w j v) k' := by
  obtain ⟨a0, a1, a2, a3, a4, a5, a6, a7, a8, a9, -⟩ := id h.1
  obtain ⟨t0, t1, t2, t3, t4, t5⟩ := id h.2.2.1
  obtain ⟨b1, b2⟩ := td_b _ t0 j hj
  have R : ∀ i, ¬ i = 2 + j → (onS w j v).1 i = w.1 i := fun i z => if_neg z
  have Rt : (onS w j v).1 (2 + j) = v := if_pos rfl
  refine TII_e h (TW_e h.1 (fun i z1 z2 => R i (by omega)) ?_) (LW_e h.2.1 (fun i z1 z2 z3 => R i (by omega)) ⟨R 0 (by omega), R 1 (by omega)⟩) ?_ rfl (R 8 (by omega)) (fun r z => R _ (by omega)) hk
  · rw [R 0 (by omega), R 1 (by omega), R 7 (by omega), R 8 (by omega)]
    rcases (show j = 0 ∨ j = 1 ∨ j = 2 ∨ j = 3 ∨ j = 4 by omega) with rfl | rfl | rfl | rfl | rfl
    · rw [Rt, R 3 (by omega), R 4 (by omega), R 5 (by omega), R 6 (by omega)]
      exact ⟨a0, a1, hv.1 (by omega), a3, a4, a5, a6, a7, a8⟩
    · rw [Rt, R 2 (by omega), R 4 (by omega), R 5 (by omega), R 6 (by omega)]
      exact ⟨a0, a1, a2, .inr (hv.1 (by omega)), a4, a5, a6, a7, a8⟩
    · rw [Rt, R 2 (by omega), R 3 (by omega), R 5 (by omega), R 6 (by omega)]
      exact ⟨a0, a1, a2, a3, .inr (hv.1 (by omega)), a5, a6, a7, a8⟩
    · rw [Rt, R 2 (by omega), R 3 (by omega), R 4 (by omega), R 6 (by omega)]
      exact ⟨a0, a1, a2, a3, a4, hv.2.1 rfl, a6, a7, a8⟩
    · rw [Rt, R 2 (by omega), R 3 (by omega), R 4 (by omega), R 5 (by omega), hv.2.2 rfl]
      exact ⟨a0, a1, a2, a3, a4, a5, by omega, a7, a8⟩
  · show tdR (w.2.1 ||| 2 ^ j) _
    refine ⟨b1, ?_, ?_, ?_, ?_, ?_⟩
    · rw [b2 0 (by omega)]
      rcases (show j = 0 ∨ ¬ j = 0 by omega) with rfl | z
      · intro q; rw [decide_eq_true rfl, Bool.or_true] at q; cases q
      · rw [R 2 (by omega), decide_eq_false (fun e => z e.symm), Bool.or_false]; exact t1
    · rw [b2 1 (by omega)]
      rcases (show j = 1 ∨ ¬ j = 1 by omega) with rfl | z
      · rw [Rt, decide_eq_true rfl, Bool.or_true]
        have := hv.1 (by omega)
        exact (decide_eq_true (by omega)).symm
      · rw [R 3 (by omega), decide_eq_false (fun e => z e.symm), Bool.or_false]; exact t2
    · rw [b2 2 (by omega)]
      rcases (show j = 2 ∨ ¬ j = 2 by omega) with rfl | z
      · rw [Rt, decide_eq_true rfl, Bool.or_true]
        have := hv.1 (by omega)
        exact (decide_eq_true (by omega)).symm
      · rw [R 4 (by omega), decide_eq_false (fun e => z e.symm), Bool.or_false]; exact t3
    · rw [b2 3 (by omega)]
      rcases (show j = 3 ∨ ¬ j = 3 by omega) with rfl | z
      · intro q; rw [decide_eq_true rfl, Bool.or_true] at q; cases q
      · rw [R 5 (by omega), decide_eq_false (fun e => z e.symm), Bool.or_false]; exact t4
    · rw [b2 4 (by omega)]
      rcases (show j = 4 ∨ ¬ j = 4 by omega) with rfl | z
      · rw [Rt, decide_eq_true rfl, Bool.or_true, hv.2.2 rfl]
        rfl
      · rw [R 6 (by omega), decide_eq_false (fun e => z e.symm), Bool.or_false]; exact t5
theorem baP_g (h : TII t n w k) (e : baP t n w k = .inr (w', k')) : TII t n w' k' ∧ tP t n k < tP t n k' := by
  obtain ⟨a0, a1, a2, a3, a4, a5, a6, a7, a8, a9, a10, a11⟩ := id h.1
  unfold baP at e
  obtain ⟨x, k1, e1, e⟩ := bP_of e
  obtain ⟨x1, rfl, x2, x3⟩ := nmP_i e1
  obtain ⟨y, k2, e2, e⟩ := bP_of e
  obtain ⟨y1, rfl, y2, y3⟩ := nmP_i e2
  have hb := whV_b owW t n (tP t n (k + 1 + 1))
  have hl : (owW.length : Int) = 2 := rfl
  by_cases q1 : whV owW t n (tP t n (k + 1 + 1)) < 0
  · rw [if_pos q1] at e; cases e
  · rw [if_neg q1] at e
    have hlt := whV_lt (t := t) (show 0 ≤ whV owW t n (tP t n (k + 1 + 1)) by omega)
    have t0 := tP_lt x1
    have t1 := tP_lt y1
    have t2 := tP_lt hlt
    cases q2 : brA w.1 x.toNat y.toNat (decide (whV owW t n (tP t n (k + 1 + 1)) = 1)) with
    | true => rw [q2, if_pos rfl] at e; cases e
    | false =>
      rw [q2, if_neg (show ¬ (false = true) by decide)] at e
      cases e
      have hc : 6 * y.toNat + x.toNat < 54 := by omega
      have hv := a11 _ hc
      unfold brA at q2
      have hv2 : 0 ≤ w.1 (226 + (6 * y.toNat + x.toNat)) + (1 + whV owW t n (tP t n (k + 1 + 1))) ∧ w.1 (226 + (6 * y.toNat + x.toNat)) + (1 + whV owW t n (tP t n (k + 1 + 1))) ≤ 3 := by
        rcases (show whV owW t n (tP t n (k + 1 + 1)) = 1 ∨ whV owW t n (tP t n (k + 1 + 1)) = 0 by omega) with z | z
        · rw [z, if_pos (decide_eq_true rfl)] at q2
          have := of_decide_eq_false q2
          omega
        · rw [z, if_neg (by decide)] at q2
          have := of_decide_eq_false q2
          omega
      generalize w.1 (226 + (6 * y.toNat + x.toNat)) + (1 + whV owW t n (tP t n (k + 1 + 1))) = v at hv2 ⊢
      generalize 6 * y.toNat + x.toNat = c at hc ⊢
      have R : ∀ i, ¬ i = 226 + c → (upW w.1 (226 + c) v) i = w.1 i := fun i z => if_neg z
      have hTW : TW (upW w.1 (226 + c) v) := by
        unfold TW
        rw [R 0 (by omega), R 1 (by omega), R 2 (by omega), R 3 (by omega), R 4 (by omega), R 5 (by omega), R 6 (by omega), R 7 (by omega), R 8 (by omega), R 9 (by omega)]
        refine ⟨a0, a1, a2, a3, a4, a5, a6, a7, a8, a9, fun c' hc' => ?_, fun c' hc' => ?_⟩
        · rw [R _ (by omega), R _ (by omega), R _ (by omega), R _ (by omega)]
          exact a10 c' hc'
        · by_cases z : c' = c
          · rw [z, upW_t]
            exact hv2
          · rw [R _ (by omega)]
            exact a11 c' hc'
      exact ⟨TII_e (w' := (upW w.1 (226 + c) v, w.2)) h hTW (LW_e h.2.1 (fun i z1 z2 z3 => R i (by omega)) ⟨R 0 (by omega), R 1 (by omega)⟩) (tdR_e h.2.2.1 fun i z1 z2 => R i (by omega)) rfl (R 8 (by omega)) (fun r z => R _ (by omega)) (by omega), by omega⟩
theorem liP_G (h : TII t n w k) (e : liP t n w k = .inr (w', k')) : TII t n w' k' ∧ tP t n k < tP t n k' := by
  obtain ⟨h1, h2, h3, h4, h5⟩ := liP_g h e
  refine ⟨TII_e h h1.1 h1.2 ?_ (by rw [h2]) (h3 8 (by omega) (by omega) (by omega)) (fun r z => h4 _ (by omega)) (by omega), h5⟩
  rw [h2]
  exact tdR_e h.2.2.1 fun i z1 z2 => h3 i (by omega) (by omega) (by omega)
theorem ruS_g (h : TII t n w k) {nm : List Int} {L : List (Nat × Int)} (hn : nm.length ≤ 8 ∧ ∀ z ∈ nm, 97 ≤ z ∧ z ≤ 122) (h4 : ¬ w.2.2.1.length = 4) (hk : L.length + 1 + tP t n k ≤ tP t n k') : TII t n (ruS w nm L) k' := by
  obtain ⟨a0, a1, a2, a3, a4, a5, a6, a7, a8, a9, -⟩ := id h.1
  obtain ⟨b1, b2, b3, b4, b5, b6, b7, b8⟩ := id h
  have R : ∀ i, ¬ i = 8 → ¬ i = 280 + w.2.2.1.length → (ruS w nm L).1 i = w.1 i := fun i z1 z2 => (upW_n z1).trans (upW_n z2)
  have R8 : (ruS w nm L).1 8 = w.1 8 + 1 := by
    show upW (upW w.1 (280 + w.2.2.1.length) ((cdF w.2.2.2).length : Int)) 8 (w.1 8 + 1) 8 = w.1 8 + 1
    exact upW_t
  have Rr : (ruS w nm L).1 (280 + w.2.2.1.length) = ((cdF w.2.2.2).length : Int) := (upW_n (by omega)).trans upW_t
  have e1 : (ruS w nm L).2.2.1 = w.2.2.1 ++ [nm] := rfl
  have e2 : (ruS w nm L).2.2.2 = w.2.2.2 ++ [L] := rfl
  refine ⟨TW_e h.1 (fun i z1 z2 => R i (by omega) (by omega)) ?_, LW_e h.2.1 (fun i z1 z2 z3 => R i (by omega) (by omega)) ⟨R 0 (by omega) (by omega), R 1 (by omega) (by omega)⟩, tdR_e h.2.2.1 fun i z1 z2 => R i (by omega) (by omega), ?_, ?_, ?_, fun r hr => ?_, fun x hx => ?_⟩
  · rw [R 0 (by omega) (by omega), R 1 (by omega) (by omega), R 2 (by omega) (by omega), R 3 (by omega) (by omega), R 4 (by omega) (by omega), R 5 (by omega) (by omega), R 6 (by omega) (by omega), R 7 (by omega) (by omega), R8]
    exact ⟨a0, a1, a2, a3, a4, a5, a6, a7, by omega⟩
  · rw [e1, R8, List.length_append]
    show ((w.2.2.1.length + 1 : Nat) : Int) = _
    omega
  · rw [e1, e2, List.length_append, List.length_append, b5]
    rfl
  · rw [e2, cdF_a, List.length_append, List.length_append]
    show _ + (L.length + 1) ≤ _
    omega
  · rw [e2, List.length_append] at hr
    have hr : r < w.2.2.2.length + 1 := hr
    rw [e2]
    by_cases q : r = w.2.2.2.length
    · rw [q, b5, Rr, ← b5, List.take_left]
    · rw [R _ (by omega) (by omega), b7 r (by omega), List.take_append_of_le_length (by omega)]
  · rw [e1] at hx
    rcases List.mem_append.mp hx with z | z
    · exact b8 x z
    · rw [List.mem_singleton.mp z]
      exact hn
theorem ruP_g (h : TII t n w k) (h4 : ¬ w.2.2.1.length = 4) (hq : tP t n k + 1 ≤ tP t n (k + 1)) (e : ruP t n w (k + 1) = .inr (w', k')) : TII t n w' k' ∧ tP t n (k + 1) < tP t n k' := by
  unfold ruP at e
  by_cases q : ¬ (tS t n (tP t n (k + 1)) = 1 ∧ whV kpW t n (tP t n (k + 1)) < 0)
  · rw [if_pos q] at e; cases e
  · rw [if_neg q] at e
    have q := Decidable.not_not.mp q
    by_cases q2 : wrd t n (tP t n (k + 1)) ∈ w.2.2.1
    · rw [if_pos q2] at e; cases e
    · rw [if_neg q2] at e
      obtain ⟨A, k2, e1, e2⟩ := bP_of e
      cases e2
      obtain ⟨x1, x2, x3⟩ := exX_b e1
      have hlt := tS_lt (t := t) (n := n) (f := tP t n (k + 1)) (by omega)
      have t0 := tP_lt hlt
      exact ⟨ruS_g h (wrd_b q.1) h4 (by omega), by omega⟩
/-- what stands in a line keeps the town well -/
theorem lnB_g (h : TII t n w k) {j : Int} (hj : 0 ≤ j ∧ j < 8) (h0 : w.2.1.testBit j.toNat = false) (h4 : ¬ (j = 7 ∧ w.2.2.1.length = 4)) (hq : tP t n k + 1 ≤ tP t n (k + 1)) (e : lnB t n w j (k + 1) = .inr (w', k')) : TII t n w' k' ∧ tP t n (k + 1) ≤ tP t n k' := by
  have h' : TII t n w (k + 1) := TII_e h h.1 h.2.1 h.2.2.1 rfl rfl (fun _ _ => rfl) (by omega)
  unfold lnB at e
  by_cases q4 : j = 4
  · subst q4
    rw [if_pos rfl] at e
    cases e
    exact ⟨onS_g h (by omega) h0 ⟨fun z => by omega, fun z => by omega, fun _ => rfl⟩ (by omega), Nat.le_refl _⟩
  · rw [if_neg q4] at e
    by_cases q3 : j = 3
    · subst q3
      rw [if_pos rfl] at e
      obtain ⟨v, k1, e1, e2⟩ := bP_of e
      obtain ⟨x1, rfl, x2, x3⟩ := nmP_i e1
      have t0 := tP_lt x1
      cases e2
      exact ⟨onS_g h (by omega) h0 ⟨fun z => by omega, fun _ => ⟨x2, x3⟩, fun z => by omega⟩ (by omega), by omega⟩
    · rw [if_neg q3] at e
      by_cases q2 : j < 3
      · rw [if_pos q2] at e
        obtain ⟨v, k1, e1, e2⟩ := bP_of e
        obtain ⟨x1, rfl, x2, x3⟩ := nmP_i e1
        have t0 := tP_lt x1
        cases e2
        exact ⟨onS_g h (by omega) h0 ⟨fun z => ⟨x2, x3⟩, fun z => by omega, fun z => by omega⟩ (by omega), by omega⟩
      · rw [if_neg q2] at e
        by_cases q5 : j = 5
        · rw [if_pos q5] at e
          obtain ⟨g1, g2⟩ := liP_G h' e
          exact ⟨g1, by omega⟩
        · rw [if_neg q5] at e
          by_cases q6 : j = 6
          · rw [if_pos q6] at e
            obtain ⟨g1, g2⟩ := baP_g h' e
            exact ⟨g1, by omega⟩
          · rw [if_neg q6] at e
            obtain ⟨g1, g2⟩ := ruP_g h (fun z => h4 ⟨by omega, z⟩) hq e
            exact ⟨g1, by omega⟩
theorem lnX_g (h : TII t n w k) (e : lnX t n w k = .inr (w', k')) : TII t n w' k' ∧ tP t n k + 2 ≤ tP t n k' := by
  have hb := whV_b lnW t n (tP t n k)
  have hl : (lnW.length : Int) = 8 := rfl
  unfold lnX at e
  by_cases q1 : whV lnW t n (tP t n k) < 0
  · rw [if_pos q1] at e; cases e
  · rw [if_neg q1] at e
    have hlt := tP_lt (whV_lt (t := t) (show 0 ≤ whV lnW t n (tP t n k) by omega))
    cases q2 : w.2.1.testBit (whV lnW t n (tP t n k)).toNat with
    | true => rw [q2, if_pos rfl] at e; cases e
    | false =>
      rw [q2, if_neg (show ¬ (false = true) by decide)] at e
      by_cases q3 : whV lnW t n (tP t n k) = 7 ∧ w.2.2.1.length = 4
      · rw [if_pos q3] at e; cases e
      · rw [if_neg q3] at e
        obtain ⟨w1, k1, e1, e⟩ := bP_of e
        obtain ⟨g1, g2⟩ := lnB_g h ⟨by omega, by omega⟩ q2 q3 (by omega) e1
        obtain ⟨u, k3, e3, e⟩ := bP_of e
        obtain ⟨f1, rfl⟩ := ndP_i e3
        have t1 := tP_lt (isSg_lt f1)
        cases e
        exact ⟨TII_e g1 g1.1 g1.2.1 g1.2.2.1 rfl rfl (fun _ _ => rfl) (by omega), by omega⟩
theorem twL_g : ∀ (m : Nat) (w : TV) (k : Nat), TII t n w k → twL t n m w k = .inr (w', k') → TII t n w' k' ∧ tP t n k ≤ tP t n k' := by
  intro m
  induction m with
  | zero => intro w k h e; cases e; exact ⟨h, Nat.le_refl _⟩
  | succ m ih =>
    intro w k h e
    unfold twL at e
    by_cases q : tS t n (tP t n k) = 0
    · rw [if_pos q] at e
      cases e
      exact ⟨h, Nat.le_refl _⟩
    · rw [if_neg q] at e
      obtain ⟨w1, k1, e1, e2⟩ := bP_of e
      obtain ⟨g1, g2⟩ := lnX_g h e1
      obtain ⟨f1, f2⟩ := ih w1 k1 g1 e2
      exact ⟨f1, by omega⟩
theorem W00_g {a b : Int} (ha : 1 ≤ a ∧ a ≤ 6) (hb : 1 ≤ b ∧ b ≤ 9) (k : Nat) : TII t n (W00 a b, 0, [], []) k := by
  have R : ∀ j, 10 ≤ j → W00 a b j = 0 := fun j z => by
    unfold W00
    rw [if_neg (by omega), if_neg (by omega), if_neg (by omega), if_neg (by omega), if_neg (by omega), if_neg (by omega)]
  have hD : tdR 0 (W00 a b) := by
    unfold tdR
    rw [show W00 a b 3 = -1 from rfl, show W00 a b 4 = -1 from rfl, show W00 a b 6 = 0 from rfl]
    exact ⟨by decide, fun _ => rfl, by decide, by decide, fun _ => rfl, by decide⟩
  have Z : ∀ j, W00 a b j = 0 → ∀ v : Nat, 0 ≤ W00 a b j ∧ W00 a b j ≤ (v : Int) := fun j e v => by rw [e]; omega
  refine ⟨⟨ha, hb, ⟨by show (1 : Int) ≤ 10; omega, by show (10 : Int) ≤ 30; omega⟩, .inl rfl, .inl rfl, Z 5 rfl 9, Z 6 rfl 1, Z 7 rfl 54, Z 8 rfl 4, ⟨by show (1 : Int) ≤ 1; omega, by show (1 : Int) ≤ 1200; omega⟩, fun c hc => ?_, fun c hc => ?_⟩, ⟨fun c hc q => ?_, ?_⟩, hD, rfl, rfl, Nat.zero_le _, fun r hr => ?_, fun x hx => ?_⟩
  · show (0 ≤ W00 a b (10 + 4 * c) ∧ W00 a b (10 + 4 * c) ≤ 4) ∧ (0 < W00 a b (10 + 4 * c) → _)
    rw [R _ (by omega)]
    exact ⟨by omega, fun z => by omega⟩
  · show 0 ≤ W00 a b (226 + c) ∧ W00 a b (226 + c) ≤ 3
    rw [R _ (by omega)]
    omega
  · have q : 0 < W00 a b (10 + 4 * c) := q
    rw [R _ (by omega)] at q
    omega
  · show W00 a b 7 = _
    rw [List.filter_eq_nil_iff.mpr]
    · rfl
    · intro c hc
      show ¬ decide (0 < W00 a b (10 + 4 * c)) = true
      rw [R _ (by omega)]
      decide
  · exact absurd hr (by simp)
  · cases hx
theorem twX_g (e : twX t n = .inr (w, k)) : TII t n w k := by
  unfold twX at e
  obtain ⟨a, k1, e1, e⟩ := bP_of e
  obtain ⟨a1, a2, rfl, a3, a4⟩ := nwP_i e1
  obtain ⟨b, k2, e2, e⟩ := bP_of e
  obtain ⟨b1, rfl, b3, b4⟩ := nmP_i e2
  obtain ⟨u, k3, e3, e⟩ := bP_of e
  exact (twL_g 1001 _ _ (W00_g ⟨a3, a4⟩ ⟨b3, b4⟩ _) e).1
end TXI
