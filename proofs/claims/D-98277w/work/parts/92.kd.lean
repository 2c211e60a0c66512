/-! LAYER 2: keeps: the component, joined -/
set_option maxRecDepth 100000
theorem uI_x {s : CS} {f a : Nat} {v : Int32} : (uI s f a v).1 = s.1 ∧ cR (uI s f a v) = cR s ∧ cA (uI s f a v) = cA s ∧ cQ (uI s f a v) = cQ s ∧ cz (uI s f a v) = cz s ∧ cl (uI s f a v) = cl s := ⟨rfl, rfl, rfl, rfl, rfl, rfl⟩
/-- nothing but an array of states is another -/
def Fu (a : Nat) (s s1 : CS) : Prop := s1.1 = s.1 ∧ cI s1 = cI s ∧ cR s1 = cR s ∧ cA s1 = cA s ∧ (∀ b, ¬ b = a → cQ s1 b = cQ s b) ∧ cz s1 = cz s ∧ cl s1 = cl s
theorem Fu.rf {a : Nat} {s : CS} : Fu a s s := ⟨rfl, rfl, rfl, rfl, fun _ _ => rfl, rfl, rfl⟩
theorem Fu.up {a i : Nat} {v : Option Nat} {s s1 : CS} (h : Fu a s s1) : Fu a s (uQ s1 a i v) := ⟨uQ_x.1.trans h.1, uQ_x.2.1.trans h.2.1, uQ_x.2.2.1.trans h.2.2.1, uQ_x.2.2.2.1.trans h.2.2.2.1, fun b hb => (funext fun j => by rw [rd_uQ, if_neg (fun z => hb z.1)]).trans (h.2.2.2.2.1 b hb), uQ_x.2.2.2.2.1.trans h.2.2.2.2.2.1, uQ_x.2.2.2.2.2.trans h.2.2.2.2.2.2⟩
theorem Fu.v {ρ : Nat → Nat × Nat} {a o : Nat} {s s1 : CS} (h : Fu a s s1) : Fvv ρ ρ s s1 o := ⟨by rw [h.1], fun f _ _ => by rw [h.2.1], fun f => by rw [h.2.2.1], fun b w c n e _ _ _ => ⟨by rw [h.1], rfl, by rw [h.2.2.2.1]⟩⟩
theorem Fu.x {ρ : Nat → Nat × Nat} {a n : Nat} {w : Bool} {s s1 : CS} (h : Fu a s s1) (k : s.1 a = some (w, 105, n)) : Fx ρ ρ s s1 := fun b w' c n' e => ⟨by rw [h.1]; exact e, rfl, fun f _ => by rw [h.2.1], fun f => by rw [h.2.2.1], fun _ => by rw [h.2.2.2.1], fun q => h.2.2.2.2.1 b (fun z => by rw [z, k] at e; cases e; exact q rfl)⟩
section KD
variable {g : Nat → Nat} {ρ : Nat → Nat × Nat} {W : Nat → Int} {S : Nat → Nat → Int} {V m Tp : Nat → Int} {RC : Nat → List (Nat × Int)} {s z0 : CS} {T : Int} {nf : Nat}
theorem shS_0 : shS S 0 = S 0 := funext fun k => by unfold shS; rw [if_neg (by omega)]
theorem kd_sl {j : Nat} (s : CS) (hj : 5 ≤ j) : sl s g j = cQ s (g 6) (j - 5) := by
  unfold sl
  rw [if_neg (by omega), if_neg (by omega)]
theorem kd_18 (hn : 100 ≤ nf) (b : B g ρ W S V m Tp RC s) (hp : Hp z0 ρ s) (hS : SW W T (S 0)) (hm : m 1 = 16) {o0 : Nat} (h0 : cQ s (g 6) 0 = some o0) : ∀ (d n c : Nat) (s1 : CS), c + d = 15 → d < n → Fu (g 6) s s1 → (∀ k, k < 16 → cQ s1 (g 6) k = if k < c then cQ s (g 6) (k + 1) else cQ s (g 6) k) → Ok (FX0_keeps_b18 nf n (g 0) (some o0) (i32 (c : Int)) s1) fun s' => ∃ ρ', B g ρ' W (kpS S m) V (kpM m) Tp RC s' ∧ Hp z0 ρ' s' ∧ cz s ≤ cz s' ∧ cz s' ≤ cz s + 7 ∧ cl s ≤ cl s' ∧ cl s' ≤ cl s + 112 := by
  have bs := b_Bs b
  have hso : ∀ k, k < 16 → ∃ o, cQ s (g 6) k = some o ∧ SO ρ s o := fun k hk => by
    obtain ⟨o, ho⟩ := (bs.1 (5 + k) (by omega)).1 (.inr (.inr ⟨by omega, by omega⟩))
    have e := ho
    rw [kd_sl s (by omega), show 5 + k - 5 = k by omega] at e
    exact ⟨o, e, ((bs.1 (5 + k) (by omega)).2 o ho).1⟩
  have k6 : s.1 (g 6) = some (true, 105, 16) := (b.2.1 5 _ rfl).2.1
  intro d
  induction d with
  | zero =>
    intro n c s1 h1 h2 f hq
    obtain ⟨n, rfl⟩ : ∃ q, n = q + 1 := ⟨n - 1, by omega⟩
    have ec : c = 15 := by omega
    subst ec
    obtain ⟨o1, ho1, so1⟩ := hso 0 (by omega)
    rw [h0] at ho1
    cases ho1
    have kg0 : s1.1 (g 0) = some (true, 0, 0) := by rw [f.1]; exact b.1
    have r6 : cR s1 6 (g 0) = some (g 6) := by rw [f.2.2.1]; exact (b.2.1 5 _ rfl).1
    have k61 : s1.1 (g 6) = some (true, 105, 16) := by rw [f.1]; exact k6
    have ko : s1.1 o0 = some (true, 8, 0) := by rw [f.1]; exact so1.1
    rw [show FX0_keeps_b18 nf (n + 1) = FX0_keeps_b18_s nf (FX0_keeps_b18 nf n) from rfl]
    unfold FX0_keeps_b18_s
    rw [if_pos (show (16 : Int32) ≤ i32 ((15 : Nat) : Int) + 1 by decide), show (15 : Int32) = i32 ((15 : Nat) : Int) from rfl]
    refine ok_gRs kg0 rfl r6 (ok_nn (ok_nn (ok_gd ko rfl (ok_tR k61 (by omega) (by omega) (by omega) ?_))))
    rw [Int.toNat_natCast]
    have f4 := f.up (i := 15) (v := some o0)
    have hq4 : ∀ k, k < 16 → cQ (uQ s1 (g 6) 15 (some o0)) (g 6) k = if k < 15 then cQ s (g 6) (k + 1) else cQ s (g 6) 0 := fun k hk => by
      rw [rd_uQ]
      by_cases e : k = 15
      · rw [if_pos ⟨rfl, e⟩, if_neg (by omega), h0]
      · rw [if_neg (fun z => e z.2), hq k hk, if_pos (by omega), if_pos (by omega)]
    generalize uQ s1 (g 6) 15 (some o0) = s4 at f4 hq4 ⊢
    have kg04 : s4.1 (g 0) = some (true, 0, 0) := by rw [f4.1]; exact b.1
    have e7 : cI s4 7 (g 0) = i32 (m 1) := by rw [f4.2.1]; exact b.2.2.2.2.2.2.1.2
    refine ok_gI kg04 rfl (ok_pI kg04 rfl ?_)
    rw [e7, hm, show (1 : Int32) = i32 1 from rfl, i32_sub]
    have x6 : Fx ρ ρ s (uI s4 7 (g 0) (i32 (16 - 1))) := (f4.x k6).tr (Fx.uI rfl)
    have h7 : ¬ g 7 = g 6 := g_ne b (i := 15) (j := 5) rfl rfl (by decide)
    have hsl : ∀ j, j < 21 → sl (uI s4 7 (g 0) (i32 (16 - 1))) g j = sl s g (if j < 5 then j else if j = 20 then 5 else j + 1) := fun j hj => by
      by_cases q0 : j = 0
      · rw [q0]
        rfl
      · by_cases q5 : j < 5
        · rw [if_pos q5]
          unfold sl
          rw [if_neg q0, if_neg q0, if_pos q5, if_pos q5, uI_x.2.2.2.1, f4.2.2.2.2.1 _ h7]
        · rw [if_neg q5, kd_sl _ (by omega), uI_x.2.2.2.1, hq4 _ (by omega)]
          by_cases q20 : j = 20
          · rw [if_pos q20, if_neg (by omega), kd_sl s (by omega)]
          · rw [if_neg q20, if_pos (by omega), kd_sl s (by omega), show j + 1 - 5 = j - 5 + 1 by omega]
    have b6 : B g ρ W (shS S) V (upM m 1 15) Tp RC (uI s4 7 (g 0) (i32 (16 - 1))) := by
      refine b.w x6 ⟨?_, ?_⟩ (fun k hk => ?_) ?_
      · rw [rI_n (by decide), f4.2.1]
        exact b.2.2.2.2.2.2.1.1
      · rw [rI_t]
        rfl
      · rw [uI_x.2.2.1, f4.2.2.2.1]
        exact b.2.2.2.2.2.2.2.1 k hk
      · refine bs.r (fun j => if j < 5 then j else if j = 20 then 5 else j + 1) (fun j hj => ?_) (fun i j hi hj e => ?_) (fun j hj => if_pos hj) hsl (fun j o hj e => f4.v.tr ⟨by rw [uI_x.1], fun f a1 _ => rI_n (by omega), fun f => by rw [uI_x.2.1], fun a w c n e _ _ _ => ⟨by rw [uI_x.1], rfl, by rw [uI_x.2.2.1]⟩⟩) (fun j hj ha => ?_) (fun j k hj ha hk => ?_) (fun j a1 a2 a3 => ?_)
        · show (if j < 5 then j else if j = 20 then 5 else j + 1) < 21
          repeat' split
          all_goals omega
        · have e : (if i < 5 then i else if i = 20 then 5 else i + 1) = (if j < 5 then j else if j = 20 then 5 else j + 1) := e
          repeat' (split at e)
          all_goals omega
        · have ha : j = 0 ∨ (1 ≤ j ∧ j < 5 ∧ upM m 1 15 (1 + j) = 1) ∨ (5 ≤ j ∧ (j : Int) - 5 < 15) := ha
          show act m (if j < 5 then j else if j = 20 then 5 else j + 1)
          rcases ha with z | z | z
          · rw [if_pos (by omega)]
            exact .inl z
          · rw [if_pos z.2.1]
            unfold upM at z
            rw [if_neg (by omega)] at z
            exact .inr (.inl z)
          · rw [if_neg (by omega), if_neg (by omega)]
            exact .inr (.inr ⟨by omega, by omega⟩)
        · have ha : j = 0 ∨ (1 ≤ j ∧ j < 5 ∧ upM m 1 15 (1 + j) = 1) ∨ (5 ≤ j ∧ (j : Int) - 5 < 15) := ha
          show shS S j k = S (if j < 5 then j else if j = 20 then 5 else j + 1) k
          unfold shS
          by_cases q5 : j < 5
          · rw [if_neg (show ¬ (5 ≤ j ∧ j < 20 ∧ k < 58) by omega), if_pos q5]
          · rw [if_pos (show 5 ≤ j ∧ j < 20 ∧ k < 58 by omega), if_neg q5, if_neg (by omega)]
        · unfold upM at a3
          rw [if_neg (by omega)] at a3
          exact a3
    have hp6 : Hp z0 ρ (uI s4 7 (g 0) (i32 (16 - 1))) := hp.e x6 (by rw [uI_x.1, f4.1]) (by rw [uI_x.2.2.2.2.1, f4.2.2.2.2.2.1]) fun a _ => by rw [uI_x.2.2.1, f4.2.2.2.1]
    refine ok_w (kc_64 (nf := nf) (T := T) (u := 15) hn b6 hp6 (by rw [shS_0]; exact hS) rfl (by omega)) fun s' h => ?_
    obtain ⟨ρ', w1, w2, w3, w4, w5, w6⟩ := h
    rw [uI_x.2.2.2.2.1, f4.2.2.2.2.2.1] at w3 w4
    rw [uI_x.2.2.2.2.2, f4.2.2.2.2.2.2] at w5 w6
    refine ⟨ρ', ?_, w2, w3, w4, w5, w6⟩
    have em : upM (upM m 1 15) 1 (((15 : Nat) : Int) + 1) = kpM m := funext fun j => by
      unfold kpM upM
      by_cases e : j = 1
      · rw [if_pos e, if_pos e, if_pos hm]
        rfl
      · rw [if_neg e, if_neg e, if_neg e]
    have eS : cpS (shS S) 0 (5 + 15) 58 = kpS S m := by
      unfold kpS
      rw [if_pos hm]
    rw [← em, ← eS]
    exact w1
  | succ d ih =>
    intro n c s1 h1 h2 f hq
    obtain ⟨n, rfl⟩ : ∃ q, n = q + 1 := ⟨n - 1, by omega⟩
    have kg0 : s1.1 (g 0) = some (true, 0, 0) := by rw [f.1]; exact b.1
    have r6 : cR s1 6 (g 0) = some (g 6) := by rw [f.2.2.1]; exact (b.2.1 5 _ rfl).1
    have k61 : s1.1 (g 6) = some (true, 105, 16) := by rw [f.1]; exact k6
    obtain ⟨o1, ho1, so1⟩ := hso (c + 1) (by omega)
    have ko : s1.1 o1 = some (true, 8, 0) := by rw [f.1]; exact so1.1
    have hq1 := hq (c + 1) (by omega)
    rw [if_neg (by omega), ho1] at hq1
    rw [show FX0_keeps_b18 nf (n + 1) = FX0_keeps_b18_s nf (FX0_keeps_b18 nf n) from rfl]
    unfold FX0_keeps_b18_s
    rw [show (1 : Int32) = i32 1 from rfl, i32_add, if_neg (show ¬ (16 : Int32) ≤ i32 ((c : Int) + 1) from fun z => by have := (i32_le (a := 16) ⟨by omega, by omega⟩ ⟨by omega, by omega⟩).mp z; omega), show (c : Int) + 1 = ((c + 1 : Nat) : Int) from rfl]
    refine ok_gRs kg0 rfl r6 (ok_gRs kg0 rfl r6 (ok_nn (ok_lR k61 (by omega) (by omega) (by omega) (ok_nn ?_))))
    rw [Int.toNat_natCast, hq1]
    refine ok_nn (ok_gd ko rfl (ok_tR k61 (by omega) (by omega) (by omega) ?_))
    rw [Int.toNat_natCast]
    refine ih n (c + 1) _ (by omega) (by omega) f.up fun k hk => ?_
    rw [rd_uQ]
    by_cases e : k = c
    · rw [if_pos ⟨rfl, e⟩, if_pos (by omega), e, ho1]
    · rw [if_neg (fun z => e z.2), hq k hk]
      by_cases e2 : k < c
      · rw [if_pos e2, if_pos (by omega)]
      · rw [if_neg e2, if_neg (by omega)]
theorem ok_keeps (hn : 100 ≤ nf) (b : B g ρ W S V m Tp RC s) (hp : Hp z0 ρ s) (hS : SW W T (S 0)) (hm : 0 ≤ m 1 ∧ m 1 ≤ 16) : Ok (FX0_keeps nf (g 0) s) fun s' => ∃ ρ', B g ρ' W (kpS S m) V (kpM m) Tp RC s' ∧ Hp z0 ρ' s' ∧ cz s ≤ cz s' ∧ cz s' ≤ cz s + 7 ∧ cl s ≤ cl s' ∧ cl s' ≤ cl s + 112 := by
  unfold FX0_keeps
  refine ok_mz ?_ (fun z hz => ⟨hz.choose_spec.2.2.1, hz.choose_spec.2.2.2.2.1⟩)
  refine ok_gd b.1 rfl (ok_gI b.1 rfl ?_)
  rw [b.2.2.2.2.2.2.1.2, show (16 : Int32) = i32 16 from rfl]
  refine ok_q ⟨by omega, by omega⟩ ⟨by omega, by omega⟩ (fun q => ?_) (fun q => ?_)
  · have k6 : s.1 (g 6) = some (true, 105, 16) := (b.2.1 5 _ rfl).2.1
    have bs := b_Bs b
    obtain ⟨o0, ho0⟩ := (bs.1 5 (by omega)).1 (.inr (.inr ⟨by omega, by omega⟩))
    have h0 : cQ s (g 6) 0 = some o0 := by
      rw [kd_sl s (by omega)] at ho0
      exact ho0
    rw [show (0 : Int32) = i32 ((0 : Nat) : Int) from rfl]
    refine ok_gRs b.1 rfl (b.2.1 5 _ rfl).1 (ok_nn (ok_lR k6 (by omega) (by omega) (by omega) ?_))
    rw [Int.toNat_natCast, h0]
    exact kd_18 (nf := nf) hn b hp hS q h0 15 nf 0 s (by omega) (by omega) Fu.rf fun k _ => by rw [if_neg (by omega)]
  · refine ok_w (kc_64 (nf := nf) (T := T) (u := (m 1).toNat) hn b hp hS (by omega) (by omega)) fun s' h => ?_
    obtain ⟨ρ', w1, w2⟩ := h
    refine ⟨ρ', ?_, w2⟩
    have em : upM m 1 (((m 1).toNat : Int) + 1) = kpM m := by
      unfold kpM
      rw [if_neg q, Int.toNat_of_nonneg hm.1]
    have eS : cpS S 0 (5 + (m 1).toNat) 58 = kpS S m := by
      unfold kpS
      rw [if_neg q]
    rw [← em, ← eS]
    exact w1
end KD
