/-! LAYER 2: lines with one number, bars: the component -/
set_option maxRecDepth 100000
/-- the reader before token k, a town w under way -/
def Ust (st : Nat → Option Nat) (r ta : Nat) (t : Nat → Int) (n z0 o : Nat) (ρ0 : Nat → Nat × Nat) (w : TV) (s : CS) (k : Nat) : Prop := Fh s ∧ Kz st z0 s ∧ Rf s r ta t n (tP t n k) ∧ z0 ≤ cz s ∧ Uwx z0 r o ρ0 w s ∧ r < z0 ∧ ta < z0
section LO
variable {r ta n z0 o : Nat} {t : Nat → Int} {st : Nat → Option Nat} {s s' : CS} {nf : Nat} {ρ0 : Nat → Nat × Nat} {w w' : TV} {k k' : Nat}
theorem Ust.b (h : Ust st r ta t n z0 o ρ0 w s k) (g : Pb r s s') (hR : Rf s' r ta t n (tP t n k')) (h6 : cI s' 106 r = cI s 106 r) : Ust st r ta t n z0 o ρ0 w s' k' := by
  obtain ⟨h1, h2, h3, h4, h5, h7, h8⟩ := h
  exact ⟨g.2.1, h2.z (g.z h4), hR, Nat.le_trans h4 g.2.2.1, h5.b h1 g (by omega) h6, h7, h8⟩
/-- behind a write of the town's -/
theorem Ust.m (h : Ust st r ta t n z0 o ρ0 w s k) {l : List Nat} (g : Fm l s s') (hl : ∀ a ∈ l, z0 ≤ a) (hU : Uwx z0 r o ρ0 w' s') : Ust st r ta t n z0 o ρ0 w' s' k := by
  obtain ⟨h1, h2, h3, h4, h5, h7, h8⟩ := h
  exact ⟨g.2.1, h2.z (g.z (r := r) hl h4), h3.m h1 g (fun z => by have := hl _ z; omega) (fun z => by have := hl _ z; omega), Nat.le_trans h4 g.2.2.1, hU, h7, h8⟩
theorem Ust.ob (h : Ust st r ta t n z0 o ρ0 w s k) : cR s 107 r = some o ∧ s.1 o = some (true, 2, 0) ∧ z0 ≤ o ∧ o < cz s ∧ cI s 200 o = i32 (w.1 0) ∧ cI s 201 o = i32 (w.1 1) := by
  obtain ⟨h1, h2, h3, h4, ⟨h5, h6, hh, nb, ρ, h9, rfl, h10⟩, h7, h8⟩ := h
  exact ⟨h5, h9.1.1, h9.2.2.2.2.2.1.1, h1 _ _ _ _ h9.1.1, h9.1.2.1.2.1, h9.1.2.1.2.2.1⟩
def tdf (j : Nat) : Nat := if j = 4 then 208 else 202 + j
theorem Uwx.on (h : Ust st r ta t n z0 o ρ0 w s k) {j : Nat} {v : Int} (hj : j < 5) (hb : w.2.1 < 32) : Uwx z0 r o ρ0 (onS w j v) (uI s (tdf j) o (i32 v)) := by
  obtain ⟨h1, h2, h3, h4, ⟨h5, h6, hh, nb, ρ, h9, rfl, h10⟩, h7, h8⟩ := h
  have hne : ¬ r = hh 1 := fun e => by have := h9.2.2.2.2.2.1.1; omega
  obtain ⟨b1, b2⟩ := td_b _ hb j hj
  have hfd : 202 ≤ tdf j ∧ tdf j ≤ 208 := by
    unfold tdf
    split <;> omega
  have R : ∀ i, ¬ i = 2 + j → (onS w j v).1 i = w.1 i := fun i z => upW_n z
  have R2 : (onS w j v).1 (2 + j) = v := upW_t
  have eb : ∀ i, i < 5 → (onS w j v).2.1.testBit i = (w.2.1.testBit i || decide (i = j)) := fun i hi => b2 i hi
  refine ⟨h5, by rw [rI_a hne]; exact h6, hh, nb, ρ, ?_, rfl, h10⟩
  obtain ⟨⟨q1, q2, q3⟩, -⟩ := id h9
  obtain ⟨r0, r1, r2, r3, r4, r5, r6, r7, r8⟩ := q2
  have hIt : ∀ f, ¬ f = tdf j → cI (uI s (tdf j) (hh 1) (i32 v)) f (hh 1) = cI s f (hh 1) := fun f z => rI_n z
  refine h9.g (s' := uI s (tdf j) (hh 1) (i32 v)) h1 (fun _ _ => rfl) (Nat.le_refl _) ⟨rfl, rfl⟩ (fun a c m wr e q => ?_) ?_ ?_ rfl
  · refine ⟨rfl, fun f _ => rI_a (fun z => ?_), fun _ _ => rfl, rfl, rfl⟩
    rw [z, q1] at e
    cases e
    omega
  · refine ⟨r0, by rw [hIt _ (by omega), R 0 (by omega)]; exact r1, by rw [hIt _ (by omega), R 1 (by omega)]; exact r2, r3, r4, r5, r6, fun c hc => by rw [R _ (by omega)]; exact r7 c hc, fun c hc => ?_⟩
    rw [R _ (by omega)]
    rcases r8 c hc with z | ⟨z1, l, z2, z3⟩
    · exact .inl z
    · refine .inr ⟨z1, l, z2, ?_⟩
      obtain ⟨⟨lw, ln, y1⟩, y2, y3, y4⟩ := z3
      have hl : ¬ l = hh 1 := fun z => by
        rw [z, q1] at y1
        have := congrArg (fun x => x.2.1) (Option.some.inj y1)
        have : 2 = 11 + (w.1 (10 + 4 * c)).toNat := this
        omega
      exact ⟨⟨lw, ln, by rw [R _ (by omega)]; exact y1⟩, by rw [rI_a hl, R _ (by omega)]; exact y2, by rw [rI_a hl, R _ (by omega)]; exact y3, by rw [rI_a hl, R _ (by omega)]; exact y4⟩
  · obtain ⟨t1, t2, t3, t4, t5, t6⟩ := q3
    unfold Rt2
    rw [eb 0 (by omega), eb 3 (by omega), R 9 (by omega)]
    rcases (show j = 0 ∨ j = 1 ∨ j = 2 ∨ j = 3 ∨ j = 4 by omega) with rfl | rfl | rfl | rfl | rfl
    · rw [show tdf 0 = 202 from rfl, rI_t, rI_n (by decide), rI_n (by decide), rI_n (by decide), rI_n (by decide), rI_n (by decide), R 3 (by omega), R 4 (by omega), R 5 (by omega), R 6 (by omega), R2, decide_eq_true rfl, Bool.or_true, if_pos rfl, decide_eq_false (show ¬ 3 = 0 by decide), Bool.or_false]
      exact ⟨rfl, t2, t3, t4, t5, t6⟩
    · rw [show tdf 1 = 203 from rfl, rI_n (by decide), rI_t, rI_n (by decide), rI_n (by decide), rI_n (by decide), rI_n (by decide), R 2 (by omega), R 4 (by omega), R 5 (by omega), R 6 (by omega), R2, decide_eq_false (show ¬ 0 = 1 by decide), Bool.or_false, decide_eq_false (show ¬ 3 = 1 by decide), Bool.or_false]
      exact ⟨t1, rfl, t3, t4, t5, t6⟩
    · rw [show tdf 2 = 204 from rfl, rI_n (by decide), rI_n (by decide), rI_t, rI_n (by decide), rI_n (by decide), rI_n (by decide), R 2 (by omega), R 3 (by omega), R 5 (by omega), R 6 (by omega), R2, decide_eq_false (show ¬ 0 = 2 by decide), Bool.or_false, decide_eq_false (show ¬ 3 = 2 by decide), Bool.or_false]
      exact ⟨t1, t2, rfl, t4, t5, t6⟩
    · rw [show tdf 3 = 205 from rfl, rI_n (by decide), rI_n (by decide), rI_n (by decide), rI_t, rI_n (by decide), rI_n (by decide), R 2 (by omega), R 3 (by omega), R 4 (by omega), R 6 (by omega), R2, decide_eq_false (show ¬ 0 = 3 by decide), Bool.or_false, decide_eq_true rfl, Bool.or_true, if_pos rfl]
      exact ⟨t1, t2, t3, rfl, t5, t6⟩
    · rw [show tdf 4 = 208 from rfl, rI_n (by decide), rI_n (by decide), rI_n (by decide), rI_n (by decide), rI_n (by decide), rI_t, R 2 (by omega), R 3 (by omega), R 4 (by omega), R 5 (by omega), R2, decide_eq_false (show ¬ 0 = 4 by decide), Bool.or_false, decide_eq_false (show ¬ 3 = 4 by decide), Bool.or_false]
      exact ⟨t1, t2, t3, t4, t5, rfl⟩
/-- one bar more -/
theorem Uwx.ba (h : Ust st r ta t n z0 o ρ0 w s k) {c ba : Nat} {v : Int} (hc : c < 54) (hba : cR s 210 o = some ba) : Uwx z0 r o ρ0 (upW w.1 (226 + c) v, w.2) (uA s ba c (i32 v)) ∧ s.1 ba = some (true, 100, 54) ∧ z0 ≤ ba ∧ ∀ i, i < 54 → cA s ba i = i32 (w.1 (226 + i)) := by
  obtain ⟨h1, h2, h3, h4, ⟨h5, h6, hh, nb, ρ, h9, rfl, h10⟩, h7, h8⟩ := h
  obtain ⟨⟨q1, q2, q3⟩, -⟩ := id h9
  obtain ⟨r0, r1, r2, r3, r4, r5, r6, r7, r8⟩ := q2
  rw [r4] at hba
  cases hba
  have R : ∀ i, ¬ i = 226 + c → upW w.1 (226 + c) v i = w.1 i := fun i z => upW_n z
  refine ⟨⟨h5, h6, hh, nb, ρ, ?_, rfl, h10⟩, r6, h9.2.2.2.2.1 9 (by omega) (by omega), r7⟩
  refine h9.g (s' := uA s (hh 9) c (i32 v)) h1 (fun _ _ => rfl) (Nat.le_refl _) ⟨rfl, rfl⟩ (fun a cc m wr e q => ⟨rfl, fun _ _ => rfl, fun _ _ => rfl, if_neg (fun z => ?_), rfl⟩) ?_ ?_ rfl
  · rw [z, r6] at e
    cases e
    omega
  · show Ro (uA s (hh 9) c (i32 v)) (upW w.1 (226 + c) v) (hh 1) (hh 8) (hh 9)
    refine ⟨r0, by rw [R 0 (by omega)]; exact r1, by rw [R 1 (by omega)]; exact r2, r3, r4, r5, r6, fun i hi => ?_, fun i hi => ?_⟩
    · rw [rd_uA]
      by_cases z : i = c
      · rw [if_pos ⟨rfl, z⟩, z, upW_t]
      · rw [if_neg (fun y => z y.2), R _ (by omega)]
        exact r7 i hi
    · rw [R _ (by omega)]
      rcases r8 i hi with z | ⟨z1, l, z2, ⟨⟨lw, ln, y1⟩, y2, y3, y4⟩⟩
      · exact .inl z
      · exact .inr ⟨z1, l, z2, ⟨⟨lw, ln, by rw [R _ (by omega)]; exact y1⟩, by rw [R _ (by omega)]; exact y2, by rw [R _ (by omega)]; exact y3, by rw [R _ (by omega)]; exact y4⟩⟩
  · show Rt2 (uA s (hh 9) c (i32 v)) (upW w.1 (226 + c) v) w.2.1 (hh 1)
    unfold Rt2
    rw [R 2 (by omega), R 3 (by omega), R 4 (by omega), R 5 (by omega), R 6 (by omega), R 9 (by omega)]
    exact q3
theorem ok_bar (hn : 2000 ≤ nf) (hT : TO t n) (h : Ust st r ta t n z0 o ρ0 w s k) (hW : TW w.1) : Ok (FX1_bar st nf r s) (Poz (RLN z0 r o ρ0) r ta t n z0 0 s k (baP t n w k)) := by
  have a0 := hW.1
  have a1 := hW.2.1
  have a11 := hW.2.2.2.2.2.2.2.2.2.2.2
  obtain ⟨o1, o2, o3, o4, o5, o6⟩ := h.ob
  have hr := h.2.2.1.1.1
  unfold FX1_bar baP
  refine Poz.mz (ok_gd hr rfl (ok_gRs hr rfl o1 ?_))
  rw [nn_eq]
  refine ok_gI o2 rfl ?_
  rw [o5, show (0 : Int32) = i32 0 from rfl, show (1 : Int32) = i32 1 from rfl, i32_sub]
  refine ok_thz (Pcz.rf h.1) h.2.2.2.1 (ok_number_2 hn hT h.2.1.k h.1 h.2.2.1 ⟨by omega, by omega⟩ ⟨by omega, by omega⟩) fun a x k1 s1 hx1 g1 p1 hN hR1 => ?_
  obtain ⟨x1, x2, x3, x4, rfl⟩ := nmP_v hx1
  obtain ⟨hN, hK6⟩ := hN
  subst hN
  have h1 := h.b g1 hR1 hK6.1
  obtain ⟨o1, o2, o3, o4, o5, o6⟩ := h1.ob
  refine ok_gRs hR1.1.1 rfl o1 ?_
  rw [nn_eq]
  refine ok_gI o2 rfl ?_
  rw [o6, i32_sub]
  refine ok_thz p1 h1.2.2.2.1 (ok_number_2 hn hT h1.2.1.k h1.1 hR1 ⟨by omega, by omega⟩ ⟨by omega, by omega⟩) fun b y k2 s2 hx2 g2 p2 hN hR2 => ?_
  obtain ⟨y1, y2, y3, y4, rfl⟩ := nmP_v hx2
  obtain ⟨hN, hK6⟩ := hN
  subst hN
  have h2 := h1.b g2 hR2 hK6.1
  obtain ⟨o1, o2, o3, o4, o5, o6⟩ := h2.ob
  clear hx1 hx2 x2 y2
  obtain ⟨x, rfl⟩ : ∃ q : Nat, x = q := ⟨x.toNat, by omega⟩
  obtain ⟨y, rfl⟩ : ∃ q : Nat, y = q := ⟨y.toNat, by omega⟩
  obtain ⟨p, q1, q2⟩ := h2.2.1.k 7 (by omega)
  rw [wL_s.2.2.2.2.2.2.1] at q2
  have hb := whV_b owW t n (tP t n (k + 1 + 1))
  have hl : (owW.length : Int) = 2 := rfl
  rw [c_ix, nm_eq, show st 17 = some p from q1, nn_eq]
  refine ok_be (c_which (by omega) hT hR2 q2 wW_n.2.2.2.2.2.2.1 (by decide)) ?_
  rw [Int.toNat_natCast, Int.toNat_natCast]
  have hlt4 : 0 ≤ whV owW t n (tP t n (k + 1 + 1)) → tP t n (k + 1 + 1) < n := fun z => whV_lt z
  generalize whV owW t n (tP t n (k + 1 + 1)) = j at hb hlt4 ⊢
  refine ok_le ⟨by omega, by omega⟩ ⟨by omega, by omega⟩ (fun q => ?_) (fun q => ?_)
  · rw [if_neg (show ¬ j < 0 by omega)]
    have hc : 6 * y + x < 54 := by omega
    have hz := a11 _ hc
    obtain ⟨b1, b2⟩ := bar_i (z := w.1 (226 + (6 * y + x))) (j := j) hz (by omega)
    obtain ⟨hh, nb, ρ, h9, e1, -⟩ := id h2.2.2.2.2.1.2.2
    have hba : cR s2 210 o = some (hh 9) := by rw [← e1]; exact h9.1.2.1.2.2.2.2.1
    obtain ⟨u1, u2, u3, u4⟩ := Uwx.ba (v := w.1 (226 + (6 * y + x)) + (1 + j)) h2 hc hba
    refine ok_gRs hR2.1.1 rfl o1 ?_
    rw [nn_eq]
    refine ok_gRs o2 rfl hba ?_
    rw [nn_eq]
    refine ok_lI u2 (by omega) (by omega) (by omega) ?_
    rw [Int.toNat_natCast, u4 _ hc]
    unfold brA
    cases hbit : (if decide (j = 1) = true then decide (2 ≤ w.1 (226 + (6 * y + x))) else decide (w.1 (226 + (6 * y + x)) % 2 = 1)) with
    | true =>
      rw [hbit] at b1
      rw [if_pos (show shr32 (i32 (w.1 (226 + (6 * y + x)))) (i32 j) &&& i32 1 = i32 1 from of_decide_eq_true b1), if_pos rfl]
      exact ok_twz (kd := 3) p2 h2.2.2.2.1 hR2.1.1 hR2.2.2.2.1
    | false =>
      rw [hbit] at b1
      rw [if_neg (show ¬ shr32 (i32 (w.1 (226 + (6 * y + x)))) (i32 j) &&& i32 1 = i32 1 from of_decide_eq_false b1), if_neg (show ¬ (false = true) by decide)]
      refine ok_b (ok_nextk hn hT h2.2.1.k hR2) fun s3 h3 => ?_
      have c3 := (Pc.nx h2.1 (hlt4 q) h3.1)
      have h3' := h2.b c3.1 h3.2 h3.1.k6
      obtain ⟨hh, nb, ρ, h9, e1, -⟩ := id h3'.2.2.2.2.1.2.2
      have hba : cR s3 210 o = some (hh 9) := by rw [← e1]; exact h9.1.2.1.2.2.2.2.1
      obtain ⟨u1, u2, u3, u4⟩ := Uwx.ba (v := w.1 (226 + (6 * y + x)) + (1 + j)) h3' hc hba
      obtain ⟨o1, o2, o3, o4, o5, o6⟩ := h3'.ob
      refine ok_gRs h3.2.1.1 rfl o1 ?_
      rw [nn_eq]
      refine ok_gRs o2 rfl hba ?_
      rw [nn_eq]
      refine ok_lI u2 (by omega) (by omega) (by omega) (ok_tI u2 (by omega) (by omega) (by omega) ?_)
      have b3 := b2 hbit
      rw [show (1 : Int32) = i32 1 from rfl] at b3
      rw [Int.toNat_natCast, u4 _ hc, b3]
      have fm : Fm [hh 9] s3 (uA s3 (hh 9) (6 * y + x) (i32 (w.1 (226 + (6 * y + x)) + (1 + j)))) := Fm.uA h3'.1
      have p3 := (p2.tr (c3.z h2.2.2.2.1)).al 0 (fm.z (r := r) (z0 := z0) (by intro a ha; rw [List.mem_singleton.mp ha]; exact u3) h3'.2.2.2.1) (Nat.le_refl _) (Nat.le_refl _)
      refine ok_s ⟨p3.1, ⟨(), rfl, u1⟩, (h3'.m fm (by intro a ha; rw [List.mem_singleton.mp ha]; exact u3) u1).2.2.1, p3.le (Nat.zero_le _)⟩
  · rw [if_pos q]
    exact ok_twz (kd := 1) p2 h2.2.2.2.1 hR2.1.1 hR2.2.2.2.1
end LO
