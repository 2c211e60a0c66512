/-! LAYER 2: parts of expressions: the component -/
set_option maxRecDepth 100000
def fcW : List (List Int) := [[111, 118, 101, 114], [111, 110], [108, 101, 102, 116], [117, 112]]
def ntW : List (List Int) := [[110, 111, 116]]
theorem wL_9 : wL 9 = joinW fcW := by decide +kernel
theorem wL_10 : wL 10 = joinW ntW := by decide +kernel
theorem fcW_n : ∀ x ∈ fcW, ∀ z ∈ x, ¬ z = 32 := by decide
theorem ntW_n : ∀ x ∈ ntW, ∀ z ∈ x, ¬ z = 32 := by decide
section PX
variable (t : Nat → Int) (n : Nat)
def p57 (pt : Nat → XO) (w k : Nat) : XO := if w = 5 then .inl (5 + 16 * (tP t n k : Int)) else if tS t n (tP t n k) = 2 then bP (nmP t n 0 9999 (tP t n k) k) fun v k1 => .inr (([(1, v)], 1), k1) else if whV fcW t n (tP t n k) < 0 then (if whV ntW t n (tP t n k) < 0 then bP (exX t n pt (k + 1)) fun A k1 => bP (ndP (isSg t n 41 (tP t n k1)) (tP t n k1) k1) fun _ k2 => .inr (A, k2) else bP (pt (k + 1)) fun A k1 => .inr ((A.1 ++ [(3, 0)], A.2 + 1), k1)) else .inr (([(2, whV fcW t n (tP t n k))], 1), k + 1)
/-- a part at depth w -/
def ptX : Nat → Nat → Nat → XO
  | 0, _, _ => .inl 0
  | d + 1, w, k => if whV fcW t n (tP t n k) < 0 ∧ whV ntW t n (tP t n k) < 0 ∧ isSg t n 40 (tP t n k) = false ∧ ¬ tS t n (tP t n k) = 2 then .inl (1 + 16 * (tP t n k : Int)) else p57 t n (ptX d (w + 1)) w k
end PX
theorem Pb.o {r o : Nat} {s s4 s8 : CS} (h : Pb r s s4) (g : Eo o s4 s8) (hz : cz s ≤ o) : Pb r s s8 := ⟨h.1.tr (Fp.x (g.x hz)), h.2.1.e g.1 g.2.1, by rw [g.2.1]; exact h.2.2.1, by rw [g.2.2.1]; exact h.2.2.2⟩
theorem Pc.o {r n u o k k2 : Nat} {t : Nat → Int} {s s4 s8 : CS} (h : Pc r t n u s k s4 k2) (g : Eo o s4 s8) (hz : cz s ≤ o) : Pc r t n u s k s8 k2 := ⟨h.1.o g hz, h.2.1, by rw [g.2.1]; exact h.2.2.1, by rw [g.2.2.1]; exact h.2.2.2⟩
theorem Rf.o {r ta n f o : Nat} {t : Nat → Int} {s s' : CS} (h : Rf s r ta t n f) (g : Eo o s s') (hr : ¬ r = o) (ht : ¬ ta = o) : Rf s' r ta t n f := by
  have hr8 := g.2.2.2 r hr
  have ht8 := g.2.2.2 ta ht
  obtain ⟨⟨j1, j2, j3, j4, j5⟩, j6, j7, j8, j9⟩ := h
  exact ⟨⟨by rw [g.1]; exact j1, by rw [g.1]; exact j2, by rw [hr8.2.1]; exact j3, by rw [hr8.1]; exact j4, fun i hi => by rw [ht8.2.2.1]; exact j5 i hi⟩, by rw [hr8.1]; exact j6, by rw [hr8.1]; exact j7, by rw [hr8.1]; exact j8, fun q => by rw [hr8.1]; exact j9 q⟩
theorem Rf.u6 {r ta n f : Nat} {t : Nat → Int} {s : CS} {v : Int32} (h : Rf s r ta t n f) : Rf (uI s 106 r v) r ta t n f := by
  obtain ⟨⟨j1, j2, j3, j4, j5⟩, j6, j7, j8, j9⟩ := h
  exact ⟨⟨j1, j2, j3, by rw [rI_n (by decide)]; exact j4, j5⟩, by rw [rI_n (by decide)]; exact j6, by rw [rI_n (by decide)]; exact j7, by rw [rI_n (by decide)]; exact j8, fun q => by rw [rI_n (by decide)]; exact j9 q⟩
theorem Pb.u6 {r : Nat} {s : CS} {v : Int32} (hF : Fh s) : Pb r s (uI s 106 r v) := ⟨Fp.uI (by omega), hF.e rfl rfl, Nat.le_refl _, Nat.le_refl _⟩
theorem Pc.u6 {r n u k k1 : Nat} {t : Nat → Int} {s s1 : CS} {v : Int32} (h : Pc r t n u s k s1 k1) : Pc r t n u s k (uI s1 106 r v) k1 := Pc.al 0 h (Pb.u6 h.1.2.1) (Nat.le_refl _) (Nat.le_refl _)
section IN
variable {s : CS}
theorem ok_18 {o : Nat} {v : Int32} (ho : s.1 o = some (true, 18, 0)) : Ok (FX18_init o v s) fun s' => Eo o s s' ∧ cI s' 1800 o = v := by
  unfold FX18_init FX17_init
  refine ok_mz (Q := fun s' => Eo o s s' ∧ cI s' 1800 o = v) ?_ fun z hz => ⟨by rw [hz.1.2.1]; exact Nat.le_refl _, by rw [hz.1.2.2.1]; exact Nat.le_refl _⟩
  exact ok_be rfl (ok_pI ho rfl (ok_s ⟨Eo.uI, rI_t⟩))
theorem ok_19 {o : Nat} {v : Int32} (ho : s.1 o = some (true, 19, 0)) : Ok (FX19_init o v s) fun s' => Eo o s s' ∧ cI s' 1900 o = v := by
  unfold FX19_init FX17_init
  refine ok_mz (Q := fun s' => Eo o s s' ∧ cI s' 1900 o = v) ?_ fun z hz => ⟨by rw [hz.1.2.1]; exact Nat.le_refl _, by rw [hz.1.2.2.1]; exact Nat.le_refl _⟩
  exact ok_be rfl (ok_pI ho rfl (ok_s ⟨Eo.uI, rI_t⟩))
theorem ok_20 {o p : Nat} (ho : s.1 o = some (true, 20, 0)) : Ok (FX20_init o p s) fun s' => Eo o s s' ∧ cR s' 2000 o = some p := by
  unfold FX20_init FX17_init
  refine ok_mz (Q := fun s' => Eo o s s' ∧ cR s' 2000 o = some p) ?_ fun z hz => ⟨by rw [hz.1.2.1]; exact Nat.le_refl _, by rw [hz.1.2.2.1]; exact Nat.le_refl _⟩
  exact ok_be rfl (ok_pR ho rfl (ok_s ⟨Eo.uR, rR_t⟩))
end IN
section PA
variable {r ta n : Nat} {t : Nat → Int} {st : Nat → Option Nat} {nf : Nat} {rc : Nat → CS → Option ((Nat ⊕ Option Nat) × CS)} {pt : Nat → XO} {s : CS}
/-- the way out of a part -/
theorem pa_156 {w : Nat} {u k k1 a : Nat} {A : XV} {s1 : CS} (hc : Pc r t n u s k s1 k1) (hR : Rf s1 r ta t n (tP t n k1)) (h6 : cI s1 106 r = i32 ((w : Int) + 1)) (hA : exAt s1 A.2 a A.1) : Ok (FX1_part_b156 st nf rc r (some a) s1) (Po (RX r (w : Int)) r ta t n u s k (.inr (A, k1))) := by
  unfold FX1_part_b156
  refine ok_gI hR.1.1 rfl (ok_pI hR.1.1 rfl (ok_s ⟨hc.u6.1, ⟨some a, rfl, ⟨a, rfl, hA.b hc.1.2.1 (Pb.u6 (r := r) hc.1.2.1)⟩, ?_⟩, hR.u6, hc.u6⟩))
  rw [rI_t, h6, show (1 : Int32) = i32 1 from rfl, i32_sub, show (w : Int) + 1 - 1 = (w : Int) by omega]
theorem pa_57 (hn : 2000 ≤ nf) (hT : TO t n) {w : Nat} (hw : w ≤ 5) (hP : w < 5 → PT st r ta t n ((w : Int) + 1) (rc r) pt) {k : Nat} (hF : Fh s) (hK : Kst st s) (hR : Rf s r ta t n (tP t n k)) (h6 : cI s 106 r = i32 (w : Int)) {s0 : Int32} {g : Bool} (hs0 : (whV ntW t n (tP t n k) < 0 → s0 = i32 0) ∧ (0 ≤ whV ntW t n (tP t n k) → s0 = i32 1)) (hg : whV fcW t n (tP t n k) < 0 → whV ntW t n (tP t n k) < 0 → ¬ tS t n (tP t n k) = 2 → g = true ∧ tP t n k < n) (hg2 : 0 ≤ whV ntW t n (tP t n k) → g = false) : Ok (FX1_part_b57 st nf rc r (i32 (whV fcW t n (tP t n k))) s0 (bi g) s) (Po (RX r (w : Int)) r ta t n 8 s k (p57 t n pt w k)) := by
  have hbx := whV_b fcW t n (tP t n k)
  have hlx : (fcW.length : Int) = 4 := rfl
  have hby := whV_b ntW t n (tP t n k)
  have hts := (tS_b (t := t) (n := n) (f := tP t n k)).1
  have hlr := hF _ _ _ _ hR.1.1
  have hlt' := hF _ _ _ _ hR.1.2.1
  unfold FX1_part_b57 p57
  refine ok_gI hR.1.1 rfl ?_
  rw [h6, show (5 : Int32) = i32 5 from rfl, show (2 : Int32) = i32 2 from rfl]
  refine ok_q ⟨by omega, by omega⟩ ⟨by omega, by omega⟩ (fun q => ?_) (fun q => ?_)
  · rw [if_pos (show w = 5 by omega)]
    exact ok_tw (kd := 5) hR.1.1 hF hR.2.2.2.1
  · rw [if_neg (show ¬ w = 5 by omega)]
    have hP := hP (by omega)
    refine ok_gI hR.1.1 rfl ?_
    rw [hR.2.2.1]
    refine ok_q ⟨by omega, by omega⟩ ⟨by omega, by omega⟩ (fun q2 => ?_) (fun q2 => ?_)
    · have q2 : tS t n (tP t n k) = 2 := by omega
      rw [if_pos q2]
      have hv := nV_b (tS_2 q2).1 (tS_2 q2).2.2 (tS_2 q2).2.1
      have enm : nmP t n 0 9999 (tP t n k) k = .inr (nV t n (tP t n k), k + 1) := by
        unfold nmP
        rw [if_pos q2, if_neg (show ¬ nV t n (tP t n k) < 0 by omega), if_pos hv.2]
      have hk1 : (uN s 18 0 1).1 (cz s) = some (true, 18, 0) := if_pos rfl
      have hx : Ex (cz s) s (uN s 18 0 1) := Ex.uN (Nat.le_refl _)
      have b2 : Pb r s (uN s 18 0 1) := Pb.x hx hF.uN (Nat.le_succ _) (Nat.le_add_right _ _)
      have hz2 : cz (uN s 18 0 1) = cz s + 1 := rfl
      have hl2 : cl (uN s 18 0 1) = cl s + 1 := rfl
      unfold nwO
      generalize uN s 18 0 1 = s2 at *
      have hR2 := hR.b hF hx
      obtain ⟨⟨v, s4⟩, e1, e2, e3⟩ := ok_number_2 (lo := 0) (hi := 9999) hn hT (hK.b hF b2) b2.2.1 hR2 ⟨by omega, by omega⟩ ⟨by omega, by omega⟩
      rw [enm] at e3
      obtain ⟨⟨aa, q3, q4⟩, q5, q6⟩ := e3
      have q3 : v = .inr aa := q3
      subst q3
      have q7 : K6 r s2 s4 := q4.2
      have q4 : aa = i32 (nV t n (tP t n k)) := q4.1
      have q5 : Rf s4 r ta t n (tP t n (k + 1)) := q5
      have q6 : Pc r t n 16 s2 k s4 (k + 1) := q6
      have c4 : Pc r t n 8 s k s4 (k + 1) := ⟨b2.tr q6.1, q6.2.1, by have := q6.2.2.1; omega, by have := q6.2.2.2; omega⟩
      have oo := q6.1.1 (cz s) (by omega)
      have ho4 : s4.1 (cz s) = some (true, 18, 0) := by rw [oo.1]; exact hk1
      rw [show (0 : Int32) = i32 0 from rfl, show (9999 : Int32) = i32 9999 from rfl]
      dsimp only
      rw [e1, enm]
      show Ok ((FX18_init (cz s) aa s4).bind fun s21 => some ((.inr (some (cz s)) : Nat ⊕ Option Nat), s21)) (Po (RX r (w : Int)) r ta t n 8 s k (.inr (([(1, nV t n (tP t n k))], 1), k + 1)))
      refine ok_b (ok_18 ho4) fun s8 h8 => ok_s ⟨c4.1.o h8.1 (Nat.le_refl _), ⟨_, rfl, ⟨cz s, rfl, .inl ⟨_, by rw [h8.1.1]; exact ho4, by rw [h8.2, q4], rfl⟩⟩, ?_⟩, q5.o h8.1 (by omega) (by omega), c4.o h8.1 (Nat.le_refl _)⟩
      rw [(h8.1.2.2.2 r (by omega)).1, q7.1, (hx r hlr).2.1]
      exact h6
    · rw [if_neg (show ¬ tS t n (tP t n k) = 2 by omega)]
      have hlt : tP t n k < n := by
        by_cases x0 : whV fcW t n (tP t n k) < 0
        · by_cases y0 : whV ntW t n (tP t n k) < 0
          · exact (hg x0 y0 (by omega)).2
          · exact whV_lt (t := t) (show 0 ≤ whV ntW t n (tP t n k) by omega)
        · exact whV_lt (t := t) (show 0 ≤ whV fcW t n (tP t n k) by omega)
      refine ok_b (ok_nextk hn hT hK hR) fun s3 h3 => ?_
      obtain ⟨hn3, hR3⟩ := h3
      have c3 : Pc r t n 16 s k s3 (k + 1) := Pc.nx hF hlt hn3
      have h63 : cI s3 106 r = i32 (w : Int) := by rw [hn3.k6]; exact h6
      rw [show (0 : Int32) = i32 0 from rfl]
      refine ok_lt ⟨by omega, by omega⟩ ⟨by omega, by omega⟩ (fun x0 => ?_) (fun x0 => ?_)
      · rw [if_pos x0]
        refine ok_gI hR3.1.1 rfl (ok_pI hR3.1.1 rfl ?_)
        rw [h63, show (1 : Int32) = i32 1 from rfl, i32_add]
        have c5 := c3.u6 (v := i32 ((w : Int) + 1))
        have hR5 := hR3.u6 (v := i32 ((w : Int) + 1))
        have h65 : cI (uI s3 106 r (i32 ((w : Int) + 1))) 106 r = i32 ((w : Int) + 1) := rI_t
        generalize uI s3 106 r (i32 ((w : Int) + 1)) = s5 at *
        have hF5 := c5.1.2.1
        have hK5 := hK.b hF c5.1
        by_cases y0 : whV ntW t n (tP t n k) < 0
        · rw [if_pos y0, hs0.1 y0, if_pos rfl]
          have E : Ok (FX1_expression st nf rc r s5) (Po (RX r ((w : Int) + 1)) r ta t n 24 s k (exX t n pt (k + 1))) := ok_w (ok_exprn hn hT hP s5 (k + 1) hF5 hK5 hR5 h65) fun p hp => Po.of c5 hp
          refine ok_thr E fun a A k1 s1 hx hc hX hR1 => ?_
          obtain ⟨⟨e, q1, q2⟩, q3⟩ := hX
          unfold FX1_part_b144
          rw [(hg x0 y0 (by omega)).1, if_neg (show ¬ bi true = (0 : Int32) by decide), show (41 : Int32) = i32 41 from rfl]
          have N : Ok (FX1_need_2 st nf r (i32 41) s1) (Po (fun a b s' => RU r s1 a b s' ∧ Pb r s1 s') r ta t n 40 s k (ndP (isSg t n 41 (tP t n k1)) (tP t n k1) k1)) := ok_w (ok_need_2 hn hT (hK.b hF hc.1) hc.1.2.1 hR1 (by omega)) fun p hp => Po.of hc hp.wp
          refine ok_thr N fun a2 _ k2 s2 hx2 hc2 hu hR2 => ?_
          rw [q1]
          exact pa_156 (hc2.le (by omega)) hR2 (by rw [hu.1.1]; exact q3) (q2.b hc.1.2.1 hu.2)
        · rw [if_neg y0, hs0.2 (by omega), if_neg (show ¬ i32 1 = i32 0 by decide), hg2 (by omega)]
          have hk1 : (uN s5 20 0 1).1 (cz s5) = some (true, 20, 0) := if_pos rfl
          have hx : Ex (cz s5) s5 (uN s5 20 0 1) := Ex.uN (Nat.le_refl _)
          have b9 : Pb r s5 (uN s5 20 0 1) := Pb.x hx hF5.uN (Nat.le_succ _) (Nat.le_add_right _ _)
          have c9 : Pc r t n 15 s k (uN s5 20 0 1) (k + 1) := Pc.al 1 (u := 15) c5 b9 (Nat.le_refl _) (show cl s5 + 1 ≤ cl s5 + 4 * 1 by omega)
          have g2101 : cR (uN s5 20 0 1) 2101 (cz s5) = none := if_pos rfl
          have g2000 : cR (uN s5 20 0 1) 2000 (cz s5) = none := if_pos rfl
          have hz9 : cz s5 < cz (uN s5 20 0 1) := Nat.lt_succ_self _
          have hr5 := hF5 _ _ _ _ hR5.1.1
          have ht5 := hF5 _ _ _ _ hR5.1.2.1
          have h69 : cI (uN s5 20 0 1) 106 r = i32 ((w : Int) + 1) := by rw [(hx r hr5).2.1]; exact h65
          unfold nwO
          generalize uN s5 20 0 1 = s9 at *
          have E : Ok (rc r s9) (Po (fun a b s' => RX r ((w : Int) + 1) a b s' ∧ Pb r s9 s') r ta t n 23 s k (pt (k + 1))) := ok_w (hP s9 (k + 1) b9.2.1 (hK5.b hF5 b9) (hR5.b hF5 hx) h69) fun p hp => Po.of c9 hp.wp
          refine ok_thr E fun a A k1 s10 hx2 hc hX hR1 => ?_
          obtain ⟨⟨⟨e, q1, q2⟩, q3⟩, hpb⟩ := hX
          subst q1
          have oo := hpb.1 (cz s5) hz9
          have ho : s10.1 (cz s5) = some (true, 20, 0) := by rw [oo.1]; exact hk1
          have o1 : cR s10 2101 (cz s5) = none := by rw [oo.2.2.1 _ (fun z => by omega)]; exact g2101
          have o0 : cR s10 2000 (cz s5) = none := by rw [oo.2.2.1 _ (fun z => by omega)]; exact g2000
          show Ok ((FX20_init (cz s5) e s10).bind fun s13 => FX1_part_b144 st nf rc r (bi false) (some (cz s5)) s13) (Po (RX r (w : Int)) r ta t n 8 s k (.inr ((A.1 ++ [(3, 0)], A.2 + 1), k1)))
          refine ok_b (ok_20 ho) fun s13 h13 => ?_
          unfold FX1_part_b144
          rw [if_pos (show bi false = (0 : Int32) from rfl)]
          have hA13 := q2.o h13.1 ho (.inl rfl) o0 o1
          exact pa_156 (A := (A.1 ++ [(3, 0)], A.2 + 1)) ((hc.o h13.1 c5.1.2.2.1).le (by omega)) (hR1.o h13.1 (by omega) (by omega)) (by rw [(h13.1.2.2.2 r (by omega)).1]; exact q3) (.inr (.inr (.inl ⟨e, A.1, by rw [h13.1.1]; exact ho, h13.2, hA13, rfl⟩)))
      · rw [if_neg (show ¬ whV fcW t n (tP t n k) < 0 by omega)]
        have hF3 := c3.1.2.1
        have hk1 : (uN s3 19 0 1).1 (cz s3) = some (true, 19, 0) := if_pos rfl
        have hx : Ex (cz s3) s3 (uN s3 19 0 1) := Ex.uN (Nat.le_refl _)
        have b9 : Pb r s3 (uN s3 19 0 1) := Pb.x hx hF3.uN (Nat.le_succ _) (Nat.le_add_right _ _)
        have c9 : Pc r t n 15 s k (uN s3 19 0 1) (k + 1) := Pc.al 1 (u := 15) c3 b9 (Nat.le_refl _) (show cl s3 + 1 ≤ cl s3 + 4 * 1 by omega)
        have hr3 := hF3 _ _ _ _ hR3.1.1
        have ht3 := hF3 _ _ _ _ hR3.1.2.1
        have hR9 := hR3.b hF3 hx
        have h69 : cI (uN s3 19 0 1) 106 r = i32 (w : Int) := by rw [(hx r hr3).2.1]; exact h63
        unfold nwO
        generalize uN s3 19 0 1 = s9 at *
        refine ok_b (ok_19 hk1) fun s16 h16 => ok_s ⟨c9.1.o h16.1 c3.1.2.2.1, ⟨_, rfl, ⟨cz s3, rfl, .inr (.inl ⟨(whV fcW t n (tP t n k)).toNat, by rw [h16.1.1]; exact hk1, ?_, by omega, ?_⟩)⟩, ?_⟩, hR9.o h16.1 (by omega) (by omega), (c9.o h16.1 c3.1.2.2.1).le (by omega)⟩
        · rw [h16.2]
          congr 1
          omega
        · show [(2, whV fcW t n (tP t n k))] = [(2, ((whV fcW t n (tP t n k)).toNat : Int))]
          rw [Int.toNat_of_nonneg x0]
        · rw [(h16.1.2.2.2 r (by omega)).1]
          exact h69
end PA
