/-! LAYER 2: products, sums, tests, expressions: the component, given parts -/
set_option maxRecDepth 100000
/-- the object of an expression; the reader's depth -/
def RX (r : Nat) (w : Int) (a : Option Nat) (b : XV) (s : CS) : Prop := (∃ e, a = some e ∧ exAt s b.2 e b.1) ∧ cI s 106 r = i32 w
theorem Fn.k6 {r : Nat} {s s' : CS} (h : Fn r s s') : cI s' 106 r = cI s 106 r := h.2.1 _ _ (fun z => by omega)
theorem Rf.b {s s' : CS} {r ta n f : Nat} {t : Nat → Int} (h : Rf s r ta t n f) (hF : Fh s) (hE : Ex (cz s) s s') : Rf s' r ta t n f := by
  obtain ⟨⟨h1, h2, h3, h4, h5⟩, g2, g3, g4, g5⟩ := h
  obtain ⟨e1, e2, e3, e4, e5⟩ := hE r (hF _ _ _ _ h1)
  obtain ⟨f1, f2, f3, f4, f5⟩ := hE ta (hF _ _ _ _ h2)
  exact ⟨⟨by rw [e1]; exact h1, by rw [f1]; exact h2, by rw [e3]; exact h3, by rw [e2]; exact h4, fun i hi => by rw [f4]; exact h5 i hi⟩, by rw [e2]; exact g2, by rw [e2]; exact g3, by rw [e2]; exact g4, fun q => by rw [e2]; exact g5 q⟩
theorem Pb.x {r : Nat} {s s' : CS} (hE : Ex (cz s) s s') (hF : Fh s') (h1 : cz s ≤ cz s') (h2 : cl s ≤ cl s') : Pb r s s' := ⟨Fp.x hE, hF, h1, h2⟩
section XC
variable {r ta n : Nat} {t : Nat → Int} {st : Nat → Option Nat} {s : CS} {nf : Nat} {w : Int}
/-- a parser of expressions over what is at hand -/
def PT (st : Nat → Option Nat) (r ta : Nat) (t : Nat → Int) (n : Nat) (w : Int) (F : CS → Option ((Nat ⊕ Option Nat) × CS)) (pt : Nat → XO) : Prop := ∀ s k, Fh s → Kst st s → Rf s r ta t n (tP t n k) → cI s 106 r = i32 w → Ok (F s) (Po (RX r w) r ta t n 8 s k (pt k))
theorem ok_two (hn : 2000 ≤ nf) (hT : TO t n) (hK : Kst st s) (hF : Fh s) {k : Nat} (hR : Rf s r ta t n (tP t n k)) (h6 : cI s 106 r = i32 w) (hlt : tP t n k < n) {c a : Nat} {A : XV} (hc : 4 ≤ c ∧ c ≤ 10) (hA : exAt s A.2 a A.1) {F : CS → Option ((Nat ⊕ Option Nat) × CS)} {pt : Nat → XO} (hP : PT st r ta t n w F pt) {K : Option Nat → CS → Option ((Nat ⊕ Option Nat) × CS)} {f : XV → Nat → XO} {u : Nat} (hk : ∀ B k2 o s6, Pc r t n 16 s k s6 k2 → tP t n k < tP t n k2 → RX r w (some o) (opX c A B) s6 → Rf s6 r ta t n (tP t n k2) → Ok (K (some o) s6) (Po (RX r w) r ta t n u s k (f B k2))) : Ok ((FX1_next st nf r s).bind fun s1 => nwO s1 21 3 fun o s3 => thr (F s3) fun r5 s4 => nn (some a) fun p6 => nn r5 fun p7 => (FX21_init o (i32 (wayC c)) p6 p7 s4).bind fun s8 => K (some o) s8) (Po (RX r w) r ta t n u s k (bP (pt (k + 1)) f)) := by
  refine ok_b (ok_nextk hn hT hK hR) fun s1 h1 => ?_
  obtain ⟨hn1, hR1⟩ := h1
  have c1 : Pc r t n 16 s k s1 (k + 1) := Pc.nx hF hlt hn1
  have hF1 := c1.1.2.1
  have hK1 := hK.b hF c1.1
  have hk1 : (uN s1 21 0 3).1 (cz s1) = some (true, 21, 0) := if_pos rfl
  have hx : Ex (cz s1) s1 (uN s1 21 0 3) := Ex.uN (Nat.le_refl _)
  have b2 : Pb r s1 (uN s1 21 0 3) := Pb.x hx hF1.uN (Nat.le_succ _) (Nat.le_add_right _ _)
  have c2 : Pc r t n 15 s k (uN s1 21 0 3) (k + 1) := Pc.al 1 (u := 15) c1 b2 (Nat.le_refl _) (show cl s1 + 3 ≤ cl s1 + 4 * 1 by omega)
  have hF2 := b2.2.1
  have hR2 := hR1.b hF1 hx
  have h62 : cI (uN s1 21 0 3) 106 r = i32 w := by
    rw [(hx r (hF1 _ _ _ _ hR1.1.1)).2.1, hn1.k6]
    exact h6
  have hA2 := (hA.b hF c1.1).b hF1 b2
  have hlt2 : tP t n k < tP t n (k + 1) := by
    have h2 := (tE_b (t := t) (n := n) (f := tP t n k)).1 hlt
    have h3 := run_le t n isB (tE t n (tP t n k))
    show _ < run t n isB (tE t n (tP t n k))
    omega
  unfold nwO
  have g2101 : cR (uN s1 21 0 3) 2101 (cz s1) = none := if_pos rfl
  have g2000 : cR (uN s1 21 0 3) 2000 (cz s1) = none := if_pos rfl
  have hz2 : cz s1 < cz (uN s1 21 0 3) := Nat.lt_succ_self _
  generalize uN s1 21 0 3 = s2 at *
  obtain ⟨⟨v, s4⟩, e1, e2, e3⟩ := hP s2 (k + 1) hF2 (hK1.b hF1 b2) hR2 h62
  dsimp only
  rw [e1]
  cases hx2 : pt (k + 1) with
  | inl e =>
    rw [hx2] at e3
    obtain ⟨⟨q, q1, q2, q3⟩, q4, q5⟩ := e3
    have q1 : v = .inl q := q1
    subst q1
    have L : Po (RX r w) r ta t n 0 s2 (k + 1) (.inl e) ((.inl q : Nat ⊕ Option Nat), s4) := ⟨e2, ⟨q, rfl, q2, q3⟩, q4, q5⟩
    obtain ⟨L1, L2⟩ := Po.of c2 L
    exact ok_s ⟨L1, L2⟩
  | inr y =>
    obtain ⟨B, k2⟩ := y
    rw [hx2] at e3
    obtain ⟨⟨aa, q1, ⟨b, q2, q3⟩, q4⟩, q5, q6⟩ := e3
    have q1 : v = .inr aa := q1
    subst q1
    subst q2
    have q3 : exAt s4 B.2 b B.1 := q3
    have q4 : cI s4 106 r = i32 w := q4
    have q5 : Rf s4 r ta t n (tP t n k2) := q5
    have q6 : Pc r t n 8 s2 (k + 1) s4 k2 := q6
    have e2 : Pb r s2 s4 := e2
    have hA4 := hA2.b hF2 e2
    have oo := e2.1 (cz s1) hz2
    have hr2 := hF1 _ _ _ _ hR1.1.1
    have ho4 : s4.1 (cz s1) = some (true, 21, 0) := by rw [oo.1]; exact hk1
    have o1 : cR s4 2101 (cz s1) = none := by rw [oo.2.2.1 _ (fun z => by omega)]; exact g2101
    have o0 : cR s4 2000 (cz s1) = none := by rw [oo.2.2.1 _ (fun z => by omega)]; exact g2000
    show Ok ((FX21_init (cz s1) (i32 (wayC c)) a b s4).bind fun s8 => K (some (cz s1)) s8) (Po (RX r w) r ta t n u s k (f B k2))
    refine ok_b (ok_21 hc ho4) fun s8 h8 => ?_
    obtain ⟨h8, w1, w2, w3⟩ := h8
    have hA8 := hA4.o h8 ho4 (.inr rfl) o0 o1
    have hB8 := q3.o h8 ho4 (.inr rfl) o0 o1
    have hr8 := h8.2.2.2 r (by omega)
    have hF8 : Fh s8 := e2.2.1.e h8.1 h8.2.1
    have hta := hF1 _ _ _ _ hR1.1.2.1
    have hta8 := h8.2.2.2 ta (by omega)
    have c4 : Pc r t n 16 s k s4 k2 := (c2.tr q6).le (by omega)
    refine hk B k2 (cz s1) s8 ⟨⟨?_, hF8, ?_, ?_⟩, c4.2.1, ?_, ?_⟩ ?_ ⟨⟨cz s1, rfl, ?_⟩, ?_⟩ ?_
    · exact c4.1.1.tr (Fp.x (h8.x c1.1.2.2.1))
    · rw [h8.2.1]; exact c4.1.2.2.1
    · rw [h8.2.2.1]; exact c4.1.2.2.2
    · rw [h8.2.1]; exact c4.2.2.1
    · rw [h8.2.2.1]; exact c4.2.2.2
    · exact Nat.lt_of_lt_of_le hlt2 q6.2.1
    · exact .inr (.inr (.inr ⟨a, b, A.1, B.1, c, by rw [h8.1]; exact ho4, w2, w3, hc.1, hc.2, w1, exAt.le _ _ _ _ (Nat.le_max_left _ _) hA8, exAt.le _ _ _ _ (Nat.le_max_right _ _) hB8, rfl⟩))
    · rw [hr8.1]
      exact q4
    · obtain ⟨⟨j1, j2, j3, j4, j5⟩, j6, j7, j8, j9⟩ := q5
      exact ⟨⟨by rw [h8.1]; exact j1, by rw [h8.1]; exact j2, by rw [hr8.2.1]; exact j3, by rw [hr8.1]; exact j4, fun i hi => by rw [hta8.2.2.1]; exact j5 i hi⟩, by rw [hr8.1]; exact j6, by rw [hr8.1]; exact j7, by rw [hr8.1]; exact j8, fun q => by rw [hr8.1]; exact j9 q⟩
end XC
