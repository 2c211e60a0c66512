/-! LAYER 2: a line of a rule: the component -/
set_option maxRecDepth 100000
section CR
variable {r ta n z0 o : Nat} {t : Nat → Int} {st : Nat → Option Nat} {s s' : CS} {nf : Nat} {ρ0 : Nat → Nat × Nat} {w w' : TV} {k k' : Nat}
theorem ruP_f : ruP t n w k = bP (frP t n w.2.2.1 k) fun nm k1 => bP (exX t n (ptX t n 6 0) k1) fun A k2 => .inr (ruS w nm A.1, k2) := by
  unfold ruP frP
  by_cases q : ¬ (tS t n (tP t n k) = 1 ∧ whV kpW t n (tP t n k) < 0)
  · rw [if_pos q, if_pos q]
    rfl
  · rw [if_neg q, if_neg q]
    by_cases q2 : wrd t n (tP t n k) ∈ w.2.2.1
    · rw [if_pos q2, if_pos q2]
      rfl
    · rw [if_neg q2, if_neg q2]
      rfl
theorem Eab.g {a b : Nat} (h : Eab a b s s') {c : Nat} (hc : c < cz s) (h1 : ¬ c = a) (h2 : ¬ c = b) : Fg s s' c := by
  obtain ⟨e1, e2, e3, e4⟩ := h.1 c hc
  exact ⟨e1, fun f _ => (e2 h1).1 f, fun f _ => (e2 h1).2 f, e3, e4 h2⟩
theorem Eab.m {a b : Nat} (h : Eab a b s s') : Fm [a, b] s s' := ⟨fun c hc => by
  obtain ⟨e1, e2, e3, e4⟩ := h.1 c hc
  refine ⟨e1, fun q => ?_⟩
  have h1 : ¬ c = a := fun z => q (by rw [z]; simp)
  have h2 : ¬ c = b := fun z => q (by rw [z]; simp)
  exact ⟨(e2 h1).1, (e2 h1).2, e3, e4 h2⟩, h.2.1, h.2.2.1, h.2.2.2.2.1⟩
/-- the Ruled object -/
theorem ok_16 {l e : Nat} (hF : Fh s) (hl : s.1 l = some (true, 16, 0)) : Ok (FX16_init l e s) fun s' => Fm [l] s s' ∧ (∀ f, cI s' f l = cI s f l) ∧ cR s' 1601 l = some (cz s) ∧ cR s' 1600 l = some e ∧ s'.1 (cz s) = some (true, 100, 4) ∧ cz s' = cz s + 1 ∧ cl s' = cl s + 4 := by
  have hlt := hF _ _ _ _ hl
  unfold FX16_init
  refine mz_ok (ok_be (by rfl) ?_)
  unfold nwA
  rw [show (4 : Int32) = i32 ((4 : Nat) : Int) from rfl, if_pos (i32_inb_t (by omega) (by omega) (by omega)), i32_clamp (by omega) ⟨by omega, by omega⟩, Int.toNat_natCast]
  have hx : Ex (cz s) s (uN s 100 4 4) := Ex.uN (Nat.le_refl _)
  have hk : (uN s 100 4 4).1 (cz s) = some (true, 100, 4) := if_pos rfl
  have hz : cz (uN s 100 4 4) = cz s + 1 := rfl
  have hc : cl (uN s 100 4 4) = cl s + 4 := rfl
  have hFN : Fh (uN s 100 4 4) := hF.uN
  dsimp only
  generalize uN s 100 4 4 = s3 at *
  obtain ⟨x1, x2, x3, x4, x5⟩ := hx l hlt
  have hl3 : s3.1 l = some (true, 16, 0) := by rw [x1]; exact hl
  refine ok_pR hl3 rfl (ok_pR (by exact hl3) rfl (ok_s ⟨⟨by show cz s ≤ cz s3; omega, by show cl s ≤ cl s3; omega⟩, ⟨fun a ha => ?_, hFN.e rfl rfl, by show cz s ≤ cz s3; omega, by show cl s ≤ cl s3; omega⟩, x2, ?_, rR_t, hk, hz, hc⟩))
  · obtain ⟨y1, y2, y3, y4, y5⟩ := hx a ha
    refine ⟨y1, fun q => ?_⟩
    have hne : ¬ a = l := fun z => q (by rw [z]; simp)
    exact ⟨y2, fun f => by rw [rR_a hne, rR_a hne]; exact y3 f, y4, y5⟩
  · rw [rR_n (by decide), rR_t]
/-- name and goer laid in their lists -/
theorem ru_end (hW : TW w.1) (h3 : ∃ p, st 3 = some p) {hh : Nat → Nat} {nb : Nat} {ρ : Nat → Nat × Nat} {l e p : Nat} {nm : List Int} {L : List (Nat × Int)} (hF : Fh s) (h9 : Uwn z0 hh nb ρ w s) (hz : z0 ≤ cz s) (hlen : w.2.2.1.length = w.2.2.2.length ∧ w.2.2.1.length < 4) (hl : s.1 l = some (true, 16, 0)) (hlz : z0 ≤ l) (hoA : oA ρ s l 1601 100 4 29) (he : cR s 1600 l = some e) (hE : exAt s 550 e L) (hp : s.1 p = some (true, 23, 0)) (hSc : Sc s p nm) (hr : s.1 r = some (true, 1, 0)) (h107 : cR s 107 r = some (hh 1)) : Ok (bd2 (FJ2_add st (hh 11) l s) fun v14 s13 => gR s13 r [1] 107 fun r15 => nn r15 fun p16 => gR s13 p16 [2] 211 fun r17 => nn r17 fun p18 => nn (some p) fun p19 => bd2 (FJ2_add st p18 p19 s13) fun v21 s20 => some ((.inr () : Nat ⊕ Unit), s20)) fun q => q.1 = .inr () ∧ (∀ a, a < cz s → q.2.1 a = s.1 a) ∧ Fh q.2 ∧ cz s ≤ cz q.2 ∧ cz q.2 ≤ cz s + 2 ∧ cl s ≤ cl q.2 ∧ cl q.2 ≤ cl s + 32 ∧ (∃ l4, (∀ a ∈ l4, z0 ≤ a) ∧ Fm l4 s q.2) ∧ ∃ hh' nb', Uwn z0 hh' nb' ρ (ruS w nm L) q.2 ∧ hh' 1 = hh 1 := by
  obtain ⟨⟨a1, a2, a3⟩, ⟨NL, b1, b2, b3, b4, b5⟩, ⟨c1, GL, c2, c3, c4⟩, d1, d2, d3, d4, d5⟩ := h9
  have hF1 := hF
  obtain ⟨lg1, lg2, lg3⟩ := c2.lt hF
  obtain ⟨ln1, ln2, ln3⟩ := b3.lt hF
  obtain ⟨mg, hmg, -⟩ := c2.2.2.1
  obtain ⟨mn, hmn, -⟩ := b3.2.2.1
  have hlo := hF _ _ _ _ a1
  have hll := hF _ _ _ _ hl
  have hlp := hF _ _ _ _ hp
  have ngb : ¬ hh 11 = nb := fun z => by have := c2.1; rw [z, hmn] at this; cases this
  have nga : ¬ hh 10 = hh 12 := fun z => by have := b3.1; rw [z, hmg] at this; cases this
  refine ok_2 (ok_add c2 hF (isK_o hl rfl) (by omega) h3) fun v s13 h13 => ?_
  obtain ⟨gb', g1, g2, g3⟩ := h13
  have g1 : Lsr s13 (hh 11) gb' (GL ++ [l]) := g1
  have g2 : Eab (hh 11) (hh 12) s s13 := g2
  have hF13 := g2.2.1
  have hz13 := g2.2.2.1
  have k13 : ∀ a, a < cz s → s13.1 a = s.1 a := fun a ha => (g2.1 a ha).1
  have b13 : Lsr s13 (hh 10) nb NL := b3.f hF (g2.g ln1 d1.1 nga) (g2.g ln2 (fun z => ngb z.symm) d1.2) k13
  have hp13 : s13.1 p = some (true, 23, 0) := by rw [k13 p hlp]; exact hp
  have gr := g2.g (hF _ _ _ _ hr) (fun z => by rw [z, c2.1] at hr; cases hr) (fun z => by rw [z, hmg] at hr; cases hr)
  have go13 := g2.g hlo (fun z => by rw [z, c2.1] at a1; cases a1) (fun z => by rw [z, hmg] at a1; cases a1)
  refine ok_gRs (by rw [gr.1]; exact hr) rfl (by rw [gr.2.2.1 _ (by decide)]; exact h107) ?_
  rw [nn_eq]
  refine ok_gRs (by rw [go13.1]; exact a1) rfl (by rw [go13.2.2.1 _ (by decide)]; exact b2) ?_
  rw [nn_eq, nn_eq]
  refine ok_2 (ok_add b13 hF13 (isK_o hp13 rfl) (by omega) h3) fun v2 s20 h20 => ?_
  obtain ⟨nb', n1, n2, n3⟩ := h20
  have n1 : Lsr s20 (hh 10) nb' (NL ++ [p]) := n1
  have n2 : Eab (hh 10) nb s13 s20 := n2
  have hF20 := n2.2.1
  have k20 : ∀ a, a < cz s → s20.1 a = s.1 a := fun a ha => ((n2.1 a (by omega)).1).trans (k13 a ha)
  have G : ∀ a, a < cz s → ¬ a = hh 11 → ¬ a = hh 12 → ¬ a = hh 10 → ¬ a = nb → Fg s s20 a := fun a ha q1 q2 q3 q4 => by
    obtain ⟨x1, x2, x3, x4, x5⟩ := g2.g ha q1 q2
    obtain ⟨y1, y2, y3, y4, y5⟩ := n2.g (c := a) (by omega) q3 q4
    exact ⟨y1.trans x1, fun f q => (y2 f q).trans (x2 f q), fun f q => (y3 f q).trans (x3 f q), y4.trans x4, y5.trans x5⟩
  have Gk : ∀ a c m wr, s.1 a = some (wr, c, m) → ¬ c = 22 → ¬ c = 106 → Fg s s20 a := fun a c m wr e q1 q2 => G a (hF _ _ _ _ e) (fun z => by rw [z, c2.1] at e; cases e; omega) (fun z => by rw [z, hmg] at e; cases e; omega) (fun z => by rw [z, b3.1] at e; cases e; omega) (fun z => by rw [z, hmn] at e; cases e; omega)
  have gb'n : ¬ gb' = nb := by
    rcases g3 with z | z
    · rw [z]; exact fun y => d1.2 y.symm
    · omega
  have lgb' := (g1.lt hF13).2.1
  have gb'10 : ¬ gb' = hh 10 := fun z => by
    obtain ⟨m, hm, -⟩ := g1.2.2.1
    have := b13.1
    rw [← z, hm] at this
    cases this
  have L20 : Lsr s20 (hh 11) gb' (GL ++ [l]) := g1.f hF13 (n2.g (by omega) (fun z => d1.1 z.symm) ngb) (n2.g lgb' gb'10 gb'n) fun a ha => (n2.1 a ha).1
  have go := Gk _ _ _ _ a1 (by omega) (by omega)
  have hlen1 : (ruS w nm L).2.2.1.length = w.2.2.1.length + 1 := by
    show (w.2.2.1 ++ [nm]).length = _
    rw [List.length_append]
    rfl
  have hlen2 : (ruS w nm L).2.2.2.length = w.2.2.2.length + 1 := by
    show (w.2.2.2 ++ [L]).length = _
    rw [List.length_append]
    rfl
  have RW : ∀ i, ¬ i = 8 → i < 280 → (ruS w nm L).1 i = w.1 i := fun i q1 q2 => (upW_n q1).trans (upW_n (by omega))
  have hzb : z0 ≤ nb' ∧ z0 ≤ gb' := by
    have := d2 12 (by omega) (by omega)
    rcases n3 with z | z <;> rcases g3 with y | y <;> omega
  refine ok_s ⟨rfl, k20, hF20, ?_, ?_, ?_, ?_, ⟨[hh 11, hh 12, hh 10, nb], fun a ha => ?_, fun a ha => ⟨k20 a ha, fun q => ?_⟩, hF20, ?_, ?_⟩, fun j => if j = 12 then gb' else hh j, nb', ⟨⟨?_, ?_, ?_⟩, ⟨NL ++ [p], ?_, ?_, n1, ?_, fun i hi => ?_⟩, ⟨?_, GL ++ [l], L20, ?_, fun i hi => ?_⟩, ⟨d1.1, ?_⟩, fun j q1 q2 => ?_, ⟨d3.1, hzb.1⟩, d4, fun a ha => d5 a ?_⟩, rfl⟩
  · have := n2.2.2.1; show cz s ≤ cz s20; omega
  · have := n2.2.2.2.1; have := g2.2.2.2.1; show cz s20 ≤ _; omega
  · have := n2.2.2.2.2.1; have := g2.2.2.2.2.1; show cl s ≤ cl s20; omega
  · have := n2.2.2.2.2.2; have := g2.2.2.2.2.2; show cl s20 ≤ _; omega
  · simp at ha
    rcases ha with rfl | rfl | rfl | rfl
    · exact d2 11 (by omega) (by omega)
    · exact d2 12 (by omega) (by omega)
    · exact d2 10 (by omega) (by omega)
    · exact d3.2
  · have q1 : ¬ a = hh 11 := fun z => q (by rw [z]; simp)
    have q2 : ¬ a = hh 12 := fun z => q (by rw [z]; simp)
    have q3 : ¬ a = hh 10 := fun z => q (by rw [z]; simp)
    have q4 : ¬ a = nb := fun z => q (by rw [z]; simp)
    obtain ⟨x1, x2, x3, x4⟩ := g2.1 a ha
    obtain ⟨y1, y2, y3, y4⟩ := n2.1 a (by omega)
    exact ⟨fun f => ((y2 q3).1 f).trans ((x2 q1).1 f), fun f => ((y2 q3).2 f).trans ((x2 q1).2 f), y3.trans x3, (y4 q4).trans (x4 q2)⟩
  · have := n2.2.2.1; show cz s ≤ cz s20; omega
  · have := n2.2.2.2.2.1; have := g2.2.2.2.2.1; show cl s ≤ cl s20; omega
  · show s20.1 (hh 1) = _
    rw [k20 _ hlo]; exact a1
  · obtain ⟨r0, r1, r2, r3, r4, r5, r6, r7, r8⟩ := a2
    have g5 := Gk _ _ _ _ r5 (by omega) (by omega)
    have g6 := Gk _ _ _ _ r6 (by omega) (by omega)
    show Ro s20 (ruS w nm L).1 (hh 1) (hh 8) (hh 9)
    refine ⟨isK_e go.1 r0, by rw [go.2.1 _ (by decide), RW 0 (by omega) (by omega)]; exact r1, by rw [go.2.1 _ (by decide), RW 1 (by omega) (by omega)]; exact r2, by rw [go.2.2.1 _ (by decide)]; exact r3, by rw [go.2.2.1 _ (by decide)]; exact r4, by rw [g5.1]; exact r5, by rw [g6.1]; exact r6, fun c hc => by rw [g6.2.2.2.1, RW _ (by omega) (by omega)]; exact r7 c hc, fun c hc => ?_⟩
    rw [RW _ (by omega) (by omega)]
    rcases r8 c hc with z | ⟨z1, l', z2, ⟨⟨lw, ln, y1⟩, y2, y3, y4⟩⟩
    · exact .inl ⟨z.1, by rw [g5.2.2.2.2]; exact z.2⟩
    · refine .inr ⟨z1, l', by rw [g5.2.2.2.2]; exact z2, ?_⟩
      by_cases hq : 11 + (w.1 (10 + 4 * c)).toNat = 22 ∨ 11 + (w.1 (10 + 4 * c)).toNat = 106
      · have := (hW.2.2.2.2.2.2.2.2.2.2.1 c hc).1
        omega
      · have gl := Gk _ _ _ _ y1 (by omega) (by omega)
        exact ⟨⟨lw, ln, by rw [gl.1, RW _ (by omega) (by omega)]; exact y1⟩, by rw [gl.2.1 _ (by decide), RW _ (by omega) (by omega)]; exact y2, by rw [gl.2.1 _ (by decide), RW _ (by omega) (by omega)]; exact y3, by rw [gl.2.1 _ (by decide), RW _ (by omega) (by omega)]; exact y4⟩
  · obtain ⟨t1, t2, t3, t4, t5, t6⟩ := a3
    show Rt2 s20 (ruS w nm L).1 w.2.1 (hh 1)
    unfold Rt2
    rw [RW 2 (by omega) (by omega), RW 3 (by omega) (by omega), RW 4 (by omega) (by omega), RW 5 (by omega) (by omega), RW 6 (by omega) (by omega), RW 9 (by omega) (by omega), go.2.1 202 (by decide), go.2.1 203 (by decide), go.2.1 204 (by decide), go.2.1 205 (by decide), go.2.1 206 (by decide), go.2.1 208 (by decide)]
    exact ⟨t1, t2, t3, t4, t5, t6⟩
  · show s20.1 (hh 1) = _
    rw [k20 _ hlo]; exact a1
  · show cR s20 211 (hh 1) = some (hh 10)
    rw [go.2.2.1 _ (by decide)]; exact b2
  · rw [hlen1, List.length_append, b4]
    rfl
  · rw [hlen1] at hi
    have hScs : ∀ q M, Sc s q M → Sc s20 q M := fun q M ⟨q1, q2, ⟨v, wv, q3, q4, q5⟩, q6⟩ => by
      have gp : Fg s s20 q := by
        unfold isK at q1
        cases ee : s.1 q with
        | none => rw [ee] at q1; cases q1
        | some x =>
          obtain ⟨xw, xc, xn⟩ := x
          rw [ee] at q1
          have q1 : [23, 25].contains xc = true := q1
          simp at q1
          exact Gk _ _ _ _ ee (by omega) (by omega)
      have gv := Gk _ _ _ _ q4 (by omega) (by omega)
      exact ⟨isK_e gp.1 q1, by rw [gp.2.1 _ (by decide)]; exact q2, ⟨v, wv, by rw [gp.2.2.1 _ (by decide)]; exact q3, by rw [gv.1]; exact q4, fun j hj => by rw [gv.2.2.2.1]; exact q5 j hj⟩, q6⟩
    show Sc s20 ((NL ++ [p]).getD i 0) ((w.2.2.1 ++ [nm]).getD i [])
    rw [List.getD_eq_getElem?_getD, List.getD_eq_getElem?_getD]
    by_cases q : i = w.2.2.1.length
    · rw [q, List.getElem?_append_right (by omega), List.getElem?_append_right (Nat.le_refl _), b4, Nat.sub_self]
      exact hScs _ _ hSc
    · rw [List.getElem?_append_left (by omega), List.getElem?_append_left (by omega), ← List.getD_eq_getElem?_getD, ← List.getD_eq_getElem?_getD]
      exact hScs _ _ (b5 i (by omega))
  · show cR s20 212 (hh 1) = some (hh 11)
    rw [go.2.2.1 _ (by decide)]; exact c1
  · rw [hlen2, List.length_append, c3]
    rfl
  · rw [List.length_append] at hi
    have hi : i < GL.length + 1 := hi
    have K : ∀ j x, Gob ρ (ruS w nm L).2.2.2 s j x → Gob ρ (ruS w nm L).2.2.2 s20 j x := fun j x g => g.f hF (fun a c m e q => Gk _ _ _ _ e (by omega) (by omega)) (fun a v e _ => Gk _ _ _ _ e (by omega) (by omega)) k20 fun _ _ => rfl
    refine K _ _ ?_
    rw [List.getD_eq_getElem?_getD]
    show Gob ρ (w.2.2.2 ++ [L]) s i _
    by_cases q : i = GL.length
    · rw [q, List.getElem?_append_right (Nat.le_refl _), Nat.sub_self]
      refine ⟨fun z => by omega, fun z => by omega, fun z => by omega, fun z => by omega, fun _ => ⟨hl, hoA, e, he, ?_⟩⟩
      rw [c3, show 4 + w.2.2.2.length - 4 = w.2.2.2.length by omega, List.getD_eq_getElem?_getD, List.getElem?_append_right (Nat.le_refl _), Nat.sub_self]
      exact hE
    · rw [List.getElem?_append_left (by omega), ← List.getD_eq_getElem?_getD]
      obtain ⟨y0, y1, y2, y3, y4⟩ := c4 i (by omega)
      refine ⟨y0, y1, y2, y3, fun z => ?_⟩
      obtain ⟨u1, u2, ex, u3, u4⟩ := y4 z
      refine ⟨u1, u2, ex, u3, ?_⟩
      rw [List.getD_eq_getElem?_getD, List.getElem?_append_left (by omega), ← List.getD_eq_getElem?_getD]
      exact u4
  · show ¬ nb' = gb'
    rcases n3 with z | z
    · rw [z]; exact fun y => gb'n y.symm
    · omega
  · show z0 ≤ if j = 12 then gb' else hh j
    by_cases q : j = 12
    · rw [if_pos q]; exact hzb.2
    · rw [if_neg q]; exact d2 j q1 q2
  · have := n2.2.2.1
    have ha : cz s20 ≤ a := ha
    omega
theorem ok_rule (hn : 2000 ≤ nf) (hT : TO t n) (h3 : ∃ p, st 3 = some p) (h : Ust st r ta t n z0 o ρ0 w s k) (hW : TW w.1) (hlen : w.2.2.1.length = w.2.2.2.length ∧ w.2.2.1.length < 4) : Ok (FX1_rule st nf r s) (Poz (RLN z0 r o ρ0) r ta t n z0 0 s k (ruP t n w k)) := by
  have hn1 := hT.1
  obtain ⟨hh0, nb0, ρa, h90, e10, -⟩ := id h.2.2.2.2.1.2.2
  obtain ⟨NL0, hN0⟩ := h90.2.1
  have hr := h.2.2.1.1.1
  rw [ruP_f]
  unfold FX1_rule
  refine Poz.mz (ok_gd hr rfl ?_)
  rw [e10] at hN0
  refine ok_thz (Pcz.rf h.1) h.2.2.2.1 (ok_fresh hn hT h.1 h.2.1.k h.2.2.1 h.2.2.2.2.1.1 hN0 (by omega)) fun a nm k1 s1 hx1 g1 p1 hN hR1 => ?_
  obtain ⟨⟨p, e1, hp1, hSc1, hpz⟩, hK6⟩ := hN
  subst e1
  have h1 := h.b g1 hR1 hK6.1
  obtain ⟨o1, o2, o3, o4, o5, o6⟩ := h1.ob
  obtain ⟨hh1, nb1, ρ1, h91, e11, -⟩ := id h1.2.2.2.2.1.2.2
  refine ok_gRs hR1.1.1 rfl o1 ?_
  rw [nn_eq]
  refine ok_gRs o2 rfl (by rw [← e11]; exact h91.2.2.1.1) ?_
  have hx : Ex (cz s1) s1 (uN s1 16 0 2) := Ex.uN (Nat.le_refl _)
  have hk : (uN s1 16 0 2).1 (cz s1) = some (true, 16, 0) := if_pos rfl
  have hkR : ∀ f, cR (uN s1 16 0 2) f (cz s1) = none := fun f => if_pos rfl
  have hz7 : cz (uN s1 16 0 2) = cz s1 + 1 := rfl
  have hl7 : cl (uN s1 16 0 2) = cl s1 + 2 := rfl
  have hF7 : Fh (uN s1 16 0 2) := h1.1.uN
  unfold nwO
  dsimp only
  generalize uN s1 16 0 2 = s7 at *
  have b7 : Pb r s1 s7 := Pb.x hx hF7 (by omega) (by omega)
  have hrlt := h1.1 _ _ _ _ hR1.1.1
  have hR7 := hR1.b h1.1 hx
  have h7 := h1.b b7 hR7 ((hx r hrlt).2.1 106)
  have p7 : Pcz r t n z0 9 s k s7 k1 := p1.al 1 (b7.z h1.2.2.2.1) (by omega) (by omega)
  have hgaz : ∀ S, Ust st r ta t n z0 o ρ0 w S k1 → True := fun _ _ => trivial
  refine ok_thz p7 h7.2.2.2.1 (ok_expr hn hT s7 k1 h7.1 h7.2.1.k hR7 h7.2.2.2.2.1.2.1) fun a8 A k2 s8 hx2 g8 p8 hX hR8 => ?_
  obtain ⟨⟨e, e2, hE⟩, h106⟩ := hX
  subst e2
  have h8 := h7.b g8 hR8 (by rw [h106, h7.2.2.2.2.1.2.1])
  have hl8 : s8.1 (cz s1) = some (true, 16, 0) := by rw [(g8.g (by omega)).1]; exact hk
  have hp8 : s8.1 p = some (true, 23, 0) := by
    have := h1.1 _ _ _ _ hp1
    rw [(g8.g (by omega)).1, (hx p this).1]
    exact hp1
  have hSc8 : Sc s8 p nm := (hSc1.b h1.1 b7).b h7.1 g8
  rw [nn_eq]
  refine ok_b (ok_16 h8.1 hl8) fun s11 h11 => ?_
  obtain ⟨f1, f2, f3, f4, f5, f6, f7⟩ := h11
  have hlne : ∀ a v, s8.1 a = some (true, 16, 0) → cR s8 1601 a = some v → ¬ a = cz s1 := fun a v _ e2 z => by
    rw [z, (g8.g (by omega)).2.2.1 _ (by decide), hkR] at e2
    cases e2
  have hlz : z0 ≤ cz s1 := h1.2.2.2.1
  have hl1 : ∀ a ∈ [cz s1], z0 ≤ a := fun a ha => by rw [List.mem_singleton.mp ha]; exact hlz
  have Gf : ∀ a, a < cz s8 → ¬ a = cz s1 → Fg s8 s11 a := fun a ha q => f1.g ha (fun z => q (List.mem_singleton.mp z))
  have Gc : ∀ a c m wr, s8.1 a = some (wr, c, m) → ¬ c = 16 → Fg s8 s11 a := fun a c m wr e q => Gf a (h8.1 _ _ _ _ e) (fun z => by rw [z, hl8] at e; cases e; exact q rfl)
  obtain ⟨hh8, nb8, ρ8, h98, e18, hρ8⟩ := id h8.2.2.2.2.1.2.2
  obtain ⟨o81, o82, o83, o84, o85, o86⟩ := h8.ob
  have go := Gc _ _ _ _ o82 (by omega)
  have hU11 : Uwn z0 hh8 nb8 (fun a => if a = cz s8 then (29, cz s1) else ρ8 a) w s11 := by
    have ho8 : s8.1 (hh8 1) = some (true, 2, 0) := by rw [e18]; exact o82
    have go8 := Gc _ _ _ _ ho8 (by omega)
    refine h98.g' h8.1 (fun a ha => (f1.1 a ha).1) f1.2.2.1 ⟨go8.2.2.1 _ (by decide), go8.2.2.1 _ (by decide)⟩ (fun a c m wr e q => Gc _ _ _ _ e (by omega)) (fun a v e1 e2 => Gf a (h8.1 _ _ _ _ e1) (hlne a v e1 e2)) (fun a ha => if_neg (by omega)) (fun a ha => ?_) ?_ ?_ rfl
    · show (if a = cz s8 then _ else ρ8 a) = _
      rw [if_neg (by omega)]
      exact h98.2.2.2.2.2.2.2 a (by omega)
    · obtain ⟨r0, r1, r2, r3, r4, r5, r6, r7, r8⟩ := h98.1.2.1
      have g5 := Gc _ _ _ _ r5 (by omega)
      have g6 := Gc _ _ _ _ r6 (by omega)
      refine ⟨isK_e go8.1 r0, by rw [go8.2.1 _ (by decide)]; exact r1, by rw [go8.2.1 _ (by decide)]; exact r2, by rw [go8.2.2.1 _ (by decide)]; exact r3, by rw [go8.2.2.1 _ (by decide)]; exact r4, by rw [g5.1]; exact r5, by rw [g6.1]; exact r6, fun c hc => by rw [g6.2.2.2.1]; exact r7 c hc, fun c hc => ?_⟩
      rcases r8 c hc with z | ⟨z1, l', z2, z3⟩
      · exact .inl ⟨z.1, by rw [g5.2.2.2.2]; exact z.2⟩
      · refine .inr ⟨z1, l', by rw [g5.2.2.2.2]; exact z2, z3.f ?_⟩
        obtain ⟨lw, ln, y1⟩ := z3.1
        have := (hW.2.2.2.2.2.2.2.2.2.2.1 c hc).1
        exact Gc _ _ _ _ y1 (by omega)
    · exact h98.1.2.2.f go8
  have hoA : oA (fun a => if a = cz s8 then (29, cz s1) else ρ8 a) s11 (cz s1) 1601 100 4 29 := by
    have ea : av s11 1601 (cz s1) = cz s8 := by unfold av; rw [f3]; rfl
    unfold oA
    rw [ea]
    exact ⟨f3, f5, if_pos rfl⟩
  obtain ⟨x1, x2, x3⟩ := exX_b hx2
  have hpk2 := (tP_b (t := t) (n := n) k2).1
  have hE11 : exAt s11 550 e A.1 := exAt.le _ 550 _ _ (by omega) (exAt.g (fun a c m ee q => Gc _ _ _ _ ee (by omega)) _ _ _ hE)
  have hSc11 : Sc s11 p nm := by
    obtain ⟨q1, q2, ⟨v, wv, q3, q4, q5⟩, q6⟩ := hSc8
    have gp := Gc _ _ _ _ hp8 (by omega)
    have gv := Gc _ _ _ _ q4 (by omega)
    exact ⟨isK_e gp.1 q1, by rw [gp.2.1 _ (by decide)]; exact q2, ⟨v, wv, by rw [gp.2.2.1 _ (by decide)]; exact q3, by rw [gv.1]; exact q4, fun j hj => by rw [gv.2.2.2.1]; exact q5 j hj⟩, q6⟩
  have hp11 : s11.1 p = some (true, 23, 0) := by rw [(Gc _ _ _ _ hp8 (by omega)).1]; exact hp8
  have hl11 : s11.1 (cz s1) = some (true, 16, 0) := by rw [(f1.1 _ (h8.1 _ _ _ _ hl8)).1]; exact hl8
  have hR11 := hR8.m h8.1 f1 (fun z => by have := hl1 _ z; have := h8.2.2.2.2.2.1; omega) (fun z => by have := hl1 _ z; have := h8.2.2.2.2.2.2; omega)
  have p11 : Pcz r t n z0 16 s k s11 k2 := (p8.le (show 17 ≤ 9 + 8 by omega)).al 1 (f1.z (r := r) (z0 := z0) hl1 h8.2.2.2.1) (by omega) (by omega)
  have hr11 := hR11.1.1
  have h107 : cR s11 107 r = some (hh8 1) := by
    have hne : ¬ r = cz s1 := by omega
    rw [(Gf r (by have := h8.1 _ _ _ _ hR8.1.1; omega) hne).2.2.1 _ (by decide), e18]
    exact o81
  have h6' : cI s11 106 r = i32 0 := by
    have hne : ¬ r ∈ [cz s1] := fun z => by have := List.mem_singleton.mp z; omega
    rw [((f1.1 r (h8.1 _ _ _ _ hR8.1.1)).2 hne).1]
    exact h106
  have e11' : hh1 11 = hh8 11 := by
    have q1 : cR s8 212 o = some (hh8 11) := by rw [← e18]; exact h98.2.2.1.1
    have q2 : cR s8 212 o = some (hh1 11) := by
      rw [(g8.g (by omega)).2.2.1 _ (by decide), (hx o o4).2.2.1, ← e11]
      exact h91.2.2.1.1
    rw [q1] at q2
    exact (Option.some.inj q2).symm
  rw [nn_eq, e11']
  refine ok_w (ru_end (nm := nm) (L := A.1) hW h3 f1.2.1 hU11 (Nat.le_trans h8.2.2.2.1 f1.2.2.1) hlen hl11 hlz hoA f4 hE11 hp11 hSc11 hr11 h107) fun q hq => ?_
  obtain ⟨Z1, Z2, Z3, Z4, Z5, Z6, Z7, ⟨l4, Z9, Z10⟩, hh', nb', Z11, Z12⟩ := hq
  have hz11 : z0 ≤ cz s11 := Nat.le_trans h8.2.2.2.1 f1.2.2.1
  have pf : Pcz r t n z0 8 s k q.2 k2 := p11.al 8 (Z10.z (r := r) (z0 := z0) Z9 hz11) (by omega) (by omega)
  have hrn : ¬ r ∈ l4 := fun z => by have := Z9 _ z; have := h.2.2.2.2.2.1; omega
  have htn : ¬ ta ∈ l4 := fun z => by have := Z9 _ z; have := h.2.2.2.2.2.2; omega
  obtain ⟨r1, r2⟩ := Z10.1 r (f1.2.1 _ _ _ _ hr11)
  obtain ⟨r3, r4, -⟩ := r2 hrn
  refine ⟨pf.1, ⟨(), Z1, by rw [r4, ← e18]; exact h107, by rw [r3]; exact h6', hh', nb', _, Z11, Z12.trans e18, fun a ha => ?_, fun a ha => ?_⟩, hR11.m f1.2.1 Z10 hrn htn, pf.le (Nat.zero_le _)⟩
  · show (if a = cz s8 then _ else ρ8 a) = _
    have := h8.2.2.2.1
    rw [if_neg (by omega)]
    exact hρ8.1 a ha
  · show (if a = cz s8 then ((29, cz s1) : Nat × Nat) else ρ8 a).1 < 100
    by_cases q : a = cz s8
    · rw [if_pos q]; show 29 < 100; omega
    · rw [if_neg q]
      exact hρ8.2 a ha
end CR
