/-! LAYER 2: towns and walks read: the component -/
set_option maxRecDepth 100000
/-- what a town's or a walk's reading leaves as it was -/
def Pt0 (r : Nat) (s s' : CS) : Prop := (∀ a, a < cz s → s'.1 a = s.1 a ∧ (∀ f, ¬ (a = r ∧ 100 ≤ f ∧ f ≤ 107) → cI s' f a = cI s f a) ∧ (∀ f, ¬ (a = r ∧ (f = 100 ∨ f = 107)) → cR s' f a = cR s f a) ∧ cA s' a = cA s a ∧ cQ s' a = cQ s a) ∧ Fh s' ∧ cz s ≤ cz s' ∧ cl s ≤ cl s'
section CV
variable {r ta n z0 o : Nat} {t : Nat → Int} {st : Nat → Option Nat} {s s' : CS} {nf : Nat} {ρ0 : Nat → Nat × Nat} {w w' : TV} {k k' : Nat}
theorem Uwx.dim (h : Ust st r ta t n z0 o ρ0 w s k) {i : Nat} {v : Int} (hi : i < 2) : Uwx z0 r o ρ0 (upW w.1 i v, w.2) (uI s (200 + i) o (i32 v)) := by
  obtain ⟨h1, h2, h3, h4, ⟨h5, h6, hh, nb, ρ, h9, rfl, h10⟩, h7, h8⟩ := h
  have hne : ¬ r = hh 1 := fun e => by have := h9.2.2.2.2.2.1.1; omega
  have R : ∀ j, ¬ j = i → upW w.1 i v j = w.1 j := fun j z => upW_n z
  refine ⟨h5, by rw [rI_a hne]; exact h6, hh, nb, ρ, ?_, rfl, h10⟩
  obtain ⟨⟨q1, q2, q3⟩, -⟩ := id h9
  obtain ⟨r0, r1, r2, r3, r4, r5, r6, r7, r8⟩ := q2
  have hIt : ∀ f, ¬ f = 200 + i → cI (uI s (200 + i) (hh 1) (i32 v)) f (hh 1) = cI s f (hh 1) := fun f z => rI_n z
  refine h9.g (s' := uI s (200 + i) (hh 1) (i32 v)) h1 (fun _ _ => rfl) (Nat.le_refl _) ⟨rfl, rfl⟩ (fun a c m wr e q => ?_) ?_ ?_ rfl
  · refine ⟨rfl, fun f _ => rI_a (fun z => ?_), fun _ _ => rfl, rfl, rfl⟩
    rw [z, q1] at e
    cases e
    omega
  · show Ro (uI s (200 + i) (hh 1) (i32 v)) (upW w.1 i v) (hh 1) (hh 8) (hh 9)
    refine ⟨r0, ?_, ?_, r3, r4, r5, r6, fun c hc => by rw [R _ (by omega)]; exact r7 c hc, fun c hc => ?_⟩
    · rcases (show i = 0 ∨ i = 1 by omega) with rfl | rfl
      · rw [show 200 + 0 = 200 from rfl, rI_t, upW_t]
      · rw [rI_n (by decide), R 0 (by omega)]; exact r1
    · rcases (show i = 0 ∨ i = 1 by omega) with rfl | rfl
      · rw [rI_n (by decide), R 1 (by omega)]; exact r2
      · rw [show 200 + 1 = 201 from rfl, rI_t, upW_t]
    · rw [R _ (by omega)]
      rcases r8 c hc with z | ⟨z1, l, z2, z3⟩
      · exact .inl z
      · refine .inr ⟨z1, l, z2, ?_⟩
        obtain ⟨⟨lw, ln, y1⟩, y2, y3, y4⟩ := z3
        have hl : ¬ l = hh 1 := fun z => by
          rw [z, q1] at y1
          have := congrArg (fun x => x.2.1) (Option.some.inj y1)
          have : 2 = 11 + (w.1 (10 + 4 * c)).toNat := this
          omega
        exact ⟨⟨lw, ln, by rw [R _ (by omega)]; exact y1⟩, by rw [rI_a hl, R _ (by omega)]; exact y2, by rw [rI_a hl, R _ (by omega)]; exact y3, by rw [rI_a hl, R _ (by omega)]; exact y4⟩
  · obtain ⟨t1, t2, t3, t4, t5, t6⟩ := q3
    show Rt2 (uI s (200 + i) (hh 1) (i32 v)) (upW w.1 i v) w.2.1 (hh 1)
    unfold Rt2
    rw [R 2 (by omega), R 3 (by omega), R 4 (by omega), R 5 (by omega), R 6 (by omega), R 9 (by omega), hIt 202 (by omega), hIt 203 (by omega), hIt 204 (by omega), hIt 205 (by omega), hIt 206 (by omega), hIt 208 (by omega)]
    exact ⟨t1, t2, t3, t4, t5, t6⟩
/-- a town read -/
theorem ok_ctown (hn : 2000 ≤ nf) (hT : TO t n) (h3 : ∃ p, st 3 = some p) (hF : Fh s) (hK : Kst st s) (hR : Rf s r ta t n (tP t n 0)) (h6 : cI s 106 r = i32 0) (hρ : ∀ a, cz s ≤ a → ρ0 a = (0, 0)) : Ok (FX1_town st nf r s) fun p => Pt0 r s p.2 ∧ (cz p.2 ≤ cz s + 16 + 16 * n ∧ cl p.2 ≤ cl s + 208 + 64 * n) ∧ match twX t n with
    | .inl e => ∃ q, p.1 = .inl q ∧ isK p.2 q [10] = true ∧ cI p.2 1000 q = i32 e
    | .inr (w, _) => ∃ o h nb ρ, p.1 = .inr (some o) ∧ Uwn (cz s) h nb ρ w p.2 ∧ h 1 = o ∧ (∀ a, a < cz s → ρ a = ρ0 a) ∧ ∀ a, cz s ≤ a → (ρ a).1 < 100 := by
  have hrlt := hF _ _ _ _ hR.1.1
  have htlt := hF _ _ _ _ hR.1.2.1
  unfold FX1_town
  refine ok_mz (ok_gd hR.1.1 rfl ?_) fun z hz => ⟨hz.1.2.2.1, hz.1.2.2.2⟩
  unfold nwO
  refine ok_b (ok_town0 hF h3) fun s3 h => ?_
  obtain ⟨b, GL, hG, hl⟩ := h
  have hU := gi_end hG hl (ρ := ρ0) hρ
  obtain ⟨g1, g2, g3, g4, g5, g6, g7, g8⟩ := hG
  have g4' := g4.2
  have g5' := g5.2
  rw [hl] at g4' g5'
  have hx := g6 r hrlt
  have hr3 : s3.1 r = some (true, 1, 0) := by rw [hx.1]; exact hR.1.1
  refine ok_pR hr3 rfl ?_
  have hR3 := hR.b hF g6
  -- the reader's town
  obtain ⟨hh, ehh⟩ : ∃ hh : Nat → Nat, hh = fun j => if j = 1 then cz s else if j = 8 then cz s + 1 else if j = 9 then cz s + 2 else if j = 10 then cz s + 3 else if j = 11 then cz s + 5 else b := ⟨_, rfl⟩
  rw [← ehh] at hU
  have e1 : hh 1 = cz s := by rw [ehh]; rfl
  have F4 : ∀ a, a < cz s3 → (uR s3 107 r (some (cz s))).1 a = s3.1 a ∧ (∀ f, cI (uR s3 107 r (some (cz s))) f a = cI s3 f a) ∧ (∀ f, ¬ (a = r ∧ f = 107) → cR (uR s3 107 r (some (cz s))) f a = cR s3 f a) ∧ cA (uR s3 107 r (some (cz s))) a = cA s3 a ∧ cQ (uR s3 107 r (some (cz s))) a = cQ s3 a := fun a _ => ⟨rfl, fun _ => rfl, fun f q => if_neg (fun z => q ⟨z.2, z.1⟩), rfl, rfl⟩
  have h107 : cR (uR s3 107 r (some (cz s))) 107 r = some (cz s) := rR_t
  have hF4 : Fh (uR s3 107 r (some (cz s))) := g7.e rfl rfl
  have hz4 : cz (uR s3 107 r (some (cz s))) = cz s3 ∧ cl (uR s3 107 r (some (cz s))) = cl s3 := ⟨rfl, rfl⟩
  have k4 : (uR s3 107 r (some (cz s))).1 = s3.1 := rfl
  have hR4 : Rf (uR s3 107 r (some (cz s))) r ta t n (tP t n 0) := by
    obtain ⟨⟨j1, j2, j3, j4, j5⟩, j6, j7, j8, j9⟩ := hR3
    exact ⟨⟨j1, j2, by rw [rR_n (by decide)]; exact j3, j4, j5⟩, j6, j7, j8, j9⟩
  have G4 : ∀ a, a < cz s3 → ¬ a = r → Fg s3 (uR s3 107 r (some (cz s))) a := fun a ha q => by
    obtain ⟨x1, x2, x3, x4, x5⟩ := F4 a ha
    exact ⟨x1, fun f _ => x2 f, fun f _ => x3 f (fun z => q z.1), x4, x5⟩
  generalize uR s3 107 r (some (cz s)) = s4 at *
  have hr4 : s4.1 r = some (true, 1, 0) := by rw [k4]; exact hr3
  have hK3 : Kst st s3 := by
    intro i hi
    obtain ⟨p, q1, q2⟩ := hK i hi
    refine ⟨p, q1, ?_⟩
    obtain ⟨u1, u2, ⟨v, wv, u3, u4, u5⟩, u6⟩ := q2
    have e1 := g6 p (isK_lt hF u1)
    have e2 := g6 v (hF _ _ _ _ u4)
    exact ⟨isK_e e1.1 u1, by rw [e1.2.1]; exact u2, ⟨v, wv, by rw [e1.2.2.1]; exact u3, by rw [e2.1]; exact u4, fun j hj => by rw [e2.2.2.2.1]; exact u5 j hj⟩, u6⟩
  have hKz : Kz st (cz s) s4 := fun i hi => by
    obtain ⟨p, v, wv, u1, u2, u3, u4, u5, u6⟩ := (hK.z hF) i hi
    obtain ⟨q1, q2, ⟨v', wv', q3, q4, q5⟩, q6⟩ := u2
    have x1 := g6 p u3
    have x2 := g6 v u5
    have npr : ¬ p = r := fun z => by
      rw [z] at q1
      unfold isK at q1
      rw [hR.1.1] at q1
      exact absurd q1 (by decide)
    have y1 := F4 p (by omega)
    have y2 := F4 v (by omega)
    have ev : v' = v := by rw [u4] at q3; exact (Option.some.inj q3).symm
    subst ev
    exact ⟨p, v', wv, u1, ⟨isK_e (by rw [y1.1, x1.1]) q1, by rw [y1.2.1, x1.2.1]; exact q2, ⟨v', wv', by rw [y1.2.2.1 _ (fun z => npr z.1), x1.2.2.1]; exact q3, by rw [y2.1, x2.1]; exact q4, fun j hj => by rw [y2.2.2.2.1, x2.2.2.2.1]; exact q5 j hj⟩, q6⟩, u3, by rw [y1.2.2.1 _ (fun z => npr z.1), x1.2.2.1]; exact u4, u5, by rw [y2.1, x2.1]; exact u6⟩
  have hUx : Uwx (cz s) r (cz s) ρ0 (W00 1 1, 0, [], []) s4 := by
    refine ⟨h107, by rw [(F4 r (by omega)).2.1, hx.2.1]; exact h6, hh, cz s + 4, rhoT ρ0 hh, ?_, e1, fun a ha => ?_, fun a ha => ?_⟩
    · have hU3 := hU
      have go := G4 (hh 1) (by rw [e1]; omega) (by rw [e1]; omega)
      have hne : ∀ a c m wr, s3.1 a = some (wr, c, m) → ¬ c = 1 → Fg s3 s4 a := fun a c m wr e q => G4 a (g7 _ _ _ _ e) (fun z => by rw [z, hr3] at e; cases e; exact q rfl)
      obtain ⟨r0, r1, r2, r3, r4, r5, r6, r7, r8⟩ := hU.1.2.1
      have g5 := hne _ _ _ _ r5 (by omega)
      have g6 := hne _ _ _ _ r6 (by omega)
      refine hU3.g g7 (fun a ha => (F4 a ha).1) (by omega) ⟨go.2.2.1 _ (by decide), go.2.2.1 _ (by decide)⟩ (fun a c m wr e q => hne _ _ _ _ e (by omega)) ?_ (hU.1.2.2.f go) rfl
      refine ⟨isK_e go.1 r0, by rw [go.2.1 _ (by decide)]; exact r1, by rw [go.2.1 _ (by decide)]; exact r2, by rw [go.2.2.1 _ (by decide)]; exact r3, by rw [go.2.2.1 _ (by decide)]; exact r4, by rw [g5.1]; exact r5, by rw [g6.1]; exact r6, fun c hc => by rw [g6.2.2.2.1]; exact r7 c hc, fun c hc => ?_⟩
      rcases r8 c hc with z | ⟨z1, l', z2, z3⟩
      · exact .inl ⟨z.1, by rw [g5.2.2.2.2]; exact z.2⟩
      · obtain ⟨lw, ln, y1⟩ := z3.1
        exact .inr ⟨z1, l', by rw [g5.2.2.2.2]; exact z2, z3.f (hne _ _ _ _ y1 (by omega))⟩
    · have hge : ∀ j, 8 ≤ j → j < 13 → cz s ≤ hh j := hU.2.2.2.2.1
      show (if a = hh 1 then _ else if a = hh 8 then _ else if a = hh 9 then _ else if a = hh 10 then _ else if a = hh 11 then _ else ρ0 a) = _
      have h8 := hge 8 (by omega) (by omega)
      have h9 := hge 9 (by omega) (by omega)
      have h10 := hge 10 (by omega) (by omega)
      have h11 := hge 11 (by omega) (by omega)
      rw [if_neg (by omega), if_neg (by omega), if_neg (by omega), if_neg (by omega), if_neg (by omega)]
    · unfold rhoT
      rw [hρ a ha]
      (repeat' split) <;> decide
  have hS : Ust st r ta t n (cz s) (cz s) ρ0 (W00 1 1, 0, [], []) s4 0 := ⟨hF4, hKz, hR4, by omega, hUx, hrlt, htlt⟩
  have M : Ok (gR s4 r [1] 107 fun r5 => nn (st 11) fun p6 => thr (FX1_number st nf r p6 1 6 s4) fun v8 s7 => nn r5 fun p9 => pI s7 p9 [2] 200 v8 fun s10 => gR s10 r [1] 107 fun r11 => thr (FX1_number_2 st nf r 1 9 s10) fun v13 s12 => nn r11 fun p14 => pI s12 p14 [2] 201 v13 fun s15 => thr (FX1_need_2 st nf r 59 s15) fun _ s16 => FX1_town_b47 st nf nf r s16) (Poz (RTW (cz s) r (cz s) ρ0) r ta t n (cz s) 0 s4 0 (twX t n)) := by
    have hn1 := hT.1
    obtain ⟨o1, o2, o3, o4, o5, o6⟩ := hS.ob
    refine ok_gRs hr4 rfl o1 ?_
    obtain ⟨pw, q1, q2⟩ := hS.2.1.k 1 (by omega)
    rw [wL_s.1] at q2
    unfold twX
    rw [show st 11 = some pw from q1, nn_eq, show (1 : Int32) = i32 1 from rfl, show (6 : Int32) = i32 6 from rfl, show (9 : Int32) = i32 9 from rfl, show (59 : Int32) = i32 59 from rfl]
    refine ok_thz (Pcz.rf hF4) hS.2.2.2.1 (x := nwP t n twnW 1 6 0) (ok_number hn hT hS.2.1.k hF4 hR4 q2 wW_n.1 (by decide) ⟨by omega, by omega⟩ ⟨by omega, by omega⟩) fun a av k1 s7 hx1 gp1 p1 hN hR7 => ?_
    obtain ⟨n1, n2, rfl, n3, n4⟩ := nwP_i hx1
    obtain ⟨hN, hK6⟩ := hN
    subst hN
    have h7 := hS.b gp1 hR7 hK6.1
    obtain ⟨o1, o2, o3, o4, o5, o6⟩ := h7.ob
    rw [nn_eq]
    refine ok_pI o2 rfl ?_
    have fm : Fm [cz s] s7 (uI s7 (200 + 0) (cz s) (i32 av)) := Fm.uI h7.1
    have hl1 : ∀ a ∈ [cz s], cz s ≤ a := fun a ha => by rw [List.mem_singleton.mp ha]; exact Nat.le_refl _
    have h10 := h7.m fm hl1 (Uwx.dim h7 (i := 0) (v := av) (by omega))
    have p10 := p1.al 0 (fm.z (r := r) (z0 := cz s) hl1 h7.2.2.2.1) (Nat.le_refl _) (Nat.le_refl _)
    show Ok (gR (uI s7 (200 + 0) (cz s) (i32 av)) r [1] 107 _) _
    generalize uI s7 (200 + 0) (cz s) (i32 av) = s10 at *
    obtain ⟨o1, o2, o3, o4, o5, o6⟩ := h10.ob
    refine ok_gRs h10.2.2.1.1.1 rfl o1 ?_
    refine ok_thz p10 h10.2.2.2.1 (ok_number_2 hn hT h10.2.1.k h10.1 h10.2.2.1 ⟨by omega, by omega⟩ ⟨by omega, by omega⟩) fun a bv k2 s12 hx2 gp2 p12 hN hR12 => ?_
    obtain ⟨x1, x2, x3, x4, rfl⟩ := nmP_v hx2
    obtain ⟨hN, hK6⟩ := hN
    subst hN
    have h12 := h10.b gp2 hR12 hK6.1
    obtain ⟨o1, o2, o3, o4, o5, o6⟩ := h12.ob
    rw [nn_eq]
    refine ok_pI o2 rfl ?_
    have fm : Fm [cz s] s12 (uI s12 (200 + 1) (cz s) (i32 bv)) := Fm.uI h12.1
    have h15 := h12.m fm hl1 (Uwx.dim h12 (i := 1) (v := bv) (by omega))
    have p15 := p12.al 0 (fm.z (r := r) (z0 := cz s) hl1 h12.2.2.2.1) (Nat.le_refl _) (Nat.le_refl _)
    show Ok (thr (FX1_need_2 st nf r (i32 59) (uI s12 (200 + 1) (cz s) (i32 bv))) _) _
    generalize uI s12 (200 + 1) (cz s) (i32 bv) = s15 at *
    have eW : upW (upW (W00 1 1) 0 av) 1 bv = W00 av bv := by
      funext j
      unfold upW W00
      by_cases q1 : j = 1
      · rw [if_pos q1, if_neg (show ¬ j = 0 by omega), if_pos q1]
      · rw [if_neg q1]
        by_cases q0 : j = 0
        · rw [if_pos q0, if_pos q0]
        · rw [if_neg q0, if_neg q0, if_neg q1, if_neg q0, if_neg q1]
    have h15 : Ust st r ta t n (cz s) (cz s) ρ0 (W00 av bv, 0, [], []) s15 (0 + 2 + 1) := by rw [← eW]; exact h15
    refine ok_thz p15 h15.2.2.2.1 (ok_need_2 hn hT h15.2.1.k h15.1 h15.2.2.1 (by omega)) fun a bb k3 s16 hx3 gp3 p16 hN hR16 => ?_
    obtain ⟨hd1, rfl⟩ := ndP_i hx3
    have h16 := h15.b gp3 hR16 hN.1
    have hb := (tP_b (t := t) (n := n) (0 + 2 + 1 + 1)).1
    exact ok_w (tl_47 hn hT h3 1001 nf s16 (0 + 2 + 1 + 1) _ (by omega) (by omega) h16 (W00_g ⟨n3, n4⟩ ⟨x3, x4⟩ _)) fun p hp => (Poz.of p16 hp).le (Nat.zero_le _)
  refine ok_w M fun p hp => ?_
  obtain ⟨⟨f1, f2, f3, f4⟩, hp⟩ := hp
  have hP : Pt0 r s p.2 := by
    refine ⟨fun a ha => ?_, f2, by omega, by omega⟩
    obtain ⟨x1, x2, x3, x4, x5⟩ := g6 a ha
    obtain ⟨y1, y2, y3, y4, y5⟩ := F4 a (by omega)
    obtain ⟨z1, z2, z3, z4, z5⟩ := f1 a ha
    exact ⟨z1.trans (y1.trans x1), fun f q => (z2 f q).trans ((y2 f).trans (x2 f)), fun f q => (z3 f (fun z => q ⟨z.1, .inl z.2⟩)).trans ((y3 f (fun z => q ⟨z.1, .inr z.2⟩)).trans (x3 f)), z4.trans (y4.trans x4), z5.trans (y5.trans x5)⟩
  have hn0 : n - tP t n 0 ≤ n := Nat.sub_le _ _
  cases hx2 : twX t n with
  | inl e =>
    rw [hx2] at hp
    obtain ⟨hp1, hp2, hp3⟩ := hp
    exact ⟨hP, ⟨by omega, by omega⟩, hp1⟩
  | inr y =>
    obtain ⟨w, k⟩ := y
    rw [hx2] at hp
    obtain ⟨⟨a, q1, q2, q3, q4, h', nb', ρ', q5, q6, q7⟩, hp2, hp3⟩ := hp
    have hp3 : Pcz r t n (cz s) 0 s4 0 p.2 k := hp3
    exact ⟨hP, ⟨by have := hp3.2.2.1; omega, by have := hp3.2.2.2; omega⟩, cz s, h', nb', ρ', by rw [q1, q2], q5, q6, q7⟩
end CV
