/-! LAYER 2: town, walk: the component -/
set_option maxRecDepth 100000
theorem Pt0.tr {r : Nat} {s s1 s2 : CS} (h : Pt0 r s s1) (k : Pt0 r s1 s2) : Pt0 r s s2 := ⟨fun a ha => by
  obtain ⟨h1, h2, h3, h4, h5⟩ := h.1 a ha
  obtain ⟨k1, k2, k3, k4, k5⟩ := k.1 a (by have := h.2.2.1; omega)
  exact ⟨k1.trans h1, fun f q => (k2 f q).trans (h2 f q), fun f q => (k3 f q).trans (h3 f q), k4.trans h4, k5.trans h5⟩, k.2.1, Nat.le_trans h.2.2.1 k.2.2.1, Nat.le_trans h.2.2.2 k.2.2.2⟩
theorem Pt0.x {r : Nat} {s s' : CS} (h : Ex (cz s) s s') (hF : Fh s') (h1 : cz s ≤ cz s') (h2 : cl s ≤ cl s') : Pt0 r s s' := ⟨fun a ha => by
  obtain ⟨k1, k2, k3, k4, k5⟩ := h a ha
  exact ⟨k1, fun f _ => k2 f, fun f _ => k3 f, k4, k5⟩, hF, h1, h2⟩
theorem Sc.pt {r p : Nat} {L : List Int} {s s' : CS} (k : Sc s p L) (hF : Fh s) (h : Pt0 r s s') (hr : s.1 r = some (true, 1, 0)) : Sc s' p L := by
  obtain ⟨h1, h2, ⟨v, w, h3, h4, h5⟩, h6⟩ := k
  have e1 := h.1 p (isK_lt hF h1)
  have e2 := h.1 v (hF _ _ _ _ h4)
  have hne : ¬ p = r := fun z => by
    rw [z] at h1
    unfold isK at h1
    rw [hr] at h1
    exact absurd h1 (by decide)
  exact ⟨isK_e e1.1 h1, by rw [e1.2.1 _ (fun z => hne z.1)]; exact h2, ⟨v, w, by rw [e1.2.2.1 _ (fun z => hne z.1)]; exact h3, by rw [e2.1]; exact h4, fun j hj => by rw [e2.2.2.2.1]; exact h5 j hj⟩, h6⟩
section OT
variable {g : Nat → Nat} {ρ ρ' : Nat → Nat × Nat} {W : Nat → Int} {S S' : Nat → Nat → Int} {V m m' Tp Tp' : Nat → Int} {RC : Nat → List (Nat × Int)} {s s' z0s : CS} {n nf : Nat} {st : Nat → Option Nat}
theorem ok_reads (hn : 2000 ≤ nf) (b : B g ρ W S V m Tp RC s) (hp : Hp z0s ρ s) (hm : m 0 = (n : Int)) (hT : TO Tp n) (hK : Kst st s) : Ok (FX0_reads st nf (g 0) s) fun s' => Rf s' (g 4) (g 5) Tp n (tP Tp n 0) ∧ cI s' 106 (g 4) = i32 0 ∧ B g ρ W S V (upM m 0 0) Tp RC s' ∧ Hp z0s ρ s' ∧ Kst st s' ∧ cz s' = cz s ∧ cl s' = cl s := by
  have b1 := b.1
  obtain ⟨q4, k4, -⟩ := b.2.1 1 _ rfl
  obtain ⟨q5, k5, -⟩ := b.2.1 0 _ rfl
  have q4 : cR s 1 (g 0) = some (g 4) := q4
  have k4 : s.1 (g 4) = some (true, 1, 0) := k4
  have q5 : cR s 0 (g 0) = some (g 5) := q5
  have k5 : s.1 (g 5) = some (true, 103, 1000) := k5
  have hF := hp.1
  have hn1 := hT.1
  unfold FX0_reads
  refine ok_mz ?_ fun z hz => ⟨Nat.le_of_eq hz.2.2.2.2.2.1.symm, Nat.le_of_eq hz.2.2.2.2.2.2.symm⟩
  refine ok_gd b1 rfl (ok_gRs b1 rfl q4 (ok_gRs b1 rfl q5 (ok_gI b1 rfl ?_)))
  rw [b.2.2.2.2.2.2.1.1, hm, nn_eq, nn_eq]
  have F4 : Pt0 (g 4) s (uI (uI (uI (uR s 100 (g 4) (some (g 5))) 101 (g 4) (i32 (n : Int))) 102 (g 4) 0) 106 (g 4) 0) := ⟨fun a ha => by
    refine ⟨rfl, fun f q => ?_, fun f q => if_neg (fun z => q ⟨z.2, .inl z.1⟩), rfl, rfl⟩
    have e : ∀ (u : CS) (f' : Nat) (v : Int32), 100 ≤ f' ∧ f' ≤ 107 → cI (uI u f' (g 4) v) f a = cI u f a := fun u f' v hf' => if_neg (fun z => q ⟨z.2, by rw [z.1]; exact hf'⟩)
    rw [e _ _ _ (by omega), e _ _ _ (by omega), e _ _ _ (by omega)]
    rfl, hF.e rfl rfl, Nat.le_refl _, Nat.le_refl _⟩
  have hK4 : Kst st (uI (uI (uI (uR s 100 (g 4) (some (g 5))) 101 (g 4) (i32 (n : Int))) 102 (g 4) 0) 106 (g 4) 0) := fun i hi => by
    obtain ⟨p, u1, u2⟩ := hK i hi
    exact ⟨p, u1, u2.pt hF F4 k4⟩
  have hR4 : Rbs (uI (uI (uI (uR s 100 (g 4) (some (g 5))) 101 (g 4) (i32 (n : Int))) 102 (g 4) 0) 106 (g 4) 0) (g 4) (g 5) Tp n := ⟨k4, k5, by show cR (uR s 100 (g 4) (some (g 5))) 100 (g 4) = _; rw [rR_t], by rw [rI_n (by decide), rI_n (by decide), rI_t], fun i hi => b.2.2.2.2.2.2.2.1 i (by omega)⟩
  have h102 : cI (uI (uI (uI (uR s 100 (g 4) (some (g 5))) 101 (g 4) (i32 (n : Int))) 102 (g 4) 0) 106 (g 4) 0) 102 (g 4) = i32 ((0 : Nat) : Int) := by rw [rI_n (by decide), rI_t]; rfl
  have h106 : cI (uI (uI (uI (uR s 100 (g 4) (some (g 5))) 101 (g 4) (i32 (n : Int))) 102 (g 4) 0) 106 (g 4) 0) 106 (g 4) = i32 0 := rI_t
  have z4 : cz (uI (uI (uI (uR s 100 (g 4) (some (g 5))) 101 (g 4) (i32 (n : Int))) 102 (g 4) 0) 106 (g 4) 0) = cz s ∧ cl (uI (uI (uI (uR s 100 (g 4) (some (g 5))) 101 (g 4) (i32 (n : Int))) 102 (g 4) 0) 106 (g 4) 0) = cl s := ⟨rfl, rfl⟩
  refine ok_b (P := fun s6 => Pt0 (g 4) s s6 ∧ cz s6 = cz s ∧ cl s6 = cl s ∧ Rf s6 (g 4) (g 5) Tp n (tP Tp n 0) ∧ cI s6 106 (g 4) = i32 0) ?_ fun s6 h6 => ?_
  · unfold FX1_begin
    refine ok_mz ?_ fun z hz => ⟨Nat.le_of_eq hz.2.1.symm, Nat.le_of_eq hz.2.2.1.symm⟩
    refine ok_gd k4 rfl (ok_pR k4 rfl (ok_pI (by exact k4) rfl (ok_pI (by exact k4) rfl (ok_pI (by exact k4) rfl ?_))))
    generalize uI (uI (uI (uR s 100 (g 4) (some (g 5))) 101 (g 4) (i32 (n : Int))) 102 (g 4) 0) 106 (g 4) 0 = s4 at *
    refine ok_b (ok_next hn hT hK4 (Nat.zero_le _) hR4 h102) fun s5 h5 => ok_s ?_
    have z5 := h5.1.2.2.2.2.2
    have p5 : Pt0 (g 4) s4 s5 := ⟨fun a ha => by
      obtain ⟨x1, x2, x3, x4, x5⟩ := (h5.1.p (z := cz s4)) a ha
      exact ⟨x1, x2, fun f _ => by rw [h5.1.2.2.1], x4, x5⟩, F4.2.1.e h5.1.1 z5.1, Nat.le_of_eq z5.1.symm, Nat.le_of_eq z5.2.symm⟩
    exact ⟨F4.tr p5, z5.1.trans z4.1, z5.2.trans z4.2, h5.2, h5.1.k6.trans h106⟩
  · obtain ⟨g1, g2, g3, g4', g5⟩ := h6
    have b6 := b.pt g1 hF (fun _ _ => rfl) k4
    have hp6 : Hp z0s ρ s6 := hp.pt g1 (fun _ _ => rfl) (fun a ha => hp.2.2.1 a (by omega)) (fun a ha => by rw [hp.2.2.1 a ha]; decide) k4
    have k06 : s6.1 (g 0) = some (true, 0, 0) := b6.1
    refine ok_pI k06 rfl (ok_s ⟨?_, ?_, ?_, hp6.oI rfl, ?_, g2, g3⟩)
    · obtain ⟨⟨j1, j2, j3, j4, j5⟩, j6, j7, j8, j9⟩ := g4'
      exact ⟨⟨j1, j2, j3, by rw [rI_n (by decide)]; exact j4, j5⟩, by rw [rI_n (by decide)]; exact j6, by rw [rI_n (by decide)]; exact j7, by rw [rI_n (by decide)]; exact j8, fun q => by rw [rI_n (by decide)]; exact j9 q⟩
    · rw [rI_n (by decide)]; exact g5
    · refine b6.w (Fx.uI rfl) ⟨rI_t, by rw [rI_n (by decide)]; exact b6.2.2.2.2.2.2.1.2⟩ (fun k hk => ?_) ?_
      · have hk : (k : Int) < 0 := hk
        omega
      · refine b6.2.2.2.2.2.2.2.2.r (fun j => j) (fun _ h => h) (fun _ _ _ _ h => h) (fun _ _ => rfl) (fun _ _ => rfl) (fun j o hj ho => ⟨rfl, fun f q1 q2 => rI_n (by omega), fun _ => rfl, fun _ _ _ _ _ _ _ _ => ⟨rfl, rfl, rfl⟩⟩) (fun j hj a => ?_) (fun _ _ _ _ _ => rfl) (fun j q1 q2 h => ?_)
        · rcases a with a | ⟨a1, a2, a3⟩ | ⟨a1, a2⟩
          · exact .inl a
          · exact .inr (.inl ⟨a1, a2, by rw [show upM m 0 0 (1 + j) = m (1 + j) from if_neg (by omega)] at a3; exact a3⟩)
          · exact .inr (.inr ⟨a1, by rw [show upM m 0 0 1 = m 1 from if_neg (by omega)] at a2; exact a2⟩)
        · rw [show upM m 0 0 (1 + j) = m (1 + j) from if_neg (by omega)] at h
          exact h
    · intro i hi
      obtain ⟨p, u1, u2⟩ := hK i hi
      obtain ⟨q1, q2, ⟨v, w, q3, q4, q5⟩, q6⟩ := u2.pt hF g1 k4
      exact ⟨p, u1, q1, by rw [rI_n (by decide)]; exact q2, ⟨v, w, q3, q4, q5⟩, q6⟩
/-- the caught fault -/
theorem ok_thrH {α γ : Type} {o : Option ((Nat ⊕ α) × CS)} {Kx : Nat → CS → Option γ} {K : α → CS → Option γ} {P : (Nat ⊕ α) × CS → Prop} {Q : γ → Prop} (h : Ok o P) (h1 : ∀ q s, P (.inl q, s) → Ok (Kx q s) Q) (h2 : ∀ a s, P (.inr a, s) → Ok (K a s) Q) : Ok (thrH o Kx K) Q := by
  obtain ⟨⟨w, s'⟩, rfl, hp⟩ := h
  cases w with
  | inl q => exact h1 q s' hp
  | inr a => exact h2 a s' hp
theorem ok_walkC (hn : 2000 ≤ nf) (b : B g ρ W S V m Tp RC s) (hp : Hp z0s ρ s) (hW : TW W) (hm : m 0 = (n : Int)) (hT : TO Tp n) (hK : Kst st s) : Ok (FX0_walk st nf (g 0) s) fun p => ((cz p.2 ≤ cz s + 20 + 16 * n ∧ cl p.2 ≤ cl s + 240 + 64 * n) ∧ cz s ≤ cz p.2 ∧ cl s ≤ cl p.2) ∧ match wkX Tp n W with
    | .inl e => p.1 = i32 e ∧ ∃ ρ', B g ρ' W S V (upM m 0 0) Tp RC p.2 ∧ Hp z0s ρ' p.2
    | .inr (v, _) => p.1 = i32 0 ∧ ∃ g' ρ', g' 0 = g 0 ∧ B g' ρ' W S (fun k => if k = 0 then (v.2.1 : Int) else if k ≤ 2 * v.2.1 then v.1 k else V k) (upM m 0 0) Tp RC p.2 ∧ Hp z0s ρ' p.2 := by
  have b1 := b.1
  unfold FX0_walk
  refine ok_mz (ok_gd b1 rfl (ok_b (ok_reads hn b hp hm hT hK) fun s1 h1 => ?_)) fun z hz => hz.1.2
  obtain ⟨hR, h6, b', hp', hK', ez, el⟩ := h1
  have k4 : s1.1 (g 4) = some (true, 1, 0) := hR.1.1
  have q4 : cR s1 1 (g 0) = some (g 4) := (b'.2.1 1 _ rfl).1
  have q2 : cR s1 2 (g 0) = some (g 1) := (b'.2.1 2 _ rfl).1
  have kt : s1.1 (g 1) = some (true, 2, 0) := (b'.2.1 2 _ rfl).2.1
  refine ok_gRs b'.1 rfl q4 (ok_gRs b'.1 rfl q2 ?_)
  rw [nn_eq, nn_eq]
  have hRo : ∀ s', Fp (g 4) (cz s1) s1 s' → Ro s' W (g 1) (g 8) (g 9) := fun s' f => b'.2.2.1.y (ρ := ρ) (ρ' := ρ) (f.y hp'.1 fun _ _ => rfl) kt
  refine ok_thrH (ok_cwalk hn hT hW hp'.1 hK' hR hRo) (fun q s2 h2 => ?_) (fun a s2 h2 => ?_)
  · obtain ⟨g1, g2, g3⟩ := h2
    have g2 : cz s2 ≤ cz s1 + 4 + 16 * n ∧ cl s2 ≤ cl s1 + 36 + 64 * n := g2
    have g1 : Pt0 (g 4) s1 s2 := g1
    have g12 : cz s1 ≤ cz s2 ∧ cl s1 ≤ cl s2 := g1.2.2
    cases hx : wkX Tp n W with
    | inr y =>
      rw [hx] at g3
      exact absurd g3.1 (fun z => by cases z)
    | inl e =>
      rw [hx] at g3
      obtain ⟨q', e1, e2, e3⟩ := g3
      cases e1
      obtain ⟨wq, cq, nq, e4⟩ : ∃ wq cq nq, s2.1 q = some (wq, cq, nq) := by
        unfold isK at e2
        cases z : s2.1 q with
        | none => rw [z] at e2; cases e2
        | some x => exact ⟨x.1, x.2.1, x.2.2, rfl⟩
      rw [gI_t e2, e3]
      refine ok_s ⟨⟨⟨by show cz s2 ≤ _; omega, by show cl s2 ≤ _; omega⟩, by show cz s ≤ cz s2; omega, by show cl s ≤ cl s2; omega⟩, rfl, ρ, b'.pt g1 hp'.1 (fun _ _ => rfl) k4, hp'.pt (s' := s2) g1 (fun _ _ => rfl) (fun a ha => hp'.2.2.1 a (by omega)) (fun a ha => by rw [hp'.2.2.1 a ha]; decide) k4⟩
  · obtain ⟨g1, g2, g3⟩ := h2
    have g2 : cz s2 ≤ cz s1 + 4 + 16 * n ∧ cl s2 ≤ cl s1 + 36 + 64 * n := g2
    have g1 : Pt0 (g 4) s1 s2 := g1
    have g12 : cz s1 ≤ cz s2 ∧ cl s1 ≤ cl s2 := g1.2.2
    cases hx : wkX Tp n W with
    | inl e =>
      rw [hx] at g3
      obtain ⟨q', e1, -⟩ := g3
      cases e1
    | inr y =>
      obtain ⟨v, kk⟩ := y
      rw [hx] at g3
      obtain ⟨e1, e2⟩ := g3
      cases e1
      have e2 : Wks (cz s1) (cz s1 + 1) (cz s1 + 2) v s2 := e2
      have l0 : cz s1 < cz s2 := g1.2.1 _ _ _ _ e2.1
      have l1 : cz s1 + 1 < cz s2 := g1.2.1 _ _ _ _ e2.2.2.2.1
      have l2 : cz s1 + 2 < cz s2 := g1.2.1 _ _ _ _ e2.2.2.2.2.1
      obtain ⟨ρ2, eρ⟩ : ∃ ρ2 : Nat → Nat × Nat, ρ2 = fun a => if a = cz s1 then (2, 0) else if a = cz s1 + 1 then (13, 0) else if a = cz s1 + 2 then (14, 0) else ρ a := ⟨_, rfl⟩
      have r0 : ρ2 (cz s1) = (2, 0) := by rw [eρ]; exact if_pos rfl
      have r1 : ρ2 (cz s1 + 1) = (13, 0) := by rw [eρ]; show (if cz s1 + 1 = cz s1 then (2, 0) else if cz s1 + 1 = cz s1 + 1 then (13, 0) else _) = ((13, 0) : Nat × Nat); rw [if_neg (by omega), if_pos rfl]
      have r2 : ρ2 (cz s1 + 2) = (14, 0) := by rw [eρ]; show (if cz s1 + 2 = cz s1 then (2, 0) else if cz s1 + 2 = cz s1 + 1 then (13, 0) else if cz s1 + 2 = cz s1 + 2 then (14, 0) else _) = ((14, 0) : Nat × Nat); rw [if_neg (by omega), if_neg (by omega), if_pos rfl]
      have ro : ∀ a, ¬ a = cz s1 → ¬ a = cz s1 + 1 → ¬ a = cz s1 + 2 → ρ2 a = ρ a := fun a z1 z2 z3 => by rw [eρ]; exact (if_neg z1).trans ((if_neg z2).trans (if_neg z3))
      have hρ : ∀ a, a < cz s1 → ρ2 a = ρ a := fun a ha => ro a (by omega) (by omega) (by omega)
      have b2 := b'.pt g1 hp'.1 hρ k4
      have hp2 : Hp z0s ρ2 s2 := hp'.pt g1 hρ (fun a ha => by rw [ro a (by omega) (by omega) (by omega)]; exact hp'.2.2.1 a (by omega)) (fun a ha => by
        by_cases z1 : a = cz s1
        · rw [z1, r0]; decide
        · by_cases z2 : a = cz s1 + 1
          · rw [z2, r1]; decide
          · by_cases z3 : a = cz s1 + 2
            · rw [z3, r2]; decide
            · rw [ro a z1 z2 z3, hp'.2.2.1 a ha]; decide) k4
      refine ok_pR b2.1 rfl (ok_s ⟨⟨⟨by show cz s2 ≤ _; omega, by show cl s2 ≤ _; omega⟩, by show cz s ≤ cz s2; omega, by show cl s ≤ cl s2; omega⟩, rfl, gWk g (cz s1), ρ2, rfl, b2.t3 e2 ⟨r0, r1, r2⟩ (if_pos rfl) (fun j q1 q2 => ?_), hp2.uR b2.1⟩)
      rw [if_neg (by omega), if_pos q2]
end OT
