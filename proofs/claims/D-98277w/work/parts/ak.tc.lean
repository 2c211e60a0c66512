/-! LAYER 2: town: the component -/
set_option maxRecDepth 100000
def S00 (S : Nat → Nat → Int) : Nat → Nat → Int := fun j k => if j = 0 then 0 else S j k
section TC
variable {g : Nat → Nat} {ρ ρ' : Nat → Nat × Nat} {W : Nat → Int} {S S' : Nat → Nat → Int} {V m m' Tp Tp' : Nat → Int} {RC : Nat → List (Nat × Int)} {s s' z0s : CS} {n nf : Nat} {st : Nat → Option Nat}
/-- a mark wiped -/
theorem Bs.cl (h : Bs g ρ S m s) {k : Nat} (hk : k < 4) (h67 : ¬ g 6 = g 7) : Bs g ρ S (upM m (2 + k) 0) (uQ s (g 7) k none) := by
  have hs : ∀ j, j < 21 → sl (uQ s (g 7) k none) g j = if j = k + 1 then none else sl s g j := fun j hj => by
    unfold sl
    by_cases q0 : j = 0
    · rw [if_pos q0, if_neg (by omega), if_pos q0]
    · rw [if_neg q0, if_neg q0]
      by_cases q5 : j < 5
      · rw [if_pos q5, if_pos q5, rd_uQ]
        by_cases q : j = k + 1
        · rw [if_pos ⟨rfl, by omega⟩, if_pos q]
        · rw [if_neg (fun z => by omega), if_neg q]
      · rw [if_neg q5, if_neg q5, rd_uQ, if_neg (fun z => h67 z.1), if_neg (by omega)]
  have ha : ∀ j, j < 21 → act (upM m (2 + k) 0) j → ¬ j = k + 1 ∧ act m j := fun j hj a => by
    rcases a with a | ⟨a1, a2, a3⟩ | ⟨a1, a2⟩
    · exact ⟨by omega, .inl a⟩
    · by_cases q : j = k + 1
      · rw [show upM m (2 + k) 0 (1 + j) = 0 from if_pos (by omega)] at a3
        omega
      · rw [show upM m (2 + k) 0 (1 + j) = m (1 + j) from if_neg (by omega)] at a3
        exact ⟨q, .inr (.inl ⟨a1, a2, a3⟩)⟩
    · rw [show upM m (2 + k) 0 1 = m 1 from if_neg (by omega)] at a2
      exact ⟨by omega, .inr (.inr ⟨a1, a2⟩)⟩
  have fv : ∀ o, Fvv ρ ρ s (uQ s (g 7) k none) o := fun o => Fvv.uQ
  refine ⟨fun j hj => ⟨fun a => ?_, fun o ho => ?_⟩, fun i j o hi hj e1 e2 => ?_, fun j a1 a2 a3 => ?_⟩
  · obtain ⟨q1, q2⟩ := ha j hj a
    rw [hs j hj, if_neg q1]
    exact (h.1 j hj).1 q2
  · rw [hs j hj] at ho
    by_cases q : j = k + 1
    · rw [if_pos q] at ho
      cases ho
    · rw [if_neg q] at ho
      obtain ⟨k0, k1⟩ := (h.1 j hj).2 o ho
      refine ⟨k0.v (fv o), fun a => ?_⟩
      obtain ⟨q1, q2⟩ := ha j hj a
      obtain ⟨k2, k3⟩ := k1 q2
      exact ⟨k2.v k0 (fv o), fun q => (k3 q).v k0 (fv o)⟩
  · rw [hs i hi] at e1
    rw [hs j hj] at e2
    by_cases q : i = k + 1
    · rw [if_pos q] at e1; cases e1
    · by_cases q2 : j = k + 1
      · rw [if_pos q2] at e2; cases e2
      · rw [if_neg q] at e1
        rw [if_neg q2] at e2
        exact h.2.1 i j o hi hj e1 e2
  · rw [hs j (by omega)]
    by_cases q : j = k + 1
    · rw [if_pos q]
    · rw [if_neg q]
      rw [show upM m (2 + k) 0 (1 + j) = m (1 + j) from if_neg (by omega)] at a3
      exact h.2.2 j a1 a2 a3
theorem Bs.ac (h : Bs g ρ S m s) (ha : ∀ j, j < 21 → act m' j → act m j) (hk : ∀ j, 1 ≤ j → j < 5 → m' (1 + j) = 0 → m (1 + j) = 0) : Bs g ρ S m' s := h.r (fun j => j) (fun _ h => h) (fun _ _ _ _ h => h) (fun _ _ => rfl) (fun _ _ => rfl) (fun _ _ _ _ => ⟨rfl, fun _ _ _ => rfl, fun _ => rfl, fun _ _ _ _ _ _ _ _ => ⟨rfl, rfl, rfl⟩⟩) ha (fun _ _ _ _ _ => rfl) hk
theorem B.mm (b : B g ρ W S V m Tp RC s) (h0 : m' 0 = m 0) (h1 : m' 1 = m 1) (hs : Bs g ρ S m' s) : B g ρ W S V m' Tp RC s := by
  obtain ⟨b1, b2, b3, b4, b5, b6, b7, b8, b9⟩ := b
  exact ⟨b1, b2, b3, b4, b5, b6, by rw [h0, h1]; exact b7, by rw [h0]; exact b8, hs⟩
/-- all marks wiped -/
theorem tc_49 : ∀ (d nn k : Nat) (s : CS) (m : Nat → Int), k + d = 4 → d < nn → B g ρ W S V m Tp RC s → Hp z0s ρ s → (∀ j, j < k → m (2 + j) = 0) → Ok (FX0_town_b49 st nf nn (g 0) (i32 (k : Int)) s) fun p => p.1 = i32 0 ∧ cz p.2 = cz s ∧ cl p.2 = cl s ∧ Hp z0s ρ p.2 ∧ ∃ m', m' 0 = m 0 ∧ m' 1 = m 1 ∧ (∀ j, j < 4 → m' (2 + j) = 0) ∧ B g ρ W S V m' Tp RC p.2 := by
  intro d
  induction d with
  | zero =>
    intro nn k s m h1 h2 b hp hk
    obtain ⟨nn, rfl⟩ : ∃ q, nn = q + 1 := ⟨nn - 1, by omega⟩
    rw [show FX0_town_b49 st nf (nn + 1) = FX0_town_b49_s st nf (FX0_town_b49 st nf nn) from rfl]
    unfold FX0_town_b49_s
    rw [show (4 : Int32) = i32 4 from rfl]
    exact ok_le ⟨by omega, by omega⟩ ⟨by omega, by omega⟩ (fun _ => ok_s ⟨rfl, rfl, rfl, hp, m, rfl, rfl, fun j hj => hk j (by omega), b⟩) (fun z => by omega)
  | succ d ih =>
    intro nn k s m h1 h2 b hp hk
    obtain ⟨nn, rfl⟩ : ∃ q, nn = q + 1 := ⟨nn - 1, by omega⟩
    have q7 : cR s 27 (g 0) = some (g 7) := (b.2.1 15 _ rfl).1
    have k7 : s.1 (g 7) = some (true, 105, 4) := (b.2.1 15 _ rfl).2.1
    have k6 : s.1 (g 6) = some (true, 105, 16) := (b.2.1 5 _ rfl).2.1
    have h67 : ¬ g 6 = g 7 := fun z => by rw [z, k7] at k6; cases k6
    rw [show FX0_town_b49 st nf (nn + 1) = FX0_town_b49_s st nf (FX0_town_b49 st nf nn) from rfl]
    unfold FX0_town_b49_s
    rw [show (4 : Int32) = i32 4 from rfl]
    refine ok_le ⟨by omega, by omega⟩ ⟨by omega, by omega⟩ (fun z => by omega) (fun _ => ?_)
    refine ok_gRs b.1 rfl q7 ?_
    rw [nn_eq]
    refine ok_tR k7 (by omega) (by omega) (by omega) ?_
    rw [Int.toNat_natCast, show (1 : Int32) = i32 1 from rfl, i32_add, show (k : Int) + 1 = ((k + 1 : Nat) : Int) by omega]
    have fx : Fx ρ ρ s (uQ s (g 7) k none) := fun a w c n e => ⟨e, rfl, fun _ _ => rfl, fun _ => rfl, fun _ => rfl, fun q => if_neg (fun z => by rw [z, k7] at e; cases e; exact q rfl)⟩
    have b2 : B g ρ W S V (upM m (2 + k) 0) Tp RC (uQ s (g 7) k none) := b.w fx (by rw [show upM m (2 + k) 0 0 = m 0 from if_neg (by omega), show upM m (2 + k) 0 1 = m 1 from if_neg (by omega)]; exact b.2.2.2.2.2.2.1) (fun j hj => by rw [show upM m (2 + k) 0 0 = m 0 from if_neg (by omega)] at hj; exact b.2.2.2.2.2.2.2.1 j hj) (b.2.2.2.2.2.2.2.2.cl (by omega) h67)
    have hp2 : Hp z0s ρ (uQ s (g 7) k none) := hp.e fx rfl rfl fun _ _ => rfl
    refine ok_w (ih nn (k + 1) _ _ (by omega) (by omega) b2 hp2 (fun j hj => ?_)) fun p hp => ?_
    · by_cases q : j = k
      · exact if_pos (by omega)
      · rw [show upM m (2 + k) 0 (2 + j) = m (2 + j) from if_neg (by omega)]
        exact hk j (by omega)
    · obtain ⟨p1, p2, p3, p4, m', e0, e1, e2, e3⟩ := hp
      exact ⟨p1, p2, p3, p4, m', e0.trans (if_neg (by omega)), e1.trans (if_neg (by omega)), e2, e3⟩
theorem ok_townC (hn : 2000 ≤ nf) (b : B g ρ W S V m Tp RC s) (hp : Hp z0s ρ s) (hm : m 0 = (n : Int)) (hT : TO Tp n) (hK : Kst st s) (h3 : ∃ p, st 3 = some p) : Ok (FX0_town st nf (g 0) s) fun p => ((cz p.2 ≤ cz s + 20 + 16 * n ∧ cl p.2 ≤ cl s + 240 + 64 * n) ∧ cz s ≤ cz p.2 ∧ cl s ≤ cl p.2) ∧ match twX Tp n with
    | .inl e => p.1 = i32 e ∧ ∃ ρ', B g ρ' W S V (upM m 0 0) Tp RC p.2 ∧ Hp z0s ρ' p.2
    | .inr (w, _) => p.1 = i32 0 ∧ ∃ g' ρ', g' 0 = g 0 ∧ B g' ρ' w.1 (S00 S) (upW V 0 0) (fun _ => 0) Tp (fun r => w.2.2.2.getD r []) p.2 ∧ Hp z0s ρ' p.2 := by
  have b1 := b.1
  unfold FX0_town
  refine ok_mz (ok_gd b1 rfl (ok_b (ok_reads hn b hp hm hT hK) fun s1 h1 => ?_)) fun z hz => hz.1.2
  obtain ⟨hR, h6, b', hp', hK', ez, el⟩ := h1
  have k4 : s1.1 (g 4) = some (true, 1, 0) := hR.1.1
  have q4 : cR s1 1 (g 0) = some (g 4) := (b'.2.1 1 _ rfl).1
  refine ok_gRs b'.1 rfl q4 ?_
  rw [nn_eq]
  refine ok_thrH (ok_ctown (ρ0 := ρ) hn hT h3 hp'.1 hK' hR h6 hp'.2.2.1) (fun q s2 h2 => ?_) (fun a s2 h2 => ?_)
  · obtain ⟨g1, g2, g3⟩ := h2
    have g2 : cz s2 ≤ cz s1 + 16 + 16 * n ∧ cl s2 ≤ cl s1 + 208 + 64 * n := g2
    have g1 : Pt0 (g 4) s1 s2 := g1
    have g12 : cz s1 ≤ cz s2 ∧ cl s1 ≤ cl s2 := g1.2.2
    cases hx : twX Tp n with
    | inr y =>
      rw [hx] at g3
      obtain ⟨o, h, nb, ρ', z, -⟩ := g3
      exact absurd z (fun z => by cases z)
    | inl e =>
      rw [hx] at g3
      obtain ⟨q', e1, e2, e3⟩ := g3
      cases e1
      rw [gI_t e2, e3]
      refine ok_s ⟨⟨⟨by show cz s2 ≤ _; omega, by show cl s2 ≤ _; omega⟩, by show cz s ≤ cz s2; omega, by show cl s ≤ cl s2; omega⟩, rfl, ρ, b'.pt g1 hp'.1 (fun _ _ => rfl) k4, hp'.pt (s' := s2) g1 (fun _ _ => rfl) (fun a ha => hp'.2.2.1 a (by omega)) (fun a ha => by rw [hp'.2.2.1 a ha]; decide) k4⟩
  · obtain ⟨g1, g2, g3⟩ := h2
    have g2 : cz s2 ≤ cz s1 + 16 + 16 * n ∧ cl s2 ≤ cl s1 + 208 + 64 * n := g2
    have g1 : Pt0 (g 4) s1 s2 := g1
    have g12 : cz s1 ≤ cz s2 ∧ cl s1 ≤ cl s2 := g1.2.2
    cases hx : twX Tp n with
    | inl e =>
      rw [hx] at g3
      obtain ⟨q', e1, -⟩ := g3
      cases e1
    | inr y =>
      obtain ⟨w, kk⟩ := y
      rw [hx] at g3
      obtain ⟨o, h, nb, ρ2, e1, hU, e2, hρ, hρ2⟩ := g3
      have e1 : a = some o := by cases e1; rfl
      subst e1
      subst e2
      have hU : Uwn (cz s1) h nb ρ2 w s2 := hU
      have hI := twX_g hx
      have b2 := b'.pt g1 hp'.1 hρ k4
      have hp2 : Hp z0s ρ2 s2 := hp'.pt g1 hρ hU.2.2.2.2.2.2.2 (fun a ha => by have := hρ2 a ha; omega) k4
      refine ok_pR b2.1 rfl ?_
      have b3 := b2.t2 hp2.1 hU hI.2.2.1 ⟨hI.2.2.2.1, hI.2.2.2.2.1⟩
      have hp3 := hp2.uR (f := 2) (v := some (h 1)) b2.1
      have z3 : cz (uR s2 2 (g 0) (some (h 1))) = cz s2 ∧ cl (uR s2 2 (g 0) (some (h 1))) = cl s2 := ⟨rfl, rfl⟩
      generalize uR s2 2 (g 0) (some (h 1)) = s3 at *
      unfold nwO
      refine ok_b (ok_7 hp3.1) fun s12 h12 => ?_
      obtain ⟨w0, w1, w2, w3, w4, w5⟩ := h12
      have P12 : Pt0 (g 4) s3 s12 := Pt0.x w1 w2 (by omega) (by omega)
      have k43 : s3.1 (g 4) = some (true, 1, 0) := (b3.2.1 1 _ rfl).2.1
      obtain ⟨ρ3, eρ⟩ : ∃ ρ3 : Nat → Nat × Nat, ρ3 = fun a => if a = cz s3 then (2, 0) else if a = cz s3 + 1 then (13, 0) else if a = cz s3 + 2 then (14, 0) else ρ2 a := ⟨_, rfl⟩
      have r0 : ρ3 (cz s3) = (2, 0) := by rw [eρ]; exact if_pos rfl
      have r1 : ρ3 (cz s3 + 1) = (13, 0) := by rw [eρ]; show (if cz s3 + 1 = cz s3 then (2, 0) else if cz s3 + 1 = cz s3 + 1 then (13, 0) else _) = ((13, 0) : Nat × Nat); rw [if_neg (by omega), if_pos rfl]
      have r2 : ρ3 (cz s3 + 2) = (14, 0) := by rw [eρ]; show (if cz s3 + 2 = cz s3 then (2, 0) else if cz s3 + 2 = cz s3 + 1 then (13, 0) else if cz s3 + 2 = cz s3 + 2 then (14, 0) else _) = ((14, 0) : Nat × Nat); rw [if_neg (by omega), if_neg (by omega), if_pos rfl]
      have ro : ∀ a, ¬ a = cz s3 → ¬ a = cz s3 + 1 → ¬ a = cz s3 + 2 → ρ3 a = ρ2 a := fun a z1 z2 z3 => by rw [eρ]; exact (if_neg z1).trans ((if_neg z2).trans (if_neg z3))
      have hρ3 : ∀ a, a < cz s3 → ρ3 a = ρ2 a := fun a ha => ro a (by omega) (by omega) (by omega)
      have b4 := b3.pt P12 hp3.1 hρ3 k43
      have hp4 : Hp z0s ρ3 s12 := hp3.pt P12 hρ3 (fun a ha => by rw [ro a (by omega) (by omega) (by omega)]; exact hp3.2.2.1 a (by omega)) (fun a ha => by
        by_cases z1 : a = cz s3
        · rw [z1, r0]; decide
        · by_cases z2 : a = cz s3 + 1
          · rw [z2, r1]; decide
          · by_cases z3 : a = cz s3 + 2
            · rw [z3, r2]; decide
            · rw [ro a z1 z2 z3, hp3.2.2.1 a ha]; decide) k43
      have k04 : s12.1 (g 0) = some (true, 0, 0) := b4.1
      refine ok_pR k04 rfl ?_
      have b5 := b4.t3 (V' := upW V 0 0) w5 ⟨r0, r1, r2⟩ rfl (fun j q1 q2 => by have q2 : j ≤ 2 * 0 := q2; omega)
      have hp5 := hp4.uR (f := 3) (v := some (cz s3)) k04
      have z5 : cz (uR s12 3 (g 0) (some (cz s3))) = cz s12 ∧ cl (uR s12 3 (g 0) (some (cz s3))) = cl s12 := ⟨rfl, rfl⟩
      have b5 : B (gWk (gT g h) (cz s3)) ρ3 w.1 S (upW V 0 0) (upM m 0 0) Tp (fun r => w.2.2.2.getD r []) (uR s12 3 (g 0) (some (cz s3))) := b5
      have hp5 : Hp z0s ρ3 (uR s12 3 (g 0) (some (cz s3))) := hp5
      show Ok (gR (uR s12 3 (g 0) (some (cz s3))) (g 0) [0] 4 _) _
      generalize uR s12 3 (g 0) (some (cz s3)) = s13 at *
      have q3 : cR s13 4 (g 0) = some (g 3) := (b5.2.1 4 _ rfl).1
      have k05 : s13.1 (g 0) = some (true, 0, 0) := b5.1
      refine ok_gRs k05 rfl q3 ?_
      rw [nn_eq]
      have hsl0 : sl s13 (gWk (gT g h) (cz s3)) 0 = some (g 3) := rfl
      have hSO : SO ρ3 s13 (g 3) := ((b5.2.2.2.2.2.2.2.2.1 0 (by omega)).2 (g 3) hsl0).1
      refine ok_b (ok_stbegin (by omega) hSO) fun s16 h16 => ?_
      obtain ⟨f1, f2, f3, f4⟩ := h16
      have hne : ¬ g 0 = g 3 := fun z => by
        have := hSO.1
        rw [← z, k05] at this
        cases this
      have h5i : cI s16 5 (g 0) = cI s13 5 (g 0) ∧ cI s16 7 (g 0) = cI s13 7 (g 0) := ⟨f1.2.1 _ _ (fun z => hne z.1), f1.2.1 _ _ (fun z => hne z.1)⟩
      have bs6 : Bs (gWk (gT g h) (cz s3)) ρ3 (S00 S) (upM m 0 0) s16 := b5.2.2.2.2.2.2.2.2.ob f1 (by omega) hsl0 ⟨f2, fun _ => f3⟩ (fun j hj a => .inr a) (fun j _ _ h => h) (fun j hj a => by
        funext k
        unfold S00
        by_cases q : j = 0
        · rw [if_pos q, if_pos q]
        · rw [if_neg q, if_neg q])
      have b6 : B (gWk (gT g h) (cz s3)) ρ3 w.1 (S00 S) (upW V 0 0) (upM m 0 0) Tp (fun r => w.2.2.2.getD r []) s16 := b5.w (f1.w (by omega) (by omega)) (by
        show cI s16 5 (g 0) = _ ∧ cI s16 7 (g 0) = _
        rw [h5i.1, h5i.2]
        exact b5.2.2.2.2.2.2.1) (fun k hk => by
        have hk : (k : Int) < 0 := hk
        omega) bs6
      have hp6 : Hp z0s ρ3 s16 := hp5.e (f1.w (by omega) (by omega)) f1.1 f1.2.2.2.2.2.1 fun a ha => f4 a (by omega)
      have k06 : s16.1 (g 0) = some (true, 0, 0) := b6.1
      refine ok_pI k06 rfl ?_
      have b7 : B (gWk (gT g h) (cz s3)) ρ3 w.1 (S00 S) (upW V 0 0) (upM (upM m 0 0) 1 0) Tp (fun r => w.2.2.2.getD r []) (uI s16 7 (g 0) 0) := b6.w (Fx.uI rfl) ⟨by
        show cI (uI s16 7 (g 0) 0) 5 (g 0) = _
        rw [rI_n (by decide)]
        exact b6.2.2.2.2.2.2.1.1, rI_t⟩ (fun k hk => by
        have hk : (k : Int) < 0 := hk
        omega) ((bs6.ac (m' := upM (upM m 0 0) 1 0) (fun j hj a => by
          rcases a with a | ⟨a1, a2, a3⟩ | ⟨a1, a2⟩
          · exact .inl a
          · exact .inr (.inl ⟨a1, a2, by rw [show upM (upM m 0 0) 1 0 (1 + j) = upM m 0 0 (1 + j) from if_neg (by omega)] at a3; exact a3⟩)
          · rw [show upM (upM m 0 0) 1 0 1 = 0 from if_pos rfl] at a2
            omega) (fun j q1 q2 z => by rw [show upM (upM m 0 0) 1 0 (1 + j) = upM m 0 0 (1 + j) from if_neg (by omega)] at z; exact z)).r (fun j => j) (fun _ h => h) (fun _ _ _ _ h => h) (fun _ _ => rfl) (fun _ _ => rfl) (fun j o hj ho => ⟨rfl, fun f q1 q2 => rI_n (by omega), fun _ => rfl, fun _ _ _ _ _ _ _ _ => ⟨rfl, rfl, rfl⟩⟩) (fun _ _ h => h) (fun _ _ _ _ _ => rfl) (fun _ _ _ h => h))
      have hp7 := hp6.oI (o := g 0) (f := 7) (v := 0) rfl
      have z7 : cz (uI s16 7 (g 0) 0) = cz s16 ∧ cl (uI s16 7 (g 0) 0) = cl s16 := ⟨rfl, rfl⟩
      have zf : cz s16 = cz s13 ∧ cl s16 = cl s13 := ⟨f1.2.2.2.2.2.1, f1.2.2.2.2.2.2⟩
      generalize uI s16 7 (g 0) 0 = s17 at *
      rw [show (0 : Int32) = i32 ((0 : Nat) : Int) from rfl]
      refine ok_w (tc_49 (g := gWk (gT g h) (cz s3)) 4 nf 0 s17 _ (by omega) (by omega) b7 hp7 (fun j hj => absurd hj (Nat.not_lt_zero j))) fun p hpp => ?_
      obtain ⟨p1, p2, p3, p4, m', m0, m1, m2, m3⟩ := hpp
      have em0 : m' 0 = 0 := m0
      have em1 : m' 1 = 0 := m1
      refine ⟨⟨⟨by omega, by omega⟩, by omega, by omega⟩, p1, gWk (gT g h) (cz s3), ρ3, rfl, m3.mm (m' := fun _ => 0) em0.symm em1.symm (m3.2.2.2.2.2.2.2.2.ac (fun j hj a => ?_) (fun j q1 q2 _ => ?_)), p4⟩
      · rcases a with a | ⟨a1, a2, a3⟩ | ⟨a1, a2⟩
        · exact .inl a
        · exact absurd (show (0 : Int) = 1 from a3) (by decide)
        · have a2 : (j : Int) - 5 < 0 := a2
          omega
      · have := m2 (j - 1) (by omega)
        rw [show 2 + (j - 1) = 1 + j by omega] at this
        exact this
end TC
