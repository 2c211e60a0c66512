/-! THE TWIN's object and arrays out of the component's kind of state (the constructor's end) -/
set_option maxRecDepth 100000
/-- the twin's array fields: field number, kind, length; the i-th lies at ad (i + 1) -/
def tTab : List (Nat × Nat × Nat) := [(1, 100, 1000), (4, 100, 1002), (5, 100, 1002), (6, 101, 1002), (9, 101, 22), (10, 100, 680), (11, 100, 2200), (12, 100, 2200), (14, 101, 4), (16, 100, 60), (17, 100, 4), (18, 100, 1100), (19, 100, 2520), (21, 102, 4), (23, 100, 64800), (24, 100, 64800), (31, 100, 64800), (32, 100, 64800), (36, 100, 156000), (38, 101, 240), (39, 101, 240), (40, 100, 4), (41, 100, 4), (47, 100, 54)]
def tIx : Nat → Nat
  | 1 => 1
  | 4 => 2
  | 5 => 3
  | 6 => 4
  | 9 => 5
  | 10 => 6
  | 11 => 7
  | 12 => 8
  | 14 => 9
  | 16 => 10
  | 17 => 11
  | 18 => 12
  | 19 => 13
  | 21 => 14
  | 23 => 15
  | 24 => 16
  | 31 => 17
  | 32 => 18
  | 36 => 19
  | 38 => 20
  | 39 => 21
  | 40 => 22
  | 41 => 23
  | 47 => 24
  | _ => 0
def twV (s : CS) (ad : Nat → Nat) : Prop := s.1 (ad 0) = some (true, 9, 0) ∧ (∀ i x, tTab[i]? = some x → cR s (900 + x.1) (ad 0) = some (ad (i + 1)) ∧ s.1 (ad (i + 1)) = some (true, x.2.1, x.2.2)) ∧ ∀ i j, i < 25 → j < 25 → ad i = ad j → i = j
def tau0 (s : CS) (ad : Nat → Nat) : TS := (fun k => cI s (900 + k) (ad 0), fun k => cJ s (900 + k) (ad 0), fun k => cA s (ad (tIx k)), fun k => cB s (ad (tIx k)))
theorem cE_i0 {dA : Nat → ClassId} {s : CS} {a n : Nat} : cE dA s a 100 n = .inl (dA 0, n, .inl (cA s a)) := by simp [cE, cA]
theorem cE_j0 {dA : Nat → ClassId} {s : CS} {a n : Nat} : cE dA s a 101 n = .inl (dA 1, n, .inr (.inl (cB s a))) := by simp [cE, cB]
theorem cE_z0 {dA : Nat → ClassId} {s : CS} {a n : Nat} : cE dA s a 102 n = .inl (dA 2, n, .inl (cA s a)) := by simp [cE, cA]
theorem tw_F {E : CE} {s : CS} {ad : Nat → Nat} {A : Nat → Prop} (hv : twV s ad) : cF s 9 (ad 0) = tF (E.1, vwCl, tysL E.2.2.1, A, ad, E.2.2.1) (tau0 s ad) := by
  have h1 : s.2.2.2.1 901 (ad 0) = some (ad 1) := (hv.2.1 0 _ rfl).1
  have h2 : s.2.2.2.1 904 (ad 0) = some (ad 2) := (hv.2.1 1 _ rfl).1
  have h3 : s.2.2.2.1 905 (ad 0) = some (ad 3) := (hv.2.1 2 _ rfl).1
  have h4 : s.2.2.2.1 906 (ad 0) = some (ad 4) := (hv.2.1 3 _ rfl).1
  have h5 : s.2.2.2.1 909 (ad 0) = some (ad 5) := (hv.2.1 4 _ rfl).1
  have h6 : s.2.2.2.1 910 (ad 0) = some (ad 6) := (hv.2.1 5 _ rfl).1
  have h7 : s.2.2.2.1 911 (ad 0) = some (ad 7) := (hv.2.1 6 _ rfl).1
  have h8 : s.2.2.2.1 912 (ad 0) = some (ad 8) := (hv.2.1 7 _ rfl).1
  have h9 : s.2.2.2.1 914 (ad 0) = some (ad 9) := (hv.2.1 8 _ rfl).1
  have h10 : s.2.2.2.1 916 (ad 0) = some (ad 10) := (hv.2.1 9 _ rfl).1
  have h11 : s.2.2.2.1 917 (ad 0) = some (ad 11) := (hv.2.1 10 _ rfl).1
  have h12 : s.2.2.2.1 918 (ad 0) = some (ad 12) := (hv.2.1 11 _ rfl).1
  have h13 : s.2.2.2.1 919 (ad 0) = some (ad 13) := (hv.2.1 12 _ rfl).1
  have h14 : s.2.2.2.1 921 (ad 0) = some (ad 14) := (hv.2.1 13 _ rfl).1
  have h15 : s.2.2.2.1 923 (ad 0) = some (ad 15) := (hv.2.1 14 _ rfl).1
  have h16 : s.2.2.2.1 924 (ad 0) = some (ad 16) := (hv.2.1 15 _ rfl).1
  have h17 : s.2.2.2.1 931 (ad 0) = some (ad 17) := (hv.2.1 16 _ rfl).1
  have h18 : s.2.2.2.1 932 (ad 0) = some (ad 18) := (hv.2.1 17 _ rfl).1
  have h19 : s.2.2.2.1 936 (ad 0) = some (ad 19) := (hv.2.1 18 _ rfl).1
  have h20 : s.2.2.2.1 938 (ad 0) = some (ad 20) := (hv.2.1 19 _ rfl).1
  have h21 : s.2.2.2.1 939 (ad 0) = some (ad 21) := (hv.2.1 20 _ rfl).1
  have h22 : s.2.2.2.1 940 (ad 0) = some (ad 22) := (hv.2.1 21 _ rfl).1
  have h23 : s.2.2.2.1 941 (ad 0) = some (ad 23) := (hv.2.1 22 _ rfl).1
  have h24 : s.2.2.2.1 947 (ad 0) = some (ad 24) := (hv.2.1 23 _ rfl).1
  simp only [cF, fdesc, List.map_cons, List.map_nil, fVal, tF, tau0, cI, cJ, h1, h2, h3, h4, h5, h6, h7, h8, h9, h10, h11, h12, h13, h14, h15, h16, h17, h18, h19, h20, h21, h22, h23, h24, va_rf]
theorem tw_P {E : CE} {U : State} {s : CS} {H : Heap} {ad : Nat → Nat} {A : Nat → Prop} (h : cHp E U s H) (hv : twV s ad) : va_P E.1 vwCl (Wt (E.1, vwCl, tysL E.2.2.1, A, ad, E.2.2.1) (tau0 s ad)) H := by
  intro k q hk
  have hk9 : k < 25 := (List.getElem?_eq_some_iff.mp hk).1
  rcases (show k = 0 ∨ k = 1 ∨ k = 2 ∨ k = 3 ∨ k = 4 ∨ k = 5 ∨ k = 6 ∨ k = 7 ∨ k = 8 ∨ k = 9 ∨ k = 10 ∨ k = 11 ∨ k = 12 ∨ k = 13 ∨ k = 14 ∨ k = 15 ∨ k = 16 ∨ k = 17 ∨ k = 18 ∨ k = 19 ∨ k = 20 ∨ k = 21 ∨ k = 22 ∨ k = 23 ∨ k = 24 by omega) with rfl | rfl | rfl | rfl | rfl | rfl | rfl | rfl | rfl | rfl | rfl | rfl | rfl | rfl | rfl | rfl | rfl | rfl | rfl | rfl | rfl | rfl | rfl | rfl | rfl
  · cases hk
    have h1 := (h.1 _ _ _ _ hv.1).2.1 rfl
    rw [cE_o (by decide), tw_F (A := A) hv] at h1
    exact h1
  · cases hk
    have h1 := (h.1 _ _ _ _ (hv.2.1 0 _ rfl).2).2.1 rfl
    rw [cE_i0] at h1
    exact h1
  · cases hk
    have h1 := (h.1 _ _ _ _ (hv.2.1 1 _ rfl).2).2.1 rfl
    rw [cE_i0] at h1
    exact h1
  · cases hk
    have h1 := (h.1 _ _ _ _ (hv.2.1 2 _ rfl).2).2.1 rfl
    rw [cE_i0] at h1
    exact h1
  · cases hk
    have h1 := (h.1 _ _ _ _ (hv.2.1 3 _ rfl).2).2.1 rfl
    rw [cE_j0] at h1
    exact h1
  · cases hk
    have h1 := (h.1 _ _ _ _ (hv.2.1 4 _ rfl).2).2.1 rfl
    rw [cE_j0] at h1
    exact h1
  · cases hk
    have h1 := (h.1 _ _ _ _ (hv.2.1 5 _ rfl).2).2.1 rfl
    rw [cE_i0] at h1
    exact h1
  · cases hk
    have h1 := (h.1 _ _ _ _ (hv.2.1 6 _ rfl).2).2.1 rfl
    rw [cE_i0] at h1
    exact h1
  · cases hk
    have h1 := (h.1 _ _ _ _ (hv.2.1 7 _ rfl).2).2.1 rfl
    rw [cE_i0] at h1
    exact h1
  · cases hk
    have h1 := (h.1 _ _ _ _ (hv.2.1 8 _ rfl).2).2.1 rfl
    rw [cE_j0] at h1
    exact h1
  · cases hk
    have h1 := (h.1 _ _ _ _ (hv.2.1 9 _ rfl).2).2.1 rfl
    rw [cE_i0] at h1
    exact h1
  · cases hk
    have h1 := (h.1 _ _ _ _ (hv.2.1 10 _ rfl).2).2.1 rfl
    rw [cE_i0] at h1
    exact h1
  · cases hk
    have h1 := (h.1 _ _ _ _ (hv.2.1 11 _ rfl).2).2.1 rfl
    rw [cE_i0] at h1
    exact h1
  · cases hk
    have h1 := (h.1 _ _ _ _ (hv.2.1 12 _ rfl).2).2.1 rfl
    rw [cE_i0] at h1
    exact h1
  · cases hk
    have h1 := (h.1 _ _ _ _ (hv.2.1 13 _ rfl).2).2.1 rfl
    rw [cE_z0] at h1
    exact h1
  · cases hk
    have h1 := (h.1 _ _ _ _ (hv.2.1 14 _ rfl).2).2.1 rfl
    rw [cE_i0] at h1
    exact h1
  · cases hk
    have h1 := (h.1 _ _ _ _ (hv.2.1 15 _ rfl).2).2.1 rfl
    rw [cE_i0] at h1
    exact h1
  · cases hk
    have h1 := (h.1 _ _ _ _ (hv.2.1 16 _ rfl).2).2.1 rfl
    rw [cE_i0] at h1
    exact h1
  · cases hk
    have h1 := (h.1 _ _ _ _ (hv.2.1 17 _ rfl).2).2.1 rfl
    rw [cE_i0] at h1
    exact h1
  · cases hk
    have h1 := (h.1 _ _ _ _ (hv.2.1 18 _ rfl).2).2.1 rfl
    rw [cE_i0] at h1
    exact h1
  · cases hk
    have h1 := (h.1 _ _ _ _ (hv.2.1 19 _ rfl).2).2.1 rfl
    rw [cE_j0] at h1
    exact h1
  · cases hk
    have h1 := (h.1 _ _ _ _ (hv.2.1 20 _ rfl).2).2.1 rfl
    rw [cE_j0] at h1
    exact h1
  · cases hk
    have h1 := (h.1 _ _ _ _ (hv.2.1 21 _ rfl).2).2.1 rfl
    rw [cE_i0] at h1
    exact h1
  · cases hk
    have h1 := (h.1 _ _ _ _ (hv.2.1 22 _ rfl).2).2.1 rfl
    rw [cE_i0] at h1
    exact h1
  · cases hk
    have h1 := (h.1 _ _ _ _ (hv.2.1 23 _ rfl).2).2.1 rfl
    rw [cE_i0] at h1
    exact h1
def isTw (ad : Nat → Nat) (a : Nat) : Bool := (List.range 25).any fun i => ad i == a
theorem isTw_of {ad : Nat → Nat} {a : Nat} (h : isTw ad a = true) : ∃ i, i < 25 ∧ ad i = a := by
  obtain ⟨i, h1, h2⟩ := List.any_eq_true.mp h
  exact ⟨i, List.mem_range.mp h1, eq_of_beq h2⟩
theorem isTw_in {ad : Nat → Nat} {i : Nat} (h : i < 25) : isTw ad (ad i) = true := List.any_eq_true.mpr ⟨i, List.mem_range.mpr h, beq_self_eq_true _⟩
/-- the state without the twin's cells -/
def sEr (s : CS) (ad : Nat → Nat) : CS := (fun a => if isTw ad a = true then none else s.1 a, s.2)
theorem sEr_cHp {D : va_G} {A : Nat → Prop} {dA : Nat → ClassId} {st : Nat → Option Nat} {U : State} {s : CS} {H : Heap} {ad : Nat → Nat} (h : cHp (D, A, dA, st) U s H) : cHp (D, (fun q => A q ∧ isTw ad q = false), dA, st) U (sEr s ad) H := by
  have hk : ∀ a x, (sEr s ad).1 a = some x → isTw ad a = false ∧ s.1 a = some x := fun a x hx => by
    have hx : (if isTw ad a = true then none else s.1 a) = some x := hx
    by_cases q : isTw ad a = true
    · rw [if_pos q] at hx; cases hx
    · rw [if_neg q] at hx; exact ⟨by simpa using q, hx⟩
  refine ⟨fun a w c n ha => ?_, h.2.1, fun a n ha => ?_, fun a n ha => ?_⟩
  · obtain ⟨h0, h1⟩ := hk a _ ha
    have h2 := h.1 a w c n h1
    exact ⟨h2.1, h2.2.1, fun hw => ⟨h2.2.2.1 hw, h0⟩, fun hw => ⟨fun q => (h2.2.2.2 hw).1 q.1, (h2.2.2.2 hw).2⟩⟩
  · exact (h.2.2.1 a n (hk a _ ha).2).narrow (fun q hq => hq.1)
  · obtain ⟨h1, h2, h3⟩ := h.2.2.2 a n (hk a _ ha).2
    refine ⟨h1.narrow (fun q hq => hq.1), ?_, ?_⟩
    · obtain ⟨cf, k, i, f, cell, g1, g2, g3, g4, g5, g6⟩ := h2
      exact ⟨cf, k, i, f, cell, g1, g2, g3, g4, g5, fun q => g6 q.1⟩
    · obtain ⟨cf, k, i, f, cell, g1, g2, g3, g4, g5, g6⟩ := h3
      exact ⟨cf, k, i, f, cell, g1, g2, g3, g4, g5, fun q => g6 q.1⟩
theorem tw_D {D : va_G} {dA : Nat → ClassId} {ad : Nat → Nat} (hd : ∀ i j, i < 25 → j < 25 → ad i = ad j → i = j) : tEnv (D, vwCl, tysL dA, (fun q => isTw ad q = true), ad, dA) := by
  refine ⟨rfl, rfl, rfl, rfl, fun τ => ?_⟩
  have hm : (Wt (D, vwCl, tysL dA, (fun q => isTw ad q = true), ad, dA) τ).map Prod.fst = (List.range 25).map ad := rfl
  have hx : ∀ k q, (Wt (D, vwCl, tysL dA, (fun q => isTw ad q = true), ad, dA) τ)[k]? = some q → k < 25 ∧ q.1 = ad k := fun k q hk => by
    have hk9 : k < 25 := (List.getElem?_eq_some_iff.mp hk).1
    refine ⟨hk9, ?_⟩
    have h1 : ((Wt (D, vwCl, tysL dA, (fun q => isTw ad q = true), ad, dA) τ).map Prod.fst)[k]? = some q.1 := by rw [List.getElem?_map, hk]; rfl
    rw [hm, List.getElem?_map, List.getElem?_range hk9] at h1
    exact (Option.some.inj h1).symm
  refine ⟨fun i j p q hi hj e => ?_, fun k q hk => ?_⟩
  · obtain ⟨a1, a2⟩ := hx i p hi
    obtain ⟨b1, b2⟩ := hx j q hj
    exact hd i j a1 b1 (by rw [← a2, ← b2]; exact e)
  · obtain ⟨a1, a2⟩ := hx k q hk
    show isTw ad q.1 = true
    rw [a2]
    exact isTw_in a1
