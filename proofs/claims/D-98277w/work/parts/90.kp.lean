/-! LAYER 2: cells made anew; keeps: the component -/
set_option maxRecDepth 100000
/-- below z all is as it was -/
def Ex (z : Nat) (s s' : CS) : Prop := ∀ a, a < z → s'.1 a = s.1 a ∧ (∀ f, cI s' f a = cI s f a) ∧ (∀ f, cR s' f a = cR s f a) ∧ cA s' a = cA s a ∧ cQ s' a = cQ s a
theorem Ex.rf {z : Nat} {s : CS} : Ex z s s := fun _ _ => ⟨rfl, fun _ => rfl, fun _ => rfl, rfl, rfl⟩
theorem Ex.tr {z : Nat} {s s1 s2 : CS} (h : Ex z s s1) (k : Ex z s1 s2) : Ex z s s2 := fun a ha => by
  obtain ⟨h1, h2, h3, h4, h5⟩ := h a ha
  obtain ⟨k1, k2, k3, k4, k5⟩ := k a ha
  exact ⟨k1.trans h1, fun f => (k2 f).trans (h2 f), fun f => (k3 f).trans (h3 f), k4.trans h4, k5.trans h5⟩
theorem Ex.le {z y : Nat} {s s' : CS} (h : Ex z s s') (k : y ≤ z) : Ex y s s' := fun a ha => h a (by omega)
theorem Ex.uN {z c n k : Nat} {s : CS} (h : z ≤ cz s) : Ex z s (uN s c n k) := fun a ha => by
  have e : ¬ a = cz s := by omega
  exact ⟨if_neg e, fun _ => if_neg e, fun _ => if_neg e, if_neg e, if_neg e⟩
theorem Ex.uI {z f o : Nat} {v : Int32} {s : CS} (h : z ≤ o) : Ex z s (uI s f o v) := fun a ha => ⟨rfl, fun f' => rI_a (by omega), fun _ => rfl, rfl, rfl⟩
theorem Ex.uR {z f o : Nat} {v : Option Nat} {s : CS} (h : z ≤ o) : Ex z s (uR s f o v) := fun a ha => ⟨rfl, fun _ => rfl, fun f' => rR_a (by omega), rfl, rfl⟩
theorem Ex.uA {z o i : Nat} {v : Int32} {s : CS} (h : z ≤ o) : Ex z s (uA s o i v) := fun a ha => ⟨rfl, fun _ => rfl, fun _ => rfl, if_neg (by omega), rfl⟩
theorem Ex.uQ {z o i : Nat} {v : Option Nat} {s : CS} (h : z ≤ o) : Ex z s (uQ s o i v) := fun a ha => ⟨rfl, fun _ => rfl, fun _ => rfl, rfl, if_neg (by omega)⟩
theorem Ex.x {ρ ρ' : Nat → Nat × Nat} {s s' : CS} (hF : Fh s) (h : Ex (cz s) s s') (hρ : ∀ a, a < cz s → ρ' a = ρ a) : Fx ρ ρ' s s' := fun a w c n e => by
  have ha := hF a w c n e
  obtain ⟨h1, h2, h3, h4, h5⟩ := h a ha
  exact ⟨by rw [h1]; exact e, hρ a ha, fun f _ => h2 f, h3, fun _ => h4, fun _ => h5⟩
theorem Fh.uN {s : CS} {c n k : Nat} (h : Fh s) : Fh (uN s c n k) := fun a w c' n' e => by
  show a < cz s + 1
  by_cases q : a = cz s
  · omega
  · have e : (if a = cz s then some (true, c, n) else s.1 a) = some (w, c', n') := e
    rw [if_neg q] at e
    have := h a w c' n' e
    omega
theorem Fh.e {s s' : CS} (h : Fh s) (h1 : s'.1 = s.1) (h2 : cz s' = cz s) : Fh s' := fun a w c n e => by
  rw [h2]
  exact h a w c n (by rw [← h1]; exact e)
/-- roles of a new state's arrays -/
def rhoS (ρ : Nat → Nat × Nat) (z : Nat) : Nat → Nat × Nat := fun a => if z < a ∧ a < z + 7 then (100 + (a - z), z) else ρ a
theorem rhoS_o {ρ : Nat → Nat × Nat} {z a : Nat} (h : a < z) : rhoS ρ z a = ρ a := if_neg (by omega)
/-- a new state: what is made -/
def newS (s : CS) : CS := uR (uN (uR (uN (uR (uN (uR (uN (uR (uN (uR (uN (uN s 8 0 12) 102 54 54) 806 (cz s) (some (cz s + 1))) 102 10 10) 807 (cz s) (some (cz s + 2))) 100 10 10) 808 (cz s) (some (cz s + 3))) 100 10 10) 809 (cz s) (some (cz s + 4))) 100 8 8) 810 (cz s) (some (cz s + 5))) 100 8 8) 811 (cz s) (some (cz s + 6))
theorem mz_t {α : Type} {s : CS} {p : α → CS} {z : α} (h : cz s ≤ cz (p z) ∧ cl s ≤ cl (p z)) : mz s p (some z) = some z := if_pos h
theorem newS_k (s : CS) (a : Nat) : (newS s).1 a = if a = cz s + 6 then some (true, 100, 8) else if a = cz s + 5 then some (true, 100, 8) else if a = cz s + 4 then some (true, 100, 10) else if a = cz s + 3 then some (true, 100, 10) else if a = cz s + 2 then some (true, 102, 10) else if a = cz s + 1 then some (true, 102, 54) else if a = cz s then some (true, 8, 0) else s.1 a := rfl
theorem newS_z (s : CS) : cz (newS s) = cz s + 7 ∧ cl (newS s) = cl s + 112 := ⟨rfl, rfl⟩
theorem newS_x (s : CS) : Ex (cz s) s (newS s) := by
  unfold newS
  refine Ex.tr (Ex.tr (Ex.tr (Ex.tr (Ex.tr (Ex.tr (Ex.tr (Ex.tr (Ex.tr (Ex.tr (Ex.tr (Ex.tr (Ex.uN (Nat.le_refl _)) (Ex.uN ?_)) (Ex.uR (Nat.le_refl _))) (Ex.uN ?_)) (Ex.uR (Nat.le_refl _))) (Ex.uN ?_)) (Ex.uR (Nat.le_refl _))) (Ex.uN ?_)) (Ex.uR (Nat.le_refl _))) (Ex.uN ?_)) (Ex.uR (Nat.le_refl _))) (Ex.uN ?_)) (Ex.uR (Nat.le_refl _))
  · show cz s ≤ cz s + 1; omega
  · show cz s ≤ cz s + 2; omega
  · show cz s ≤ cz s + 3; omega
  · show cz s ≤ cz s + 4; omega
  · show cz s ≤ cz s + 5; omega
  · show cz s ≤ cz s + 6; omega
theorem newS_h {s : CS} (h : Fh s) : Fh (newS s) := by
  have h1 := ((((((Fh.uN (c := 8) (n := 0) (k := 12) h).uN (c := 102) (n := 54) (k := 54)).e (s' := uR (uN (uN s 8 0 12) 102 54 54) 806 (cz s) (some (cz s + 1))) rfl rfl).uN (c := 102) (n := 10) (k := 10))))
  intro a w c n e
  rw [newS_k] at e
  rw [(newS_z s).1]
  by_cases q : a < cz s + 7
  · exact q
  · rw [if_neg (show ¬ a = cz s + 6 by omega), if_neg (show ¬ a = cz s + 5 by omega), if_neg (show ¬ a = cz s + 4 by omega), if_neg (show ¬ a = cz s + 3 by omega), if_neg (show ¬ a = cz s + 2 by omega), if_neg (show ¬ a = cz s + 1 by omega), if_neg (show ¬ a = cz s by omega)] at e
    have := h a w c n e
    omega
theorem rR_c {s : CS} {f a f' a' : Nat} {v : Option Nat} : cR (uR s f a v) f' a' = if f' = f ∧ a' = a then v else cR s f' a' := rfl
theorem newS_r (s : CS) : cR (newS s) 806 (cz s) = some (cz s + 1) ∧ cR (newS s) 807 (cz s) = some (cz s + 2) ∧ cR (newS s) 808 (cz s) = some (cz s + 3) ∧ cR (newS s) 809 (cz s) = some (cz s + 4) ∧ cR (newS s) 810 (cz s) = some (cz s + 5) ∧ cR (newS s) 811 (cz s) = some (cz s + 6) := by
  have hN : ∀ (t : CS) (c n k f : Nat), cz s < cz t → cR (uN t c n k) f (cz s) = cR t f (cz s) := fun t c n k f h => if_neg (by omega)
  unfold newS
  refine ⟨?_, ?_, ?_, ?_, ?_, ?_⟩
  · rw [rR_n (by decide), hN _ _ _ _ _ (by show cz s < cz s + 6; omega), rR_n (by decide), hN _ _ _ _ _ (by show cz s < cz s + 5; omega), rR_n (by decide), hN _ _ _ _ _ (by show cz s < cz s + 4; omega), rR_n (by decide), hN _ _ _ _ _ (by show cz s < cz s + 3; omega), rR_n (by decide), hN _ _ _ _ _ (by show cz s < cz s + 2; omega), rR_t]
  · rw [rR_n (by decide), hN _ _ _ _ _ (by show cz s < cz s + 6; omega), rR_n (by decide), hN _ _ _ _ _ (by show cz s < cz s + 5; omega), rR_n (by decide), hN _ _ _ _ _ (by show cz s < cz s + 4; omega), rR_n (by decide), hN _ _ _ _ _ (by show cz s < cz s + 3; omega), rR_t]
  · rw [rR_n (by decide), hN _ _ _ _ _ (by show cz s < cz s + 6; omega), rR_n (by decide), hN _ _ _ _ _ (by show cz s < cz s + 5; omega), rR_n (by decide), hN _ _ _ _ _ (by show cz s < cz s + 4; omega), rR_t]
  · rw [rR_n (by decide), hN _ _ _ _ _ (by show cz s < cz s + 6; omega), rR_n (by decide), hN _ _ _ _ _ (by show cz s < cz s + 5; omega), rR_t]
  · rw [rR_n (by decide), hN _ _ _ _ _ (by show cz s < cz s + 6; omega), rR_t]
  · rw [rR_t]
theorem newS_o (ρ : Nat → Nat × Nat) (s : CS) : SO (rhoS ρ (cz s)) (newS s) (cz s) := by
  obtain ⟨r1, r2, r3, r4, r5, r6⟩ := newS_r s
  have k := newS_k s
  have hrho : ∀ i, 0 < i → i < 7 → rhoS ρ (cz s) (cz s + i) = (100 + i, cz s) := fun i h0 h1 => by
    unfold rhoS
    rw [if_pos ⟨by omega, by omega⟩, show cz s + i - cz s = i by omega]
  have e6 := k (cz s + 6)
  have e5 := k (cz s + 5)
  have e4 := k (cz s + 4)
  have e3 := k (cz s + 3)
  have e2 := k (cz s + 2)
  have e1 := k (cz s + 1)
  have e0 := k (cz s)
  rw [if_pos rfl] at e6
  rw [if_neg (show ¬ cz s + 5 = cz s + 6 by omega), if_pos rfl] at e5
  rw [if_neg (show ¬ cz s + 4 = cz s + 6 by omega), if_neg (show ¬ cz s + 4 = cz s + 5 by omega), if_pos rfl] at e4
  rw [if_neg (show ¬ cz s + 3 = cz s + 6 by omega), if_neg (show ¬ cz s + 3 = cz s + 5 by omega), if_neg (show ¬ cz s + 3 = cz s + 4 by omega), if_pos rfl] at e3
  rw [if_neg (show ¬ cz s + 2 = cz s + 6 by omega), if_neg (show ¬ cz s + 2 = cz s + 5 by omega), if_neg (show ¬ cz s + 2 = cz s + 4 by omega), if_neg (show ¬ cz s + 2 = cz s + 3 by omega), if_pos rfl] at e2
  rw [if_neg (show ¬ cz s + 1 = cz s + 6 by omega), if_neg (show ¬ cz s + 1 = cz s + 5 by omega), if_neg (show ¬ cz s + 1 = cz s + 4 by omega), if_neg (show ¬ cz s + 1 = cz s + 3 by omega), if_neg (show ¬ cz s + 1 = cz s + 2 by omega), if_pos rfl] at e1
  rw [if_neg (show ¬ cz s = cz s + 6 by omega), if_neg (show ¬ cz s = cz s + 5 by omega), if_neg (show ¬ cz s = cz s + 4 by omega), if_neg (show ¬ cz s = cz s + 3 by omega), if_neg (show ¬ cz s = cz s + 2 by omega), if_neg (show ¬ cz s = cz s + 1 by omega), if_pos rfl] at e0
  have hav : ∀ f i, cR (newS s) f (cz s) = some (cz s + i) → av (newS s) f (cz s) = cz s + i := fun f i h => by unfold av; rw [h]; rfl
  refine ⟨e0, ?_, ?_, ?_, ?_, ?_, ?_⟩
  · unfold oA; rw [hav _ _ r1]; exact ⟨r1, e1, hrho 1 (by omega) (by omega)⟩
  · unfold oA; rw [hav _ _ r2]; exact ⟨r2, e2, hrho 2 (by omega) (by omega)⟩
  · unfold oA; rw [hav _ _ r3]; exact ⟨r3, e3, hrho 3 (by omega) (by omega)⟩
  · unfold oA; rw [hav _ _ r4]; exact ⟨r4, e4, hrho 4 (by omega) (by omega)⟩
  · unfold oA; rw [hav _ _ r5]; exact ⟨r5, e5, hrho 5 (by omega) (by omega)⟩
  · unfold oA; rw [hav _ _ r6]; exact ⟨r6, e6, hrho 6 (by omega) (by omega)⟩
theorem newS_a (s : CS) (i : Nat) (hi : i < 7) : cA (newS s) (cz s + i) = fun _ => 0 := by
  have h : cA (newS s) (cz s + i) = if cz s + i = cz s + 6 then fun _ => 0 else if cz s + i = cz s + 5 then fun _ => 0 else if cz s + i = cz s + 4 then fun _ => 0 else if cz s + i = cz s + 3 then fun _ => 0 else if cz s + i = cz s + 2 then fun _ => 0 else if cz s + i = cz s + 1 then fun _ => 0 else if cz s + i = cz s then fun _ => 0 else cA s (cz s + i) := rfl
  rw [h]
  repeat' split
  all_goals first | rfl | omega
theorem newS_X {ρ : Nat → Nat × Nat} {s : CS} (h : Hx ρ s) (hρ : ∀ a, cz s ≤ a → ρ a = (0, 0)) : Hx (rhoS ρ (cz s)) (newS s) := fun a ha k => by
  by_cases q : a < cz s
  · rw [rhoS_o q] at ha
    rw [(newS_x s a q).2.2.2.1]
    exact h a ha k
  · by_cases q2 : a < cz s + 7
    · have := newS_a s (a - cz s) (by omega)
      rw [show cz s + (a - cz s) = a by omega] at this
      rw [this]
      rfl
    · unfold rhoS at ha
      rw [if_neg (by omega), hρ a (by omega)] at ha
      cases ha
theorem ok_newS {s : CS} {K : Nat → CS → Option CS} {Q : CS → Prop} (h : Ok (K (cz s) (newS s)) Q) : Ok (nwO s 8 12 fun o s1 => (FX8_init o s1).bind fun s2 => K o s2) Q := by
  obtain ⟨r1, r2, r3, r4, r5, r6⟩ := newS_r s
  have k0 : (uN s 8 0 12).1 (cz s) = some (true, 8, 0) := if_pos rfl
  have kN : ∀ (t : CS) (c n k : Nat), cz s < cz t → t.1 (cz s) = some (true, 8, 0) → (uN t c n k).1 (cz s) = some (true, 8, 0) := fun t c n k h1 h2 => (if_neg (by omega)).trans h2
  have st : ∀ (t : CS) (c : Nat) (i : Int32) (n f : Nat) (K2 : CS → Option CS) (Q2 : CS → Prop), inb i 2000000 = true → i.toNatClampNeg = n → cz s < cz t → t.1 (cz s) = some (true, 8, 0) → Ok (K2 (uR (uN t c n n) f (cz s) (some (cz t)))) Q2 → Ok (nwA t c i fun o1 s2 => pR s2 (cz s) [8] f (some o1) K2) Q2 := fun t c i n f K2 Q2 h1 h2 h3 h4 hK => by
    unfold nwA
    rw [if_pos h1, h2]
    exact ok_pR (kN t c n n h3 h4) rfl hK
  refine ok_b (P := fun z => z = newS s) ?_ (fun z hz => by rw [hz]; exact h)
  unfold FX8_init
  refine ok_mz (Q := fun z => z = newS s) ?_ (fun z hz => by rw [hz]; exact ⟨by rw [(newS_z s).1]; show cz s + 1 ≤ _; omega, by rw [(newS_z s).2]; show cl s + 12 ≤ _; omega⟩)
  refine st _ 102 54 54 806 _ _ rfl rfl (by show cz s < cz s + 1; omega) k0 ?_
  have k1 := kN _ 102 54 54 (by show cz s < cz s + 1; omega) k0
  refine st _ 102 10 10 807 _ _ rfl rfl (by show cz s < cz s + 2; omega) k1 ?_
  have k2 := kN (uR (uN (uN s 8 0 12) 102 54 54) 806 (cz s) (some (cz s + 1))) 102 10 10 (by show cz s < cz s + 2; omega) k1
  refine st _ 100 10 10 808 _ _ rfl rfl (by show cz s < cz s + 3; omega) k2 ?_
  have k3 := kN (uR (uN (uR (uN (uN s 8 0 12) 102 54 54) 806 (cz s) (some (cz s + 1))) 102 10 10) 807 (cz s) (some (cz s + 2))) 100 10 10 (by show cz s < cz s + 3; omega) k2
  refine st _ 100 10 10 809 _ _ rfl rfl (by show cz s < cz s + 4; omega) k3 ?_
  have k4 := kN (uR (uN (uR (uN (uR (uN (uN s 8 0 12) 102 54 54) 806 (cz s) (some (cz s + 1))) 102 10 10) 807 (cz s) (some (cz s + 2))) 100 10 10) 808 (cz s) (some (cz s + 3))) 100 10 10 (by show cz s < cz s + 4; omega) k3
  refine st _ 100 8 8 810 _ _ rfl rfl (by show cz s < cz s + 5; omega) k4 ?_
  have k5 := kN (uR (uN (uR (uN (uR (uN (uR (uN (uN s 8 0 12) 102 54 54) 806 (cz s) (some (cz s + 1))) 102 10 10) 807 (cz s) (some (cz s + 2))) 100 10 10) 808 (cz s) (some (cz s + 3))) 100 10 10) 809 (cz s) (some (cz s + 4))) 100 8 8 (by show cz s < cz s + 5; omega) k4
  refine st _ 100 8 8 811 _ _ rfl rfl (by show cz s < cz s + 6; omega) k5 ?_
  exact ok_s rfl
