/-! LAYER 2: a town under way: the component -/
set_option maxRecDepth 100000
/-- below z0 nothing but the reader's fields is another -/
def Pz (r z0 : Nat) (s s' : CS) : Prop := Fp r z0 s s' ∧ Fh s' ∧ cz s ≤ cz s' ∧ cl s ≤ cl s'
theorem Pb.z {r z0 : Nat} {s s' : CS} (h : Pb r s s') (hz : z0 ≤ cz s) : Pz r z0 s s' := ⟨h.1.le hz, h.2⟩
theorem Pz.tr {r z0 : Nat} {s s1 s2 : CS} (h : Pz r z0 s s1) (k : Pz r z0 s1 s2) : Pz r z0 s s2 := ⟨h.1.tr k.1, k.2.1, Nat.le_trans h.2.2.1 k.2.2.1, Nat.le_trans h.2.2.2 k.2.2.2⟩
theorem Pz.rf {r z0 : Nat} {s : CS} (h : Fh s) : Pz r z0 s s := ⟨Fp.rf, h, Nat.le_refl _, Nat.le_refl _⟩
def Pcz (r : Nat) (t : Nat → Int) (n z0 u : Nat) (s : CS) (k : Nat) (s' : CS) (k' : Nat) : Prop := Pz r z0 s s' ∧ tP t n k ≤ tP t n k' ∧ cz s' + 16 * (n - tP t n k') + u ≤ cz s + 16 * (n - tP t n k) ∧ cl s' + 64 * (n - tP t n k') + 4 * u ≤ cl s + 64 * (n - tP t n k)
theorem Pc.z {r n z0 u k k' : Nat} {t : Nat → Int} {s s' : CS} (h : Pc r t n u s k s' k') (hz : z0 ≤ cz s) : Pcz r t n z0 u s k s' k' := ⟨h.1.z hz, h.2⟩
theorem Pcz.tr {r n z0 u v : Nat} {t : Nat → Int} {s s1 s2 : CS} {k k1 k2 : Nat} (h : Pcz r t n z0 u s k s1 k1) (g : Pcz r t n z0 v s1 k1 s2 k2) : Pcz r t n z0 (u + v) s k s2 k2 := by
  obtain ⟨h1, h2, h3, h4⟩ := h
  obtain ⟨g1, g2, g3, g4⟩ := g
  exact ⟨h1.tr g1, by omega, by omega, by omega⟩
theorem Pcz.le {r n z0 u v : Nat} {t : Nat → Int} {s s1 : CS} {k k1 : Nat} (h : Pcz r t n z0 u s k s1 k1) (g : v ≤ u) : Pcz r t n z0 v s k s1 k1 := ⟨h.1, h.2.1, by have := h.2.2.1; omega, by have := h.2.2.2; omega⟩
theorem Pcz.al {r n z0 u : Nat} {t : Nat → Int} {s s1 s2 : CS} {k k1 : Nat} (c : Nat) (h : Pcz r t n z0 (u + c) s k s1 k1) (g : Pz r z0 s1 s2) (h1 : cz s2 ≤ cz s1 + c) (h2 : cl s2 ≤ cl s1 + 4 * c) : Pcz r t n z0 u s k s2 k1 := ⟨h.1.tr g, h.2.1, by have := h.2.2.1; omega, by have := h.2.2.2; omega⟩
theorem Pcz.rf {r n z0 : Nat} {t : Nat → Int} {s : CS} {k : Nat} (h : Fh s) : Pcz r t n z0 0 s k s k := ⟨Pz.rf h, Nat.le_refl _, Nat.le_refl _, Nat.le_refl _⟩
def Poz {α β : Type} (R : α → β → CS → Prop) (r ta : Nat) (t : Nat → Int) (n z0 u : Nat) (s : CS) (k : Nat) (o : Int ⊕ (β × Nat)) (p : (Nat ⊕ α) × CS) : Prop := Pz r z0 s p.2 ∧ match o with
  | .inl e => (∃ q, p.1 = .inl q ∧ isK p.2 q [10] = true ∧ cI p.2 1000 q = i32 e) ∧ cz p.2 ≤ cz s + 16 * (n - tP t n k) + 1 ∧ cl p.2 ≤ cl s + 64 * (n - tP t n k) + 7
  | .inr (b, k') => (∃ a, p.1 = .inr a ∧ R a b p.2) ∧ Rf p.2 r ta t n (tP t n k') ∧ Pcz r t n z0 u s k p.2 k'
section PZ
variable {r ta n z0 : Nat} {t : Nat → Int} {st : Nat → Option Nat} {s : CS} {nf : Nat}
theorem Po.z {α β : Type} {R : α → β → CS → Prop} {u k : Nat} {x : Int ⊕ (β × Nat)} {p : (Nat ⊕ α) × CS} (h : Po R r ta t n u s k x p) (hz : z0 ≤ cz s) : Poz R r ta t n z0 u s k x p := by
  refine ⟨h.1.z hz, ?_⟩
  obtain ⟨h, g⟩ := h
  cases x with
  | inl e => exact g
  | inr y => exact ⟨g.1, g.2.1, g.2.2.z hz⟩
theorem Poz.mz {α β : Type} {R : α → β → CS → Prop} {u k : Nat} {o : Option ((Nat ⊕ α) × CS)} {x : Int ⊕ (β × Nat)} (h : Ok o (Poz R r ta t n z0 u s k x)) : Ok (mz s (fun z => z.2) o) (Poz R r ta t n z0 u s k x) := ok_mz h fun z hz => hz.1.2.2
theorem Poz.of {α β : Type} {R : α → β → CS → Prop} {u v k k1 : Nat} {s1 : CS} {x : Int ⊕ (β × Nat)} {p : (Nat ⊕ α) × CS} (h1 : Pcz r t n z0 u s k s1 k1) (h : Poz R r ta t n z0 v s1 k1 x p) : Poz R r ta t n z0 (u + v) s k x p := by
  refine ⟨h1.1.tr h.1, ?_⟩
  obtain ⟨h, g⟩ := h
  obtain ⟨f1, f2, f3, f4⟩ := id h1
  cases x with
  | inl e => exact ⟨g.1, by have := g.2.1; omega, by have := g.2.2; omega⟩
  | inr y => exact ⟨g.1, g.2.1, h1.tr g.2.2⟩
theorem Poz.le {α β : Type} {R : α → β → CS → Prop} {u v k : Nat} {x : Int ⊕ (β × Nat)} {p : (Nat ⊕ α) × CS} (h : Poz R r ta t n z0 u s k x p) (g : v ≤ u) : Poz R r ta t n z0 v s k x p := by
  refine ⟨h.1, ?_⟩
  obtain ⟨h, f⟩ := h
  cases x with
  | inl e => exact f
  | inr y => exact ⟨f.1, f.2.1, f.2.2.le g⟩
/-- behind a parse from s1 on, all from s on -/
theorem ok_thz {α β γ δ : Type} {R : α → β → CS → Prop} {R' : γ → δ → CS → Prop} {u0 u v k k0 : Nat} {s1 : CS} {o : Option ((Nat ⊕ α) × CS)} {x : Int ⊕ (β × Nat)} {K : α → CS → Option ((Nat ⊕ γ) × CS)} {f : β → Nat → Int ⊕ (δ × Nat)} (h0 : Pcz r t n z0 u0 s k0 s1 k) (hz : z0 ≤ cz s1) (h : Ok o (Po R r ta t n u s1 k x)) (hk : ∀ a b k1 s2, x = .inr (b, k1) → Pb r s1 s2 → Pcz r t n z0 (u0 + u) s k0 s2 k1 → R a b s2 → Rf s2 r ta t n (tP t n k1) → Ok (K a s2) (Poz R' r ta t n z0 v s k0 (f b k1))) : Ok (thr o K) (Poz R' r ta t n z0 v s k0 (bP x f)) := by
  obtain ⟨⟨w, s'⟩, h1, h2, h3⟩ := h
  have h2 : Pb r s1 s' := h2
  subst h1
  obtain ⟨f1, f2, f3, f4⟩ := id h0
  cases x with
  | inl e =>
    obtain ⟨⟨q, e1, e2, e3⟩, e4, e5⟩ := h3
    have e1 : w = .inl q := e1
    have e4 : cz s' ≤ cz s1 + 16 * (n - tP t n k) + 1 := e4
    have e5 : cl s' ≤ cl s1 + 64 * (n - tP t n k) + 7 := e5
    subst e1
    exact ok_s ⟨f1.tr (h2.z hz), ⟨q, rfl, e2, e3⟩, by show cz s' ≤ _; omega, by show cl s' ≤ _; omega⟩
  | inr y =>
    obtain ⟨b, kk⟩ := y
    obtain ⟨⟨a, e1, e2⟩, e3, e4⟩ := h3
    have e1 : w = .inr a := e1
    subst e1
    exact hk a b kk s' rfl h2 (h0.tr (e4.z hz)) e2 e3
/-- the same, the first parse being one of a line -/
theorem ok_thy {α β γ δ : Type} {R : α → β → CS → Prop} {R' : γ → δ → CS → Prop} {u0 u v k k0 : Nat} {s1 : CS} {o : Option ((Nat ⊕ α) × CS)} {x : Int ⊕ (β × Nat)} {K : α → CS → Option ((Nat ⊕ γ) × CS)} {f : β → Nat → Int ⊕ (δ × Nat)} (h0 : Pcz r t n z0 u0 s k0 s1 k) (h : Ok o (Poz R r ta t n z0 u s1 k x)) (hk : ∀ a b k1 s2, x = .inr (b, k1) → Pz r z0 s1 s2 → Pcz r t n z0 (u0 + u) s k0 s2 k1 → R a b s2 → Rf s2 r ta t n (tP t n k1) → Ok (K a s2) (Poz R' r ta t n z0 v s k0 (f b k1))) : Ok (thr o K) (Poz R' r ta t n z0 v s k0 (bP x f)) := by
  obtain ⟨⟨w, s'⟩, h1, h2, h3⟩ := h
  have h2 : Pz r z0 s1 s' := h2
  subst h1
  obtain ⟨f1, f2, f3, f4⟩ := id h0
  cases x with
  | inl e =>
    obtain ⟨⟨q, e1, e2, e3⟩, e4, e5⟩ := h3
    have e1 : w = .inl q := e1
    have e4 : cz s' ≤ cz s1 + 16 * (n - tP t n k) + 1 := e4
    have e5 : cl s' ≤ cl s1 + 64 * (n - tP t n k) + 7 := e5
    subst e1
    exact ok_s ⟨f1.tr h2, ⟨q, rfl, e2, e3⟩, by show cz s' ≤ _; omega, by show cl s' ≤ _; omega⟩
  | inr y =>
    obtain ⟨b, kk⟩ := y
    obtain ⟨⟨a, e1, e2⟩, e3, e4⟩ := h3
    have e1 : w = .inr a := e1
    subst e1
    exact hk a b kk s' rfl h2 (h0.tr e4) e2 e3
theorem ok_twz {α β : Type} {R : α → β → CS → Prop} {u v k k0 : Nat} {s1 : CS} {kd f : Int} (h0 : Pcz r t n z0 u s k0 s1 k) (hz : z0 ≤ cz s1) (hr : s1.1 r = some (true, 1, 0)) (h4 : cI s1 104 r = i32 f) : Ok (bd2 (FX1_wrong st r (i32 kd) s1) fun r4 s3 => nn r4 fun p5 => gd (isK s3 p5 [10]) (some ((.inl p5 : Nat ⊕ α), s3))) (Poz R r ta t n z0 v s k0 (.inl (kd + 16 * f) : Int ⊕ (β × Nat))) := by
  obtain ⟨f1, f2, f3, f4⟩ := id h0
  refine ok_2 (ok_wrong hr h0.1.2.1 h4) fun a b h => ?_
  obtain ⟨q, h1, h2, h3, h5, h6, h7⟩ := h
  have h1 : a = some q := h1
  have h5 : Pb r s1 b := h5
  have h6 : cz b = cz s1 + 1 := h6
  have h7 : cl b = cl s1 + 7 := h7
  subst h1
  exact ok_nn (ok_g h2 (ok_s ⟨f1.tr (h5.z hz), ⟨q, rfl, h2, h3⟩, by show cz b ≤ _; omega, by show cl b ≤ _; omega⟩))
end PZ
/-- some cells only are another -/
def Fm (l : List Nat) (s s' : CS) : Prop := (∀ a, a < cz s → s'.1 a = s.1 a ∧ (¬ a ∈ l → (∀ f, cI s' f a = cI s f a) ∧ (∀ f, cR s' f a = cR s f a) ∧ cA s' a = cA s a ∧ cQ s' a = cQ s a)) ∧ Fh s' ∧ cz s ≤ cz s' ∧ cl s ≤ cl s'
theorem Fm.z {r z0 : Nat} {l : List Nat} {s s' : CS} (h : Fm l s s') (hl : ∀ a ∈ l, z0 ≤ a) (hz : z0 ≤ cz s) : Pz r z0 s s' := ⟨fun a ha => by
  obtain ⟨h1, h2⟩ := h.1 a (by omega)
  obtain ⟨h3, h4, h5, h6⟩ := h2 fun z => by have := hl a z; omega
  exact ⟨h1, fun f _ => h3 f, fun f _ => h4 f, h5, h6⟩, h.2⟩
theorem Fm.uI {o f : Nat} {v : Int32} {s : CS} (hF : Fh s) : Fm [o] s (uI s f o v) := ⟨fun a ha => ⟨rfl, fun q => ⟨fun f' => rI_a (fun z => q (by rw [z]; exact List.mem_singleton.mpr rfl)), fun _ => rfl, rfl, rfl⟩⟩, hF.e rfl rfl, Nat.le_refl _, Nat.le_refl _⟩
theorem Fm.uA {o i : Nat} {v : Int32} {s : CS} (hF : Fh s) : Fm [o] s (uA s o i v) := ⟨fun a ha => ⟨rfl, fun q => ⟨fun _ => rfl, fun _ => rfl, if_neg (fun z => q (by rw [z]; exact List.mem_singleton.mpr rfl)), rfl⟩⟩, hF.e rfl rfl, Nat.le_refl _, Nat.le_refl _⟩
theorem Rf.m {r ta n f : Nat} {t : Nat → Int} {l : List Nat} {s s' : CS} (h : Rf s r ta t n f) (hF : Fh s) (g : Fm l s s') (hr : ¬ r ∈ l) (ht : ¬ ta ∈ l) : Rf s' r ta t n f := by
  obtain ⟨⟨j1, j2, j3, j4, j5⟩, j6, j7, j8, j9⟩ := h
  obtain ⟨r1, r2⟩ := g.1 r (hF _ _ _ _ j1)
  obtain ⟨r3, r4, r5, r6⟩ := r2 hr
  obtain ⟨t1, t2⟩ := g.1 ta (hF _ _ _ _ j2)
  obtain ⟨t3, t4, t5, t6⟩ := t2 ht
  exact ⟨⟨by rw [r1]; exact j1, by rw [t1]; exact j2, by rw [r4]; exact j3, by rw [r3]; exact j4, fun i hi => by rw [t5]; exact j5 i hi⟩, by rw [r3]; exact j6, by rw [r3]; exact j7, by rw [r3]; exact j8, fun q => by rw [r3]; exact j9 q⟩
/-- the constants lie below z0 -/
def Kz (st : Nat → Option Nat) (z0 : Nat) (s : CS) : Prop := ∀ i, i < 12 → ∃ p v w, st (10 + i) = some p ∧ Sc s p (wL i) ∧ p < z0 ∧ cR s 2300 p = some v ∧ v < z0 ∧ s.1 v = some (w, 103, (wL i).length)
theorem Kst.z {st : Nat → Option Nat} {s : CS} (h : Kst st s) (hF : Fh s) : Kz st (cz s) s := fun i hi => by
  obtain ⟨p, h1, h2⟩ := h i hi
  obtain ⟨k1, k2, ⟨v, w, k3, k4, k5⟩, k6⟩ := id h2
  exact ⟨p, v, w, h1, h2, isK_lt hF k1, k3, hF _ _ _ _ k4, k4⟩
theorem Kz.k {st : Nat → Option Nat} {z0 : Nat} {s : CS} (h : Kz st z0 s) : Kst st s := fun i hi => by
  obtain ⟨p, v, w, h1, h2, h3⟩ := h i hi
  exact ⟨p, h1, h2⟩
theorem Kz.z {st : Nat → Option Nat} {r z0 : Nat} {s s' : CS} (h : Kz st z0 s) (k : Pz r z0 s s') : Kz st z0 s' := fun i hi => by
  obtain ⟨p, v, w, h1, h2, h3, h4, h5, h6⟩ := h i hi
  obtain ⟨k1, k2, ⟨v', w', k3, k4, k5⟩, k6⟩ := h2
  obtain ⟨a1, a2, a3, a4, a5⟩ := k.1 p h3
  obtain ⟨b1, b2, b3, b4, b5⟩ := k.1 v h5
  have ev : v' = v := by rw [h4] at k3; exact (Option.some.inj k3).symm
  subst ev
  exact ⟨p, v', w, h1, ⟨isK_e a1 k1, by rw [a2 _ (fun z => by omega)]; exact k2, ⟨v', w', by rw [a3 _ (fun z => by omega)]; exact k3, by rw [b1]; exact k4, fun j hj => by rw [b4]; exact k5 j hj⟩, k6⟩, h3, by rw [a3 _ (fun z => by omega)]; exact h4, h5, by rw [b1]; exact h6⟩
/-- the town's own numbers, told or not -/
def Rt2 (s : CS) (W : Nat → Int) (b o : Nat) : Prop := cI s 202 o = (if b.testBit 0 = true then i32 (W 2) else i32 (-1)) ∧ cI s 203 o = i32 (W 3) ∧ cI s 204 o = i32 (W 4) ∧ cI s 205 o = (if b.testBit 3 = true then i32 (W 5) else i32 (-1)) ∧ cI s 206 o = i32 (W 9) ∧ cI s 208 o = i32 (W 6)
/-- goer k -/
def Gob (ρ : Nat → Nat × Nat) (R : List (List (Nat × Int))) (s : CS) (k o : Nat) : Prop := (k = 0 → s.1 o = some (true, 4, 0) ∧ cI s 400 o = i32 0) ∧ (k = 1 → s.1 o = some (true, 4, 0) ∧ cI s 400 o = i32 1) ∧ (k = 2 → s.1 o = some (true, 5, 0)) ∧ (k = 3 → s.1 o = some (true, 6, 0)) ∧ (4 ≤ k → s.1 o = some (true, 16, 0) ∧ oA ρ s o 1601 100 4 29 ∧ ∃ e, cR s 1600 o = some e ∧ exAt s 550 e (R.getD (k - 4) []))
/-- a town under way: h 1 town, h 8 lights, h 9 bars, h 10 names, h 11 goers, h 12 their array -/
def Uwn (z0 : Nat) (h : Nat → Nat) (nb : Nat) (ρ : Nat → Nat × Nat) (w : TV) (s : CS) : Prop := (s.1 (h 1) = some (true, 2, 0) ∧ Ro s w.1 (h 1) (h 8) (h 9) ∧ Rt2 s w.1 w.2.1 (h 1)) ∧ (∃ NL, Nms s (h 1) (h 10) nb NL w.2.2.1) ∧ (cR s 212 (h 1) = some (h 11) ∧ ∃ GL, Lsr s (h 11) (h 12) GL ∧ GL.length = 4 + w.2.2.2.length ∧ ∀ k, k < GL.length → Gob ρ w.2.2.2 s k (GL.getD k 0)) ∧ (¬ h 10 = h 11 ∧ ¬ nb = h 12) ∧ (∀ j, 8 ≤ j → j < 13 → z0 ≤ h j) ∧ (z0 ≤ h 1 ∧ z0 ≤ nb) ∧ (ρ (h 1) = (1, 0) ∧ ρ (h 8) = (8, 0) ∧ ρ (h 9) = (9, 0) ∧ ρ (h 10) = (10, 0) ∧ ρ (h 11) = (11, 0)) ∧ ∀ a, cz s ≤ a → ρ a = (0, 0)
section UW
variable {r z0 nb : Nat} {h : Nat → Nat} {ρ ρ' : Nat → Nat × Nat} {w w' : TV} {s s' : CS}
/-- nothing an object's user sees is another -/
def Fg (s s' : CS) (a : Nat) : Prop := s'.1 a = s.1 a ∧ (∀ f, ¬ (100 ≤ f ∧ f ≤ 107) → cI s' f a = cI s f a) ∧ (∀ f, ¬ f = 100 → cR s' f a = cR s f a) ∧ cA s' a = cA s a ∧ cQ s' a = cQ s a
theorem Pb.g (h : Pb r s s') {a : Nat} (ha : a < cz s) : Fg s s' a := by
  obtain ⟨h1, h2, h3, h4, h5⟩ := h.1 a ha
  exact ⟨h1, fun f q => h2 f (fun z => q z.2), fun f q => h3 f (fun z => q z.2), h4, h5⟩
theorem Fm.g {l : List Nat} (h : Fm l s s') {a : Nat} (ha : a < cz s) (q : ¬ a ∈ l) : Fg s s' a := by
  obtain ⟨h1, h2⟩ := h.1 a ha
  obtain ⟨h3, h4, h5, h6⟩ := h2 q
  exact ⟨h1, fun f _ => h3 f, fun f _ => h4 f, h5, h6⟩
theorem exAt.g (hf : ∀ a c n, s.1 a = some (true, c, n) → 18 ≤ c ∧ c ≤ 21 → Fg s s' a) : ∀ d e L, exAt s d e L → exAt s' d e L := by
  intro d
  induction d with
  | zero => intro e L k; exact k
  | succ d ih =>
    intro e L k
    rcases k with ⟨n, k1, k2, k3⟩ | ⟨f, k1, k2, k3, k4⟩ | ⟨p, L1, k1, k2, k3, k4⟩ | ⟨a, c, La, Lb, w, k1, k2, k3, k4, k5, k6, k7, k8, k9⟩
    · obtain ⟨f1, f2, f3, -⟩ := hf _ _ _ k1 (by omega)
      exact .inl ⟨n, by rw [f1]; exact k1, by rw [f2 _ (by decide)]; exact k2, k3⟩
    · obtain ⟨f1, f2, f3, -⟩ := hf _ _ _ k1 (by omega)
      exact .inr (.inl ⟨f, by rw [f1]; exact k1, by rw [f2 _ (by decide)]; exact k2, k3, k4⟩)
    · obtain ⟨f1, f2, f3, -⟩ := hf _ _ _ k1 (by omega)
      exact .inr (.inr (.inl ⟨p, L1, by rw [f1]; exact k1, by rw [f3 _ (by decide)]; exact k2, ih _ _ k3, k4⟩))
    · obtain ⟨f1, f2, f3, -⟩ := hf _ _ _ k1 (by omega)
      exact .inr (.inr (.inr ⟨a, c, La, Lb, w, by rw [f1]; exact k1, by rw [f3 _ (by decide)]; exact k2, by rw [f3 _ (by decide)]; exact k3, k4, k5, by rw [f2 _ (by decide)]; exact k6, ih _ _ k7, ih _ _ k8, k9⟩))
theorem Gob.f {R : List (List (Nat × Int))} {k o : Nat} (g : Gob ρ R s k o) (hF : Fh s) (hf : ∀ a c n, s.1 a = some (true, c, n) → (4 ≤ c ∧ c ≤ 6) ∨ (18 ≤ c ∧ c ≤ 21) → Fg s s' a) (h16 : ∀ a v, s.1 a = some (true, 16, 0) → cR s 1601 a = some v → Fg s s' a) (hk : ∀ a, a < cz s → s'.1 a = s.1 a) (hρ : ∀ a, a < cz s → ρ' a = ρ a) : Gob ρ' R s' k o := by
  obtain ⟨g0, g1, g2, g3, g4⟩ := g
  have hE := exAt.g (s := s) (s' := s') fun a c n e q => hf a c n e (.inr q)
  refine ⟨fun e => ?_, fun e => ?_, fun e => ?_, fun e => ?_, fun e => ?_⟩
  · obtain ⟨f1, f2, -⟩ := hf _ _ _ (g0 e).1 (by omega)
    exact ⟨by rw [f1]; exact (g0 e).1, by rw [f2 _ (by decide)]; exact (g0 e).2⟩
  · obtain ⟨f1, f2, -⟩ := hf _ _ _ (g1 e).1 (by omega)
    exact ⟨by rw [f1]; exact (g1 e).1, by rw [f2 _ (by decide)]; exact (g1 e).2⟩
  · rw [(hf _ _ _ (g2 e) (by omega)).1]; exact g2 e
  · rw [(hf _ _ _ (g3 e) (by omega)).1]; exact g3 e
  · obtain ⟨y1, y2, ex, y3, y4⟩ := g4 e
    obtain ⟨f1, f2, f3, -⟩ := h16 _ _ y1 y2.1
    have ea : av s' 1601 o = av s 1601 o := by unfold av; rw [f3 _ (by decide)]
    have hlt := hF _ _ _ _ y2.2.1
    refine ⟨by rw [f1]; exact y1, ?_, ex, by rw [f3 _ (by decide)]; exact y3, hE _ _ _ y4⟩
    unfold oA
    rw [ea, f3 _ (by decide), hk _ hlt, hρ _ hlt]
    exact y2
theorem Rl.f {W : Nat → Int} {c l : Nat} (h : Rl s W c l) (g : Fg s s' l) : Rl s' W c l := by
  obtain ⟨⟨w, n, h1⟩, h2, h3, h4⟩ := h
  exact ⟨⟨w, n, by rw [g.1]; exact h1⟩, by rw [g.2.1 _ (by decide)]; exact h2, by rw [g.2.1 _ (by decide)]; exact h3, by rw [g.2.1 _ (by decide)]; exact h4⟩
theorem Nms.f {o na : Nat} {NL : List Nat} {names : List (List Int)} (k : Nms s o na nb NL names) (hF : Fh s) (ho : cR s' 211 o = cR s 211 o) (hk : ∀ a, a < cz s → s'.1 a = s.1 a) (hf : ∀ a c n wr, s.1 a = some (wr, c, n) → c = 22 ∨ c = 23 ∨ c = 25 ∨ c = 103 ∨ c = 106 → Fg s s' a) : Nms s' o na nb NL names := by
  obtain ⟨k1, k2, k3, k4, k5⟩ := k
  obtain ⟨l1, l2, l3⟩ := k3.lt hF
  obtain ⟨h1, h2, ⟨m, hm, m1⟩, h5, h6, h7⟩ := k3
  have ga := hf _ _ _ _ h1 (by omega)
  have gb := hf _ _ _ _ hm (by omega)
  refine ⟨by rw [hk _ (hF _ _ _ _ k1)]; exact k1, by rw [ho]; exact k2, ⟨by rw [ga.1]; exact h1, by rw [ga.2.2.1 _ (by decide)]; exact h2, ⟨m, by rw [gb.1]; exact hm, m1⟩, by rw [ga.2.1 _ (by decide)]; exact h5, fun j hj => by rw [gb.2.2.2.2]; exact h6 j hj, fun y hy => isK_e (hk y (l3 y hy)) (h7 y hy)⟩, k4, fun i hi => ?_⟩
  obtain ⟨q1, q2, ⟨v, wv, q3, q4, q5⟩, q6⟩ := k5 i hi
  have gp : Fg s s' (NL.getD i 0) := by
    unfold isK at q1
    cases e : s.1 (NL.getD i 0) with
    | none => rw [e] at q1; cases q1
    | some x =>
      obtain ⟨xw, xc, xn⟩ := x
      rw [e] at q1
      have q1 : [23, 25].contains xc = true := q1
      simp at q1
      exact hf _ _ _ _ e (by omega)
  have gv := hf _ _ _ _ q4 (by omega)
  exact ⟨isK_e gp.1 q1, by rw [gp.2.1 _ (by decide)]; exact q2, ⟨v, wv, by rw [gp.2.2.1 _ (by decide)]; exact q3, by rw [gv.1]; exact q4, fun j hj => by rw [gv.2.2.2.1]; exact q5 j hj⟩, q6⟩
theorem Lsr.f {a b : Nat} {L : List Nat} (k : Lsr s a b L) (hF : Fh s) (ga : Fg s s' a) (gb : Fg s s' b) (hk : ∀ a, a < cz s → s'.1 a = s.1 a) : Lsr s' a b L := by
  obtain ⟨l1, l2, l3⟩ := k.lt hF
  obtain ⟨h1, h2, ⟨m, hm, m1⟩, h5, h6, h7⟩ := k
  exact ⟨by rw [ga.1]; exact h1, by rw [ga.2.2.1 _ (by decide)]; exact h2, ⟨m, by rw [gb.1]; exact hm, m1⟩, by rw [ga.2.1 _ (by decide)]; exact h5, fun j hj => by rw [gb.2.2.2.2]; exact h6 j hj, fun y hy => isK_e (hk y (l3 y hy)) (h7 y hy)⟩
/-- the town's fields, lights, bars written; names and goers as they were -/
theorem Uwn.g' (k : Uwn z0 h nb ρ w s) (hF : Fh s) (hk : ∀ a, a < cz s → s'.1 a = s.1 a) (hz : cz s ≤ cz s') (hRt : cR s' 211 (h 1) = cR s 211 (h 1) ∧ cR s' 212 (h 1) = cR s 212 (h 1)) (hf : ∀ a c n wr, s.1 a = some (wr, c, n) → (4 ≤ c ∧ c ≤ 6) ∨ (18 ≤ c ∧ c ≤ 25) ∨ c = 103 ∨ c = 106 → Fg s s' a) (h16 : ∀ a v, s.1 a = some (true, 16, 0) → cR s 1601 a = some v → Fg s s' a) (hρ : ∀ a, a < cz s → ρ' a = ρ a) (hρ0 : ∀ a, cz s' ≤ a → ρ' a = (0, 0)) (h1 : Ro s' w'.1 (h 1) (h 8) (h 9)) (h2 : Rt2 s' w'.1 w'.2.1 (h 1)) (h3 : w'.2.2 = w.2.2) : Uwn z0 h nb ρ' w' s' := by
  obtain ⟨⟨a1, a2, a3⟩, ⟨NL, b1⟩, ⟨c1, GL, c2, c3, c4⟩, d1, d2, d3, ⟨d41, d42, d43, d44, d45⟩, d5⟩ := k
  have ga := hf _ _ _ _ c2.1 (by omega)
  obtain ⟨m, hm, m1⟩ := c2.2.2.1
  have gb := hf _ _ _ _ hm (by omega)
  obtain ⟨r0, r1, r2, r3, r4, r5, r6, r7, r8⟩ := id a2
  refine ⟨⟨by rw [hk _ (hF _ _ _ _ a1)]; exact a1, h1, h2⟩, ⟨NL, ?_⟩, ⟨by rw [hRt.2]; exact c1, GL, c2.f hF ga gb hk, by rw [h3]; exact c3, fun i hi => ?_⟩, d1, d2, d3, ⟨(hρ _ (hF _ _ _ _ a1)).trans d41, (hρ _ (hF _ _ _ _ r5)).trans d42, (hρ _ (hF _ _ _ _ r6)).trans d43, (hρ _ (hF _ _ _ _ b1.2.2.1.1)).trans d44, (hρ _ (hF _ _ _ _ c2.1)).trans d45⟩, hρ0⟩
  · rw [h3]
    exact b1.f hF hRt.1 hk fun a c n wr e q => hf a c n wr e (by omega)
  · rw [h3]
    exact (c4 i hi).f hF (fun a c n e q => hf a c n true e (by omega)) h16 hk hρ
theorem Uwn.g (k : Uwn z0 h nb ρ w s) (hF : Fh s) (hk : ∀ a, a < cz s → s'.1 a = s.1 a) (hz : cz s ≤ cz s') (hRt : cR s' 211 (h 1) = cR s 211 (h 1) ∧ cR s' 212 (h 1) = cR s 212 (h 1)) (hf : ∀ a c n wr, s.1 a = some (wr, c, n) → (4 ≤ c ∧ c ≤ 6) ∨ (16 ≤ c ∧ c ≤ 25) ∨ c = 103 ∨ c = 106 → Fg s s' a) (h1 : Ro s' w'.1 (h 1) (h 8) (h 9)) (h2 : Rt2 s' w'.1 w'.2.1 (h 1)) (h3 : w'.2.2 = w.2.2) : Uwn z0 h nb ρ w' s' := k.g' hF hk hz hRt (fun a c n wr e q => hf a c n wr e (by omega)) (fun a v e _ => hf a 16 0 true e (by omega)) (fun _ _ => rfl) (fun a ha => k.2.2.2.2.2.2.2 a (by omega)) h1 h2 h3
theorem Ro.f {W : Nat → Int} {ta la ba : Nat} (k : Ro s W ta la ba) (hF : Fh s) (hg : ∀ a, a < cz s → Fg s s' a) : Ro s' W ta la ba := by
  obtain ⟨r0, r1, r2, r3, r4, r5, r6, r7, r8⟩ := k
  have g0 := hg _ (isK_lt hF r0)
  have g5 := hg _ (hF _ _ _ _ r5)
  have g6 := hg _ (hF _ _ _ _ r6)
  refine ⟨isK_e g0.1 r0, by rw [g0.2.1 _ (by decide)]; exact r1, by rw [g0.2.1 _ (by decide)]; exact r2, by rw [g0.2.2.1 _ (by decide)]; exact r3, by rw [g0.2.2.1 _ (by decide)]; exact r4, by rw [g5.1]; exact r5, by rw [g6.1]; exact r6, fun c hc => by rw [g6.2.2.2.1]; exact r7 c hc, fun c hc => ?_⟩
  rcases r8 c hc with z | ⟨z1, l, z2, z3⟩
  · exact .inl ⟨z.1, by rw [g5.2.2.2.2]; exact z.2⟩
  · obtain ⟨w, n, z4⟩ := z3.1
    exact .inr ⟨z1, l, by rw [g5.2.2.2.2]; exact z2, z3.f (hg l (hF _ _ _ _ z4))⟩
theorem Rt2.f {W : Nat → Int} {b o : Nat} (k : Rt2 s W b o) (g : Fg s s' o) : Rt2 s' W b o := by
  unfold Rt2
  rw [g.2.1 202 (by decide), g.2.1 203 (by decide), g.2.1 204 (by decide), g.2.1 205 (by decide), g.2.1 206 (by decide), g.2.1 208 (by decide)]
  exact k
theorem Uwn.b (k : Uwn z0 h nb ρ w s) (hF : Fh s) (g : Pb r s s') : Uwn z0 h nb ρ w s' := by
  have ho := hF _ _ _ _ k.1.1
  have go := g.g ho
  exact k.g hF (fun a ha => (g.g ha).1) g.2.2.1 ⟨go.2.2.1 _ (by decide), go.2.2.1 _ (by decide)⟩ (fun a c n wr e q => g.g (hF _ _ _ _ e)) (k.1.2.1.f hF fun a ha => g.g ha) (k.1.2.2.f go) rfl
end UW
/-- how a town under way stands to the reader -/
def Uwx (z0 r o : Nat) (ρ0 : Nat → Nat × Nat) (w : TV) (s : CS) : Prop := cR s 107 r = some o ∧ cI s 106 r = i32 0 ∧ ∃ h nb ρ, Uwn z0 h nb ρ w s ∧ h 1 = o ∧ (∀ a, a < z0 → ρ a = ρ0 a) ∧ ∀ a, z0 ≤ a → (ρ a).1 < 100
def RLN (z0 r o : Nat) (ρ0 : Nat → Nat × Nat) (_ : Unit) (w : TV) (s : CS) : Prop := Uwx z0 r o ρ0 w s
theorem Uwx.b {z0 r o : Nat} {ρ0 : Nat → Nat × Nat} {w : TV} {s s' : CS} (k : Uwx z0 r o ρ0 w s) (hF : Fh s) (g : Pb r s s') (hr : r < cz s) (h6 : cI s' 106 r = cI s 106 r) : Uwx z0 r o ρ0 w s' := by
  obtain ⟨k1, k2, h, nb, ρ, k3, k4⟩ := k
  exact ⟨by rw [(g.g hr).2.2.1 _ (by decide)]; exact k1, by rw [h6]; exact k2, h, nb, ρ, k3.b hF g, k4⟩
