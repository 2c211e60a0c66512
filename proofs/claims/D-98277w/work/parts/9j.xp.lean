/-! LAYER 2: expressions: the pure parser; objects under way -/
set_option maxRecDepth 100000
/-- codes, depth -/
abbrev XV := List (Nat × Int) × Nat
abbrev XO := Int ⊕ (XV × Nat)
def opX (c : Nat) (A B : XV) : XV := (A.1 ++ (B.1 ++ [(c, 0)]), max A.2 B.2 + 1)
section XP
variable (t : Nat → Int) (n : Nat)
def prL (pt : Nat → XO) : Nat → XV → Nat → XO
  | 0, A, k => .inr (A, k)
  | m + 1, A, k => if isSg t n 42 (tP t n k) = true then bP (pt (k + 1)) fun B k2 => prL pt m (opX 6 A B) k2 else .inr (A, k)
def prX (pt : Nat → XO) (k : Nat) : XO := bP (pt k) fun A k1 => prL t n pt 1001 A k1
def smL (pt : Nat → XO) : Nat → XV → Nat → XO
  | 0, A, k => .inr (A, k)
  | m + 1, A, k => if isSg t n 43 (tP t n k) = true then bP (prX t n pt (k + 1)) fun B k2 => smL pt m (opX 4 A B) k2 else if isSg t n 45 (tP t n k) = true then bP (prX t n pt (k + 1)) fun B k2 => smL pt m (opX 5 A B) k2 else .inr (A, k)
def smX (pt : Nat → XO) (k : Nat) : XO := bP (prX t n pt k) fun A k1 => smL t n pt 1001 A k1
def teX (pt : Nat → XO) (k : Nat) : XO := bP (smX t n pt k) fun A k1 => if isSg t n 60 (tP t n k1) = true then bP (smX t n pt (k1 + 1)) fun B k2 => .inr (opX 7 A B, k2) else if isSg t n 61 (tP t n k1) = true then bP (smX t n pt (k1 + 1)) fun B k2 => .inr (opX 8 A B, k2) else .inr (A, k1)
/-- and, or -/
def aoW : List (List Int) := [[97, 110, 100], [111, 114]]
def exL (pt : Nat → XO) : Nat → XV → Nat → XO
  | 0, A, k => .inr (A, k)
  | m + 1, A, k => if 0 ≤ whV aoW t n (tP t n k) then bP (teX t n pt (k + 1)) fun B k2 => exL pt m (opX (if whV aoW t n (tP t n k) = 0 then 9 else 10) A B) k2 else .inr (A, k)
def exX (pt : Nat → XO) (k : Nat) : XO := bP (teX t n pt k) fun A k1 => exL t n pt 1001 A k1
end XP
/-- nothing but object o is another -/
def Eo (o : Nat) (s s' : CS) : Prop := s'.1 = s.1 ∧ cz s' = cz s ∧ cl s' = cl s ∧ ∀ a, ¬ a = o → (∀ f, cI s' f a = cI s f a) ∧ (∀ f, cR s' f a = cR s f a) ∧ cA s' a = cA s a ∧ cQ s' a = cQ s a
theorem Eo.rf {o : Nat} {s : CS} : Eo o s s := ⟨rfl, rfl, rfl, fun _ _ => ⟨fun _ => rfl, fun _ => rfl, rfl, rfl⟩⟩
theorem Eo.tr {o : Nat} {s s1 s2 : CS} (h : Eo o s s1) (k : Eo o s1 s2) : Eo o s s2 := ⟨k.1.trans h.1, k.2.1.trans h.2.1, k.2.2.1.trans h.2.2.1, fun a q => by
  obtain ⟨h2, h3, h4, h5⟩ := h.2.2.2 a q
  obtain ⟨k2, k3, k4, k5⟩ := k.2.2.2 a q
  exact ⟨fun f => (k2 f).trans (h2 f), fun f => (k3 f).trans (h3 f), k4.trans h4, k5.trans h5⟩⟩
theorem Eo.uI {o f : Nat} {v : Int32} {s : CS} : Eo o s (uI s f o v) := ⟨rfl, rfl, rfl, fun a q => ⟨fun f' => rI_a q, fun _ => rfl, rfl, rfl⟩⟩
theorem Eo.uR {o f : Nat} {v : Option Nat} {s : CS} : Eo o s (uR s f o v) := ⟨rfl, rfl, rfl, fun a q => ⟨fun _ => rfl, fun f' => rR_a q, rfl, rfl⟩⟩
theorem Eo.x {o z : Nat} {s s' : CS} (h : Eo o s s') (k : z ≤ o) : Ex z s s' := fun a ha => ⟨by rw [h.1], h.2.2.2 a (by omega)⟩
theorem exAt.le {s : CS} : ∀ (d d' e : Nat) (L : List (Nat × Int)), d ≤ d' → exAt s d e L → exAt s d' e L := by
  intro d
  induction d with
  | zero => intro d' e L h k; exact absurd k (fun k => k)
  | succ d ih =>
    intro d' e L h k
    obtain ⟨d', rfl⟩ : ∃ q, d' = q + 1 := ⟨d' - 1, by omega⟩
    rcases k with ⟨n, k1, k2, k3⟩ | ⟨f, k1, k2, k3, k4⟩ | ⟨p, L1, k1, k2, k3, k4⟩ | ⟨a, c, La, Lb, w, k1, k2, k3, k4, k5, k6, k7, k8, k9⟩
    · exact .inl ⟨n, k1, k2, k3⟩
    · exact .inr (.inl ⟨f, k1, k2, k3, k4⟩)
    · exact .inr (.inr (.inl ⟨p, L1, k1, k2, ih _ _ _ (by omega) k3, k4⟩))
    · exact .inr (.inr (.inr ⟨a, c, La, Lb, w, k1, k2, k3, k4, k5, k6, ih _ _ _ (by omega) k7, ih _ _ _ (by omega) k8, k9⟩))
/-- an object that is not yet whole is no part of an expression -/
theorem exAt.o {o c : Nat} {s s' : CS} (h : Eo o s s') (ho : s.1 o = some (true, c, 0)) (hc : c = 20 ∨ c = 21) (h0 : cR s 2000 o = none) (h1 : cR s 2101 o = none) : ∀ (d e : Nat) (L : List (Nat × Int)), exAt s d e L → exAt s' d e L := by
  obtain ⟨g1, g2, g3, g4⟩ := h
  intro d
  induction d with
  | zero => intro e L k; exact k
  | succ d ih =>
    intro e L k
    rcases k with ⟨n, k1, k2, k3⟩ | ⟨f, k1, k2, k3, k4⟩ | ⟨p, L1, k1, k2, k3, k4⟩ | ⟨a, b, La, Lb, w, k1, k2, k3, k4, k5, k6, k7, k8, k9⟩
    · have ne : ¬ e = o := fun z => by
        rw [z, ho] at k1
        cases k1
        omega
      exact .inl ⟨n, by rw [g1]; exact k1, by rw [(g4 e ne).1]; exact k2, k3⟩
    · have ne : ¬ e = o := fun z => by
        rw [z, ho] at k1
        cases k1
        omega
      exact .inr (.inl ⟨f, by rw [g1]; exact k1, by rw [(g4 e ne).1]; exact k2, k3, k4⟩)
    · have ne : ¬ e = o := fun z => by
        rw [z, h0] at k2
        cases k2
      exact .inr (.inr (.inl ⟨p, L1, by rw [g1]; exact k1, by rw [(g4 e ne).2.1]; exact k2, ih _ _ k3, k4⟩))
    · have ne : ¬ e = o := fun z => by
        rw [z, h1] at k2
        cases k2
      have gg := g4 e ne
      exact .inr (.inr (.inr ⟨a, b, La, Lb, w, by rw [g1]; exact k1, by rw [gg.2.1]; exact k2, by rw [gg.2.1]; exact k3, k4, k5, by rw [gg.1]; exact k6, ih _ _ k7, ih _ _ k8, k9⟩))
theorem exAt.b {r : Nat} {s s' : CS} (hF : Fh s) (h : Pb r s s') {d e : Nat} {L : List (Nat × Int)} (k : exAt s d e L) : exAt s' d e L := exAt.y (ρ := fun _ => (0, 0)) (ρ' := fun _ => (0, 0)) (h.1.y hF fun _ _ => rfl) d e L k
section TW
variable {s : CS}
theorem ok_21 {o c a b : Nat} (hc : 4 ≤ c ∧ c ≤ 10) (ho : s.1 o = some (true, 21, 0)) : Ok (FX21_init o (i32 (wayC c)) a b s) fun s' => Eo o s s' ∧ cI s' 2100 o = i32 (wayC c) ∧ cR s' 2101 o = some a ∧ cR s' 2102 o = some b := by
  unfold FX21_init FX17_init
  refine ok_mz (Q := fun s' => Eo o s s' ∧ cI s' 2100 o = i32 (wayC c) ∧ cR s' 2101 o = some a ∧ cR s' 2102 o = some b) ?_ fun z hz => ⟨by rw [hz.1.2.1]; exact Nat.le_refl _, by rw [hz.1.2.2.1]; exact Nat.le_refl _⟩
  refine ok_be rfl ?_
  refine ok_g ?_ ?_
  · have : ∀ c, c < 11 → isc (i32 (wayC c)) = true := by decide +kernel
    exact this c (by omega)
  refine ok_pI ho rfl (ok_pR (by exact ho) rfl (ok_pR (by exact ho) rfl (ok_s ⟨(Eo.uI.tr Eo.uR).tr Eo.uR, ?_, ?_, rR_t⟩)))
  · exact rI_t
  · rw [rR_n (by decide), rR_t]
end TW
