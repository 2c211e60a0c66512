/-! LAYER 2: the component's state and the twin's as numbers -/
set_option maxRecDepth 100000
/-- scratch fields, scratch arrays -/
def scF (f : Nat) : Bool := [9, 10, 11, 12, 20, 21, 22].contains f
def scA (p : Nat × Nat) : Bool := decide (20 ≤ p.1 ∧ p.1 < 30)
/-- nothing but scratch is another -/
def Fq (ρ : Nat → Nat × Nat) (s s' : CS) : Prop := s'.1 = s.1 ∧ (∀ f a, scF f = false → cI s' f a = cI s f a) ∧ (∀ f a, cR s' f a = cR s f a) ∧ (∀ a, scA (ρ a) = false → cA s' a = cA s a) ∧ (∀ a, cQ s' a = cQ s a) ∧ cz s' = cz s ∧ cl s' = cl s
theorem Fq.rf {ρ : Nat → Nat × Nat} {s : CS} : Fq ρ s s := ⟨rfl, fun _ _ _ => rfl, fun _ _ => rfl, fun _ _ => rfl, fun _ => rfl, rfl, rfl⟩
theorem Fq.tr {ρ : Nat → Nat × Nat} {s s1 s2 : CS} (h : Fq ρ s s1) (k : Fq ρ s1 s2) : Fq ρ s s2 := ⟨k.1.trans h.1, fun f a q => (k.2.1 f a q).trans (h.2.1 f a q), fun f a => (k.2.2.1 f a).trans (h.2.2.1 f a), fun a q => (k.2.2.2.1 a q).trans (h.2.2.2.1 a q), fun a => (k.2.2.2.2.1 a).trans (h.2.2.2.2.1 a), k.2.2.2.2.2.1.trans h.2.2.2.2.2.1, k.2.2.2.2.2.2.trans h.2.2.2.2.2.2⟩
theorem Fq.uI {ρ : Nat → Nat × Nat} {s : CS} {f a : Nat} {v : Int32} (h : scF f = true) : Fq ρ s (uI s f a v) := by
  refine ⟨rfl, fun f' a' q => ?_, fun _ _ => rfl, fun _ _ => rfl, fun _ => rfl, rfl, rfl⟩
  show (if f' = f ∧ a' = a then v else cI s f' a') = cI s f' a'
  rw [if_neg]
  rintro ⟨rfl, -⟩
  rw [h] at q
  cases q
theorem Fq.uJ {ρ : Nat → Nat × Nat} {s : CS} {f a : Nat} {v : Int64} : Fq ρ s (uJ s f a v) := ⟨rfl, fun _ _ _ => rfl, fun _ _ => rfl, fun _ _ => rfl, fun _ => rfl, rfl, rfl⟩
theorem Fq.uB {ρ : Nat → Nat × Nat} {s : CS} {a i : Nat} {v : Int64} : Fq ρ s (uB s a i v) := ⟨rfl, fun _ _ _ => rfl, fun _ _ => rfl, fun _ _ => rfl, fun _ => rfl, rfl, rfl⟩
theorem Fq.uA {ρ : Nat → Nat × Nat} {s : CS} {a i : Nat} {v : Int32} (h : scA (ρ a) = true) : Fq ρ s (uA s a i v) := by
  refine ⟨rfl, fun _ _ _ => rfl, fun _ _ => rfl, fun a' q => ?_, fun _ => rfl, rfl, rfl⟩
  show (if a' = a then upd (cA s a) i v else cA s a') = cA s a'
  rw [if_neg]
  rintro rfl
  rw [h] at q
  cases q
/-- an object's array -/
def av (s : CS) (f o : Nat) : Nat := (cR s f o).getD 0
def oA (ρ : Nat → Nat × Nat) (s : CS) (o f c n r : Nat) : Prop := cR s f o = some (av s f o) ∧ s.1 (av s f o) = some (true, c, n) ∧ ρ (av s f o) = (r, o)
/-- a State object -/
def SO (ρ : Nat → Nat × Nat) (s : CS) (o : Nat) : Prop := s.1 o = some (true, 8, 0) ∧ oA ρ s o 806 102 54 101 ∧ oA ρ s o 807 102 10 102 ∧ oA ρ s o 808 100 10 103 ∧ oA ρ s o 809 100 10 104 ∧ oA ρ s o 810 100 8 105 ∧ oA ρ s o 811 100 8 106
/-- it holds these numbers (the twin's row of a state) -/
def SV (s : CS) (o : Nat) (σ : Nat → Int) : Prop := cI s 800 o = i32 (σ 0) ∧ cI s 801 o = i32 (σ 1) ∧ cI s 802 o = i32 (σ 2) ∧ cI s 803 o = i32 (σ 3) ∧ ∀ c, c < 54 → cA s (av s 806 o) c = i32 (σ (4 + c))
def SV2 (s : CS) (o : Nat) (σ : Nat → Int) : Prop := cI s 804 o = i32 (σ 58) ∧ cI s 805 o = i32 (σ 59) ∧ (∀ k : Nat, (k : Int) < σ 58 → cA s (av s 808 o) k = i32 (σ (60 + 3 * k)) ∧ cA s (av s 807 o) k = i32 (σ (61 + 3 * k)) ∧ cA s (av s 809 o) k = i32 (σ (62 + 3 * k))) ∧ ∀ k : Nat, (k : Int) < σ 59 → cA s (av s 810 o) k = i32 (6 * σ (93 + 3 * k) + σ (92 + 3 * k)) ∧ cA s (av s 811 o) k = i32 (σ (94 + 3 * k))
/-- the state objects by slots: 0 now, 1 .. 4 marks, 5 .. 20 undone -/
def sl (s : CS) (g : Nat → Nat) (j : Nat) : Option Nat := if j = 0 then some (g 3) else if j < 5 then cQ s (g 7) (j - 1) else cQ s (g 6) (j - 5)
def act (m : Nat → Int) (j : Nat) : Prop := j = 0 ∨ (1 ≤ j ∧ j < 5 ∧ m (1 + j) = 1) ∨ (5 ≤ j ∧ (j : Int) - 5 < m 1)
def Bs (g : Nat → Nat) (ρ : Nat → Nat × Nat) (S : Nat → Nat → Int) (m : Nat → Int) (s : CS) : Prop := (∀ j, j < 21 → (act m j → ∃ o, sl s g j = some o) ∧ ∀ o, sl s g j = some o → SO ρ s o ∧ (act m j → SV s o (S j) ∧ (j < 5 → SV2 s o (S j)))) ∧ (∀ i j o, i < 21 → j < 21 → sl s g i = some o → sl s g j = some o → i = j) ∧ ∀ j, 1 ≤ j → j < 5 → m (1 + j) = 0 → sl s g j = none
/-- the town's own numbers -/
def Rt (s : CS) (W : Nat → Int) (ta : Nat) : Prop := (cI s 202 ta = i32 (W 2) ∨ (cI s 202 ta = i32 (-1) ∧ W 2 = 10)) ∧ cI s 203 ta = i32 (W 3) ∧ cI s 204 ta = i32 (W 4) ∧ (cI s 205 ta = i32 (W 5) ∨ (cI s 205 ta = i32 (-1) ∧ W 5 = 0)) ∧ cI s 206 ta = i32 (W 9) ∧ cI s 208 ta = i32 (W 6)
/-- the char of a two-sided expression by the twin's code -/
def wayC : Nat → Int
  | 4 => 43
  | 5 => 45
  | 6 => 42
  | 7 => 60
  | 8 => 61
  | 9 => 38
  | _ => 124
/-- an expression object and its codes (the twin's), no deeper than d -/
def exAt (s : CS) : Nat → Nat → List (Nat × Int) → Prop
  | 0, _, _ => False
  | d + 1, e, L => (∃ n : Int, s.1 e = some (true, 18, 0) ∧ cI s 1800 e = i32 n ∧ L = [(1, n)]) ∨ (∃ f : Nat, s.1 e = some (true, 19, 0) ∧ cI s 1900 e = i32 f ∧ f < 4 ∧ L = [(2, (f : Int))]) ∨ (∃ p L1, s.1 e = some (true, 20, 0) ∧ cR s 2000 e = some p ∧ exAt s d p L1 ∧ L = L1 ++ [(3, 0)]) ∨ ∃ a b La Lb c, s.1 e = some (true, 21, 0) ∧ cR s 2101 e = some a ∧ cR s 2102 e = some b ∧ 4 ≤ c ∧ c ≤ 10 ∧ cI s 2100 e = i32 (wayC c) ∧ exAt s d a La ∧ exAt s d b Lb ∧ L = La ++ (Lb ++ [(c, 0)])
/-- the goers: their list, by numbers -/
def Bg (g : Nat → Nat) (ρ : Nat → Nat × Nat) (W : Nat → Int) (RC : Nat → List (Nat × Int)) (s : CS) : Prop := cI s 2201 (g 11) = i32 (4 + W 8) ∧ cI s 2201 (g 10) = i32 (W 8) ∧ cR s 2200 (g 11) = some (g 12) ∧ (∃ n, s.1 (g 12) = some (true, 106, n) ∧ 4 + W 8 ≤ n ∧ n ≤ 1000) ∧ (∀ k : Nat, (k : Int) < 4 + W 8 → ∃ o, cQ s (g 12) k = some o ∧ (k = 0 → s.1 o = some (true, 4, 0) ∧ cI s 400 o = i32 0) ∧ (k = 1 → s.1 o = some (true, 4, 0) ∧ cI s 400 o = i32 1) ∧ (k = 2 → s.1 o = some (true, 5, 0)) ∧ (k = 3 → s.1 o = some (true, 6, 0)) ∧ (4 ≤ k → s.1 o = some (true, 16, 0) ∧ oA ρ s o 1601 100 4 29 ∧ ∃ e, cR s 1600 o = some e ∧ exAt s 550 e (RC (k - 4))))
/-- field, owner, target, class or array type, length -/
def bTab : List (Nat × Nat × Nat × Nat × Nat) := [(0, 0, 5, 103, 1000), (1, 0, 4, 1, 0), (2, 0, 1, 2, 0), (3, 0, 2, 7, 0), (4, 0, 3, 8, 0), (6, 0, 6, 105, 16), (8, 0, 20, 100, 64800), (13, 0, 21, 100, 1404), (14, 0, 22, 100, 63234), (15, 0, 23, 100, 163940), (16, 0, 24, 101, 240), (17, 0, 25, 101, 240), (18, 0, 26, 100, 4), (19, 0, 27, 100, 4), (26, 0, 28, 100, 54), (27, 0, 7, 105, 4), (209, 1, 8, 104, 54), (210, 1, 9, 100, 54), (211, 1, 10, 22, 0), (212, 1, 11, 22, 0), (700, 2, 13, 100, 13), (701, 2, 14, 100, 13)]
/-- the component's state: town W, states S, walk V, numbers m (0 taped, 1 undos, 2 .. 5 marked), tape Tp, rules RC -/
def B (g : Nat → Nat) (ρ : Nat → Nat × Nat) (W : Nat → Int) (S : Nat → Nat → Int) (V m Tp : Nat → Int) (RC : Nat → List (Nat × Int)) (s : CS) : Prop := s.1 (g 0) = some (true, 0, 0) ∧ (∀ (j : Nat) (q : Nat × Nat × Nat × Nat × Nat), bTab[j]? = some q → cR s q.1 (g q.2.1) = some (g q.2.2.1) ∧ s.1 (g q.2.2.1) = some (true, q.2.2.2.1, q.2.2.2.2) ∧ ρ (g q.2.2.1) = (q.2.2.1, 0)) ∧ Ro s W (g 1) (g 8) (g 9) ∧ Rt s W (g 1) ∧ Bg g ρ W RC s ∧ (cI s 702 (g 2) = i32 (V 0) ∧ ∀ k : Nat, (k : Int) < V 0 → cA s (g 13) k = i32 (V (1 + 2 * k)) ∧ cA s (g 14) k = i32 (V (2 + 2 * k))) ∧ (cI s 5 (g 0) = i32 (m 0) ∧ cI s 7 (g 0) = i32 (m 1)) ∧ (∀ k : Nat, (k : Int) < m 0 → cA s (g 5) k = i32 (Tp k)) ∧ Bs g ρ S m s
theorem isK_o {s : CS} {a c n : Nat} {w : Bool} {cs : List Nat} (h : s.1 a = some (w, c, n)) (k : cs.contains c = true) : isK s a cs = true := by rw [isK_i h, k]
theorem isW_o {s : CS} {a c n : Nat} {cs : List Nat} (h : s.1 a = some (true, c, n)) (k : cs.contains c = true) : isW s a cs = true := by
  unfold isW
  rw [h]
  dsimp only
  rw [k]
  rfl
theorem inA_i {s : CS} {a c n : Nat} {w : Bool} {z : Int} (h : s.1 a = some (w, c, n)) (h0 : 0 ≤ z) (h1 : z < n) (hn : n ≤ 2147483648) : inA s a c (i32 z) = true := by
  unfold inA
  rw [h]
  dsimp only
  rw [i32_inb_t h0 h1 hn]
  simp
theorem inW_i {s : CS} {a c n : Nat} {z : Int} (h : s.1 a = some (true, c, n)) (h0 : 0 ≤ z) (h1 : z < n) (hn : n ≤ 2147483648) : inW s a c (i32 z) = true := by
  unfold inW
  rw [h]
  dsimp only
  rw [i32_inb_t h0 h1 hn]
  simp
theorem clp {z : Int} {n : Nat} (h0 : 0 ≤ z) (h1 : z < n) (hn : n ≤ 2147483648) : (i32 z).toNatClampNeg = z.toNat := i32_clamp h0 ⟨by omega, by omega⟩
theorem lI_i {α : Type} {s : CS} {a c n : Nat} {w : Bool} {z : Int} {K : Int32 → Option α} (h : s.1 a = some (w, c, n)) (h0 : 0 ≤ z) (h1 : z < n) (hn : n ≤ 2147483648) : lI s a c (i32 z) K = K (cA s a z.toNat) := by
  unfold lI
  rw [if_pos (inA_i h h0 h1 hn), clp h0 h1 hn]
theorem lJ_i {α : Type} {s : CS} {a c n : Nat} {w : Bool} {z : Int} {K : Int64 → Option α} (h : s.1 a = some (w, c, n)) (h0 : 0 ≤ z) (h1 : z < n) (hn : n ≤ 2147483648) : lJ s a c (i32 z) K = K (cB s a z.toNat) := by
  unfold lJ
  rw [if_pos (inA_i h h0 h1 hn), clp h0 h1 hn]
theorem lR_i {α : Type} {s : CS} {a c n : Nat} {w : Bool} {z : Int} {K : Option Nat → Option α} (h : s.1 a = some (w, c, n)) (h0 : 0 ≤ z) (h1 : z < n) (hn : n ≤ 2147483648) : lR s a c (i32 z) K = K (cQ s a z.toNat) := by
  unfold lR
  rw [if_pos (inA_i h h0 h1 hn), clp h0 h1 hn]
theorem tI_i {α : Type} {s : CS} {a c n : Nat} {z : Int} {v : Int32} {K : CS → Option α} (h : s.1 a = some (true, c, n)) (h0 : 0 ≤ z) (h1 : z < n) (hn : n ≤ 2147483648) : tI_ s a c (i32 z) v K = K (uA s a z.toNat v) := by
  unfold tI_
  rw [if_pos (inW_i h h0 h1 hn), clp h0 h1 hn]
theorem tJ_i {α : Type} {s : CS} {a c n : Nat} {z : Int} {v : Int64} {K : CS → Option α} (h : s.1 a = some (true, c, n)) (h0 : 0 ≤ z) (h1 : z < n) (hn : n ≤ 2147483648) : tJ_ s a c (i32 z) v K = K (uB s a z.toNat v) := by
  unfold tJ_
  rw [if_pos (inW_i h h0 h1 hn), clp h0 h1 hn]
theorem tR_i {α : Type} {s : CS} {a c n : Nat} {z : Int} {v : Option Nat} {K : CS → Option α} (h : s.1 a = some (true, c, n)) (h0 : 0 ≤ z) (h1 : z < n) (hn : n ≤ 2147483648) : tR_ s a c (i32 z) v K = K (uQ s a z.toNat v) := by
  unfold tR_
  rw [if_pos (inW_i h h0 h1 hn), clp h0 h1 hn]
theorem gcx {s : CS} {a c n : Nat} (h : s.1 a = some (true, c, n)) (cs : List Nat) (k : cs.contains c = true) : isK s a cs = true ∧ (∀ (α : Type) (f : Nat) (K : Int32 → Option α), gI s a cs f K = K (cI s f a)) ∧ (∀ (α : Type) (f : Nat) (K : Int64 → Option α), gJ s a cs f K = K (cJ s f a)) ∧ (∀ (α : Type) (f : Nat) (K : Option Nat → Option α), gR s a cs f K = K (cR s f a)) ∧ (∀ (α : Type) (f : Nat) (v : Int32) (K : CS → Option α), pI s a cs f v K = K (uI s f a v)) ∧ (∀ (α : Type) (f : Nat) (v : Int64) (K : CS → Option α), pJ s a cs f v K = K (uJ s f a v)) ∧ ∀ (α : Type) (f : Nat) (v : Option Nat) (K : CS → Option α), pR s a cs f v K = K (uR s f a v) := by
  have h1 := isK_o h k
  have h2 := isW_o h k
  exact ⟨h1, fun _ _ _ => if_pos h1, fun _ _ _ => if_pos h1, fun _ _ _ => if_pos h1, fun _ _ _ _ => if_pos h2, fun _ _ _ _ => if_pos h2, fun _ _ _ _ => if_pos h2⟩
section RB
variable {g : Nat → Nat} {ρ : Nat → Nat × Nat} {W : Nat → Int} {S : Nat → Nat → Int} {V m Tp : Nat → Int} {RC : Nat → List (Nat × Int)} {s : CS}
theorem bcx (b : B g ρ W S V m Tp RC s) : (isK s (g 0) [0] = true ∧ (∀ (α : Type) (f : Nat) (K : Int32 → Option α), gI s (g 0) [0] f K = K (cI s f (g 0))) ∧ (∀ (α : Type) (f : Nat) (K : Int64 → Option α), gJ s (g 0) [0] f K = K (cJ s f (g 0))) ∧ (∀ (α : Type) (f : Nat) (K : Option Nat → Option α), gR s (g 0) [0] f K = K (cR s f (g 0))) ∧ (∀ (α : Type) (f : Nat) (v : Int32) (K : CS → Option α), pI s (g 0) [0] f v K = K (uI s f (g 0) v)) ∧ (∀ (α : Type) (f : Nat) (v : Int64) (K : CS → Option α), pJ s (g 0) [0] f v K = K (uJ s f (g 0) v)) ∧ ∀ (α : Type) (f : Nat) (v : Option Nat) (K : CS → Option α), pR s (g 0) [0] f v K = K (uR s f (g 0) v)) ∧ (isK s (g 4) [1] = true ∧ (∀ (α : Type) (f : Nat) (K : Int32 → Option α), gI s (g 4) [1] f K = K (cI s f (g 4))) ∧ (∀ (α : Type) (f : Nat) (K : Int64 → Option α), gJ s (g 4) [1] f K = K (cJ s f (g 4))) ∧ (∀ (α : Type) (f : Nat) (K : Option Nat → Option α), gR s (g 4) [1] f K = K (cR s f (g 4))) ∧ (∀ (α : Type) (f : Nat) (v : Int32) (K : CS → Option α), pI s (g 4) [1] f v K = K (uI s f (g 4) v)) ∧ (∀ (α : Type) (f : Nat) (v : Int64) (K : CS → Option α), pJ s (g 4) [1] f v K = K (uJ s f (g 4) v)) ∧ ∀ (α : Type) (f : Nat) (v : Option Nat) (K : CS → Option α), pR s (g 4) [1] f v K = K (uR s f (g 4) v)) ∧ (isK s (g 1) [2] = true ∧ (∀ (α : Type) (f : Nat) (K : Int32 → Option α), gI s (g 1) [2] f K = K (cI s f (g 1))) ∧ (∀ (α : Type) (f : Nat) (K : Int64 → Option α), gJ s (g 1) [2] f K = K (cJ s f (g 1))) ∧ (∀ (α : Type) (f : Nat) (K : Option Nat → Option α), gR s (g 1) [2] f K = K (cR s f (g 1))) ∧ (∀ (α : Type) (f : Nat) (v : Int32) (K : CS → Option α), pI s (g 1) [2] f v K = K (uI s f (g 1) v)) ∧ (∀ (α : Type) (f : Nat) (v : Int64) (K : CS → Option α), pJ s (g 1) [2] f v K = K (uJ s f (g 1) v)) ∧ ∀ (α : Type) (f : Nat) (v : Option Nat) (K : CS → Option α), pR s (g 1) [2] f v K = K (uR s f (g 1) v)) ∧ (isK s (g 2) [7] = true ∧ (∀ (α : Type) (f : Nat) (K : Int32 → Option α), gI s (g 2) [7] f K = K (cI s f (g 2))) ∧ (∀ (α : Type) (f : Nat) (K : Int64 → Option α), gJ s (g 2) [7] f K = K (cJ s f (g 2))) ∧ (∀ (α : Type) (f : Nat) (K : Option Nat → Option α), gR s (g 2) [7] f K = K (cR s f (g 2))) ∧ (∀ (α : Type) (f : Nat) (v : Int32) (K : CS → Option α), pI s (g 2) [7] f v K = K (uI s f (g 2) v)) ∧ (∀ (α : Type) (f : Nat) (v : Int64) (K : CS → Option α), pJ s (g 2) [7] f v K = K (uJ s f (g 2) v)) ∧ ∀ (α : Type) (f : Nat) (v : Option Nat) (K : CS → Option α), pR s (g 2) [7] f v K = K (uR s f (g 2) v)) ∧ (isK s (g 3) [8] = true ∧ (∀ (α : Type) (f : Nat) (K : Int32 → Option α), gI s (g 3) [8] f K = K (cI s f (g 3))) ∧ (∀ (α : Type) (f : Nat) (K : Int64 → Option α), gJ s (g 3) [8] f K = K (cJ s f (g 3))) ∧ (∀ (α : Type) (f : Nat) (K : Option Nat → Option α), gR s (g 3) [8] f K = K (cR s f (g 3))) ∧ (∀ (α : Type) (f : Nat) (v : Int32) (K : CS → Option α), pI s (g 3) [8] f v K = K (uI s f (g 3) v)) ∧ (∀ (α : Type) (f : Nat) (v : Int64) (K : CS → Option α), pJ s (g 3) [8] f v K = K (uJ s f (g 3) v)) ∧ ∀ (α : Type) (f : Nat) (v : Option Nat) (K : CS → Option α), pR s (g 3) [8] f v K = K (uR s f (g 3) v)) ∧ (isK s (g 10) [22] = true ∧ (∀ (α : Type) (f : Nat) (K : Int32 → Option α), gI s (g 10) [22] f K = K (cI s f (g 10))) ∧ (∀ (α : Type) (f : Nat) (K : Int64 → Option α), gJ s (g 10) [22] f K = K (cJ s f (g 10))) ∧ (∀ (α : Type) (f : Nat) (K : Option Nat → Option α), gR s (g 10) [22] f K = K (cR s f (g 10))) ∧ (∀ (α : Type) (f : Nat) (v : Int32) (K : CS → Option α), pI s (g 10) [22] f v K = K (uI s f (g 10) v)) ∧ (∀ (α : Type) (f : Nat) (v : Int64) (K : CS → Option α), pJ s (g 10) [22] f v K = K (uJ s f (g 10) v)) ∧ ∀ (α : Type) (f : Nat) (v : Option Nat) (K : CS → Option α), pR s (g 10) [22] f v K = K (uR s f (g 10) v)) ∧ (isK s (g 11) [22] = true ∧ (∀ (α : Type) (f : Nat) (K : Int32 → Option α), gI s (g 11) [22] f K = K (cI s f (g 11))) ∧ (∀ (α : Type) (f : Nat) (K : Int64 → Option α), gJ s (g 11) [22] f K = K (cJ s f (g 11))) ∧ (∀ (α : Type) (f : Nat) (K : Option Nat → Option α), gR s (g 11) [22] f K = K (cR s f (g 11))) ∧ (∀ (α : Type) (f : Nat) (v : Int32) (K : CS → Option α), pI s (g 11) [22] f v K = K (uI s f (g 11) v)) ∧ (∀ (α : Type) (f : Nat) (v : Int64) (K : CS → Option α), pJ s (g 11) [22] f v K = K (uJ s f (g 11) v)) ∧ ∀ (α : Type) (f : Nat) (v : Option Nat) (K : CS → Option α), pR s (g 11) [22] f v K = K (uR s f (g 11) v)) ∧ cR s 0 (g 0) = some (g 5) ∧ cR s 1 (g 0) = some (g 4) ∧ cR s 2 (g 0) = some (g 1) ∧ cR s 3 (g 0) = some (g 2) ∧ cR s 4 (g 0) = some (g 3) ∧ cR s 6 (g 0) = some (g 6) ∧ cR s 8 (g 0) = some (g 20) ∧ cR s 13 (g 0) = some (g 21) ∧ cR s 14 (g 0) = some (g 22) ∧ cR s 15 (g 0) = some (g 23) ∧ cR s 16 (g 0) = some (g 24) ∧ cR s 17 (g 0) = some (g 25) ∧ cR s 18 (g 0) = some (g 26) ∧ cR s 19 (g 0) = some (g 27) ∧ cR s 26 (g 0) = some (g 28) ∧ cR s 27 (g 0) = some (g 7) ∧ cR s 209 (g 1) = some (g 8) ∧ cR s 210 (g 1) = some (g 9) ∧ cR s 211 (g 1) = some (g 10) ∧ cR s 212 (g 1) = some (g 11) ∧ cR s 700 (g 2) = some (g 13) ∧ cR s 701 (g 2) = some (g 14) := ⟨gcx b.1 _ rfl, gcx (b.2.1 1 _ rfl).2.1 _ rfl, gcx (b.2.1 2 _ rfl).2.1 _ rfl, gcx (b.2.1 3 _ rfl).2.1 _ rfl, gcx (b.2.1 4 _ rfl).2.1 _ rfl, gcx (b.2.1 18 _ rfl).2.1 _ rfl, gcx (b.2.1 19 _ rfl).2.1 _ rfl, (b.2.1 0 _ rfl).1, (b.2.1 1 _ rfl).1, (b.2.1 2 _ rfl).1, (b.2.1 3 _ rfl).1, (b.2.1 4 _ rfl).1, (b.2.1 5 _ rfl).1, (b.2.1 6 _ rfl).1, (b.2.1 7 _ rfl).1, (b.2.1 8 _ rfl).1, (b.2.1 9 _ rfl).1, (b.2.1 10 _ rfl).1, (b.2.1 11 _ rfl).1, (b.2.1 12 _ rfl).1, (b.2.1 13 _ rfl).1, (b.2.1 14 _ rfl).1, (b.2.1 15 _ rfl).1, (b.2.1 16 _ rfl).1, (b.2.1 17 _ rfl).1, (b.2.1 18 _ rfl).1, (b.2.1 19 _ rfl).1, (b.2.1 20 _ rfl).1, (b.2.1 21 _ rfl).1⟩
theorem bld (b : B g ρ W S V m Tp RC s) : (∀ (α : Type) (z : Int) (K : Int32 → Option α), 0 ≤ z → z < 1000 → lI s (g 5) 103 (i32 z) K = K (cA s (g 5) z.toNat)) ∧ (∀ (α : Type) (z : Int) (v : Int32) (K : CS → Option α), 0 ≤ z → z < 1000 → tI_ s (g 5) 103 (i32 z) v K = K (uA s (g 5) z.toNat v)) ∧ (∀ (α : Type) (z : Int) (K : Option Nat → Option α), 0 ≤ z → z < 16 → lR s (g 6) 105 (i32 z) K = K (cQ s (g 6) z.toNat)) ∧ (∀ (α : Type) (z : Int) (v : Option Nat) (K : CS → Option α), 0 ≤ z → z < 16 → tR_ s (g 6) 105 (i32 z) v K = K (uQ s (g 6) z.toNat v)) ∧ (∀ (α : Type) (z : Int) (K : Int32 → Option α), 0 ≤ z → z < 64800 → lI s (g 20) 100 (i32 z) K = K (cA s (g 20) z.toNat)) ∧ (∀ (α : Type) (z : Int) (v : Int32) (K : CS → Option α), 0 ≤ z → z < 64800 → tI_ s (g 20) 100 (i32 z) v K = K (uA s (g 20) z.toNat v)) ∧ (∀ (α : Type) (z : Int) (K : Int32 → Option α), 0 ≤ z → z < 1404 → lI s (g 21) 100 (i32 z) K = K (cA s (g 21) z.toNat)) ∧ (∀ (α : Type) (z : Int) (v : Int32) (K : CS → Option α), 0 ≤ z → z < 1404 → tI_ s (g 21) 100 (i32 z) v K = K (uA s (g 21) z.toNat v)) ∧ (∀ (α : Type) (z : Int) (K : Int32 → Option α), 0 ≤ z → z < 63234 → lI s (g 22) 100 (i32 z) K = K (cA s (g 22) z.toNat)) ∧ (∀ (α : Type) (z : Int) (v : Int32) (K : CS → Option α), 0 ≤ z → z < 63234 → tI_ s (g 22) 100 (i32 z) v K = K (uA s (g 22) z.toNat v)) ∧ (∀ (α : Type) (z : Int) (K : Int32 → Option α), 0 ≤ z → z < 163940 → lI s (g 23) 100 (i32 z) K = K (cA s (g 23) z.toNat)) ∧ (∀ (α : Type) (z : Int) (v : Int32) (K : CS → Option α), 0 ≤ z → z < 163940 → tI_ s (g 23) 100 (i32 z) v K = K (uA s (g 23) z.toNat v)) ∧ (∀ (α : Type) (z : Int) (K : Int64 → Option α), 0 ≤ z → z < 240 → lJ s (g 24) 101 (i32 z) K = K (cB s (g 24) z.toNat)) ∧ (∀ (α : Type) (z : Int) (v : Int64) (K : CS → Option α), 0 ≤ z → z < 240 → tJ_ s (g 24) 101 (i32 z) v K = K (uB s (g 24) z.toNat v)) ∧ (∀ (α : Type) (z : Int) (K : Int64 → Option α), 0 ≤ z → z < 240 → lJ s (g 25) 101 (i32 z) K = K (cB s (g 25) z.toNat)) ∧ (∀ (α : Type) (z : Int) (v : Int64) (K : CS → Option α), 0 ≤ z → z < 240 → tJ_ s (g 25) 101 (i32 z) v K = K (uB s (g 25) z.toNat v)) ∧ (∀ (α : Type) (z : Int) (K : Int32 → Option α), 0 ≤ z → z < 4 → lI s (g 26) 100 (i32 z) K = K (cA s (g 26) z.toNat)) ∧ (∀ (α : Type) (z : Int) (v : Int32) (K : CS → Option α), 0 ≤ z → z < 4 → tI_ s (g 26) 100 (i32 z) v K = K (uA s (g 26) z.toNat v)) ∧ (∀ (α : Type) (z : Int) (K : Int32 → Option α), 0 ≤ z → z < 4 → lI s (g 27) 100 (i32 z) K = K (cA s (g 27) z.toNat)) ∧ (∀ (α : Type) (z : Int) (v : Int32) (K : CS → Option α), 0 ≤ z → z < 4 → tI_ s (g 27) 100 (i32 z) v K = K (uA s (g 27) z.toNat v)) ∧ (∀ (α : Type) (z : Int) (K : Int32 → Option α), 0 ≤ z → z < 54 → lI s (g 28) 100 (i32 z) K = K (cA s (g 28) z.toNat)) ∧ (∀ (α : Type) (z : Int) (v : Int32) (K : CS → Option α), 0 ≤ z → z < 54 → tI_ s (g 28) 100 (i32 z) v K = K (uA s (g 28) z.toNat v)) ∧ (∀ (α : Type) (z : Int) (K : Option Nat → Option α), 0 ≤ z → z < 4 → lR s (g 7) 105 (i32 z) K = K (cQ s (g 7) z.toNat)) ∧ (∀ (α : Type) (z : Int) (v : Option Nat) (K : CS → Option α), 0 ≤ z → z < 4 → tR_ s (g 7) 105 (i32 z) v K = K (uQ s (g 7) z.toNat v)) ∧ (∀ (α : Type) (z : Int) (K : Option Nat → Option α), 0 ≤ z → z < 54 → lR s (g 8) 104 (i32 z) K = K (cQ s (g 8) z.toNat)) ∧ (∀ (α : Type) (z : Int) (v : Option Nat) (K : CS → Option α), 0 ≤ z → z < 54 → tR_ s (g 8) 104 (i32 z) v K = K (uQ s (g 8) z.toNat v)) ∧ (∀ (α : Type) (z : Int) (K : Int32 → Option α), 0 ≤ z → z < 54 → lI s (g 9) 100 (i32 z) K = K (cA s (g 9) z.toNat)) ∧ (∀ (α : Type) (z : Int) (v : Int32) (K : CS → Option α), 0 ≤ z → z < 54 → tI_ s (g 9) 100 (i32 z) v K = K (uA s (g 9) z.toNat v)) ∧ (∀ (α : Type) (z : Int) (K : Int32 → Option α), 0 ≤ z → z < 13 → lI s (g 13) 100 (i32 z) K = K (cA s (g 13) z.toNat)) ∧ (∀ (α : Type) (z : Int) (v : Int32) (K : CS → Option α), 0 ≤ z → z < 13 → tI_ s (g 13) 100 (i32 z) v K = K (uA s (g 13) z.toNat v)) ∧ (∀ (α : Type) (z : Int) (K : Int32 → Option α), 0 ≤ z → z < 13 → lI s (g 14) 100 (i32 z) K = K (cA s (g 14) z.toNat)) ∧ (∀ (α : Type) (z : Int) (v : Int32) (K : CS → Option α), 0 ≤ z → z < 13 → tI_ s (g 14) 100 (i32 z) v K = K (uA s (g 14) z.toNat v)) := ⟨fun _ _ _ h0 h1 => lI_i ((b.2.1 0 _ rfl).2.1) h0 h1 (by decide), fun _ _ _ _ h0 h1 => tI_i ((b.2.1 0 _ rfl).2.1) h0 h1 (by decide), fun _ _ _ h0 h1 => lR_i ((b.2.1 5 _ rfl).2.1) h0 h1 (by decide), fun _ _ _ _ h0 h1 => tR_i ((b.2.1 5 _ rfl).2.1) h0 h1 (by decide), fun _ _ _ h0 h1 => lI_i ((b.2.1 6 _ rfl).2.1) h0 h1 (by decide), fun _ _ _ _ h0 h1 => tI_i ((b.2.1 6 _ rfl).2.1) h0 h1 (by decide), fun _ _ _ h0 h1 => lI_i ((b.2.1 7 _ rfl).2.1) h0 h1 (by decide), fun _ _ _ _ h0 h1 => tI_i ((b.2.1 7 _ rfl).2.1) h0 h1 (by decide), fun _ _ _ h0 h1 => lI_i ((b.2.1 8 _ rfl).2.1) h0 h1 (by decide), fun _ _ _ _ h0 h1 => tI_i ((b.2.1 8 _ rfl).2.1) h0 h1 (by decide), fun _ _ _ h0 h1 => lI_i ((b.2.1 9 _ rfl).2.1) h0 h1 (by decide), fun _ _ _ _ h0 h1 => tI_i ((b.2.1 9 _ rfl).2.1) h0 h1 (by decide), fun _ _ _ h0 h1 => lJ_i ((b.2.1 10 _ rfl).2.1) h0 h1 (by decide), fun _ _ _ _ h0 h1 => tJ_i ((b.2.1 10 _ rfl).2.1) h0 h1 (by decide), fun _ _ _ h0 h1 => lJ_i ((b.2.1 11 _ rfl).2.1) h0 h1 (by decide), fun _ _ _ _ h0 h1 => tJ_i ((b.2.1 11 _ rfl).2.1) h0 h1 (by decide), fun _ _ _ h0 h1 => lI_i ((b.2.1 12 _ rfl).2.1) h0 h1 (by decide), fun _ _ _ _ h0 h1 => tI_i ((b.2.1 12 _ rfl).2.1) h0 h1 (by decide), fun _ _ _ h0 h1 => lI_i ((b.2.1 13 _ rfl).2.1) h0 h1 (by decide), fun _ _ _ _ h0 h1 => tI_i ((b.2.1 13 _ rfl).2.1) h0 h1 (by decide), fun _ _ _ h0 h1 => lI_i ((b.2.1 14 _ rfl).2.1) h0 h1 (by decide), fun _ _ _ _ h0 h1 => tI_i ((b.2.1 14 _ rfl).2.1) h0 h1 (by decide), fun _ _ _ h0 h1 => lR_i ((b.2.1 15 _ rfl).2.1) h0 h1 (by decide), fun _ _ _ _ h0 h1 => tR_i ((b.2.1 15 _ rfl).2.1) h0 h1 (by decide), fun _ _ _ h0 h1 => lR_i ((b.2.1 16 _ rfl).2.1) h0 h1 (by decide), fun _ _ _ _ h0 h1 => tR_i ((b.2.1 16 _ rfl).2.1) h0 h1 (by decide), fun _ _ _ h0 h1 => lI_i ((b.2.1 17 _ rfl).2.1) h0 h1 (by decide), fun _ _ _ _ h0 h1 => tI_i ((b.2.1 17 _ rfl).2.1) h0 h1 (by decide), fun _ _ _ h0 h1 => lI_i ((b.2.1 20 _ rfl).2.1) h0 h1 (by decide), fun _ _ _ _ h0 h1 => tI_i ((b.2.1 20 _ rfl).2.1) h0 h1 (by decide), fun _ _ _ h0 h1 => lI_i ((b.2.1 21 _ rfl).2.1) h0 h1 (by decide), fun _ _ _ _ h0 h1 => tI_i ((b.2.1 21 _ rfl).2.1) h0 h1 (by decide)⟩
theorem exAt.q {ρ : Nat → Nat × Nat} {s s' : CS} (h : Fq ρ s s') : ∀ d e L, exAt s d e L → exAt s' d e L := by
  obtain ⟨h1, h2, h3, h4, h5, -⟩ := h
  intro d
  induction d with
  | zero => intro e L k; exact k
  | succ d ih =>
    intro e L k
    rcases k with ⟨n, k1, k2, k3⟩ | ⟨f, k1, k2, k3, k4⟩ | ⟨p, L1, k1, k2, k3, k4⟩ | ⟨a, c, La, Lb, w, k1, k2, k3, k4, k5, k6, k7, k8, k9⟩
    · exact .inl ⟨n, by rw [h1]; exact k1, by rw [h2 _ _ rfl]; exact k2, k3⟩
    · exact .inr (.inl ⟨f, by rw [h1]; exact k1, by rw [h2 _ _ rfl]; exact k2, k3, k4⟩)
    · exact .inr (.inr (.inl ⟨p, L1, by rw [h1]; exact k1, by rw [h3]; exact k2, ih _ _ k3, k4⟩))
    · exact .inr (.inr (.inr ⟨a, c, La, Lb, w, by rw [h1]; exact k1, by rw [h3]; exact k2, by rw [h3]; exact k3, k4, k5, by rw [h2 _ _ rfl]; exact k6, ih _ _ k7, ih _ _ k8, k9⟩))
theorem oA.q {s s' : CS} (h : Fq ρ s s') {o f c n r : Nat} (k : oA ρ s o f c n r) : oA ρ s' o f c n r ∧ av s' f o = av s f o := by
  have e : av s' f o = av s f o := by unfold av; rw [h.2.2.1]
  refine ⟨?_, e⟩
  unfold oA
  rw [e, h.2.2.1, h.1]
  exact k
theorem B.q {s' : CS} (b : B g ρ W S V m Tp RC s) (h : Fq ρ s s') : B g ρ W S V m Tp RC s' := by
  obtain ⟨b1, b2, b3, b4, b5, b6, b7, b8, b9⟩ := b
  obtain ⟨h1, h2, h3, h4, h5, -⟩ := id h
  have ra : ∀ (j : Nat) (q : Nat × Nat × Nat × Nat × Nat), bTab[j]? = some q → scA (q.2.2.1, 0) = false → cA s' (g q.2.2.1) = cA s (g q.2.2.1) := fun j q e z => h4 _ (by rw [(b2 j q e).2.2]; exact z)
  have eav : ∀ f o, av s' f o = av s f o := fun f o => by unfold av; rw [h3]
  have rav : ∀ {o f c n r : Nat}, oA ρ s o f c n r → scA (r, o) = false → cA s' (av s' f o) = cA s (av s f o) := fun k z => by
    rw [eav]
    exact h4 _ (by rw [k.2.2]; exact z)
  have esl : ∀ j, sl s' g j = sl s g j := fun j => by unfold sl; rw [h5, h5]
  refine ⟨by rw [h1]; exact b1, fun j q e => ?_, ?_, ?_, ?_, ?_, ?_, ?_, ?_⟩
  · rw [h3, h1]
    exact b2 j q e
  · obtain ⟨r0, r1, r2, r3, r4, r5, r6, r7, r8⟩ := b3
    refine ⟨by unfold isK; rw [h1]; exact r0, by rw [h2 _ _ rfl]; exact r1, by rw [h2 _ _ rfl]; exact r2, by rw [h3]; exact r3, by rw [h3]; exact r4, by rw [h1]; exact r5, by rw [h1]; exact r6, fun c hc => ?_, fun c hc => ?_⟩
    · rw [ra 17 _ rfl rfl]
      exact r7 c hc
    · rw [h5]
      rcases r8 c hc with z | ⟨z1, l, z2, ⟨w, n, z3⟩, z4, z5, z6⟩
      · exact .inl z
      · exact .inr ⟨z1, l, z2, ⟨w, n, by rw [h1]; exact z3⟩, by rw [h2 _ _ rfl]; exact z4, by rw [h2 _ _ rfl]; exact z5, by rw [h2 _ _ rfl]; exact z6⟩
  · unfold Rt
    simp only [h2 _ _ (show scF 202 = false from rfl), h2 _ _ (show scF 203 = false from rfl), h2 _ _ (show scF 204 = false from rfl), h2 _ _ (show scF 205 = false from rfl), h2 _ _ (show scF 206 = false from rfl), h2 _ _ (show scF 208 = false from rfl)]
    exact b4
  · obtain ⟨r0, r1, r2, r3, r4⟩ := b5
    refine ⟨by rw [h2 _ _ rfl]; exact r0, by rw [h2 _ _ rfl]; exact r1, by rw [h3]; exact r2, by rw [h1]; exact r3, fun k hk => ?_⟩
    rw [h5, h1]
    obtain ⟨o, z0, z1, z2, z3, z4, z5⟩ := r4 k hk
    refine ⟨o, z0, fun e => ?_, fun e => ?_, z3, z4, fun e => ?_⟩
    · rw [h2 _ _ rfl]; exact z1 e
    · rw [h2 _ _ rfl]; exact z2 e
    · obtain ⟨y1, y2, e, y3, y4⟩ := z5 e
      exact ⟨y1, (y2.q h).1, e, by rw [h3]; exact y3, y4.q h _ _ _⟩
  · rw [h2 _ _ rfl, ra 20 _ rfl rfl, ra 21 _ rfl rfl]
    exact b6
  · rw [h2 _ _ rfl, h2 _ _ rfl]
    exact b7
  · rw [ra 0 _ rfl rfl]
    exact b8
  · refine ⟨fun j hj => ?_, fun i j o => ?_, fun j => ?_⟩
    · rw [esl]
      refine ⟨(b9.1 j hj).1, fun o ho => ?_⟩
      obtain ⟨⟨y0, y1, y2, y3, y4, y5, y6⟩, y7⟩ := (b9.1 j hj).2 o ho
      refine ⟨⟨by rw [h1]; exact y0, (y1.q h).1, (y2.q h).1, (y3.q h).1, (y4.q h).1, (y5.q h).1, (y6.q h).1⟩, fun ha => ?_⟩
      obtain ⟨q1, q2⟩ := y7 ha
      unfold SV SV2
      rw [rav y1 rfl, rav y2 rfl, rav y3 rfl, rav y4 rfl, rav y5 rfl, rav y6 rfl]
      simp only [h2 _ _ (show scF 800 = false from rfl), h2 _ _ (show scF 801 = false from rfl), h2 _ _ (show scF 802 = false from rfl), h2 _ _ (show scF 803 = false from rfl), h2 _ _ (show scF 804 = false from rfl), h2 _ _ (show scF 805 = false from rfl)]
      exact ⟨q1, q2⟩
    · rw [esl, esl]
      exact b9.2.1 i j o
    · rw [esl]
      exact b9.2.2 j
end RB
/-! the twin -/
def wordsL : List Int64 := [1034460, 22955708, 2793, 940952, 1166843, 25433, 979413, 941040, 6040476, 34523964, 790116, 569, 8787, 6250976, 571827392, 179086304, 1138236000, 19741, 1891, 573, 614923, 793]
/-- a rule's codes from p on -/
def cdAt (τ : TS) (p : Int) (L : List (Nat × Int)) : Prop := 0 ≤ p ∧ p + (L.length : Int) < 1100 ∧ (∀ (i c : Nat) (a : Int), L[i]? = some (c, a) → tA τ 11 (p.toNat + i) = i32 (c : Int) ∧ tA τ 12 (p.toNat + i) = i32 a) ∧ tA τ 11 (p.toNat + L.length) = i32 0
def TB (W : Nat → Int) (S : Nat → Nat → Int) (V m Tp : Nat → Int) (RC : Nat → List (Nat × Int)) (τ : TS) : Prop := Rw W τ ∧ (∀ j k, j < 21 → k < 120 → tA τ 19 (120 * j + k) = i32 (S j k)) ∧ (∀ k, k < 27 → tA τ 16 k = i32 (V k)) ∧ (tI τ 2 = i32 (m 0) ∧ tI τ 20 = i32 (m 1)) ∧ (∀ j, j < 4 → tA τ 21 j = i32 (m (2 + j))) ∧ (∀ k : Nat, (k : Int) < m 0 → tA τ 1 k = i32 (Tp k)) ∧ (∀ k, k < 22 → tB τ 9 k = wordsL.getD k 0) ∧ ∀ r : Nat, (r : Int) < W 8 → cdAt τ (W (280 + r)) (RC r)
def tsA (k : Nat) : Bool := [17, 18, 23, 24, 31, 32, 36, 40, 41, 47].contains k
def tsI (k : Nat) : Bool := [0, 25, 26, 27, 28, 29, 30, 33, 34, 35, 37, 42, 44].contains k
/-- nothing but the twin's scratch is another -/
def Tq (τ τ' : TS) : Prop := (∀ k, tsI k = false → tI τ' k = tI τ k) ∧ (∀ k, tsA k = false → tA τ' k = tA τ k) ∧ tB τ' 9 = tB τ 9
theorem Tq.rf {τ : TS} : Tq τ τ := ⟨fun _ _ => rfl, fun _ _ => rfl, rfl⟩
theorem Tq.tr {τ τ1 τ2 : TS} (h : Tq τ τ1) (k : Tq τ1 τ2) : Tq τ τ2 := ⟨fun j q => (k.1 j q).trans (h.1 j q), fun j q => (k.2.1 j q).trans (h.2.1 j q), k.2.2.trans h.2.2⟩
theorem Tq.sI {τ : TS} {k : Nat} {v : Int32} (h : tsI k = true) : Tq τ (sI τ k v) := by
  refine ⟨fun j q => ?_, fun _ _ => rfl, rfl⟩
  rw [tI_sI, if_neg]
  rintro rfl
  rw [h] at q
  cases q
theorem Tq.sA {τ : TS} {k i : Nat} {v : Int32} (h : tsA k = true) : Tq τ (sA τ k i v) := by
  refine ⟨fun _ _ => rfl, fun j q => ?_, rfl⟩
  rw [tA_sA, if_neg]
  rintro rfl
  rw [h] at q
  cases q
theorem Tq.sL {τ : TS} {k : Nat} {v : Int64} : Tq τ (sL τ k v) := ⟨fun _ _ => rfl, fun _ _ => rfl, rfl⟩
theorem Tq.sB {τ : TS} {k i : Nat} {v : Int64} (h : ¬ k = 9) : Tq τ (sB τ k i v) := ⟨fun _ _ => rfl, fun _ _ => rfl, by rw [tB_sB, if_neg (fun e => h e.symm)]⟩
theorem TB.q {W : Nat → Int} {S : Nat → Nat → Int} {V m Tp : Nat → Int} {RC : Nat → List (Nat × Int)} {τ τ' : TS} (b : TB W S V m Tp RC τ) (h : Tq τ τ') : TB W S V m Tp RC τ' := by
  unfold TB Rw cdAt
  rw [h.1 _ (show tsI 2 = false from rfl), h.1 _ (show tsI 20 = false from rfl), h.2.1 _ (show tsA 10 = false from rfl), h.2.1 _ (show tsA 19 = false from rfl), h.2.1 _ (show tsA 16 = false from rfl), h.2.1 _ (show tsA 21 = false from rfl), h.2.1 _ (show tsA 1 = false from rfl), h.2.2, h.2.1 _ (show tsA 11 = false from rfl), h.2.1 _ (show tsA 12 = false from rfl)]
  exact b
/-- the numbers are well: a state's row, no later than T -/
def SW (W : Nat → Int) (T : Int) (σ : Nat → Int) : Prop := (0 ≤ σ 0 ∧ σ 0 < W 0) ∧ (0 ≤ σ 1 ∧ σ 1 < W 1) ∧ (0 ≤ σ 2 ∧ σ 2 ≤ T) ∧ (0 ≤ σ 3 ∧ σ 3 ≤ (if W 6 = 1 then 0 else W 5)) ∧ ∀ c, c < 54 → σ (4 + c) = 0 ∨ (σ (4 + c) = 1 ∧ W (10 + 4 * c) = 2)
def SW2 (W : Nat → Int) (σ : Nat → Int) : Prop := (0 ≤ σ 58 ∧ σ 58 ≤ 10) ∧ (0 ≤ σ 59 ∧ σ 59 ≤ 8) ∧ (∀ k : Nat, (k : Int) < σ 58 → (0 ≤ σ (60 + 3 * k) ∧ σ (60 + 3 * k) < 54) ∧ (0 ≤ σ (61 + 3 * k) ∧ σ (61 + 3 * k) ≤ 1) ∧ 0 ≤ σ (62 + 3 * k) ∧ σ (62 + 3 * k) < 60) ∧ ∀ k : Nat, (k : Int) < σ 59 → (0 ≤ σ (92 + 3 * k) ∧ σ (92 + 3 * k) < W 0) ∧ (0 ≤ σ (93 + 3 * k) ∧ σ (93 + 3 * k) < W 1) ∧ 0 ≤ σ (94 + 3 * k) ∧ σ (94 + 3 * k) ≤ 9999
/-- how far over a walk is at its line k -/
def xW (V : Nat → Int) : Nat → Nat
  | 0 => 0
  | k + 1 => xW V k + (if V (1 + 2 * k) = 0 then 1 else 0)
def VW (W V : Nat → Int) : Prop := (0 ≤ V 0 ∧ V 0 ≤ 13) ∧ ∀ k : Nat, (k : Int) < V 0 → (V (1 + 2 * k) = 0 ∨ V (1 + 2 * k) = 1) ∧ (0 ≤ V (2 + 2 * k) ∧ V (2 + 2 * k) ≤ 9999) ∧ xW V k ≤ k ∧ thA W (xW V k) (k - xW V k) (decide (V (1 + 2 * k) = 1)) = true ∧ brA W (xW V k) (k - xW V k) (decide (V (1 + 2 * k) = 1)) = false ∧ (xW V k : Int) < W 0 ∧ ((k - xW V k : Nat) : Int) < W 1
/-- where lights stand there are corners; how many there are -/
def LW_ (W : Nat → Int) : Prop := (∀ c, c < 54 → 0 < W (10 + 4 * c) → ((c % 6 : Nat) : Int) < W 0 ∧ ((c / 6 : Nat) : Int) < W 1) ∧ W 7 = (((List.range 54).filter fun c => decide (0 < W (10 + 4 * c))).length : Nat)
/-- all numbers are well -/
def GW (W : Nat → Int) (S : Nat → Nat → Int) (V m Tp : Nat → Int) (T : Int) : Prop := TW W ∧ LW_ W ∧ VW W V ∧ (∀ j, j < 21 → act m j → SW W T (S j)) ∧ (∀ j, j < 5 → act m j → SW2 W (S j)) ∧ (0 ≤ m 0 ∧ m 0 ≤ 1000) ∧ (0 ≤ m 1 ∧ m 1 ≤ 16) ∧ (∀ j, j < 4 → m (2 + j) = 0 ∨ m (2 + j) = 1) ∧ (0 ≤ T ∧ T ≤ 200000) ∧ ∀ k : Nat, (k : Int) < m 0 → Tp k = 10 ∨ (32 ≤ Tp k ∧ Tp k ≤ 126)
