/-! LAYER 2: expressions: the twin's frames, emit -/
set_option maxRecDepth 100000
/-- nothing but at, fault, codes is another, no code before c -/
def Txx (c : Nat) (τ τ' : TS) : Prop := (∀ f, ¬ f = 7 → ¬ f = 8 → ¬ f = 13 → tI τ' f = tI τ f) ∧ (∀ j, ¬ j = 11 → ¬ j = 12 → tA τ' j = tA τ j) ∧ (∀ i, i < 1100 + c → tA τ' 11 i = tA τ 11 i ∧ tA τ' 12 i = tA τ 12 i) ∧ tB τ' = tB τ
theorem Txx.rf {c : Nat} {τ : TS} : Txx c τ τ := ⟨fun _ _ _ _ => rfl, fun _ _ _ => rfl, fun _ _ => ⟨rfl, rfl⟩, rfl⟩
theorem Txx.tr {c d : Nat} {τ τ1 τ2 : TS} (h : Txx c τ τ1) (k : Txx d τ1 τ2) (hd : c ≤ d) : Txx c τ τ2 := ⟨fun f a b e => (k.1 f a b e).trans (h.1 f a b e), fun j a b => (k.2.1 j a b).trans (h.2.1 j a b), fun i hi => ⟨(k.2.2.1 i (by omega)).1.trans (h.2.2.1 i hi).1, (k.2.2.1 i (by omega)).2.trans (h.2.2.1 i hi).2⟩, k.2.2.2.trans h.2.2.2⟩
theorem Txx.n {c : Nat} {τ τ' : TS} (h : Tn τ τ') : Txx c τ τ' := ⟨fun f a b _ => h.1 f a b, fun j _ _ => by rw [h.2.1], fun i _ => by rw [h.2.1]; exact ⟨rfl, rfl⟩, h.2.2⟩
theorem Txx.s7 {c : Nat} {τ : TS} {v : Int32} : Txx c τ (sI τ 7 v) := Txx.n (Tn.sI (.inl rfl))
theorem Txx.s8 {c : Nat} {τ : TS} {v : Int32} : Txx c τ (sI τ 8 v) := Txx.n (Tn.sI (.inr rfl))
theorem Tok.x {t : Nat → Int} {n c : Nat} {τ τ' : TS} (h : Tok t n τ) (g : Txx c τ τ') : Tok t n τ' := by
  unfold Tok
  rw [g.2.1 4 (by decide) (by decide), g.2.1 5 (by decide) (by decide), g.2.2.2]
  exact h
/-- codes L stand from c on -/
def cdT (τ : TS) (c : Nat) (L : List (Nat × Int)) : Prop := ∀ (i x : Nat) (a : Int), L[i]? = some (x, a) → tA τ 11 (1100 + (c + i)) = i32 (x : Int) ∧ tA τ 12 (1100 + (c + i)) = i32 a
theorem cdT.x {c d : Nat} {τ τ' : TS} {L : List (Nat × Int)} (h : cdT τ c L) (g : Txx d τ τ') (hd : c + L.length ≤ d) : cdT τ' c L := fun i x a e => by
  have hi : i < L.length := (List.getElem?_eq_some_iff.mp e).1
  obtain ⟨h1, h2⟩ := h i x a e
  obtain ⟨g1, g2⟩ := g.2.2.1 (1100 + (c + i)) (by omega)
  exact ⟨g1.trans h1, g2.trans h2⟩
theorem cdT.a {c : Nat} {τ : TS} {L M : List (Nat × Int)} (h : cdT τ c L) (k : cdT τ (c + L.length) M) : cdT τ c (L ++ M) := fun i x a e => by
  by_cases q : i < L.length
  · rw [List.getElem?_append_left q] at e
    exact h i x a e
  · rw [List.getElem?_append_right (by omega)] at e
    have := k (i - L.length) x a e
    rw [show c + L.length + (i - L.length) = c + i by omega] at this
    exact this
theorem cdT.o {c x : Nat} {τ : TS} {a : Int} (h1 : tA τ 11 (1100 + c) = i32 (x : Int)) (h2 : tA τ 12 (1100 + c) = i32 a) : cdT τ c [(x, a)] := fun i y b e => by
  cases i with
  | zero => cases e; exact ⟨h1, h2⟩
  | succ i => cases e
theorem t_emit {c : Nat} {τ : TS} (h : tI τ 13 = i32 (c : Int)) (hc : c < 1100) (x a : Int32) : ∃ τ', T_emit x a τ = some τ' ∧ Txx c τ τ' ∧ tI τ' 7 = tI τ 7 ∧ tI τ' 8 = tI τ 8 ∧ tI τ' 13 = i32 ((c + 1 : Nat) : Int) ∧ tA τ' 11 (1100 + c) = x ∧ tA τ' 12 (1100 + c) = a := by
  have e : ((1100 : Int) + (c : Int)).toNat = 1100 + c := by omega
  refine ⟨sI (sA (sA τ 11 (1100 + c) x) 12 (1100 + c) a) 13 (i32 ((c + 1 : Nat) : Int)), ?_, ⟨fun f a b e => (sI_n e).trans rfl, fun j a b => ?_, fun i hi => ⟨?_, ?_⟩, rfl⟩, rfl, rfl, sI_t, ?_, ?_⟩
  · unfold T_emit
    rw [h, show (1100 : Int32) = i32 1100 from rfl, i32_add, stA_i (by omega) (by omega) (by omega), e, tI_sA, h, i32_add, stA_i (by omega) (by omega) (by omega), e, tI_sA, tI_sA, h, show (1 : Int32) = i32 1 from rfl, i32_add, nm_eq, show (c : Int) + 1 = ((c + 1 : Nat) : Int) by omega]
  · rw [tA_sI, tA_sA, if_neg b, tA_sA, if_neg a]
  · rw [tA_sI, rd_sA, if_neg (fun z => by omega), rd_sA, if_neg (fun z => by omega)]
  · rw [tA_sI, rd_sA, if_neg (fun z => by omega), rd_sA, if_neg (fun z => by omega)]
  · rw [tA_sI, rd_sA, if_neg (fun z => by omega), rd_sA, if_pos ⟨rfl, rfl⟩]
  · rw [tA_sI, rd_sA, if_pos ⟨rfl, rfl⟩]
/-- what a parse of the twin has to do with the pure one -/
def Qx (t : Nat → Int) (n : Nat) (τ : TS) (c k : Nat) (o : XO) (τ' : TS) : Prop := Txx c τ τ' ∧ match o with
  | .inl e => (1 ≤ e ∧ e < 100000) ∧ tI τ' 8 = i32 e ∧ ∃ c' : Nat, tI τ' 13 = i32 (c' : Int) ∧ c ≤ c' ∧ c' + tP t n k ≤ c + n
  | .inr (A, k2) => Tkk t n k2 τ' ∧ tI τ' 13 = i32 ((c + A.1.length : Nat) : Int) ∧ cdT τ' c A.1
theorem flt {τ : TS} {e : Int} (h : 1 ≤ e ∧ e < 100000) (k : tI τ 8 = i32 e) : ¬ tI τ 8 = 0 ∧ ¬ tI τ 8 ≤ 0 := by
  rw [k]
  exact ⟨fun z => by have := (i32_eq (a := e) (b := 0) ⟨by omega, by omega⟩ ⟨by omega, by omega⟩).mp z; omega, fun z => by have := (i32_le (a := e) (b := 0) ⟨by omega, by omega⟩ ⟨by omega, by omega⟩).mp z; omega⟩
section YE
variable {t : Nat → Int} {n : Nat} {τ τ0 τ1 : TS} {k c k0 c0 : Nat} {e : Int}
theorem Qx.nf (h : Qx t n τ c k (.inl e) τ1) : ¬ tI τ1 8 = 0 ∧ ¬ tI τ1 8 ≤ 0 := flt h.2.1 h.2.2.1
theorem Qx.f (h : Qx t n τ c k (.inl e) τ1) (h0 : Txx c0 τ0 τ) (hc : c0 ≤ c) (hb : c + tP t n k0 ≤ c0 + tP t n k) : Qx t n τ0 c0 k0 (.inl e) τ1 := by
  obtain ⟨h1, h2, h3, c', h4, h5, h6⟩ := h
  exact ⟨h0.tr h1 hc, h2, h3, c', h4, by omega, by omega⟩
theorem Qx.sf {v : Int32} (h : Qx t n τ c k (.inl e) τ1) : Qx t n τ c k (.inl e) (sI τ1 7 v) := by
  obtain ⟨h1, h2, h3, c', h4, h5⟩ := h
  exact ⟨h1.tr Txx.s7 (Nat.le_refl _), h2, (sI_n (by decide)).trans h3, c', (sI_n (by decide)).trans h4, h5⟩
theorem Qx.fe (h : Qx t n τ c k (.inl e) τ1) (h0 : Txx c0 τ0 τ) (hc : c0 ≤ c) (hb : c + tP t n k0 + 1 ≤ c0 + tP t n k) (hn : n ≤ 1000) (hk : c0 ≤ tP t n k0) (x a : Int32) : Ok (T_emit x a τ1) (Qx t n τ0 c0 k0 (.inl e)) := by
  obtain ⟨h1, h2, h3, c', h4, h5, h6⟩ := h
  have hp := (tP_b (t := t) (n := n) k).1
  obtain ⟨τ', g1, g2, g3, g4, g5, g6, g7⟩ := t_emit h4 (by omega) x a
  exact ⟨τ', g1, (h0.tr h1 hc).tr g2 (by omega), h2, g4.trans h3, c' + 1, g5, by omega, by omega⟩
theorem Qx.sv {A : XV} {k2 : Nat} (h : Qx t n τ c k (.inr (A, k2)) τ1) : Qx t n τ c k (.inr (A, k2)) (sI τ1 7 (i32 (k2 : Int))) := by
  obtain ⟨h1, h2, h3, h4⟩ := h
  exact ⟨h1.tr Txx.s7 (Nat.le_refl _), ⟨h2.1.x Txx.s7 (c := 0), h2.2.1, sI_t, (sI_n (by decide)).trans h2.2.2.2⟩, (sI_n (by decide)).trans h3, h4⟩
/-- a parse that hands on a fault, goes on else -/
theorem ok_qx {o : Option TS} {x : XO} {K : TS → Option TS} {f : XV → Nat → XO} (h : Ok o (Qx t n τ c k x)) (hf : ∀ e τ1, Qx t n τ c k (.inl e) τ1 → Ok (K τ1) (Qx t n τ0 c0 k0 (.inl e))) (hk : ∀ A k1 τ1, x = .inr (A, k1) → Qx t n τ c k (.inr (A, k1)) τ1 → Ok (K τ1) (Qx t n τ0 c0 k0 (f A k1))) : Ok (o.bind K) (Qx t n τ0 c0 k0 (bP x f)) := by
  refine ok_b h fun τ1 h1 => ?_
  cases x with
  | inl e => exact hf e τ1 h1
  | inr y => exact hk y.1 y.2 τ1 rfl h1
/-- both sides parsed, the code behind them -/
theorem Qx.two {A B : XV} {k1 k2 op : Nat} {τ2 : TS} {x : Int32} (h : Qx t n τ0 c0 k0 (.inr (A, k)) τ) (hx : Txx (c0 + A.1.length) τ τ1) (hB : Qx t n τ1 (c0 + A.1.length) k1 (.inr (B, k2)) τ2) (hb : c0 + A.1.length + B.1.length < 1100) (ho : x = i32 (op : Int)) : Ok (T_emit x 0 τ2) (Qx t n τ0 c0 k0 (.inr (opX op A B, k2))) := by
  obtain ⟨h1, h2, h3, h4⟩ := h
  obtain ⟨g1, g2, g3, g4⟩ := hB
  obtain ⟨τ', f1, f2, f3, f4, f5, f6, f7⟩ := t_emit g3 hb x 0
  have e1 : (opX op A B).1 = A.1 ++ (B.1 ++ [(op, 0)]) := rfl
  have el : (opX op A B).1.length = A.1.length + (B.1.length + 1) := by
    rw [e1, List.length_append, List.length_append]
    rfl
  refine ⟨τ', f1, (h1.tr (hx.tr g1 (Nat.le_refl _)) (by omega)).tr f2 (by omega), ⟨g2.1.x f2, g2.2.1, f3.trans g2.2.2.1, f4.trans g2.2.2.2⟩, ?_, ?_⟩
  · show tI τ' 13 = i32 ((c0 + (opX op A B).1.length : Nat) : Int)
    rw [f5, el, show c0 + A.1.length + B.1.length + 1 = c0 + (A.1.length + (B.1.length + 1)) by omega]
  · show cdT τ' c0 (opX op A B).1
    rw [e1]
    refine cdT.a ?_ (cdT.a (g4.x f2 (Nat.le_refl _)) (cdT.o ?_ ?_))
    · exact ((h4.x hx (Nat.le_refl _)).x g1 (Nat.le_refl _)).x f2 (by omega)
    · rw [f6, ho]
    · rw [f7]
      rfl
/-- a parser of the twin -/
def PU (t : Nat → Int) (n : Nat) (F : TS → Option TS) (pt : Nat → XO) : Prop := ∀ (τ : TS) (k c : Nat), Tkk t n k τ → tI τ 13 = i32 (c : Int) → c ≤ tP t n k → Ok (F τ) (Qx t n τ c k (pt k))
end YE
