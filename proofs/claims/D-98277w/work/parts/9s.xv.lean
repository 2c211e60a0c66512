/-! LAYER 2: the twin takes tokens -/
set_option maxRecDepth 100000
/-- nothing but `at` and the fault is another -/
def Tn (τ τ' : TS) : Prop := (∀ f, ¬ f = 7 → ¬ f = 8 → tI τ' f = tI τ f) ∧ tA τ' = tA τ ∧ tB τ' = tB τ
theorem Tn.rf {τ : TS} : Tn τ τ := ⟨fun _ _ _ => rfl, rfl, rfl⟩
theorem Tn.tr {τ τ1 τ2 : TS} (h : Tn τ τ1) (k : Tn τ1 τ2) : Tn τ τ2 := ⟨fun f a b => (k.1 f a b).trans (h.1 f a b), k.2.1.trans h.2.1, k.2.2.trans h.2.2⟩
theorem Tn.sI {τ : TS} {f : Nat} {v : Int32} (h : f = 7 ∨ f = 8) : Tn τ (sI τ f v) := ⟨fun f' a b => if_neg (show ¬ f' = f by omega), rfl, rfl⟩
theorem sI_t {τ : TS} {f : Nat} {v : Int32} : tI (sI τ f v) f = v := if_pos rfl
theorem sI_n {τ : TS} {f f' : Nat} {v : Int32} (h : ¬ f' = f) : tI (sI τ f v) f' = tI τ f' := if_neg h
section XV
variable {t : Nat → Int} {n : Nat} {τ : TS} {k : Nat}
theorem Tok.tn {τ' : TS} (h : Tok t n τ) (g : Tn τ τ') : Tok t n τ' := by
  unfold Tok
  rw [g.2.1, g.2.2]
  exact h
/-- the next token is at hand -/
theorem Tkk.s (h : Tkk t n k τ) (q : tP t n k < n) : Tkk t n (k + 1) (sI τ 7 (i32 ((k + 1 : Nat) : Int))) := ⟨h.1.tn (Tn.sI (.inl rfl)), h.2.1.s q, sI_t, (sI_n (by decide)).trans h.2.2.2⟩
theorem t_wrong (h : Tkk t n k τ) (hT : TO t n) {kd : Int} : T_wrong (i32 kd) τ = some (sI τ 8 (i32 (kd + 16 * (tP t n k : Int)))) := by
  obtain ⟨⟨h1, h2⟩, h3, h4, h5⟩ := h
  have hn := hT.1
  have hk := h3.kn
  unfold T_wrong
  rw [h5, if_pos (show i32 0 = (0 : Int32) from rfl), h4, ld_i (by omega) (by omega) (by omega), Int.toNat_natCast, (h1 k h3).2.1, nm_eq, show (16 : Int32) = i32 16 from rfl, i32_mul, i32_add]
theorem s_wrong {v : Int32} (h : ¬ tI τ 8 = 0) : T_wrong v τ = some τ := if_neg h
theorem s_isWord {v : Int32} (h : ¬ tI τ 8 = 0) : T_isWord τ v = some 0 := if_neg h
theorem s_isSign {v : Int32} (h : ¬ tI τ 8 = 0) : T_isSign τ v = some 0 := if_neg h
theorem t_takeSign (h : Tkk t n k τ) (hT : TO t n) {c : Int} (hc : 0 ≤ c ∧ c ≤ 126) : T_takeSign (i32 c) τ = some (if isSg t n c (tP t n k) = true then sI τ 7 (i32 ((k + 1 : Nat) : Int)) else sI τ 8 (i32 (1 + 16 * (tP t n k : Int)))) := by
  unfold T_takeSign
  rw [t_isSign hT h hc, bd_eq]
  cases isSg t n c (tP t n k) with
  | false =>
    rw [if_pos (show bi false = (0 : Int32) from rfl), if_neg (show ¬ (false = true) by decide), show (1 : Int32) = i32 1 from rfl, t_wrong h hT, bd_eq]
  | true =>
    rw [if_neg (show ¬ bi true = (0 : Int32) by decide), if_pos rfl, nm_eq, h.2.2.1, show (1 : Int32) = i32 1 from rfl, i32_add, show (k : Int) + 1 = ((k + 1 : Nat) : Int) by omega]
theorem s_takeSign {v : Int32} (h : ¬ tI τ 8 = 0) : T_takeSign v τ = some τ := by
  unfold T_takeSign
  rw [s_isSign h, bd_eq, if_pos rfl, s_wrong h, bd_eq]
theorem t_hasSign (h : Tkk t n k τ) (hT : TO t n) {c : Int} (hc : 0 ≤ c ∧ c ≤ 126) : T_hasSign (i32 c) τ = some (bi (isSg t n c (tP t n k)), if isSg t n c (tP t n k) = true then sI τ 7 (i32 ((k + 1 : Nat) : Int)) else sI τ 7 (i32 (k : Int))) := by
  unfold T_hasSign
  rw [t_isSign hT h hc, bd_eq]
  cases isSg t n c (tP t n k) with
  | false =>
    rw [if_pos (show bi false = (0 : Int32) from rfl), if_neg (show ¬ (false = true) by decide), nm_eq, gd_t (by decide), h.2.2.1, show (0 : Int32) = i32 0 from rfl, i32_add, show (k : Int) + 0 = (k : Int) by omega]
  | true =>
    rw [if_neg (show ¬ bi true = (0 : Int32) by decide), if_pos rfl, nm_eq, gd_t (by decide), h.2.2.1, show (1 : Int32) = i32 1 from rfl, i32_add, show (k : Int) + 1 = ((k + 1 : Nat) : Int) by omega]
theorem s_hasSign {v : Int32} (h : ¬ tI τ 8 = 0) : T_hasSign v τ = some (0, sI τ 7 (tI τ 7 + 0)) := by
  unfold T_hasSign
  rw [s_isSign h, bd_eq, if_pos rfl, nm_eq, gd_t (by decide)]
theorem t_hasWord (h : Tkk t n k τ) (hT : TO t n) {x : Nat} (hx : x < 22) : T_hasWord (i32 (x : Int)) τ = some (bi (isWd t n x (tP t n k)), if isWd t n x (tP t n k) = true then sI τ 7 (i32 ((k + 1 : Nat) : Int)) else sI τ 7 (i32 (k : Int))) := by
  unfold T_hasWord
  rw [t_isWord hT h hx, bd_eq]
  cases isWd t n x (tP t n k) with
  | false =>
    rw [if_pos (show bi false = (0 : Int32) from rfl), if_neg (show ¬ (false = true) by decide), nm_eq, gd_t (by decide), h.2.2.1, show (0 : Int32) = i32 0 from rfl, i32_add, show (k : Int) + 0 = (k : Int) by omega]
  | true =>
    rw [if_neg (show ¬ bi true = (0 : Int32) by decide), if_pos rfl, nm_eq, gd_t (by decide), h.2.2.1, show (1 : Int32) = i32 1 from rfl, i32_add, show (k : Int) + 1 = ((k + 1 : Nat) : Int) by omega]
theorem s_hasWord {v : Int32} (h : ¬ tI τ 8 = 0) : T_hasWord v τ = some (0, sI τ 7 (tI τ 7 + 0)) := by
  unfold T_hasWord
  rw [s_isWord h, bd_eq, if_pos rfl, nm_eq, gd_t (by decide)]
end XV
