/-! LAYER 2: the twin's tokens -/
set_option maxRecDepth 100000
theorem rvL_p : ∀ {l : List Int}, (∀ z ∈ l, 97 ≤ z ∧ z ≤ 122) → rvL l < (37 ^ l.length : Nat) := by
  intro l
  induction l with
  | nil => intro _; decide
  | cons x xs ih =>
    intro h
    have h1 := h x (List.mem_cons_self ..)
    have h2 := ih fun z hz => h z (List.mem_cons_of_mem _ hz)
    show 37 * rvL xs + (x - 96) < ((37 ^ (xs.length + 1) : Nat) : Int)
    rw [Nat.pow_succ]
    omega
section XT
variable {t : Nat → Int} {n : Nat} {τ : TS} {k : Nat}
theorem tV_b {f : Nat} (h : tS t n f = 1) : 0 ≤ tV t n f ∧ tV t n f < 4000000000000 := by
  obtain ⟨h1, h2⟩ := tS_1 h
  obtain ⟨g1, g2, g3, g4, g5⟩ := tS_le h
  have e := wdL_r (wrd t n f) []
  have e : wdL (wrd t n f) 0 = rvL ((wrd t n f).reverse ++ []) := e
  rw [List.append_nil] at e
  have hr : ∀ z ∈ (wrd t n f).reverse, 97 ≤ z ∧ z ≤ 122 := fun z hz => h2 z (List.mem_reverse.mp hz)
  have b1 := (rvL_b hr).1
  have b2 := rvL_p hr
  have hl : (wrd t n f).reverse.length ≤ 8 := by
    rw [List.length_reverse]
    unfold wrd
    rw [lts_n]
    exact g4
  have hp : 37 ^ (wrd t n f).reverse.length ≤ 37 ^ 8 := Nat.pow_le_pow_right (by decide) hl
  have h8 : 37 ^ 8 = 3512479453921 := by decide
  rw [h1, e]
  omega
/-- token k can be reached -/
def Rc (t : Nat → Int) (n k : Nat) : Prop := ∀ i, i < k → tP t n i < n
theorem Rc.le (h : Rc t n k) : k ≤ tP t n k := by
  induction k with
  | zero => omega
  | succ k ih =>
    have := ih fun i hi => h i (by omega)
    have := tP_lt (h k (by omega))
    omega
theorem Rc.s (h : Rc t n k) (q : tP t n k < n) : Rc t n (k + 1) := fun i hi => by
  by_cases e : i = k
  · rw [e]; exact q
  · exact h i (by omega)
theorem Rc.kn (h : Rc t n k) : k ≤ n := Nat.le_trans h.le (tP_b k).1
/-- the text cut -/
def Tok (t : Nat → Int) (n : Nat) (τ : TS) : Prop := (∀ j, Rc t n j → tA τ 4 j = i32 (tS t n (tP t n j) : Int) ∧ tA τ 5 j = i32 (tP t n j : Int) ∧ (tP t n j < n → tB τ 6 j = i64 (tV t n (tP t n j)))) ∧ ∀ k, k < 22 → tB τ 9 k = wordsL.getD k 0
/-- token k is at hand, no fault -/
def Tkk (t : Nat → Int) (n k : Nat) (τ : TS) : Prop := Tok t n τ ∧ Rc t n k ∧ tI τ 7 = i32 (k : Int) ∧ tI τ 8 = i32 0
def isWd (t : Nat → Int) (n x f : Nat) : Bool := decide (tS t n f = 1 ∧ wrd t n f = wdW.getD x [])
theorem t_isWord (hT : TO t n) (h : Tkk t n k τ) {x : Nat} (hx : x < 22) : T_isWord τ (i32 (x : Int)) = some (bi (isWd t n x (tP t n k))) := by
  obtain ⟨⟨h1, h2⟩, h3, h4, h5⟩ := h
  have hn := hT.1
  have hk := h3.kn
  have hs := (tS_b (t := t) (n := n) (f := tP t n k)).1
  obtain ⟨a1, a2, a3⟩ := h1 k h3
  unfold T_isWord isWd
  rw [h5, if_pos (show i32 0 = (0 : Int32) from rfl), h4, ld_i (by omega) (by omega) (by omega), Int.toNat_natCast, a1, show (1 : Int32) = i32 1 from rfl]
  by_cases q : tS t n (tP t n k) = 1
  · have hb := tV_b q
    obtain ⟨w1, w2, w3, w4⟩ := wdW_b x hx
    rw [if_pos (by rw [q]; rfl), ld_i (by omega) (by omega) (by omega), ld_i (by omega) (by omega) (by omega), Int.toNat_natCast, Int.toNat_natCast, a3 (tS_le q).1, h2 x hx, w1]
    by_cases e : wrd t n (tP t n k) = wdW.getD x []
    · rw [if_pos (by rw [(tV_w hx q).mpr e]), decide_eq_true ⟨q, e⟩]
      rfl
    · have ne : ¬ i64 (tV t n (tP t n k)) = i64 (wdL (wdW.getD x []) 0) := fun z => e ((tV_w hx q).mp ((i64_eq ⟨by omega, by omega⟩ ⟨by omega, by omega⟩).mp z))
      rw [if_neg ne, decide_eq_false (fun z => e z.2)]
      rfl
  · rw [if_neg (show ¬ i32 (tS t n (tP t n k) : Int) = i32 1 from fun z => q (by have := (i32_eq (a := (tS t n (tP t n k) : Int)) (b := 1) ⟨by omega, by omega⟩ ⟨by omega, by omega⟩).mp z; omega)), decide_eq_false (fun z => q z.1)]
    rfl
theorem tV_3 {f : Nat} (h : tS t n f = 3) : f < n ∧ tV t n f = t f := by
  have hf : f < n := tS_lt (t := t) (by omega)
  refine ⟨hf, ?_⟩
  unfold tS at h
  rw [if_neg (show ¬ n ≤ f by omega)] at h
  unfold tV
  cases hl : isL (t f) with
  | true =>
    rw [hl, if_pos rfl] at h
    split at h <;> omega
  | false =>
    rw [hl, if_neg (by decide)] at h
    rw [if_neg (by decide)]
    cases hd : isD (t f) with
    | true =>
      rw [hd, if_pos rfl] at h
      split at h <;> omega
    | false => rw [if_neg (by decide)]
theorem t_isSign (hT : TO t n) (h : Tkk t n k τ) {c : Int} (hc : 0 ≤ c ∧ c ≤ 126) : T_isSign τ (i32 c) = some (bi (isSg t n c (tP t n k))) := by
  obtain ⟨⟨h1, h2⟩, h3, h4, h5⟩ := h
  have hn := hT.1
  have hk := h3.kn
  have hs := (tS_b (t := t) (n := n) (f := tP t n k)).1
  obtain ⟨a1, a2, a3⟩ := h1 k h3
  unfold T_isSign isSg
  rw [h5, if_pos (show i32 0 = (0 : Int32) from rfl), h4, ld_i (by omega) (by omega) (by omega), Int.toNat_natCast, a1, show (3 : Int32) = i32 3 from rfl]
  by_cases q : tS t n (tP t n k) = 3
  · obtain ⟨g1, g2⟩ := tV_3 q
    have ht := hT.2 _ g1
    rw [if_pos (by rw [q]; rfl), ld_i (by omega) (by omega) (by omega), Int.toNat_natCast, a3 g1, g2, i32_long ⟨by omega, by omega⟩]
    by_cases e : t (tP t n k) = c
    · rw [if_pos (by rw [e]), decide_eq_true ⟨q, e⟩]
      rfl
    · have ne : ¬ i64 (t (tP t n k)) = i64 c := fun z => e ((i64_eq ⟨by omega, by omega⟩ ⟨by omega, by omega⟩).mp z)
      rw [if_neg ne, decide_eq_false (fun z => e z.2)]
      rfl
  · rw [if_neg (show ¬ i32 (tS t n (tP t n k) : Int) = i32 3 from fun z => q (by have := (i32_eq (a := (tS t n (tP t n k) : Int)) (b := 3) ⟨by omega, by omega⟩ ⟨by omega, by omega⟩).mp z; omega)), decide_eq_false (fun z => q z.1)]
    rfl
end XT
