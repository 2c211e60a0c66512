/-! LAYER 2: constant strings, words by them: the component -/
set_option maxRecDepth 100000
/-- a string of bytes -/
def Sc (s : CS) (p : Nat) (L : List Int) : Prop := isK s p [23, 25] = true ∧ cI s 2301 p = 0 ∧ (∃ v w, cR s 2300 p = some v ∧ s.1 v = some (w, 103, L.length) ∧ ∀ j, j < L.length → cA s v j = i32 (L.getD j 0)) ∧ (∀ z ∈ L, 0 ≤ z ∧ z ≤ 126) ∧ L.length ≤ 200
def ixF (L : List Int) (x : Int) : Nat → Nat → Int
  | 0, _ => -1
  | d + 1, a => if L.getD a 0 = x then (a : Int) else ixF L x d (a + 1)
def ixS (L : List Int) (x : Int) (a : Nat) : Int := ixF L x (L.length - a) a
theorem getD_m {L : List Int} {j : Nat} (h : j < L.length) : L.getD j 0 ∈ L := by
  rw [List.getD_eq_getElem?_getD, List.getElem?_eq_getElem h]
  exact List.getElem_mem h
theorem shr_0 {z : Int} : shr32 (i32 z) 0 = i32 z := by
  unfold shr32
  show i32 z >>> (0 : Int32) = i32 z
  exact Int32.shiftRight_zero
theorem aLn_i {α : Type} {s : CS} {a c n : Nat} {w : Bool} {K : Int32 → Option α} (h : s.1 a = some (w, c, n)) (hc : 100 ≤ c ∧ c < 107) : aLn s a K = K (i32 (n : Int)) := by
  unfold aLn
  rw [h]
  dsimp only
  rw [if_pos hc, i32_nat]
section SC
variable {s : CS} {p : Nat} {L : List Int} {nf : Nat} {st : Nat → Option Nat}
theorem sc_l (h : Sc s p L) : FJ6_length s p = some (i32 (L.length : Int)) := by
  obtain ⟨h1, h2, ⟨v, w, h3, h4, h5⟩, h6, h7⟩ := h
  have e : (L.length : Int) = ((L.length : Nat) : Int) := rfl
  unfold FJ6_length FJ6_coder
  rw [gd_t h1, gR_t h1, h3, nn_eq, aLn_i h4 (by decide), gd_t h1, if_neg (by decide), gI_t h1, h2, gd_t (by decide), bd_eq, shr_0]
theorem sc_b7 {v : Nat} {w : Bool} (hv : s.1 v = some (w, 103, L.length)) (hL : ∀ j, j < L.length → cA s v j = i32 (L.getD j 0)) (hb : ∀ z ∈ L, 0 ≤ z ∧ z ≤ 126) (hl : L.length ≤ 200) {x : Int} (hx : 0 ≤ x ∧ x ≤ 126) : ∀ (d n a : Nat), L.length - a = d → a ≤ L.length → d < n → FJ7_indexOfChar_b7 nf s n v (i32 (L.length : Int)) (i32 x) (i32 (a : Int)) = some (i32 (ixF L x d a)) := by
  intro d
  induction d with
  | zero =>
    intro n a h1 h2 h3
    obtain ⟨n, rfl⟩ : ∃ q, n = q + 1 := ⟨n - 1, by omega⟩
    rw [show FJ7_indexOfChar_b7 nf s (n + 1) = FJ7_indexOfChar_b7_s nf s (FJ7_indexOfChar_b7 nf s n) from rfl]
    unfold FJ7_indexOfChar_b7_s
    rw [if_pos ((i32_le ⟨by omega, by omega⟩ ⟨by omega, by omega⟩).mpr (by omega))]
    rfl
  | succ d ih =>
    intro n a h1 h2 h3
    obtain ⟨n, rfl⟩ : ∃ q, n = q + 1 := ⟨n - 1, by omega⟩
    have ha : a < L.length := by omega
    have hz := hb _ (getD_m ha)
    rw [show FJ7_indexOfChar_b7 nf s (n + 1) = FJ7_indexOfChar_b7_s nf s (FJ7_indexOfChar_b7 nf s n) from rfl]
    unfold FJ7_indexOfChar_b7_s
    rw [if_neg (fun z => by have := (i32_le (a := (L.length : Int)) (b := (a : Int)) ⟨by omega, by omega⟩ ⟨by omega, by omega⟩).mp z; omega), lI_i hv (by omega) (by omega) (by omega), Int.toNat_natCast, hL a ha, show (1 : Int32) = i32 1 from rfl, i32_add]
    show _ = some (i32 (if L.getD a 0 = x then (a : Int) else ixF L x d (a + 1)))
    by_cases q : L.getD a 0 = x
    · rw [if_pos (by rw [q]), if_pos q]
    · rw [if_neg (fun z => q ((i32_eq ⟨by omega, by omega⟩ ⟨by omega, by omega⟩).mp z)), if_neg q]
      exact ih n (a + 1) (by omega) (by omega) (by omega)
theorem sc_x (hn : 300 ≤ nf) (h : Sc s p L) {x : Int} (hx : 0 ≤ x ∧ x ≤ 126) {a : Nat} (ha : a ≤ L.length) : FJ6_indexOf_2 nf s p (i32 x) (i32 (a : Int)) = some (i32 (ixS L x a)) := by
  obtain ⟨h1, h2, ⟨v, w, h3, h4, h5⟩, h6, h7⟩ := id h
  unfold FJ6_indexOf_2 FJ6_isLatin1 FJ7_indexOf FJ7_canEncode FJ7_indexOfChar
  rw [gd_t h1, gd_t h1, if_neg (by decide), gI_t h1, h2, if_pos rfl, bd_eq, if_neg (by decide), gR_t h1, h3, sc_l h, bd_eq, nn_eq, if_neg (fun z => by have := (i32_lt (b := 0) ⟨by omega, by omega⟩ ⟨by omega, by omega⟩).mp z; omega), if_neg (fun z => by have := (i32_lt (a := 255) ⟨by omega, by omega⟩ ⟨by omega, by omega⟩).mp z; omega), bd_eq, if_neg (by decide), nm_eq, aLn_i h4 (by decide)]
  have em : mx32 (i32 (a : Int)) 0 = i32 (a : Int) := by
    rw [show (0 : Int32) = i32 0 from rfl, mx_c (by omega) (by omega) (by omega) (by omega), if_neg (by omega)]
  have em2 : mn32 (i32 (L.length : Int)) (i32 (L.length : Int)) = i32 (L.length : Int) := by
    rw [mn_c (by omega) (by omega) (by omega) (by omega), if_neg (by omega)]
  have eb : i2b (i32 x) = i32 x := by
    have := (fd_b x.toNat (by omega)).1
    rw [Int.toNat_of_nonneg hx.1] at this
    exact this
  rw [em, em2, nm_eq, eb]
  unfold ixS
  by_cases q : a < L.length
  · rw [if_pos ((i32_lt ⟨by omega, by omega⟩ ⟨by omega, by omega⟩).mpr (by omega)), nm_eq, sc_b7 h4 h5 h6 h7 hx (L.length - a) nf a rfl ha (by omega)]
    rfl
  · rw [if_neg (fun z => by have := (i32_lt (a := (a : Int)) (b := (L.length : Int)) ⟨by omega, by omega⟩ ⟨by omega, by omega⟩).mp z; omega), show L.length - a = 0 by omega]
    rfl
theorem ch_b : ∀ z : Nat, z < 127 → i2c (i32 ((z : Nat) : Int) &&& 255) = i32 ((z : Nat) : Int) ∧ isc (i32 ((z : Nat) : Int)) = true := by decide +kernel
theorem sc_c (h : Sc s p L) {a : Nat} (ha : a < L.length) : FJ6_charAt st s p (i32 (a : Int)) = some (i32 (L.getD a 0)) := by
  obtain ⟨h1, h2, ⟨v, w, h3, h4, h5⟩, h6, h7⟩ := id h
  have hz := h6 _ (getD_m ha)
  have hc := ch_b (L.getD a 0).toNat (by omega)
  rw [Int.toNat_of_nonneg hz.1] at hc
  unfold FJ6_charAt FJ6_isLatin1 FJ7_charAt FJ6_checkIndex FJ9_checkIndex
  rw [gd_t h1, gd_t h1, if_neg (by decide), gI_t h1, h2, if_pos rfl, bd_eq, if_neg (by decide), gR_t h1, h3, nn_eq, aLn_i h4 (by decide), if_neg (fun z => by have := (i32_lt (a := (a : Int)) (b := 0) ⟨by omega, by omega⟩ ⟨by omega, by omega⟩).mp z; omega), if_pos ((i32_lt ⟨by omega, by omega⟩ ⟨by omega, by omega⟩).mpr (by omega)), bd_eq, bd_eq, lI_i h4 (by omega) (by omega) (by omega), Int.toNat_natCast, h5 a ha, hc.1, gd_t hc.2, bd_eq, gd_t hc.2]
end SC
