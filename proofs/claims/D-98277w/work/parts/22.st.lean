/-! THE START: class numbers, statics, Reader's string constants -/
set_option maxRecDepth 100000
def sLen : List Nat := [8, 5, 40, 27, 6, 5, 4, 8, 101, 16, 4, 7]
def sByt : List (List Int32) := [[40, 41, 60, 61, 43, 45, 42, 59], [116, 111, 119, 110, 32], [119, 97, 108, 107, 32, 114, 117, 110, 32, 115, 108, 111, 119, 32, 114, 117, 110, 115, 32, 99, 104, 105, 108, 100, 32, 108, 105, 103, 104, 116, 32, 98, 97, 114, 32, 114, 117, 108, 101, 32], [99, 108, 111, 99, 107, 32, 104, 105, 100, 100, 101, 110, 32, 98, 117, 116, 116, 111, 110, 32, 112, 111, 108, 105, 99, 101, 32], [114, 111, 117, 110, 100, 32], [111, 118, 101, 114, 32], [102, 111, 114, 32], [111, 118, 101, 114, 32, 111, 110, 32], [116, 111, 119, 110, 32, 108, 105, 103, 104, 116, 32, 98, 97, 114, 32, 114, 117, 108, 101, 32, 119, 97, 108, 107, 32, 114, 117, 110, 32, 115, 108, 111, 119, 32, 114, 117, 110, 115, 32, 99, 104, 105, 108, 100, 32, 114, 111, 117, 110, 100, 32, 111, 118, 101, 114, 32, 111, 110, 32, 102, 111, 114, 32, 99, 108, 111, 99, 107, 32, 104, 105, 100, 100, 101, 110, 32, 98, 117, 116, 116, 111, 110, 32, 112, 111, 108, 105, 99, 101, 32, 110, 111, 116, 32, 97, 110, 100, 32, 111, 114, 32], [111, 118, 101, 114, 32, 111, 110, 32, 108, 101, 102, 116, 32, 117, 112, 32], [110, 111, 116, 32], [97, 110, 100, 32, 111, 114, 32]]
def sTm (i : Nat) : Term := .string "OverFirst$Reader" ((cStr.getD i (0, "")).1)
def sGv : List Cond := flatC (Jvm.Cond.and given_1 narrow_1)
theorem s_ex : ((List.range 12).all fun i => decide (Cond.exactly (sTm i) "java/lang/String" ∈ sGv)) = true := by decide +kernel
theorem s_co : ((List.range 12).all fun i => decide (Cond.eq (.field (sTm i) "java/lang/String" "coder" "B") (.int 0) ∈ sGv)) = true := by decide +kernel
theorem s_ar : ((List.range 12).all fun i => decide (Cond.arrayOf (.field (sTm i) "java/lang/String" "value" "[B") .byte ∈ sGv)) = true := by decide +kernel
theorem s_le : ((List.range 12).all fun i => decide (Cond.eq (.length (.field (sTm i) "java/lang/String" "value" "[B")) (.int (Int32.ofNat (sLen.getD i 0))) ∈ sGv)) = true := by decide +kernel
def sPos : List Nat := [117, 129, 139, 185, 219, 233, 247, 261, 280, 393, 422, 440]
def sNe : List Nat := [0, 134, 179, 212, 225, 238, 251, 269, 381, 409, 426, 447, 134, 0, 180, 213, 226, 239, 252, 270, 382, 410, 427, 448, 179, 180, 0, 214, 227, 240, 253, 271, 383, 411, 428, 449, 212, 213, 214, 0, 228, 241, 254, 272, 384, 412, 429, 450, 225, 226, 227, 228, 0, 242, 255, 273, 385, 413, 430, 451, 238, 239, 240, 241, 242, 0, 256, 274, 386, 414, 431, 452, 251, 252, 253, 254, 255, 256, 0, 275, 387, 415, 432, 453, 269, 270, 271, 272, 273, 274, 275, 0, 388, 416, 433, 454, 381, 382, 383, 384, 385, 386, 387, 388, 0, 417, 434, 455, 409, 410, 411, 412, 413, 414, 415, 416, 417, 0, 435, 456, 426, 427, 428, 429, 430, 431, 432, 433, 434, 435, 0, 457, 447, 448, 449, 450, 451, 452, 453, 454, 455, 456, 457, 0]
theorem s_el : ((List.range 12).all fun i => (List.range (sLen.getD i 0)).all fun j => decide (sGv[sPos.getD i 0 + j]? = some (Cond.eq (.elem (.field (sTm i) "java/lang/String" "value" "[B") (.int (Int32.ofNat j))) (.int ((sByt.getD i []).getD j 0))))) = true := by decide +kernel
theorem s_ne : ((List.range 12).all fun i => (List.range 12).all fun j => decide (i = j) || (decide (sGv[sNe.getD (12 * i + j) 0]? = some (Cond.not (Cond.eq (sTm i) (sTm j)))) || decide (sGv[sNe.getD (12 * i + j) 0]? = some (Cond.not (Cond.eq (sTm j) (sTm i)))))) = true := by decide +kernel
theorem s_in {n : Nat} {p : Nat → Bool} (h : ((List.range n).all p) = true) {i : Nat} (hi : i < n) : p i = true := List.all_eq_true.mp h i (List.mem_range.mpr hi)
theorem s_str {s : State} {b : Addr} {A : Nat → Prop} (hgv : (Jvm.Cond.and given_1 narrow_1).before #[Value.ref b] s = true) (hA : ∀ a : Nat, a < s.heap.size → ¬ A a) : ∃ adK adV : Nat → Nat, vk_S 12 sLen sByt adK adV A s s.heap ∧ ∀ i : Nat, i < 12 → (sTm i).eval #[Value.ref b] s none [] s = some (.ref (adK i)) := by
  have hs : ∀ c ∈ sGv, c.before #[Value.ref b] s = true := flat_of_before _ hgv
  refine vk_Sof (tm := sTm) ?_ (fun i hi => hs _ (of_decide_eq_true (s_in s_ex hi))) (fun i hi => hs _ (of_decide_eq_true (s_in s_co hi))) (fun i hi => hs _ (of_decide_eq_true (s_in s_ar hi))) (fun i hi => hs _ (of_decide_eq_true (s_in s_le hi))) (fun i hi j hj => hs _ (List.mem_of_getElem? (of_decide_eq_true (s_in (s_in s_el hi) hj)))) (fun i j hi hj hij => ?_) hA
  · intro i hi
    have h : ((List.range 12).all fun i => decide (sLen.getD i 0 < 2 ^ 31)) = true := by decide +kernel
    exact of_decide_eq_true (s_in h hi)
  · have h := s_in (s_in s_ne hi) hj
    rcases Bool.or_eq_true_iff.mp h with h | h
    · exact absurd (of_decide_eq_true h) hij
    · rcases Bool.or_eq_true_iff.mp h with h | h
      · exact Or.inl (hs _ (List.mem_of_getElem? (of_decide_eq_true h)))
      · exact Or.inr (hs _ (List.mem_of_getElem? (of_decide_eq_true h)))
theorem s_isRef {args : Array Value} {s : State} {t : Term} (h : (Cond.isRef t).before args s = true) : ∃ r : Option Nat, t.eval args s none [] s = some (va_rf r) := by
  cases hv : t.eval args s none [] s with
  | none => simp [Cond.before, Cond.holds, Cond.value, hv] at h
  | some w =>
    simp only [Cond.before, Cond.holds, Cond.value, hv] at h
    cases w with
    | null => exact ⟨none, rfl⟩
    | ref t => exact ⟨some t, rfl⟩
    | _ => simp at h
/-- the classes' numbers and slots -/
theorem s_cls {s : State} {b : Addr} (hts : ∀ w ∈ lw_all, w.before #[Value.ref b] s = true) : ∃ D : va_G, ∀ (c : Nat) (q : vw_C), vwCl[c]? = some q → u_Kn s q.1 q.2.1 q.2.2 (D.1 c) (D.2 c) := by
  have hall : ∀ c : Nat, ∃ p : ClassId × (Nat → Nat), ∀ q : vw_C, vwCl[c]? = some q → u_Kn s q.1 q.2.1 q.2.2 p.1 p.2 := by
    intro c
    by_cases hc : c < 26
    case neg => exact ⟨(0, fun _ => 0), fun q h => by rw [List.getElem?_eq_none (by show 26 ≤ c; omega)] at h; cases h⟩
    rcases (show c = 0 ∨ c = 1 ∨ c = 2 ∨ c = 3 ∨ c = 4 ∨ c = 5 ∨ c = 6 ∨ c = 7 ∨ c = 8 ∨ c = 9 ∨ c = 10 ∨ c = 11 ∨ c = 12 ∨ c = 13 ∨ c = 14 ∨ c = 15 ∨ c = 16 ∨ c = 17 ∨ c = 18 ∨ c = 19 ∨ c = 20 ∨ c = 21 ∨ c = 22 ∨ c = 23 ∨ c = 24 ∨ c = 25 by omega) with rfl | rfl | rfl | rfl | rfl | rfl | rfl | rfl | rfl | rfl | rfl | rfl | rfl | rfl | rfl | rfl | rfl | rfl | rfl | rfl | rfl | rfl | rfl | rfl | rfl | rfl
    · obtain ⟨cC, iS, h⟩ := u_known hts kX0.2.1 (hts _ q178)
      exact ⟨(cC, iS), fun q hq => by cases hq; exact h⟩
    · obtain ⟨cC, iS, h⟩ := u_known hts kX1.2.1 (hts _ q186)
      exact ⟨(cC, iS), fun q hq => by cases hq; exact h⟩
    · obtain ⟨cC, iS, h⟩ := u_known hts kX2.2.1 (hts _ q218)
      exact ⟨(cC, iS), fun q hq => by cases hq; exact h⟩
    · obtain ⟨cC, iS, h⟩ := u_known hts kX4.2.1 (hts _ q255)
      exact ⟨(cC, iS), fun q hq => by cases hq; exact h⟩
    · obtain ⟨cC, iS, h⟩ := u_known hts kX4.2.1 (hts _ q255)
      exact ⟨(cC, iS), fun q hq => by cases hq; exact h⟩
    · obtain ⟨cC, iS, h⟩ := u_known hts kX5.2.1 (hts _ q337)
      exact ⟨(cC, iS), fun q hq => by cases hq; exact h⟩
    · obtain ⟨cC, iS, h⟩ := u_known hts kX6.2.1 (hts _ q344)
      exact ⟨(cC, iS), fun q hq => by cases hq; exact h⟩
    · obtain ⟨cC, iS, h⟩ := u_known hts kX7.2.1 (hts _ q410)
      exact ⟨(cC, iS), fun q hq => by cases hq; exact h⟩
    · obtain ⟨cC, iS, h⟩ := u_known hts kX8.2.1 (hts _ q431)
      exact ⟨(cC, iS), fun q hq => by cases hq; exact h⟩
    · obtain ⟨cC, iS, h⟩ := u_known hts kX9.2.1 (hts _ q1629)
      exact ⟨(cC, iS), fun q hq => by cases hq; exact h⟩
    · obtain ⟨cC, iS, h⟩ := u_known hts kX10.2.1 (hts _ q736)
      exact ⟨(cC, iS), fun q hq => by cases hq; exact h⟩
    · obtain ⟨cC, iS, h⟩ := u_known hts kX4.2.1 (hts _ q255)
      exact ⟨(cC, iS), fun q hq => by cases hq; exact h⟩
    · obtain ⟨cC, iS, h⟩ := u_known hts kX12.2.1 (hts _ q848)
      exact ⟨(cC, iS), fun q hq => by cases hq; exact h⟩
    · obtain ⟨cC, iS, h⟩ := u_known hts kX13.2.1 (hts _ q878)
      exact ⟨(cC, iS), fun q hq => by cases hq; exact h⟩
    · obtain ⟨cC, iS, h⟩ := u_known hts kX14.2.1 (hts _ q888)
      exact ⟨(cC, iS), fun q hq => by cases hq; exact h⟩
    · obtain ⟨cC, iS, h⟩ := u_known hts kX15.2.1 (hts _ q898)
      exact ⟨(cC, iS), fun q hq => by cases hq; exact h⟩
    · obtain ⟨cC, iS, h⟩ := u_known hts kX16.2.1 (hts _ q1090)
      exact ⟨(cC, iS), fun q hq => by cases hq; exact h⟩
    · obtain ⟨cC, iS, h⟩ := u_known hts kX4.2.1 (hts _ q255)
      exact ⟨(cC, iS), fun q hq => by cases hq; exact h⟩
    · obtain ⟨cC, iS, h⟩ := u_known hts kX18.2.1 (hts _ q1114)
      exact ⟨(cC, iS), fun q hq => by cases hq; exact h⟩
    · obtain ⟨cC, iS, h⟩ := u_known hts kX19.2.1 (hts _ q1127)
      exact ⟨(cC, iS), fun q hq => by cases hq; exact h⟩
    · obtain ⟨cC, iS, h⟩ := u_known hts kX20.2.1 (hts _ q1137)
      exact ⟨(cC, iS), fun q hq => by cases hq; exact h⟩
    · obtain ⟨cC, iS, h⟩ := u_known hts kX21.2.1 (hts _ q1147)
      exact ⟨(cC, iS), fun q hq => by cases hq; exact h⟩
    · obtain ⟨cC, iS, h⟩ := u_known hts kJ2.2.1 (hts _ q226)
      exact ⟨(cC, iS), fun q hq => by cases hq; exact h⟩
    · obtain ⟨cC, iS, h⟩ := u_known hts kJ6.2.1 (hts _ q1016)
      exact ⟨(cC, iS), fun q hq => by cases hq; exact h⟩
    · obtain ⟨cC, iS, h⟩ := u_known hts kJ15.2.1 (hts _ q922)
      exact ⟨(cC, iS), fun q hq => by cases hq; exact h⟩
    · obtain ⟨cC, iS, h⟩ := u_known hts kJ6c.2.1 (hts _ q1016)
      exact ⟨(cC, iS), fun q hq => by cases hq; exact h⟩
  obtain ⟨f, hf⟩ := Classical.axiomOfChoice hall
  exact ⟨(fun c => (f c).1, fun c => (f c).2), fun c q h => hf c q h⟩
theorem s_arr {s : State} {A : Array Value} {ty : FieldType} (h : (Cond.arrayClass ty).before A s = true) (hno : ∀ C, ty ≠ .object C) : ∃ c : ClassId, ArrOfT s c ty ∧ va_RA s c ty := by
  obtain ⟨c, k, comp, h1, h2, h3⟩ := Cond.arrayClass_spec h
  refine ⟨c, fun n z => ⟨fun k h => (by cases h), k, h2, comp, h3⟩, ?_⟩
  cases ty with
  | object C => exact absurd rfl (hno C)
  | _ => exact h1
theorem s_arro {s : State} {A : Array Value} {C : String} (h : (Cond.arrayOver (.object C)).before A s = true) : ∃ c : ClassId, ArrOfT s c (.object C) ∧ va_RA s c (.object C) := by
  obtain ⟨comp, c, k, h1, h2, h3, h4, h5⟩ := Cond.arrayOver_spec h
  exact ⟨c, fun n z => ⟨fun k h => (by cases h), k, h3, comp, h4⟩, k, comp, h3, h4, h1, h5⟩
theorem s_env {s : State} {b : Addr} (htt : ∀ w ∈ lw_tbl, w.before #[Value.ref b] s = true) (hts : ∀ w ∈ lw_all, w.before #[Value.ref b] s = true) : ∃ (D : va_G) (dA : Nat → ClassId), va_K D vwCl (tysL dA) s := by
  obtain ⟨D, hD⟩ := s_cls hts
  obtain ⟨a0, g0⟩ := s_arr (hts _ q253) (fun C h => by cases h)
  obtain ⟨a1, g1⟩ := s_arr (hts _ q575) (fun C h => by cases h)
  obtain ⟨a2, g2⟩ := s_arr (hts _ q485) (fun C h => by cases h)
  obtain ⟨a3, g3⟩ := s_arr (hts _ q216) (fun C h => by cases h)
  obtain ⟨a4, g4⟩ := s_arro (htt _ q224)
  obtain ⟨a5, g5⟩ := s_arro (htt _ q486)
  obtain ⟨a6, g6⟩ := s_arro (htt _ q238)
  refine ⟨D, fun k => [a0, a1, a2, a3, a4, a5, a6].getD k 0, hD, ?_⟩
  intro k q hk
  by_cases hc : k < 7
  case neg => rw [List.getElem?_eq_none (by show 7 ≤ k; omega)] at hk; cases hk
  rcases (show k = 0 ∨ k = 1 ∨ k = 2 ∨ k = 3 ∨ k = 4 ∨ k = 5 ∨ k = 6 by omega) with rfl | rfl | rfl | rfl | rfl | rfl | rfl
  · cases hk; exact g0
  · cases hk; exact g1
  · cases hk; exact g2
  · cases hk; exact g3
  · cases hk; exact g4
  · cases hk; exact g5
  · cases hk; exact g6
