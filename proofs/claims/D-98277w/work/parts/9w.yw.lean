/-! LAYER 2: which word: the twin -/
set_option maxRecDepth 100000
theorem whI_m : ∀ {ws : List (List Int)} {w : List Int} {k : Nat}, ¬ w ∈ ws → whI ws w k = -1 := by
  intro ws
  induction ws with
  | nil => intro w k _; rfl
  | cons x xs ih =>
    intro w k h
    show (if x = w then (k : Int) else whI xs w (k + 1)) = -1
    rw [if_neg (fun e => h (by rw [e]; exact List.mem_cons_self ..))]
    exact ih fun z => h (List.mem_cons_of_mem _ z)
theorem whI_i : ∀ {ws : List (List Int)} {w : List Int} {k i : Nat}, ws.Nodup → i < ws.length → (whI ws w k = ((k + i : Nat) : Int) ↔ w = ws.getD i []) := by
  intro ws
  induction ws with
  | nil => intro w k i _ h; exact absurd h (by simp)
  | cons x xs ih =>
    intro w k i hn hi
    obtain ⟨hx, hn⟩ := List.nodup_cons.mp hn
    show (if x = w then (k : Int) else whI xs w (k + 1)) = ((k + i : Nat) : Int) ↔ _
    cases i with
    | zero =>
      show _ ↔ w = x
      by_cases e : x = w
      · rw [if_pos e]
        exact ⟨fun _ => e.symm, fun _ => by omega⟩
      · rw [if_neg e]
        refine ⟨fun h => ?_, fun h => absurd h.symm e⟩
        rcases whI_b xs w (k + 1) with z | z <;> omega
    | succ i =>
      have hi : i < xs.length := by
        have : i + 1 < xs.length + 1 := hi
        omega
      show _ ↔ w = xs.getD i []
      by_cases e : x = w
      · rw [if_pos e]
        refine ⟨fun h => by omega, fun h => ?_⟩
        refine absurd ?_ hx
        rw [e, h, List.getD_eq_getElem?_getD, List.getElem?_eq_getElem hi]
        exact List.getElem_mem hi
      · rw [if_neg e]
        have := ih (w := w) (k := k + 1) hn hi
        rw [show k + 1 + i = k + (i + 1) by omega] at this
        exact this
theorem wdW_n : wdW.Nodup := by decide
section YW
variable {t : Nat → Int} {n f : Nat}
/-- one word of the twin by a list of words -/
theorem isWd_w {ws : List (List Int)} {x i : Nat} (hn : ws.Nodup) (hi : i < ws.length) (he : ws.getD i [] = wdW.getD x []) : isWd t n x f = decide (whV ws t n f = (i : Int)) := by
  have h := whI_i (w := wrd t n f) (k := 0) hn hi
  rw [show 0 + i = i by omega, he] at h
  unfold isWd whV
  by_cases q : tS t n f = 1
  · rw [if_pos q]
    by_cases e : wrd t n f = wdW.getD x []
    · rw [decide_eq_true ⟨q, e⟩, decide_eq_true (h.mpr e)]
    · rw [decide_eq_false (fun z => e z.2), decide_eq_false (fun z => e (h.mp z))]
  · rw [if_neg q, decide_eq_false (fun z => q z.1), decide_eq_false (fun z => by omega)]
theorem t_wh5 {nf : Nat} {τ : TS} {k : Nat} (hT : TO t n) (h : Tkk t n k τ) : ∀ (d j x m : Nat) (w : Int), x + j + d ≤ 22 → d < m → T_wordHere_b5 nf τ m (i32 (x : Int)) (i32 ((j + d : Nat) : Int)) (i32 w) (i32 (j : Int)) = some (i32 (if tS t n (tP t n k) = 1 then (if whI ((wdW.drop (x + j)).take d) (wrd t n (tP t n k)) j < 0 then w else whI ((wdW.drop (x + j)).take d) (wrd t n (tP t n k)) j) else w)) := by
  intro d
  induction d with
  | zero =>
    intro j x m w h1 h2
    obtain ⟨m, rfl⟩ : ∃ q, m = q + 1 := ⟨m - 1, by omega⟩
    rw [show T_wordHere_b5 nf τ (m + 1) = T_wordHere_b5_s nf τ (T_wordHere_b5 nf τ m) from rfl]
    unfold T_wordHere_b5_s
    rw [if_pos ((i32_le ⟨by omega, by omega⟩ ⟨by omega, by omega⟩).mpr (by omega)), List.take_zero]
    show some (i32 w) = some (i32 (if tS t n (tP t n k) = 1 then (if (-1 : Int) < 0 then w else -1) else w))
    rw [if_pos (show (-1 : Int) < 0 by decide), ite_self]
  | succ d ih =>
    intro j x m w h1 h2
    obtain ⟨m, rfl⟩ : ∃ q, m = q + 1 := ⟨m - 1, by omega⟩
    have hw := t_isWord hT h (x := x + j) (by omega)
    have hlen : wdW.length = 22 := rfl
    have hxl : x + j < wdW.length := by omega
    have ed : (wdW.drop (x + j)).take (d + 1) = wdW.getD (x + j) [] :: (wdW.drop (x + (j + 1))).take d := by
      rw [List.drop_eq_getElem_cons hxl, List.take_succ_cons, List.getD_eq_getElem?_getD, List.getElem?_eq_getElem hxl]
      rfl
    have hnd : ¬ wdW.getD (x + j) [] ∈ (wdW.drop (x + (j + 1))).take d := by
      have := (wdW_n.sublist (List.drop_sublist (x + j) wdW)).sublist (List.take_sublist (d + 1) _)
      rw [ed] at this
      exact (List.nodup_cons.mp this).1
    rw [show T_wordHere_b5 nf τ (m + 1) = T_wordHere_b5_s nf τ (T_wordHere_b5 nf τ m) from rfl]
    unfold T_wordHere_b5_s
    rw [if_neg (show ¬ i32 ((j + (d + 1) : Nat) : Int) ≤ i32 (j : Int) from fun z => by have := (i32_le (a := ((j + (d + 1) : Nat) : Int)) (b := (j : Int)) ⟨by omega, by omega⟩ ⟨by omega, by omega⟩).mp z; omega), i32_add, show (x : Int) + (j : Int) = ((x + j : Nat) : Int) by omega, hw, bd_eq, show (1 : Int32) = i32 1 from rfl, i32_add, show (j : Int) + 1 = ((j + 1 : Nat) : Int) by omega, show j + (d + 1) = (j + 1) + d by omega, ed]
    have ihw := ih (j + 1) x m
    show _ = some (i32 (if tS t n (tP t n k) = 1 then (if (if wdW.getD (x + j) [] = wrd t n (tP t n k) then (j : Int) else whI ((wdW.drop (x + (j + 1))).take d) (wrd t n (tP t n k)) (j + 1)) < 0 then w else (if wdW.getD (x + j) [] = wrd t n (tP t n k) then (j : Int) else whI ((wdW.drop (x + (j + 1))).take d) (wrd t n (tP t n k)) (j + 1))) else w))
    unfold isWd
    by_cases q : tS t n (tP t n k) = 1
    · by_cases e : wrd t n (tP t n k) = wdW.getD (x + j) []
      · rw [decide_eq_true ⟨q, e⟩, if_neg (show ¬ bi true = (0 : Int32) by decide), ihw (j : Int) (by omega) (by omega), if_pos q, if_pos q, if_pos e.symm, if_neg (show ¬ (j : Int) < 0 by omega), e, whI_m hnd, if_pos (show (-1 : Int) < 0 by decide)]
      · rw [decide_eq_false (fun z => e z.2), if_pos (show bi false = (0 : Int32) from rfl), ihw w (by omega) (by omega), if_pos q, if_pos q, if_neg (show ¬ wdW.getD (x + j) [] = wrd t n (tP t n k) from fun z => e z.symm)]
    · rw [decide_eq_false (fun z => q z.1), if_pos (show bi false = (0 : Int32) from rfl), ihw w (by omega) (by omega), if_neg q, if_neg q]
/-- which of m words from x on -/
theorem t_wordHere {nf : Nat} {τ : TS} {k x m : Nat} (hn : 30 ≤ nf) (hT : TO t n) (h : Tkk t n k τ) (hx : x + m ≤ 22) : T_wordHere nf τ (i32 (x : Int)) (i32 (m : Int)) = some (i32 (whV ((wdW.drop x).take m) t n (tP t n k))) := by
  have := t_wh5 (nf := nf) hT h m 0 x nf (-1) (by omega) (by omega)
  rw [show 0 + m = m by omega, show x + 0 = x by omega] at this
  unfold T_wordHere
  rw [show (-1 : Int32) = i32 (-1) from rfl, show (0 : Int32) = i32 ((0 : Nat) : Int) from rfl, this]
  unfold whV
  by_cases q : tS t n (tP t n k) = 1
  · rw [if_pos q, if_pos q]
    rcases whI_b ((wdW.drop x).take m) (wrd t n (tP t n k)) 0 with z | z
    · rw [z, if_pos (show (-1 : Int) < 0 by decide)]
    · rw [if_neg (show ¬ _ < (0 : Int) by omega)]
  · rw [if_neg q, if_neg q]
end YW
theorem s_wh5 {nf : Nat} {τ : TS} (h : ¬ tI τ 8 = 0) : ∀ (d j m : Nat) (x w : Int32), j + d ≤ 30 → d < m → T_wordHere_b5 nf τ m x (i32 ((j + d : Nat) : Int)) w (i32 (j : Int)) = some w := by
  intro d
  induction d with
  | zero =>
    intro j m x w h1 h2
    obtain ⟨m, rfl⟩ : ∃ q, m = q + 1 := ⟨m - 1, by omega⟩
    rw [show T_wordHere_b5 nf τ (m + 1) = T_wordHere_b5_s nf τ (T_wordHere_b5 nf τ m) from rfl]
    unfold T_wordHere_b5_s
    rw [if_pos ((i32_le ⟨by omega, by omega⟩ ⟨by omega, by omega⟩).mpr (by omega))]
  | succ d ih =>
    intro j m x w h1 h2
    obtain ⟨m, rfl⟩ : ∃ q, m = q + 1 := ⟨m - 1, by omega⟩
    rw [show T_wordHere_b5 nf τ (m + 1) = T_wordHere_b5_s nf τ (T_wordHere_b5 nf τ m) from rfl]
    unfold T_wordHere_b5_s
    rw [if_neg (show ¬ i32 ((j + (d + 1) : Nat) : Int) ≤ i32 (j : Int) from fun z => by have := (i32_le (a := ((j + (d + 1) : Nat) : Int)) (b := (j : Int)) ⟨by omega, by omega⟩ ⟨by omega, by omega⟩).mp z; omega), s_isWord h, bd_eq, if_pos rfl, show (1 : Int32) = i32 1 from rfl, i32_add, show (j : Int) + 1 = ((j + 1 : Nat) : Int) by omega, show j + (d + 1) = (j + 1) + d by omega]
    exact ih (j + 1) m x w (by omega) (by omega)
theorem s_wordHere {nf m : Nat} {τ : TS} {x : Int32} (hn : 40 ≤ nf) (hm : m ≤ 30) (h : ¬ tI τ 8 = 0) : T_wordHere nf τ x (i32 (m : Int)) = some (-1) := by
  have := s_wh5 (nf := nf) h m 0 nf x (-1) (by omega) (by omega)
  rw [show 0 + m = m by omega] at this
  exact this
