/-! LAYER 2: the twin reads towns -/
set_option maxRecDepth 100000
section YDD
variable {t : Nat → Int} {n nf : Nat} {τ τ0 τ1 : TS} {k : Nat} {w : TV} {e : Int}
theorem aft_b {α : Type} {a b c : Int32} {K : Int32 → TS → Option α} : ((T_takeWord a τ).bind fun τ1 => bd2 (T_takeNumber b c τ1) K) = bd2 (T_takeAfter a b c τ) K := by
  unfold T_takeAfter
  cases T_takeWord a τ with
  | none => rfl
  | some τ1 =>
    show bd2 (T_takeNumber b c τ1) K = bd2 (bd2 (T_takeNumber b c τ1) fun v3 τ2 => some (v3, τ2)) K
    cases T_takeNumber b c τ1 with
    | none => rfl
    | some p => rfl
/-- numbers of a town that is not told yet -/
theorem t_stands (hnf : 2000 ≤ nf) : Ok (T_standsAsAlways nf (i32 340) τ) fun τ' => Trx τ τ' ∧ (∀ j, j < 340 → tA τ' 10 (340 + j) = i32 (W00 0 0 j)) ∧ (∀ f, tI τ' f = tI τ f) ∧ (∀ j, ¬ j = 10 → tA τ' j = tA τ j) ∧ tB τ' = tB τ := by
  have L : ∀ (d m k : Nat) (τ1 : TS), k + d = 340 → d < m → Trx τ τ1 → (∀ j, j < k → tA τ1 10 (340 + j) = i32 0) → (∀ f, tI τ1 f = tI τ f) → (∀ j, ¬ j = 10 → tA τ1 j = tA τ j) → tB τ1 = tB τ → Ok (T_standsAsAlways_b2 nf m (i32 340) (i32 (k : Int)) τ1) fun τ' => Trx τ τ' ∧ (∀ j, j < 340 → tA τ' 10 (340 + j) = i32 (W00 0 0 j)) ∧ (∀ f, tI τ' f = tI τ f) ∧ (∀ j, ¬ j = 10 → tA τ' j = tA τ j) ∧ tB τ' = tB τ := by
    intro d
    induction d with
    | zero =>
      intro m k τ1 h1 h2 f h0 hI hA hB
      obtain ⟨m, rfl⟩ : ∃ q, m = q + 1 := ⟨m - 1, by omega⟩
      rw [show T_standsAsAlways_b2 nf (m + 1) = T_standsAsAlways_b2_s nf (T_standsAsAlways_b2 nf m) from rfl]
      unfold T_standsAsAlways_b2_s
      rw [show (340 : Int32) = i32 340 from rfl]
      refine ok_le ⟨by omega, by omega⟩ ⟨by omega, by omega⟩ (fun _ => ?_) (fun z => by omega)
      rw [show (2 : Int32) = i32 2 from rfl, show (3 : Int32) = i32 3 from rfl, show (4 : Int32) = i32 4 from rfl, show (9 : Int32) = i32 9 from rfl, i32_add, i32_add, i32_add, i32_add, show (10 : Int32) = i32 10 from rfl, show (-1 : Int32) = i32 (-1) from rfl, show (1 : Int32) = i32 1 from rfl]
      refine ok_a10 (i := 2) (by omega) (by omega) (ok_a10 (i := 3) (by omega) (by omega) (ok_a10 (i := 4) (by omega) (by omega) (ok_a10 (i := 9) (by omega) (by omega) (ok_s ⟨(((f.tr (Trx.a10 (by omega))).tr (Trx.a10 (by omega))).tr (Trx.a10 (by omega))).tr (Trx.a10 (by omega)), fun j hj => ?_, fun f => hI f, fun j hj => ?_, hB⟩))))
      · rw [rd_sA, rd_sA, rd_sA, rd_sA, h0 j (by omega)]
        unfold W00
        by_cases q9 : j = 9
        · subst q9; rfl
        · by_cases q4 : j = 4
          · subst q4; rfl
          · by_cases q3 : j = 3
            · subst q3; rfl
            · by_cases q2 : j = 2
              · subst q2; rfl
              · rw [if_neg (fun z => by omega), if_neg (fun z => by omega), if_neg (fun z => by omega), if_neg (fun z => by omega), if_neg q2, if_neg q3, if_neg q4, if_neg q9, ite_self, ite_self]
      · rw [tA_sA, if_neg hj, tA_sA, if_neg hj, tA_sA, if_neg hj, tA_sA, if_neg hj]
        exact hA j hj
    | succ d ih =>
      intro m k τ1 h1 h2 f h0 hI hA hB
      obtain ⟨m, rfl⟩ : ∃ q, m = q + 1 := ⟨m - 1, by omega⟩
      rw [show T_standsAsAlways_b2 nf (m + 1) = T_standsAsAlways_b2_s nf (T_standsAsAlways_b2 nf m) from rfl]
      unfold T_standsAsAlways_b2_s
      rw [show (340 : Int32) = i32 340 from rfl]
      refine ok_le ⟨by omega, by omega⟩ ⟨by omega, by omega⟩ (fun z => by omega) (fun _ => ?_)
      rw [i32_add, show (0 : Int32) = i32 0 from rfl, show (1 : Int32) = i32 1 from rfl, i32_add, show (k : Int) + 1 = ((k + 1 : Nat) : Int) by omega]
      refine ok_a10 (i := k) (by omega) (by omega) (ih m (k + 1) _ (by omega) (by omega) (f.tr (Trx.a10 (by omega))) (fun j hj => ?_) (fun f => hI f) (fun j hj => ?_) hB)
      · rw [rd_sA]
        by_cases q : j = k
        · rw [if_pos ⟨rfl, by omega⟩]
        · rw [if_neg (fun z => by omega)]
          exact h0 j (by omega)
      · rw [tA_sA, if_neg hj]
        exact hA j hj
  exact L 340 nf 0 τ (by omega) (by omega) Trx.rf (fun j hj => absurd hj (Nat.not_lt_zero j)) (fun _ => rfl) (fun _ _ => rfl) rfl
/-- what a town's reading leaves -/
def Tnw (t : Nat → Int) (n : Nat) (τ : TS) (o : Int ⊕ (TV × Nat)) (p : Int32 × TS) : Prop := match o with
  | .inl e => p.1 = i32 e ∧ Trx τ p.2
  | .inr (w, _) => p.1 = i32 0 ∧ Rw w.1 p.2 ∧ (∀ r, r < w.2.2.2.length → cdAt p.2 (w.1 (280 + r)) (w.2.2.2.getD r [])) ∧ (∀ k, k < 120 → tA p.2 19 k = i32 0) ∧ (∀ k, 120 ≤ k → tA p.2 19 k = tA τ 19 k) ∧ tA p.2 16 0 = i32 0 ∧ (∀ k, 1 ≤ k → k < 30 → tA p.2 16 k = tA τ 16 k) ∧ tI p.2 20 = i32 0 ∧ tI p.2 22 = tI τ 22 + 1 ∧ (∀ j, j < 4 → tA p.2 21 j = i32 0) ∧ (∀ f, [7, 8, 13, 15, 20, 22].contains f = false → tI p.2 f = tI τ f) ∧ (∀ j, [4, 5, 10, 11, 12, 16, 19, 21].contains j = false → tA p.2 j = tA τ j) ∧ ∀ j, ¬ j = 6 → ¬ j = 14 → tB p.2 j = tB τ j
theorem t_begins (hnf : 2000 ≤ nf) : Ok (T_begins nf τ) fun τ' => (∀ k, k < 120 → tA τ' 19 k = i32 0) ∧ (∀ k, 120 ≤ k → tA τ' 19 k = tA τ 19 k) ∧ tA τ' 16 0 = i32 0 ∧ (∀ k, 1 ≤ k → tA τ' 16 k = tA τ 16 k) ∧ tI τ' 20 = i32 0 ∧ tI τ' 22 = tI τ 22 + 1 ∧ (∀ j, j < 4 → tA τ' 21 j = i32 0) ∧ (∀ f, ¬ f = 20 → ¬ f = 22 → tI τ' f = tI τ f) ∧ (∀ j, ¬ j = 16 → ¬ j = 19 → ¬ j = 21 → tA τ' j = tA τ j) ∧ tB τ' = tB τ := by
  have M : ∀ (d m k : Nat) (τ1 : TS), k + d = 4 → d < m → Ok (T_begins_b45 nf m (i32 (k : Int)) τ1) fun τ' => (∀ j, j < 4 → k ≤ j → tA τ' 21 j = i32 0) ∧ (∀ j, j < k → tA τ' 21 j = tA τ1 21 j) ∧ (∀ f, tI τ' f = tI τ1 f) ∧ (∀ j, ¬ j = 21 → tA τ' j = tA τ1 j) ∧ tB τ' = tB τ1 := by
    intro d
    induction d with
    | zero =>
      intro m k τ1 h1 h2
      obtain ⟨m, rfl⟩ : ∃ q, m = q + 1 := ⟨m - 1, by omega⟩
      rw [show T_begins_b45 nf (m + 1) = T_begins_b45_s nf (T_begins_b45 nf m) from rfl]
      unfold T_begins_b45_s
      rw [show (4 : Int32) = i32 4 from rfl]
      exact ok_le ⟨by omega, by omega⟩ ⟨by omega, by omega⟩ (fun _ => ok_s ⟨fun j a b => by omega, fun _ _ => rfl, fun _ => rfl, fun _ _ => rfl, rfl⟩) (fun z => by omega)
    | succ d ih =>
      intro m k τ1 h1 h2
      obtain ⟨m, rfl⟩ : ∃ q, m = q + 1 := ⟨m - 1, by omega⟩
      rw [show T_begins_b45 nf (m + 1) = T_begins_b45_s nf (T_begins_b45 nf m) from rfl]
      unfold T_begins_b45_s
      rw [show (4 : Int32) = i32 4 from rfl]
      refine ok_le ⟨by omega, by omega⟩ ⟨by omega, by omega⟩ (fun z => by omega) (fun _ => ?_)
      rw [show (0 : Int32) = i32 0 from rfl, show (1 : Int32) = i32 1 from rfl, i32_add, show (k : Int) + 1 = ((k + 1 : Nat) : Int) by omega]
      refine ok_g (by decide) (ok_sA (by omega) (by omega) (by omega) ?_)
      rw [Int.toNat_natCast]
      refine ok_w (ih m (k + 1) _ (by omega) (by omega)) fun τ' h => ?_
      obtain ⟨g1, g2, g3, g4, g5⟩ := h
      refine ⟨fun j a b => ?_, fun j a => ?_, g3, fun j a => ?_, g5⟩
      · by_cases q : j = k
        · rw [g2 j (by omega), rd_sA, if_pos ⟨rfl, q⟩]
        · exact g1 j a (by omega)
      · rw [g2 j (by omega), rd_sA, if_neg (fun z => by omega)]
      · rw [g4 j a, tA_sA, if_neg a]
  have L : ∀ (d m k : Nat) (τ1 : TS), k + d = 120 → d < m → (∀ j, j < k → tA τ1 19 j = i32 0) → (∀ j, k ≤ j → tA τ1 19 j = tA τ 19 j) → (∀ f, tI τ1 f = tI τ f) → (∀ j, ¬ j = 19 → tA τ1 j = tA τ j) → tB τ1 = tB τ → Ok (T_begins_b2 nf m (i32 (k : Int)) τ1) fun τ' => (∀ k, k < 120 → tA τ' 19 k = i32 0) ∧ (∀ k, 120 ≤ k → tA τ' 19 k = tA τ 19 k) ∧ tA τ' 16 0 = i32 0 ∧ (∀ k, 1 ≤ k → tA τ' 16 k = tA τ 16 k) ∧ tI τ' 20 = i32 0 ∧ tI τ' 22 = tI τ 22 + 1 ∧ (∀ j, j < 4 → tA τ' 21 j = i32 0) ∧ (∀ f, ¬ f = 20 → ¬ f = 22 → tI τ' f = tI τ f) ∧ (∀ j, ¬ j = 16 → ¬ j = 19 → ¬ j = 21 → tA τ' j = tA τ j) ∧ tB τ' = tB τ := by
    intro d
    induction d with
    | zero =>
      intro m k τ1 h1 h2 h3 h4 h5 h6 h7
      obtain ⟨m, rfl⟩ : ∃ q, m = q + 1 := ⟨m - 1, by omega⟩
      rw [show T_begins_b2 nf (m + 1) = T_begins_b2_s nf (T_begins_b2 nf m) from rfl]
      unfold T_begins_b2_s
      rw [show (120 : Int32) = i32 120 from rfl]
      refine ok_le ⟨by omega, by omega⟩ ⟨by omega, by omega⟩ (fun _ => ?_) (fun z => by omega)
      rw [show (0 : Int32) = i32 0 from rfl]
      refine ok_sA (by omega) (by omega) (by omega) ?_
      rw [nm_eq, nm_eq]
      refine ok_w (M 4 nf 0 _ (by omega) (by omega)) fun τ' h => ?_
      obtain ⟨g1, g2, g3, g4, g5⟩ := h
      have e16 : tA τ' 16 = upd (tA τ1 16) 0 (i32 0) := by
        rw [g4 16 (by decide)]
        show tA (sA τ1 16 (Int.toNat 0) (i32 0)) 16 = _
        rw [tA_sA, if_pos rfl]
        rfl
      refine ⟨fun j hj => ?_, fun j hj => ?_, ?_, fun j hj => ?_, ?_, ?_, fun j hj => g1 j hj (Nat.zero_le _), fun f a b => ?_, fun j a b c => ?_, g5.trans h7⟩
      · rw [g4 19 (by decide)]
        exact h3 j (by omega)
      · rw [g4 19 (by decide)]
        exact h4 j (by omega)
      · rw [e16, upd_e]
      · rw [e16, upd_n _ _ (by omega), h6 16 (by decide)]
      · exact (g3 20).trans ((sI_n (by decide)).trans sI_t)
      · refine (g3 22).trans (sI_t.trans ?_)
        rw [sI_n (by decide)]
        show tI τ1 22 + 1 = _
        rw [h5]
      · exact (g3 f).trans ((sI_n b).trans ((sI_n a).trans (h5 f)))
      · rw [g4 j c]
        show tA (sA τ1 16 _ _) j = _
        rw [tA_sA, if_neg a]
        exact h6 j b
    | succ d ih =>
      intro m k τ1 h1 h2 h3 h4 h5 h6 h7
      obtain ⟨m, rfl⟩ : ∃ q, m = q + 1 := ⟨m - 1, by omega⟩
      rw [show T_begins_b2 nf (m + 1) = T_begins_b2_s nf (T_begins_b2 nf m) from rfl]
      unfold T_begins_b2_s
      rw [show (120 : Int32) = i32 120 from rfl]
      refine ok_le ⟨by omega, by omega⟩ ⟨by omega, by omega⟩ (fun z => by omega) (fun _ => ?_)
      rw [show (0 : Int32) = i32 0 from rfl, show (1 : Int32) = i32 1 from rfl, i32_add, show (k : Int) + 1 = ((k + 1 : Nat) : Int) by omega]
      refine ok_sA (by omega) (by omega) (by omega) ?_
      rw [Int.toNat_natCast]
      refine ih m (k + 1) _ (by omega) (by omega) (fun j hj => ?_) (fun j hj => ?_) h5 (fun j hj => ?_) h7
      · rw [rd_sA]
        by_cases q : j = k
        · rw [if_pos ⟨rfl, q⟩]
        · rw [if_neg (fun z => q z.2)]
          exact h3 j (by omega)
      · rw [rd_sA, if_neg (fun z => by omega)]
        exact h4 j (by omega)
      · rw [tA_sA, if_neg hj]
        exact h6 j hj
  exact L 120 nf 0 τ (by omega) (by omega) (fun j hj => absurd hj (Nat.not_lt_zero j)) (fun _ _ => rfl) (fun _ => rfl) (fun _ _ => rfl) rfl
theorem cdF_s : ∀ (R : List (List (Nat × Int))) (r : Nat), r < R.length → ∃ M, cdF R = cdF (R.take r) ++ (R.getD r [] ++ ([(0, 0)] ++ M)) := by
  intro R
  induction R with
  | nil => intro r h; exact absurd h (by simp)
  | cons L R ih =>
    intro r h
    cases r with
    | zero =>
      refine ⟨cdF R, ?_⟩
      show (L ++ [(0, 0)]) ++ cdF R = [] ++ (L ++ ([(0, 0)] ++ cdF R))
      rw [List.append_assoc]
      rfl
    | succ r =>
      have h : r < R.length := by
        have : r + 1 < R.length + 1 := h
        omega
      obtain ⟨M, e⟩ := ih r h
      refine ⟨M, ?_⟩
      show (L ++ [(0, 0)]) ++ cdF R = ((L ++ [(0, 0)]) ++ cdF (R.take r)) ++ _
      rw [e]
      simp only [List.append_assoc]
      rfl
/-- the codes where they are read -/
theorem cd_at {τ' : TS} {R : List (List (Nat × Int))} {r : Nat} (hr : r < R.length) (hl : (cdF R).length ≤ 1000) (h : ∀ (i x : Nat) (a : Int), (cdF R)[i]? = some (x, a) → tA τ' 11 i = i32 (x : Int) ∧ tA τ' 12 i = i32 a) : cdAt τ' ((cdF (R.take r)).length : Int) (R.getD r []) := by
  obtain ⟨M, e⟩ := cdF_s R r hr
  have hlen : (cdF R).length = (cdF (R.take r)).length + ((R.getD r []).length + (1 + M.length)) := by
    rw [e, List.length_append, List.length_append, List.length_append]
    rfl
  refine ⟨by omega, by omega, fun i c a hi => ?_, ?_⟩
  · rw [Int.toNat_natCast]
    refine h _ c a ?_
    have hil : i < (R.getD r []).length := (List.getElem?_eq_some_iff.mp hi).1
    rw [e, List.getElem?_append_right (by omega), Nat.add_sub_cancel_left, List.getElem?_append_left hil]
    exact hi
  · rw [Int.toNat_natCast]
    refine (h _ 0 0 ?_).1
    rw [e, List.getElem?_append_right (by omega), Nat.add_sub_cancel_left, List.getElem?_append_right (Nat.le_refl _), Nat.sub_self]
    rfl
/-- the town read is laid where it is asked -/
theorem t_town99 (hnf : 2000 ≤ nf) (h : Tkk t n k τ1) (hU : UDD w τ1) (hI : TII t n w k) (f : Trx τ τ1) (hn : n ≤ 1000) (k' : Nat) : Ok (T_town_b99 nf τ1) (Tnw t n τ (.inr (w, k'))) := by
  obtain ⟨i1, i2, i3, i4, i5, i6, i7, i8⟩ := id hI
  have hpk := (tP_b (t := t) (n := n) k).1
  obtain ⟨u1, u2, u3, u4, u5⟩ := id hU
  unfold T_town_b99
  rw [if_pos (show tI τ1 8 ≤ 0 by rw [h.2.2.2]; decide)]
  have C : ∀ (d m j : Nat) (τ2 : TS), j + d = (cdF w.2.2.2).length → d < m → (∀ i, i < 340 → tA τ2 10 i = i32 (w.1 i)) → (∀ i, i < j → tA τ2 11 i = tA τ1 11 (1100 + i) ∧ tA τ2 12 i = tA τ1 12 (1100 + i)) → (∀ i, 1100 ≤ i → tA τ2 11 i = tA τ1 11 i ∧ tA τ2 12 i = tA τ1 12 i) → (∀ f, tI τ2 f = tI τ1 f) → (∀ j, ¬ j = 10 → ¬ j = 11 → ¬ j = 12 → tA τ2 j = tA τ1 j) → tB τ2 = tB τ1 → Ok (T_town_b144 nf m (i32 (j : Int)) τ2) (Tnw t n τ (.inr (w, k'))) := by
    intro d
    induction d with
    | zero =>
      intro m j τ2 h1 h2' e1 e2 e3 e4 e5 e6
      obtain ⟨m, rfl⟩ : ∃ q, m = q + 1 := ⟨m - 1, by omega⟩
      rw [show T_town_b144 nf (m + 1) = T_town_b144_s nf (T_town_b144 nf m) from rfl]
      unfold T_town_b144_s
      rw [e4, u4]
      refine ok_le ⟨by omega, by omega⟩ ⟨by omega, by omega⟩ (fun _ => ?_) (fun z => by omega)
      refine ok_b (t_begins hnf) fun τ3 h3 => ok_s ?_
      obtain ⟨g1, g2, g3, g4, g5, g6, g7, g8, g9, g10⟩ := h3
      have ea : ∀ j, ¬ j = 10 → ¬ j = 11 → ¬ j = 12 → ¬ j = 16 → ¬ j = 19 → ¬ j = 21 → tA τ3 j = tA τ1 j := fun j a b c d e f => (g9 j d e f).trans (e5 j a b c)
      refine ⟨rfl, fun i hi => ?_, fun r hr => ?_, g1, fun i hi => ?_, g3, fun i a b => ?_, g5, ?_, g7, fun i hi => ?_, fun i hi => ?_, fun i a b => ?_⟩
      · show tA τ3 10 i = _
        rw [g9 10 (by decide) (by decide) (by decide)]
        exact e1 i hi
      · rw [i7 r hr]
        refine cd_at hr (by omega) fun i x a hi => ?_
        have hil : i < (cdF w.2.2.2).length := (List.getElem?_eq_some_iff.mp hi).1
        show tA τ3 11 i = _ ∧ tA τ3 12 i = _
        rw [g9 11 (by decide) (by decide) (by decide), g9 12 (by decide) (by decide) (by decide), (e2 i (by omega)).1, (e2 i (by omega)).2]
        have := u5 i x a hi
        rw [Nat.zero_add] at this
        exact this
      · show tA τ3 19 i = _
        rw [g2 i hi, e5 19 (by decide) (by decide) (by decide), f.2.1 19 (by decide)]
      · show tA τ3 16 i = _
        rw [g4 i a, e5 16 (by decide) (by decide) (by decide), f.2.2.2.2.1 i b]
      · show tI τ3 22 = _
        rw [g6, e4, f.1 22 (by decide)]
      · show tI τ3 i = _
        rw [g8 i (by rintro rfl; cases hi) (by rintro rfl; cases hi), e4]
        refine f.1 i ?_
        have : ∀ x : Nat, [7, 8, 13, 15, 20, 22].contains x = false → [7, 8, 13, 15].contains x = false := fun x hx => by
          simp at hx ⊢
          omega
        exact this i hi
      · show tA τ3 i = _
        have hx : ¬ i = 4 ∧ ¬ i = 5 ∧ ¬ i = 10 ∧ ¬ i = 11 ∧ ¬ i = 12 ∧ ¬ i = 16 ∧ ¬ i = 19 ∧ ¬ i = 21 := by
          simp at hi
          omega
        rw [ea i hx.2.2.1 hx.2.2.2.1 hx.2.2.2.2.1 hx.2.2.2.2.2.1 hx.2.2.2.2.2.2.1 hx.2.2.2.2.2.2.2]
        refine f.2.1 i ?_
        simp
        omega
      · show tB τ3 i = _
        rw [g10, e6]
        exact f.2.2.2.2.2 i a b
    | succ d ih =>
      intro m j τ2 h1 h2' e1 e2 e3 e4 e5 e6
      obtain ⟨m, rfl⟩ : ∃ q, m = q + 1 := ⟨m - 1, by omega⟩
      rw [show T_town_b144 nf (m + 1) = T_town_b144_s nf (T_town_b144 nf m) from rfl]
      unfold T_town_b144_s
      rw [e4, u4]
      refine ok_le ⟨by omega, by omega⟩ ⟨by omega, by omega⟩ (fun z => by omega) (fun _ => ?_)
      rw [show (1100 : Int32) = i32 1100 from rfl, show (1 : Int32) = i32 1 from rfl, i32_add, i32_add, show (1100 : Int) + (j : Int) = ((1100 + j : Nat) : Int) by omega, show (j : Int) + 1 = ((j + 1 : Nat) : Int) by omega]
      refine ok_ld (by omega) (by omega) (by omega) (ok_sA (by omega) (by omega) (by omega) (ok_ld (by omega) (by omega) (by omega) (ok_sA (by omega) (by omega) (by omega) ?_)))
      rw [Int.toNat_natCast, Int.toNat_natCast]
      have e12 : ∀ i, tA (sA τ2 11 j (tA τ2 11 (1100 + j))) 12 i = tA τ2 12 i := fun i => by rw [tA_sA, if_neg (by decide)]
      have E11 : ∀ i, tA (sA (sA τ2 11 j (tA τ2 11 (1100 + j))) 12 j (tA (sA τ2 11 j (tA τ2 11 (1100 + j))) 12 (1100 + j))) 11 i = if i = j then tA τ2 11 (1100 + j) else tA τ2 11 i := fun i => by
        rw [tA_sA, if_neg (by decide), rd_sA]
        by_cases q : i = j
        · rw [if_pos ⟨rfl, q⟩, if_pos q]
        · rw [if_neg (fun z => q z.2), if_neg q]
      have E12 : ∀ i, tA (sA (sA τ2 11 j (tA τ2 11 (1100 + j))) 12 j (tA (sA τ2 11 j (tA τ2 11 (1100 + j))) 12 (1100 + j))) 12 i = if i = j then tA τ2 12 (1100 + j) else tA τ2 12 i := fun i => by
        rw [rd_sA, e12, e12]
        by_cases q : i = j
        · rw [if_pos ⟨rfl, q⟩, if_pos q]
        · rw [if_neg (fun z => q z.2), if_neg q]
      refine ih m (j + 1) _ (by omega) (by omega) (fun i hi => ?_) (fun i hi => ?_) (fun i hi => ?_) (fun f => e4 f) (fun i a b c => ?_) e6
      · rw [tA_sA, if_neg (by decide), tA_sA, if_neg (by decide)]
        exact e1 i hi
      · rw [E11, E12]
        by_cases q : i = j
        · rw [if_pos q, if_pos q, q]
          exact e3 _ (by omega)
        · rw [if_neg q, if_neg q]
          exact e2 i (by omega)
      · rw [E11, E12, if_neg (by omega), if_neg (by omega)]
        exact e3 i hi
      · rw [tA_sA, if_neg c, tA_sA, if_neg b]
        exact e5 i a b c
  have D : ∀ (d m j : Nat) (τ2 : TS), j + d = 340 → d < m → (∀ i, i < j → tA τ2 10 i = i32 (w.1 i)) → (∀ i, i < 340 → tA τ2 10 (340 + i) = i32 (w.1 i)) → (∀ f, tI τ2 f = tI τ1 f) → (∀ j, ¬ j = 10 → tA τ2 j = tA τ1 j) → tB τ2 = tB τ1 → Ok (T_town_b113 nf m (i32 (j : Int)) τ2) (Tnw t n τ (.inr (w, k'))) := by
    intro d
    induction d with
    | zero =>
      intro m j τ2 h1 h2' e1 e2 e4 e5 e6
      obtain ⟨m, rfl⟩ : ∃ q, m = q + 1 := ⟨m - 1, by omega⟩
      rw [show T_town_b113 nf (m + 1) = T_town_b113_s nf (T_town_b113 nf m) from rfl]
      unfold T_town_b113_s
      rw [show (340 : Int32) = i32 340 from rfl]
      refine ok_le ⟨by omega, by omega⟩ ⟨by omega, by omega⟩ (fun _ => ?_) (fun z => by omega)
      rw [show (0 : Int32) = i32 ((0 : Nat) : Int) from rfl]
      exact C (cdF w.2.2.2).length nf 0 τ2 (by omega) (by omega) (fun i hi => e1 i (by omega)) (fun i hi => absurd hi (Nat.not_lt_zero i)) (fun i _ => by rw [e5 11 (by decide), e5 12 (by decide)]; exact ⟨rfl, rfl⟩) e4 (fun i a _ _ => e5 i a) e6
    | succ d ih =>
      intro m j τ2 h1 h2' e1 e2 e4 e5 e6
      obtain ⟨m, rfl⟩ : ∃ q, m = q + 1 := ⟨m - 1, by omega⟩
      rw [show T_town_b113 nf (m + 1) = T_town_b113_s nf (T_town_b113 nf m) from rfl]
      unfold T_town_b113_s
      rw [show (340 : Int32) = i32 340 from rfl]
      refine ok_le ⟨by omega, by omega⟩ ⟨by omega, by omega⟩ (fun z => by omega) (fun _ => ?_)
      rw [show (1 : Int32) = i32 1 from rfl, i32_add, i32_add, show (340 : Int) + (j : Int) = ((340 + j : Nat) : Int) by omega, show (j : Int) + 1 = ((j + 1 : Nat) : Int) by omega]
      refine ok_ld (by omega) (by omega) (by omega) (ok_sA (by omega) (by omega) (by omega) ?_)
      rw [Int.toNat_natCast, Int.toNat_natCast, e2 j (by omega)]
      refine ih m (j + 1) _ (by omega) (by omega) (fun i hi => ?_) (fun i hi => ?_) (fun f => e4 f) (fun i a => ?_) e6
      · rw [rd_sA]
        by_cases q : i = j
        · rw [if_pos ⟨rfl, q⟩, q]
        · rw [if_neg (fun z => q z.2)]
          exact e1 i (by omega)
      · rw [rd_sA, if_neg (fun z => by omega)]
        exact e2 i hi
      · rw [tA_sA, if_neg a]
        exact e5 i a
  rw [show (0 : Int32) = i32 ((0 : Nat) : Int) from rfl]
  exact D 340 nf 0 τ1 (by omega) (by omega) (fun i hi => absurd hi (Nat.not_lt_zero i)) u1 (fun _ => rfl) (fun _ _ => rfl) rfl
theorem s_town99 (h : (1 ≤ e ∧ e < 100000) ∧ tI τ1 8 = i32 e) : T_town_b99 nf τ1 = some (i32 e, τ1) := by
  unfold T_town_b99
  rw [if_neg (flt h.1 h.2).2, h.2]
theorem s_town67 {m : Nat} (h : (1 ≤ e ∧ e < 100000) ∧ tI τ1 8 = i32 e) : T_town_b67 nf (m + 1) τ1 = some (i32 e, τ1) := by
  rw [show T_town_b67 nf (m + 1) = T_town_b67_s nf (T_town_b67 nf m) from rfl]
  unfold T_town_b67_s
  rw [if_neg (flt h.1 h.2).1, s_town99 h]
theorem t_twL (hnf : 2000 ≤ nf) (hT : TO t n) : ∀ (d m : Nat) (w : TV) (k : Nat) (τ1 : TS), n - tP t n k < d → d ≤ m → Tkk t n k τ1 → UDD w τ1 → TII t n w k → Trx τ τ1 → Ok (T_town_b67 nf m τ1) (Tnw t n τ (twL t n d w k)) := by
  have hn := hT.1
  intro d
  induction d with
  | zero => intro m w k τ1 h; omega
  | succ d ih =>
    intro m w k τ1 h1 h2 h hU hI f
    obtain ⟨m, rfl⟩ : ∃ q, m = q + 1 := ⟨m - 1, by omega⟩
    have hk := h.2.1.kn
    have hs := (tS_b (t := t) (n := n) (f := tP t n k))
    unfold twL
    rw [show T_town_b67 nf (m + 1) = T_town_b67_s nf (T_town_b67 nf m) from rfl]
    unfold T_town_b67_s
    rw [if_pos (show tI τ1 8 = 0 from h.2.2.2), h.2.2.1]
    refine ok_ld (by omega) (by omega) (by omega) ?_
    rw [Int.toNat_natCast, (h.1.1 k h.2.1).1, show (0 : Int32) = i32 0 from rfl]
    refine ok_q ⟨by omega, by omega⟩ ⟨by omega, by omega⟩ (fun q => ?_) (fun q => ?_)
    · rw [if_pos (show tS t n (tP t n k) = 0 by omega)]
      exact t_town99 hnf h hU hI f hn k
    · rw [if_neg (show ¬ tS t n (tP t n k) = 0 by omega), lnX_R]
      have hlt := tS_lt (t := t) (show ¬ tS t n (tP t n k) = 0 by omega)
      obtain ⟨m, rfl⟩ : ∃ q, m = q + 1 := ⟨m - 1, by omega⟩
      refine ok_b (t_readLine hnf hT h hU hI) fun τ2 h2' => ?_
      obtain ⟨f2, g2⟩ := h2'
      cases hx : lnR t n w k with
      | inl e =>
        rw [hx] at g2
        rw [s_takeSign (flt g2.1 g2.2).1, bd_eq, s_town67 g2]
        exact ok_s ⟨rfl, f.tr f2⟩
      | inr y =>
        obtain ⟨w', k2⟩ := y
        rw [hx] at g2
        have g2 : Tkk t n k2 τ2 ∧ UDD w' τ2 := g2
        have hp2 := (tP_b (t := t) (n := n) k2).1
        show Ok _ (Tnw t n τ (bP (bP (ndP (isSg t n 59 (tP t n k2)) (tP t n k2) k2) fun _ k3 => .inr (w', k3)) fun w' k' => twL t n d w' k'))
        rw [show (59 : Int32) = i32 59 from rfl, t_takeSign g2.1 hT (by omega), bd_eq]
        unfold ndP
        cases hs2 : isSg t n 59 (tP t n k2) with
        | false =>
          rw [if_neg (show ¬ (false = true) by decide), if_neg (show ¬ (false = true) by decide), s_town67 (e := 1 + 16 * (tP t n k2 : Int)) ⟨by omega, sI_t⟩]
          exact ok_s ⟨rfl, (f.tr f2).tr (Trx.sI rfl)⟩
        | true =>
          have eL : lnX t n w k = .inr (w', k2 + 1) := by
            rw [lnX_R, hx]
            show bP (ndP (isSg t n 59 (tP t n k2)) (tP t n k2) k2) _ = _
            rw [hs2]
            rfl
          obtain ⟨j1, j2⟩ := lnX_g hI eL
          rw [if_pos rfl, if_pos rfl]
          show Ok _ (Tnw t n τ (twL t n d w' (k2 + 1)))
          exact ih (m + 1) w' (k2 + 1) _ (by omega) (by omega) (g2.1.s (isSg_lt hs2)) (g2.2.n (Tn.sI (.inl rfl))) j1 ((f.tr f2).tr (Trx.sI rfl))
/-- the twin's town -/
theorem t_town (hnf : 2000 ≤ nf) (hT : TO t n) (h2 : tI τ 2 = i32 (n : Int)) (ht : ∀ i, i < n → tA τ 1 i = i32 (t i)) (hw : ∀ k, k < 22 → tB τ 9 k = wordsL.getD k 0) : Ok (T_town nf τ) fun p => ∃ τc, Tnw t n τc (twX t n) p ∧ tI τc 2 = i32 0 ∧ (∀ f, [0, 2, 3, 7, 8, 13, 15].contains f = false → tI τc f = tI τ f) ∧ (∀ j, ¬ j = 4 → ¬ j = 5 → tA τc j = tA τ j) ∧ ∀ j, ¬ j = 6 → tB τc j = tB τ j := by
  have hn := hT.1
  unfold T_town twX
  rw [nm_eq]
  refine ok_b (t_cutAll (τ := sI τ 0 0) hnf hT ((sI_n (by decide)).trans h2) ht hw) fun τ2 h => ?_
  obtain ⟨g1, g2, g3, g4, g5⟩ := h
  rw [nm_eq, nm_eq, show (340 : Int32) = i32 340 from rfl, show (0 : Int32) = i32 0 from rfl]
  have hc : Tkk t n 0 (sI (sI τ2 13 (i32 0)) 15 (i32 0)) := ⟨g1.1.r rfl rfl rfl rfl, g1.2.1, (sI_n (by decide)).trans ((sI_n (by decide)).trans g1.2.2.1), (sI_n (by decide)).trans ((sI_n (by decide)).trans g1.2.2.2)⟩
  have c13 : tI (sI (sI τ2 13 (i32 0)) 15 (i32 0)) 13 = i32 0 := (sI_n (by decide)).trans sI_t
  have c15 : tI (sI (sI τ2 13 (i32 0)) 15 (i32 0)) 15 = i32 0 := sI_t
  have c2 : tI (sI (sI τ2 13 (i32 0)) 15 (i32 0)) 2 = i32 0 := (sI_n (by decide)).trans ((sI_n (by decide)).trans g2)
  have cf : ∀ f, [0, 2, 3, 7, 8, 13, 15].contains f = false → tI (sI (sI τ2 13 (i32 0)) 15 (i32 0)) f = tI τ f := fun f q => by
    have hx : ¬ f = 0 ∧ ¬ f = 2 ∧ ¬ f = 3 ∧ ¬ f = 7 ∧ ¬ f = 8 ∧ ¬ f = 13 ∧ ¬ f = 15 := by
      simp at q
      omega
    exact (sI_n hx.2.2.2.2.2.2).trans ((sI_n hx.2.2.2.2.2.1).trans ((g3 f hx.2.1 hx.2.2.1 hx.2.2.2.1 hx.2.2.2.2.1).trans (sI_n hx.1)))
  refine ok_w (P := Tnw t n (sI (sI τ2 13 (i32 0)) 15 (i32 0)) (twX t n)) ?_ fun p hp => ⟨_, hp, c2, cf, g4, g5⟩
  unfold twX
  generalize sI (sI τ2 13 (i32 0)) 15 (i32 0) = τc at *
  refine ok_b (t_stands hnf) fun τ5 h5 => ?_
  obtain ⟨p1, p2, p3, p4, p5⟩ := h5
  have hc5 : Tkk t n 0 τ5 := ⟨hc.1.r (p4 4 (by decide)) (p4 5 (by decide)) (by rw [p5]) (by rw [p5]), hc.2.1, (p3 7).trans hc.2.2.1, (p3 8).trans hc.2.2.2⟩
  have hU5 : UDD (W00 0 0, 0, [], []) τ5 := ⟨p2, (p3 15).trans c15, fun r hr => absurd hr (Nat.not_lt_zero r), (p3 13).trans c13, fun i x a hi => by cases hi⟩
  rw [aft_b, show i32 0 = i32 ((0 : Nat) : Int) from rfl, show (1 : Int32) = i32 1 from rfl, show (6 : Int32) = i32 6 from rfl, show (9 : Int32) = i32 9 from rfl, show (341 : Int32) = i32 341 from rfl, show (59 : Int32) = i32 59 from rfl]
  refine ok_2 (t_aft hc5 hT (x := 0) (by omega) kdW_d.2.2.2.2.2 ⟨by omega, by omega⟩ ⟨by omega, by omega⟩) fun a τ7 h7 => ?_
  obtain ⟨a1, a2⟩ := h7
  have f7 := p1.tr (Trx.n a1)
  have hU7 := hU5.n a1
  refine ok_a10 (i := 0) (by omega) (by omega) ?_
  have f9 := f7.tr (Trx.a10 (i := 340 + 0) (v := a) (by omega))
  cases hx : nwP t n twnW 1 6 0 with
  | inl e =>
    rw [hx] at a2
    have ha : (1 ≤ e ∧ e < 100000) ∧ tI (sA τ7 10 (340 + 0) a) 8 = i32 e := ⟨a2.2.1, a2.2.2⟩
    rw [s_num ha, bd2_eq]
    refine ok_a10 (i := 1) (by omega) (by omega) ?_
    have ha2 : (1 ≤ e ∧ e < 100000) ∧ tI (sA (sA τ7 10 (340 + 0) a) 10 (340 + 1) (i32 0)) 8 = i32 e := ha
    obtain ⟨m, rfl⟩ : ∃ q, nf = q + 1 := ⟨nf - 1, by omega⟩
    rw [s_takeSign (flt ha2.1 ha2.2).1, bd_eq, s_town67 ha2]
    exact ok_s ⟨rfl, f9.tr (Trx.a10 (by omega))⟩
  | inr y =>
    obtain ⟨av, k2⟩ := y
    rw [hx] at a2
    obtain ⟨a2, a3⟩ := a2
    have a2 : a = i32 av := a2
    have a3 : Tkk t n k2 τ7 := a3
    obtain ⟨n1, n2, rfl, n3, n4⟩ := nwP_i hx
    subst a2
    have hU9 := hU7.w (i := 0) (v := av)
    refine ok_2 (t_num (a3.a10 (i := 340 + 0) (v := i32 av)) hT ⟨by omega, by omega⟩ ⟨by omega, by omega⟩) fun b τ10 h10 => ?_
    obtain ⟨b1, b2⟩ := h10
    have f10 := f9.tr (Trx.n b1)
    have hU10 := hU9.n b1
    refine ok_a10 (i := 1) (by omega) (by omega) ?_
    have f12 := f10.tr (Trx.a10 (i := 340 + 1) (v := b) (by omega))
    show Ok _ (Tnw t n τc (bP (nmP t n 1 9 (tP t n (0 + 2)) (0 + 2)) fun b k2 => bP (ndP (isSg t n 59 (tP t n k2)) (tP t n k2) k2) fun _ k3 => twL t n 1001 (W00 av b, 0, [], []) k3))
    cases hy : nmP t n 1 9 (tP t n (0 + 2)) (0 + 2) with
    | inl e =>
      rw [hy] at b2
      have ha2 : (1 ≤ e ∧ e < 100000) ∧ tI (sA τ10 10 (340 + 1) b) 8 = i32 e := ⟨b2.2.1, b2.2.2⟩
      obtain ⟨m, rfl⟩ : ∃ q, nf = q + 1 := ⟨nf - 1, by omega⟩
      rw [s_takeSign (flt ha2.1 ha2.2).1, bd_eq, s_town67 ha2]
      exact ok_s ⟨rfl, f12⟩
    | inr y =>
      obtain ⟨bv, k3⟩ := y
      rw [hy] at b2
      obtain ⟨b2, b3⟩ := b2
      have b2 : b = i32 bv := b2
      have b3 : Tkk t n k3 τ10 := b3
      obtain ⟨m1, rfl, m3, m4⟩ := nmP_i hy
      subst b2
      have hU12 := hU10.w (i := 1) (v := bv)
      have eW : upW (upW (W00 0 0) 0 av) 1 bv = W00 av bv := by
        funext j
        unfold upW W00
        by_cases q1 : j = 1
        · rw [if_pos q1, if_neg (show ¬ j = 0 by omega), if_pos q1]
        · rw [if_neg q1]
          by_cases q0 : j = 0
          · rw [if_pos q0, if_pos q0]
          · rw [if_neg q0, if_neg q0, if_neg q1, if_neg q0, if_neg q1]
      rw [eW] at hU12
      have h12 := b3.a10 (i := 340 + 1) (v := i32 bv)
      have hp3 := (tP_b (t := t) (n := n) (0 + 2 + 1)).1
      rw [t_takeSign h12 hT (by omega), bd_eq]
      show Ok _ (Tnw t n τc (bP (ndP (isSg t n 59 (tP t n (0 + 2 + 1))) (tP t n (0 + 2 + 1)) (0 + 2 + 1)) fun _ k3 => twL t n 1001 (W00 av bv, 0, [], []) k3))
      unfold ndP
      cases hs2 : isSg t n 59 (tP t n (0 + 2 + 1)) with
      | false =>
        rw [if_neg (show ¬ (false = true) by decide), if_neg (show ¬ (false = true) by decide)]
        obtain ⟨m, rfl⟩ : ∃ q, nf = q + 1 := ⟨nf - 1, by omega⟩
        rw [s_town67 (e := 1 + 16 * (tP t n (0 + 2 + 1) : Int)) ⟨by omega, sI_t⟩]
        exact ok_s ⟨rfl, f12.tr (Trx.sI rfl)⟩
      | true =>
        rw [if_pos rfl, if_pos rfl]
        exact t_twL hnf hT 1001 nf _ (0 + 2 + 1 + 1) _ (by omega) (by omega) (h12.s (isSg_lt hs2)) (hU12.n (Tn.sI (.inl rfl))) (W00_g ⟨n3, n4⟩ ⟨m3, m4⟩ _) (f12.tr (Trx.sI rfl))
end YDD
