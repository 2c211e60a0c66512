/-! LAYER 2: rules, lines: the twin -/
set_option maxRecDepth 100000
theorem wdL_b {l : List Int} (hl : l.length ≤ 8) (h : ∀ z ∈ l, 97 ≤ z ∧ z ≤ 122) : 0 ≤ wdL l 0 ∧ wdL l 0 < 4000000000000 := by
  have e := wdL_r l []
  have e : wdL l 0 = rvL (l.reverse ++ []) := e
  rw [List.append_nil] at e
  have hr : ∀ z ∈ l.reverse, 97 ≤ z ∧ z ≤ 122 := fun z hz => h z (List.mem_reverse.mp hz)
  have b1 := (rvL_b hr).1
  have b2 := rvL_p hr
  have hl2 : l.reverse.length ≤ 8 := by
    rw [List.length_reverse]
    exact hl
  have hp : 37 ^ l.reverse.length ≤ 37 ^ 8 := Nat.pow_le_pow_right (by decide) hl2
  have h8 : 37 ^ 8 = 3512479453921 := by decide
  rw [e]
  omega
section YVV
variable {t : Nat → Int} {n nf : Nat} {τ τ0 τ1 : TS} {k : Nat} {w : TV} {e : Int}
theorem t_isName (hnf : 2000 ≤ nf) (hT : TO t n) (h : Tkk t n k τ) : T_isName nf τ = some (bi (decide (tS t n (tP t n k) = 1 ∧ whV kpW t n (tP t n k) < 0))) := by
  have hn := hT.1
  have hk := h.2.1.kn
  have hs := (tS_b (t := t) (n := n) (f := tP t n k)).1
  have H := t_wordHere (nf := nf) (x := 0) (m := 20) (by omega) hT h (by omega)
  rw [kdW_d.2.1] at H
  have hb := whV_b kpW t n (tP t n k)
  have hl : (kpW.length : Int) = 20 := rfl
  unfold T_isName
  rw [if_pos (show tI τ 8 = 0 from h.2.2.2), h.2.2.1, ld_i (by omega) (by omega) (by omega), Int.toNat_natCast, (h.1.1 k h.2.1).1]
  by_cases q : tS t n (tP t n k) = 1
  · rw [if_pos (show i32 (tS t n (tP t n k) : Int) = 1 by rw [q]; rfl), show (0 : Int32) = i32 ((0 : Nat) : Int) from rfl, show (20 : Int32) = i32 ((20 : Nat) : Int) from rfl, H, bd_eq]
    by_cases q2 : whV kpW t n (tP t n k) < 0
    · rw [if_neg (show ¬ i32 ((0 : Nat) : Int) ≤ i32 (whV kpW t n (tP t n k)) from fun z => by have := (i32_le (a := ((0 : Nat) : Int)) (b := whV kpW t n (tP t n k)) ⟨by omega, by omega⟩ ⟨by omega, by omega⟩).mp z; omega), decide_eq_true ⟨q, q2⟩]
      rfl
    · rw [if_pos ((i32_le (a := ((0 : Nat) : Int)) (b := whV kpW t n (tP t n k)) ⟨by omega, by omega⟩ ⟨by omega, by omega⟩).mpr (by omega)), decide_eq_false (fun z => q2 z.2)]
      rfl
  · rw [if_neg (show ¬ i32 (tS t n (tP t n k) : Int) = 1 from fun z => q (by have := (i32_eq (a := (tS t n (tP t n k) : Int)) (b := 1) ⟨by omega, by omega⟩ ⟨by omega, by omega⟩).mp z; omega)), decide_eq_false (fun z => q z.1)]
    rfl
/-- names met -/
theorem t_ru34 (hT : TO t n) (h : Tkk t n k τ) (hU : UDD w τ) (h4 : w.2.2.1.length ≤ 4) : ∀ (d m j : Nat) (b : Bool), j + d = w.2.2.1.length → d < m → T_readRule_b34 nf m (i32 (w.2.2.1.length : Int)) (bi b) (i32 (j : Int)) τ = T_readRule_b81 nf (i32 (w.2.2.1.length : Int)) (bi (b || (w.2.2.1.drop j).any fun nm => decide (i64 (wdL nm 0) = tB τ 6 k))) τ := by
  have hn := hT.1
  have hk := h.2.1.kn
  intro d
  induction d with
  | zero =>
    intro m j b h1 h2
    obtain ⟨m, rfl⟩ : ∃ q, m = q + 1 := ⟨m - 1, by omega⟩
    rw [show T_readRule_b34 nf (m + 1) = T_readRule_b34_s nf (T_readRule_b34 nf m) from rfl]
    unfold T_readRule_b34_s
    rw [if_pos ((i32_le ⟨by omega, by omega⟩ ⟨by omega, by omega⟩).mpr (by omega)), List.drop_of_length_le (by omega), List.any_nil, Bool.or_false]
  | succ d ih =>
    intro m j b h1 h2
    obtain ⟨m, rfl⟩ : ∃ q, m = q + 1 := ⟨m - 1, by omega⟩
    have hj : j < w.2.2.1.length := by omega
    rw [show T_readRule_b34 nf (m + 1) = T_readRule_b34_s nf (T_readRule_b34 nf m) from rfl]
    unfold T_readRule_b34_s
    rw [if_neg (show ¬ i32 (w.2.2.1.length : Int) ≤ i32 (j : Int) from fun z => by have := (i32_le (a := (w.2.2.1.length : Int)) (b := (j : Int)) ⟨by omega, by omega⟩ ⟨by omega, by omega⟩).mp z; omega), if_pos (show tI τ 8 = 0 from h.2.2.2), show (1 : Int32) = i32 1 from rfl, i32_add, show (j : Int) + 1 = ((j + 1 : Nat) : Int) by omega, List.drop_eq_getElem_cons hj, List.any_cons]
    cases b with
    | true =>
      rw [if_neg (show ¬ bi true = (0 : Int32) by decide)]
      have := ih m (j + 1) true (by omega) (by omega)
      rw [show bi true = i32 1 from rfl] at this
      rw [this, Bool.true_or]
      rfl
    | false =>
      rw [if_pos (show bi false = (0 : Int32) from rfl), ld_i (by omega) (by omega) (by omega), Int.toNat_natCast, hU.2.2.1 j hj, h.2.2.1, ld_i (by omega) (by omega) (by omega), Int.toNat_natCast, List.getD_eq_getElem?_getD, List.getElem?_eq_getElem hj, Option.getD_some, Bool.false_or]
      by_cases q : i64 (wdL w.2.2.1[j] 0) = tB τ 6 k
      · have := ih m (j + 1) true (by omega) (by omega)
        rw [show bi true = i32 1 from rfl, Bool.true_or] at this
        rw [if_pos q, this, decide_eq_true q, Bool.true_or]
      · have := ih m (j + 1) false (by omega) (by omega)
        rw [show bi false = (0 : Int32) from rfl, Bool.false_or] at this
        rw [if_neg q, this, decide_eq_false q, Bool.false_or]
theorem s_ru105 {a : Int32} (h : (1 ≤ e ∧ e < 100000) ∧ tI τ 8 = i32 e) : T_readRule_b105 nf a τ = some τ := by
  unfold T_readRule_b105
  rw [if_neg (flt h.1 h.2).2]
/-- a rule's name is new -/
theorem t_ru105 (hnf : 2000 ≤ nf) (hT : TO t n) (h : Tkk t n k τ) (hU : UDD w τ) (f : Trx τ0 τ) (h4 : w.2.2.1.length < 4) (h8 : (w.2.2.1.length : Int) = w.1 8) (hc : (cdF w.2.2.2).length ≤ tP t n k) (h1 : tS t n (tP t n k) = 1) : Ok (T_readRule_b105 nf (i32 (w.2.2.1.length : Int)) τ) (Qt t n τ0 (bP (exX t n (ptX t n 6 0) (k + 1)) fun A k2 => .inr (ruS w (wrd t n (tP t n k)) A.1, k2))) := by
  have hn := hT.1
  have hk := h.2.1.kn
  have hlt := (tS_le h1).1
  have hl2 := tP_lt hlt
  have hlp := (tP_b (t := t) (n := n) (k + 1)).1
  unfold T_readRule_b105
  rw [if_pos (show tI τ 8 ≤ 0 by rw [h.2.2.2]; decide), h.2.2.1, ld_i (by omega) (by omega) (by omega), Int.toNat_natCast, (h.1.1 k h.2.1).2.2 hlt, (tS_1 h1).1]
  refine ok_sB (by omega) (by omega) (by omega) ?_
  rw [Int.toNat_natCast, nm_eq, show tI (sB τ 14 w.2.2.1.length (i64 (wdL (wrd t n (tP t n k)) 0))) 7 = tI τ 7 from rfl, h.up, show (620 : Int32) = i32 620 from rfl, i32_add]
  have e13 : tI (sI (sB τ 14 w.2.2.1.length (i64 (wdL (wrd t n (tP t n k)) 0))) 7 (i32 ((k + 1 : Nat) : Int))) 13 = i32 ((cdF w.2.2.2).length : Int) := (sI_n (by decide)).trans hU.2.2.2.1
  rw [e13]
  refine ok_a10 (i := 280 + w.2.2.1.length) (by omega) (by omega) ?_
  have hT0 : Tok t n (sB τ 14 w.2.2.1.length (i64 (wdL (wrd t n (tP t n k)) 0))) := h.1.r rfl rfl (by rw [tB_sB, if_neg (by decide)]) (by rw [tB_sB, if_neg (by decide)])
  have h0 : Tkk t n k (sB τ 14 w.2.2.1.length (i64 (wdL (wrd t n (tP t n k)) 0))) := ⟨hT0, h.2⟩
  have h4' := (h0.s hlt).a10 (i := 340 + (280 + w.2.2.1.length)) (v := i32 ((cdF w.2.2.2).length : Int))
  have f4 : Trx τ0 (sA (sI (sB τ 14 w.2.2.1.length (i64 (wdL (wrd t n (tP t n k)) 0))) 7 (i32 ((k + 1 : Nat) : Int))) 10 (340 + (280 + w.2.2.1.length)) (i32 ((cdF w.2.2.2).length : Int))) := ((f.tr Trx.b14).tr (Trx.sI rfl)).tr (Trx.a10 (by omega))
  have u10 : ∀ j, j < 340 → tA (sA (sI (sB τ 14 w.2.2.1.length (i64 (wdL (wrd t n (tP t n k)) 0))) 7 (i32 ((k + 1 : Nat) : Int))) 10 (340 + (280 + w.2.2.1.length)) (i32 ((cdF w.2.2.2).length : Int))) 10 (340 + j) = i32 (upW w.1 (280 + w.2.2.1.length) ((cdF w.2.2.2).length : Int) j) := fun j hj => by
    rw [rd_sA]
    show _ = i32 (if j = 280 + w.2.2.1.length then _ else w.1 j)
    by_cases q : j = 280 + w.2.2.1.length
    · rw [if_pos ⟨rfl, by omega⟩, if_pos q]
    · rw [if_neg (fun z => by omega), if_neg q]
      exact hU.1 j hj
  have u15 : tI (sA (sI (sB τ 14 w.2.2.1.length (i64 (wdL (wrd t n (tP t n k)) 0))) 7 (i32 ((k + 1 : Nat) : Int))) 10 (340 + (280 + w.2.2.1.length)) (i32 ((cdF w.2.2.2).length : Int))) 15 = i32 (w.2.1 : Int) := by
    show tI (sI (sB τ 14 w.2.2.1.length (i64 (wdL (wrd t n (tP t n k)) 0))) 7 (i32 ((k + 1 : Nat) : Int))) 15 = _
    exact (sI_n (by decide)).trans hU.2.1
  have u13 : tI (sA (sI (sB τ 14 w.2.2.1.length (i64 (wdL (wrd t n (tP t n k)) 0))) 7 (i32 ((k + 1 : Nat) : Int))) 10 (340 + (280 + w.2.2.1.length)) (i32 ((cdF w.2.2.2).length : Int))) 13 = i32 ((cdF w.2.2.2).length : Int) := e13
  have u14 : ∀ r, r < w.2.2.1.length + 1 → tB (sA (sI (sB τ 14 w.2.2.1.length (i64 (wdL (wrd t n (tP t n k)) 0))) 7 (i32 ((k + 1 : Nat) : Int))) 10 (340 + (280 + w.2.2.1.length)) (i32 ((cdF w.2.2.2).length : Int))) 14 r = i64 (wdL ((w.2.2.1 ++ [wrd t n (tP t n k)]).getD r []) 0) := fun r hr => by
    show tB (sB τ 14 w.2.2.1.length (i64 (wdL (wrd t n (tP t n k)) 0))) 14 r = _
    rw [rd_sB, List.getD_eq_getElem?_getD]
    by_cases q : r = w.2.2.1.length
    · rw [if_pos ⟨rfl, q⟩, q, List.getElem?_append_right (Nat.le_refl _), Nat.sub_self]
      rfl
    · rw [if_neg (fun z => q z.2), List.getElem?_append_left (by omega), ← List.getD_eq_getElem?_getD]
      exact hU.2.2.1 r (by omega)
  have uc : cdT (sA (sI (sB τ 14 w.2.2.1.length (i64 (wdL (wrd t n (tP t n k)) 0))) 7 (i32 ((k + 1 : Nat) : Int))) 10 (340 + (280 + w.2.2.1.length)) (i32 ((cdF w.2.2.2).length : Int))) 0 (cdF w.2.2.2) := hU.2.2.2.2.e ⟨by rw [tA_sA, if_neg (by decide)]; rfl, by rw [tA_sA, if_neg (by decide)]; rfl⟩
  generalize sA (sI (sB τ 14 w.2.2.1.length (i64 (wdL (wrd t n (tP t n k)) 0))) 7 (i32 ((k + 1 : Nat) : Int))) 10 (340 + (280 + w.2.2.1.length)) (i32 ((cdF w.2.2.2).length : Int)) = τ4 at *
  refine ok_b (t_expr hnf hT τ4 (k + 1) _ h4' u13 (by omega)) fun τ5 h5 => ?_
  cases hx : exX t n (ptX t n 6 0) (k + 1) with
  | inl e =>
    rw [hx] at h5
    refine ok_b (h5.fe (τ0 := τ4) (c0 := (cdF w.2.2.2).length) (k0 := k) Txx.rf (Nat.le_refl _) (by omega) hn hc 0 0) fun τ6 h6 => ?_
    rw [show (348 : Int32) = i32 348 from rfl]
    exact ok_ld (by omega) (by omega) (by omega) (ok_a10 (i := 8) (by omega) (by omega) (ok_s ⟨(f4.tr (Trx.x h6.1)).tr (Trx.a10 (by omega)), h6.2.1, h6.2.2.1⟩))
  | inr y =>
    obtain ⟨A, k2⟩ := y
    rw [hx] at h5
    obtain ⟨x1, x2, x3⟩ := exX_b hx
    have hlp2 := (tP_b (t := t) (n := n) k2).1
    obtain ⟨g1, g2, g3, g4⟩ := h5
    have g2 : Tkk t n k2 τ5 := g2
    have g3 : tI τ5 13 = i32 (((cdF w.2.2.2).length + A.1.length : Nat) : Int) := g3
    have g4 : cdT τ5 (cdF w.2.2.2).length A.1 := g4
    obtain ⟨τ6, p1, p2, p3, p4, p5, p6, p7⟩ := t_emit g3 (by omega) 0 0
    rw [p1, bd_eq, show (348 : Int32) = i32 348 from rfl]
    have e10 : tA τ6 10 = tA τ4 10 := (p2.2.1 10 (by decide) (by decide)).trans (g1.2.1 10 (by decide) (by decide))
    have e348 : tA τ6 10 (348 : Int).toNat = i32 (w.1 8) := by
      rw [e10]
      have := u10 8 (by omega)
      rw [upW_n (by omega)] at this
      exact this
    refine ok_ld (by omega) (by omega) (by omega) ?_
    rw [e348, show (1 : Int32) = i32 1 from rfl, i32_add]
    refine ok_a10 (i := 8) (by omega) (by omega) (ok_s ⟨((f4.tr (Trx.x g1)).tr (Trx.x p2)).tr (Trx.a10 (by omega)), ⟨(g2.1.x p2).r (by rw [tA_sA, if_neg (by decide)]) (by rw [tA_sA, if_neg (by decide)]) rfl rfl, g2.2.1, p3.trans g2.2.2.1, p4.trans g2.2.2.2⟩, fun j hj => ?_, ?_, fun r hr => ?_, ?_, ?_⟩)
    · rw [rd_sA]
      show _ = i32 (if j = 8 then w.1 8 + 1 else upW w.1 (280 + w.2.2.1.length) ((cdF w.2.2.2).length : Int) j)
      by_cases q : j = 8
      · rw [if_pos ⟨rfl, by omega⟩, if_pos q]
      · rw [if_neg (fun z => by omega), if_neg q, e10]
        exact u10 j hj
    · exact (p2.1 15 (by decide) (by decide) (by decide)).trans ((g1.1 15 (by decide) (by decide) (by decide)).trans u15)
    · show tB (sA τ6 10 (340 + 8) _) 14 r = _
      rw [tB_sA, p2.2.2.2, g1.2.2.2]
      refine u14 r ?_
      have hr : r < (w.2.2.1 ++ [wrd t n (tP t n k)]).length := hr
      rw [List.length_append] at hr
      exact hr
    · show tI τ6 13 = i32 ((cdF (w.2.2.2 ++ [A.1])).length : Int)
      rw [p5, cdF_a, List.length_append, List.length_append]
      rfl
    · show cdT (sA τ6 10 (340 + 8) _) 0 (cdF (w.2.2.2 ++ [A.1]))
      rw [cdF_a]
      refine cdT.e (τ := τ6) (cdT.a ((uc.x g1 (by omega)).x p2 (by omega)) ?_) ⟨by rw [tA_sA, if_neg (by decide)], by rw [tA_sA, if_neg (by decide)]⟩
      rw [Nat.zero_add]
      exact cdT.a (g4.x p2 (Nat.le_refl _)) (cdT.o (x := 0) (a := 0) p6 p7)
theorem t_rule (hnf : 2000 ≤ nf) (hT : TO t n) (h : Tkk t n k τ) (hU : UDD w τ) (hI : TII t n w k) (hlt : tP t n k < n) : Ok (T_readRule nf τ) (Qt t n τ (if w.2.2.1.length = 4 then .inl (5 + 16 * (tP t n k : Int)) else ruP t n w (k + 1))) := by
  have hn := hT.1
  obtain ⟨i1, i2, i3, i4, i5, i6, i7, i8⟩ := id hI
  have a8 := i1.2.2.2.2.2.2.2.2.1
  have hl2 := tP_lt hlt
  unfold T_readRule
  rw [show (348 : Int32) = i32 348 from rfl]
  refine ok_l10 (i := 8) hU rfl (by omega) ?_
  rw [← i4, show (4 : Int32) = i32 4 from rfl]
  refine ok_q ⟨by omega, by omega⟩ ⟨by omega, by omega⟩ (fun q => ?_) (fun q => ?_)
  · rw [if_pos (show w.2.2.1.length = 4 by omega)]
    obtain ⟨g1, g2⟩ := Qt.er (kd := 5) h hT Trx.rf (by omega)
    rw [show (5 : Int32) = i32 5 from rfl, g1, bd_eq]
    exact ok_s g2
  · rw [if_neg (show ¬ w.2.2.1.length = 4 by omega), h.up, nm_eq]
    have h1 := h.s hlt
    have hU1 : UDD w (sI τ 7 (i32 ((k + 1 : Nat) : Int))) := hU.n (Tn.sI (.inl rfl))
    have f1 : Trx τ (sI τ 7 (i32 ((k + 1 : Nat) : Int))) := Trx.sI rfl
    generalize sI τ 7 (i32 ((k + 1 : Nat) : Int)) = τ1 at *
    have H := t_ru34 (nf := nf) hT h1 hU1 (by omega) w.2.2.1.length nf 0 false (by omega) (by omega)
    rw [show bi false = (0 : Int32) from rfl, show i32 ((0 : Nat) : Int) = (0 : Int32) from rfl, Bool.false_or, List.drop_zero] at H
    rw [H]
    unfold T_readRule_b81 ruP
    rw [t_isName hnf hT h1, bd_eq]
    by_cases q1 : tS t n (tP t n (k + 1)) = 1 ∧ whV kpW t n (tP t n (k + 1)) < 0
    · rw [decide_eq_true q1, if_neg (show ¬ bi true = (0 : Int32) by decide), if_neg (show ¬ ¬ (tS t n (tP t n (k + 1)) = 1 ∧ whV kpW t n (tP t n (k + 1)) < 0) from fun z => z q1)]
      have hlt1 := (tS_le q1.1).1
      obtain ⟨v1, v2⟩ := tS_1 q1.1
      have hwb := wrd_b q1.1
      have hv := wdL_b hwb.1 hwb.2
      have eany : (w.2.2.1.any fun nm => decide (i64 (wdL nm 0) = tB τ1 6 (k + 1))) = decide (wrd t n (tP t n (k + 1)) ∈ w.2.2.1) := by
        rw [(h1.1.1 (k + 1) h1.2.1).2.2 hlt1, v1]
        by_cases q2 : wrd t n (tP t n (k + 1)) ∈ w.2.2.1
        · rw [decide_eq_true q2, List.any_eq_true]
          exact ⟨_, q2, decide_eq_true rfl⟩
        · rw [decide_eq_false q2, List.any_eq_false]
          intro x hx z
          have hxb := i8 x hx
          have hb := wdL_b hxb.1 hxb.2
          have := (i64_eq (a := wdL x 0) (b := wdL (wrd t n (tP t n (k + 1))) 0) ⟨by omega, by omega⟩ ⟨by omega, by omega⟩).mp (of_decide_eq_true z)
          exact q2 (by rw [← wdL_i hxb.2 hwb.2 this]; exact hx)
      rw [eany]
      by_cases q2 : wrd t n (tP t n (k + 1)) ∈ w.2.2.1
      · obtain ⟨g1, g2⟩ := Qt.er (kd := 3) h1 hT f1 (by omega)
        rw [decide_eq_true q2, if_neg (show ¬ bi true = (0 : Int32) by decide), if_pos q2, show (3 : Int32) = i32 3 from rfl, g1, bd_eq, s_ru105 g2.2]
        exact ok_s g2
      · rw [decide_eq_false q2, if_pos (show bi false = (0 : Int32) from rfl), if_neg q2]
        exact t_ru105 hnf hT h1 hU1 f1 (by omega) i4 (by omega) q1.1
    · obtain ⟨g1, g2⟩ := Qt.er (kd := 1) h1 hT f1 (by omega)
      rw [decide_eq_false q1, if_pos (show bi false = (0 : Int32) from rfl), if_pos q1, show (1 : Int32) = i32 1 from rfl, g1, bd_eq, s_ru105 g2.2]
      exact ok_s g2
end YVV
/-- a line but for its end -/
def lnR (t : Nat → Int) (n : Nat) (w : TV) (k : Nat) : Int ⊕ (TV × Nat) := if whV lnW t n (tP t n k) < 0 then .inl (1 + 16 * (tP t n k : Int)) else if w.2.1.testBit (whV lnW t n (tP t n k)).toNat = true then .inl (3 + 16 * (tP t n k : Int)) else if whV lnW t n (tP t n k) = 7 ∧ w.2.2.1.length = 4 then .inl (5 + 16 * (tP t n k : Int)) else lnB t n w (whV lnW t n (tP t n k)) (k + 1)
section YVL
variable {t : Nat → Int} {n nf : Nat} {τ τ0 τ1 : TS} {k : Nat} {w : TV} {e : Int}
theorem lnX_R : lnX t n w k = bP (lnR t n w k) fun w' k2 => bP (ndP (isSg t n 59 (tP t n k2)) (tP t n k2) k2) fun _ k3 => .inr (w', k3) := by
  unfold lnX lnR
  by_cases q1 : whV lnW t n (tP t n k) < 0
  · rw [if_pos q1, if_pos q1]
    rfl
  · rw [if_neg q1, if_neg q1]
    by_cases q2 : w.2.1.testBit (whV lnW t n (tP t n k)).toNat = true
    · rw [if_pos q2, if_pos q2]
      rfl
    · rw [if_neg q2, if_neg q2]
      by_cases q3 : whV lnW t n (tP t n k) = 7 ∧ w.2.2.1.length = 4
      · rw [if_pos q3, if_pos q3]
        rfl
      · rw [if_neg q3, if_neg q3]
theorem lnW_n : lnW.Nodup := by decide
theorem t_readLine (hnf : 2000 ≤ nf) (hT : TO t n) (h : Tkk t n k τ) (hU : UDD w τ) (hI : TII t n w k) : Ok (T_readLine nf τ) (Qt t n τ (lnR t n w k)) := by
  have H1 := t_isWord hT h (x := 1) (by omega)
  have H2 := t_isWord hT h (x := 2) (by omega)
  have H3 := t_isWord hT h (x := 3) (by omega)
  rw [isWd_w (i := 5) lnW_n (by decide) rfl] at H1
  rw [isWd_w (i := 6) lnW_n (by decide) rfl] at H2
  rw [isWd_w (i := 7) lnW_n (by decide) rfl] at H3
  have hb := whV_b lnW t n (tP t n k)
  have hl : (lnW.length : Int) = 8 := rfl
  have ht5 := td_5 _ hI.2.2.1.1
  unfold T_readLine lnR
  rw [show (1 : Int32) = i32 ((1 : Nat) : Int) from rfl, H1, bd_eq]
  by_cases q5 : whV lnW t n (tP t n k) = ((5 : Nat) : Int)
  · have hlt := whV_lt (t := t) (show 0 ≤ whV lnW t n (tP t n k) by omega)
    rw [decide_eq_true q5, if_neg (show ¬ bi true = (0 : Int32) by decide), if_neg (by omega), q5, Int.toNat_natCast, ht5 5 (by omega) (by omega), if_neg (show ¬ (false = true) by decide), if_neg (fun z => by omega)]
    exact ok_b (t_light_line hnf hT h hU hI.1 hlt) fun τ7 h7 => ok_s h7
  · rw [decide_eq_false q5, if_pos (show bi false = (0 : Int32) from rfl), show (2 : Int32) = i32 ((2 : Nat) : Int) from rfl, H2, bd_eq]
    by_cases q6 : whV lnW t n (tP t n k) = ((6 : Nat) : Int)
    · have hlt := whV_lt (t := t) (show 0 ≤ whV lnW t n (tP t n k) by omega)
      rw [decide_eq_true q6, if_neg (show ¬ bi true = (0 : Int32) by decide), if_neg (by omega), q6, Int.toNat_natCast, ht5 6 (by omega) (by omega), if_neg (show ¬ (false = true) by decide), if_neg (fun z => by omega)]
      exact ok_b (t_bar hnf hT h hU hI.1 hlt) fun τ7 h7 => ok_s h7
    · rw [decide_eq_false q6, if_pos (show bi false = (0 : Int32) from rfl), show (3 : Int32) = i32 ((3 : Nat) : Int) from rfl, H3, bd_eq]
      by_cases q7 : whV lnW t n (tP t n k) = ((7 : Nat) : Int)
      · have hlt := whV_lt (t := t) (show 0 ≤ whV lnW t n (tP t n k) by omega)
        rw [decide_eq_true q7, if_neg (show ¬ bi true = (0 : Int32) by decide), if_neg (by omega), q7, Int.toNat_natCast, ht5 7 (by omega) (by omega), if_neg (show ¬ (false = true) by decide)]
        refine ok_b (t_rule hnf hT h hU hI hlt) fun τ7 h7 => ok_s ?_
        by_cases q4 : w.2.2.1.length = 4
        · rw [if_pos q4] at h7
          rw [if_pos ⟨rfl, q4⟩]
          exact h7
        · rw [if_neg q4] at h7
          rw [if_neg (fun z => q4 z.2)]
          exact h7
      · rw [decide_eq_false q7, if_pos (show bi false = (0 : Int32) from rfl)]
        refine ok_b (t_once hnf hT h hU hI (by omega)) fun τ7 h7 => ok_s ?_
        by_cases q1 : whV lnW t n (tP t n k) < 0
        · rw [if_pos q1] at h7 ⊢
          exact h7
        · rw [if_neg q1] at h7 ⊢
          by_cases q2 : w.2.1.testBit (whV lnW t n (tP t n k)).toNat = true
          · rw [if_pos q2] at h7 ⊢
            exact h7
          · rw [if_neg q2] at h7 ⊢
            rw [if_neg (fun z => by omega)]
            exact h7
end YVL
