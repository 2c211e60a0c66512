/-! LAYER 2: products, sums, tests, expressions: the twin -/
set_option maxRecDepth 100000
section YP
variable {t : Nat → Int} {n nf : Nat} {τ τ0 τ1 : TS} {k c k0 c0 u : Nat} {e : Int} {rc : Int32 → TS → Option TS} {pt : Nat → XO} {w : Int32}
theorem s_pr5 {m : Nat} (h : Qx t n τ0 c0 k0 (.inl e) τ1) : Ok (T_products_b5 nf rc (m + 1) w τ1) (Qx t n τ0 c0 k0 (.inl e)) := by
  rw [show T_products_b5 nf rc (m + 1) = T_products_b5_s nf rc (T_products_b5 nf rc m) from rfl]
  unfold T_products_b5_s
  rw [s_hasSign h.nf.1, bd2_eq, if_pos rfl]
  exact ok_s h.sf
theorem tp_5 (hT : TO t n) (hP : PU t n (rc w) pt) (hp : ∀ k, XG t n u k (pt k)) (h0 : c0 ≤ tP t n k0) : ∀ (d m : Nat) (τ : TS) (k : Nat) (A : XV), n - tP t n k < d → d ≤ m → Qx t n τ0 c0 k0 (.inr (A, k)) τ → A.1.length + tP t n k0 ≤ tP t n k → Ok (T_products_b5 nf rc m w τ) (Qx t n τ0 c0 k0 (prL t n pt d A k)) := by
  have hn := hT.1
  intro d
  induction d with
  | zero => intro m τ k A h; omega
  | succ d ih =>
    intro m τ k A h1 h2 hq hl
    obtain ⟨m, rfl⟩ : ∃ q, m = q + 1 := ⟨m - 1, by omega⟩
    obtain ⟨q1, q2, q3, q4⟩ := id hq
    have H := t_hasSign q2 hT (c := 42) (by omega)
    unfold prL
    rw [show T_products_b5 nf rc (m + 1) = T_products_b5_s nf rc (T_products_b5 nf rc m) from rfl]
    unfold T_products_b5_s
    rw [show (42 : Int32) = i32 42 from rfl, H, bd2_eq]
    cases hs : isSg t n 42 (tP t n k) with
    | false =>
      rw [if_pos (show bi false = (0 : Int32) from rfl), if_neg (show ¬ (false = true) by decide), if_neg (show ¬ (false = true) by decide)]
      exact ok_s hq.sv
    | true =>
      rw [if_neg (show ¬ bi true = (0 : Int32) by decide), if_pos rfl, if_pos rfl]
      have hlt := isSg_lt hs
      have hl2 := tP_lt hlt
      have hlp := (tP_b (t := t) (n := n) (k + 1)).1
      obtain ⟨m, rfl⟩ : ∃ q, m = q + 1 := ⟨m - 1, by omega⟩
      refine ok_qx (hP _ (k + 1) (c0 + A.1.length) (q2.s hlt) ((sI_n (by decide)).trans q3) (by omega)) (fun e τ1 hf => ?_) (fun B k2 τ2 hx hB => ?_)
      · exact ok_b (hf.fe (q1.tr Txx.s7 (Nat.le_refl _)) (by omega) (by omega) hn h0 6 0) fun τ3 h3 => s_pr5 h3
      · obtain ⟨g1, g2, g3⟩ := hp (k + 1) B k2 hx
        have hlp2 := (tP_b (t := t) (n := n) k2).1
        refine ok_b (hq.two (op := 6) Txx.s7 hB (by omega) rfl) fun τ3 h3 => ih (m + 1) τ3 k2 (opX 6 A B) (by omega) (by omega) h3 ?_
        show (A.1 ++ (B.1 ++ [(6, 0)])).length + _ ≤ _
        rw [List.length_append, List.length_append]
        show A.1.length + (B.1.length + 1) + _ ≤ _
        omega
theorem Qx.of (h0 : Tkk t n k τ) : Qx t n τ c k (.inr (([], 0), k)) τ → True := fun _ => trivial
theorem t_products (hnf : 2000 ≤ nf) (hT : TO t n) (hP : PU t n (rc w) pt) (hp : ∀ k, XG t n u k (pt k)) : PU t n (T_products nf rc w) (prX t n pt) := by
  intro τ k c h1 h2 h3
  have hn := hT.1
  unfold T_products
  refine ok_qx (hP τ k c h1 h2 h3) (fun e τ1 hf => ?_) (fun A k1 τ1 hx hA => ?_)
  · obtain ⟨m, rfl⟩ : ∃ q, nf = q + 1 := ⟨nf - 1, by omega⟩
    exact s_pr5 hf
  · obtain ⟨g1, g2, g3⟩ := hp k A k1 hx
    exact tp_5 hT hP hp h3 1001 nf τ1 k1 A (by omega) (by omega) hA g2
theorem s_sm5 {m : Nat} (h : Qx t n τ0 c0 k0 (.inl e) τ1) : Ok (T_sums_b5 nf rc (m + 1) w τ1) (Qx t n τ0 c0 k0 (.inl e)) := by
  rw [show T_sums_b5 nf rc (m + 1) = T_sums_b5_s nf rc (T_sums_b5 nf rc m) from rfl]
  unfold T_sums_b5_s
  rw [s_isSign h.nf.1, bd_eq, if_pos rfl, s_isSign h.nf.1, bd_eq, if_pos rfl]
  exact ok_s h
theorem tsm_23 (hnf : 2000 ≤ nf) (hT : TO t n) (hP : PU t n (rc w) pt) (hp : ∀ k, XG t n u k (pt k)) (h0 : c0 ≤ tP t n k0) {m d : Nat} {A : XV} {op : Nat} (hm : 1 ≤ m) (hq : Qx t n τ0 c0 k0 (.inr (A, k)) τ) (hl : A.1.length + tP t n k0 ≤ tP t n k) (hlt : tP t n k < n) (hop : isSg t n 43 (tP t n k) = true ∧ op = 4 ∨ isSg t n 43 (tP t n k) = false ∧ op = 5) (hd : n - tP t n k < d + 1) (ih : ∀ (τ : TS) (k : Nat) (A : XV), n - tP t n k < d → Qx t n τ0 c0 k0 (.inr (A, k)) τ → A.1.length + tP t n k0 ≤ tP t n k → Ok (T_sums_b5 nf rc m w τ) (Qx t n τ0 c0 k0 (smL t n pt d A k))) : Ok (T_sums_b23 nf rc (T_sums_b5 nf rc m) w τ) (Qx t n τ0 c0 k0 (bP (prX t n pt (k + 1)) fun B k2 => smL t n pt d (opX op A B) k2)) := by
  have hn := hT.1
  obtain ⟨q1, q2, q3, q4⟩ := id hq
  have H := t_isSign hT q2 (c := 43) (by omega)
  have hl2 := tP_lt hlt
  have hlp := (tP_b (t := t) (n := n) (k + 1)).1
  obtain ⟨m, rfl⟩ : ∃ q, m = q + 1 := ⟨m - 1, by omega⟩
  unfold T_sums_b23
  rw [show (43 : Int32) = i32 43 from rfl, H, bd_eq, nm_eq, q2.2.2.1, show (1 : Int32) = i32 1 from rfl, i32_add, show (k : Int) + 1 = ((k + 1 : Nat) : Int) by omega]
  refine ok_qx (t_products hnf hT hP hp _ (k + 1) (c0 + A.1.length) (q2.s hlt) ((sI_n (by decide)).trans q3) (by omega)) (fun e τ1 hf => ?_) (fun B k2 τ2 hx hB => ?_)
  · refine ok_if (fun _ => ?_) (fun _ => ?_)
    · exact ok_b (hf.fe (q1.tr Txx.s7 (Nat.le_refl _)) (by omega) (by omega) hn h0 _ _) fun τ3 h3 => s_sm5 h3
    · exact ok_b (hf.fe (q1.tr Txx.s7 (Nat.le_refl _)) (by omega) (by omega) hn h0 _ _) fun τ3 h3 => s_sm5 h3
  · obtain ⟨g1, g2, g3⟩ := prX_g hp (k + 1) B k2 hx
    have hlp2 := (tP_b (t := t) (n := n) k2).1
    have L : (opX op A B).1.length + tP t n k0 ≤ tP t n k2 := by
      show (A.1 ++ (B.1 ++ [(op, 0)])).length + _ ≤ _
      rw [List.length_append, List.length_append]
      show A.1.length + (B.1.length + 1) + _ ≤ _
      omega
    rcases hop with ⟨e1, rfl⟩ | ⟨e1, rfl⟩
    · rw [e1, if_neg (show ¬ bi true = (0 : Int32) by decide)]
      exact ok_b (hq.two (op := 4) Txx.s7 hB (by omega) rfl) fun τ3 h3 => ih τ3 k2 _ (by omega) h3 L
    · rw [e1, if_pos (show bi false = (0 : Int32) from rfl)]
      exact ok_b (hq.two (op := 5) Txx.s7 hB (by omega) rfl) fun τ3 h3 => ih τ3 k2 _ (by omega) h3 L
theorem tsm_5 (hnf : 2000 ≤ nf) (hT : TO t n) (hP : PU t n (rc w) pt) (hp : ∀ k, XG t n u k (pt k)) (h0 : c0 ≤ tP t n k0) : ∀ (d m : Nat) (τ : TS) (k : Nat) (A : XV), n - tP t n k < d → d ≤ m → Qx t n τ0 c0 k0 (.inr (A, k)) τ → A.1.length + tP t n k0 ≤ tP t n k → Ok (T_sums_b5 nf rc m w τ) (Qx t n τ0 c0 k0 (smL t n pt d A k)) := by
  intro d
  induction d with
  | zero => intro m τ k A h; omega
  | succ d ih =>
    intro m τ k A h1 h2 hq hl
    obtain ⟨m, rfl⟩ : ∃ q, m = q + 1 := ⟨m - 1, by omega⟩
    obtain ⟨q1, q2, q3, q4⟩ := id hq
    have H := t_isSign hT q2 (c := 43) (by omega)
    have H2 := t_isSign hT q2 (c := 45) (by omega)
    unfold smL
    rw [show T_sums_b5 nf rc (m + 1) = T_sums_b5_s nf rc (T_sums_b5 nf rc m) from rfl]
    unfold T_sums_b5_s
    rw [show (43 : Int32) = i32 43 from rfl, H, bd_eq]
    cases hs : isSg t n 43 (tP t n k) with
    | true =>
      rw [if_neg (show ¬ bi true = (0 : Int32) by decide), if_pos rfl]
      have hlt := isSg_lt hs
      exact tsm_23 hnf hT hP hp h0 (by omega) hq hl hlt (.inl ⟨hs, rfl⟩) h1 fun τ k A a1 a2 a3 => ih m τ k A a1 (by omega) a2 a3
    | false =>
      rw [if_pos (show bi false = (0 : Int32) from rfl), if_neg (show ¬ (false = true) by decide), show (45 : Int32) = i32 45 from rfl, H2, bd_eq]
      cases hs2 : isSg t n 45 (tP t n k) with
      | true =>
        rw [if_neg (show ¬ bi true = (0 : Int32) by decide), if_pos rfl]
        have hlt := isSg_lt hs2
        exact tsm_23 hnf hT hP hp h0 (by omega) hq hl hlt (.inr ⟨hs, rfl⟩) h1 fun τ k A a1 a2 a3 => ih m τ k A a1 (by omega) a2 a3
      | false =>
        rw [if_pos (show bi false = (0 : Int32) from rfl), if_neg (show ¬ (false = true) by decide)]
        exact ok_s hq
theorem t_sums (hnf : 2000 ≤ nf) (hT : TO t n) (hP : PU t n (rc w) pt) (hp : ∀ k, XG t n u k (pt k)) : PU t n (T_sums nf rc w) (smX t n pt) := by
  intro τ k c h1 h2 h3
  have hn := hT.1
  unfold T_sums
  refine ok_qx (t_products hnf hT hP hp τ k c h1 h2 h3) (fun e τ1 hf => ?_) (fun A k1 τ1 hx hA => ?_)
  · obtain ⟨m, rfl⟩ : ∃ q, nf = q + 1 := ⟨nf - 1, by omega⟩
    exact s_sm5 hf
  · obtain ⟨g1, g2, g3⟩ := prX_g hp k A k1 hx
    exact tsm_5 hnf hT hP hp h3 1001 nf τ1 k1 A (by omega) (by omega) hA g2
theorem te_30 (hnf : 2000 ≤ nf) (hT : TO t n) (hP : PU t n (rc w) pt) (hp : ∀ k, XG t n u k (pt k)) (h0 : c0 ≤ tP t n k0) {A : XV} {op : Nat} {b : Bool} (hq : Qx t n τ0 c0 k0 (.inr (A, k)) τ) (hl : A.1.length + tP t n k0 ≤ tP t n k) (hlt : tP t n k < n) (hop : b = true ∧ op = 7 ∨ b = false ∧ op = 8) (hτ : Txx (c0 + A.1.length) τ τ1) (h7 : Tkk t n (k + 1) τ1) (h13 : tI τ1 13 = tI τ 13) : Ok (T_test_b30 nf rc w (bi b) τ1) (Qx t n τ0 c0 k0 (bP (smX t n pt (k + 1)) fun B k2 => .inr (opX op A B, k2))) := by
  have hn := hT.1
  obtain ⟨q1, q2, q3, q4⟩ := id hq
  have hl2 := tP_lt hlt
  have hlp := (tP_b (t := t) (n := n) (k + 1)).1
  unfold T_test_b30
  refine ok_qx (t_sums hnf hT hP hp _ (k + 1) (c0 + A.1.length) h7 (h13.trans q3) (by omega)) (fun e τ1 hf => ?_) (fun B k2 τ2 hx hB => ?_)
  · refine ok_if (fun _ => ?_) (fun _ => ?_)
    · exact ok_b (hf.fe (q1.tr hτ (by omega)) (by omega) (by omega) hn h0 _ _) fun τ3 h3 => ok_s h3
    · exact ok_b (hf.fe (q1.tr hτ (by omega)) (by omega) (by omega) hn h0 _ _) fun τ3 h3 => ok_s h3
  · obtain ⟨g1, g2, g3⟩ := smX_g hp (k + 1) B k2 hx
    have hlp2 := (tP_b (t := t) (n := n) k2).1
    rcases hop with ⟨e1, rfl⟩ | ⟨e1, rfl⟩
    · rw [e1, if_neg (show ¬ bi true = (0 : Int32) by decide)]
      exact ok_b (hq.two (op := 7) hτ hB (by omega) rfl) fun τ3 h3 => ok_s h3
    · rw [e1, if_pos (show bi false = (0 : Int32) from rfl)]
      exact ok_b (hq.two (op := 8) hτ hB (by omega) rfl) fun τ3 h3 => ok_s h3
theorem t_test (hnf : 2000 ≤ nf) (hT : TO t n) (hP : PU t n (rc w) pt) (hp : ∀ k, XG t n u k (pt k)) : PU t n (T_test nf rc w) (teX t n pt) := by
  intro τ k c h1 h2 h3
  have hn := hT.1
  unfold T_test
  refine ok_qx (t_sums hnf hT hP hp τ k c h1 h2 h3) (fun e τ1 hf => ?_) (fun A k1 τ1 hx hA => ?_)
  · have hf2 := hf.sf (v := tI τ1 7 + 0)
    rw [s_isSign hf.nf.1, bd_eq, s_hasSign hf.nf.1, bd2_eq, if_pos rfl, s_hasSign hf2.nf.1, bd2_eq, if_pos rfl]
    exact ok_s hf2.sf
  · obtain ⟨g1, g2, g3⟩ := smX_g hp k A k1 hx
    obtain ⟨q1, q2, q3, q4⟩ := id hA
    have H1 := t_isSign hT q2 (c := 60) (by omega)
    have H2 := t_hasSign q2 hT (c := 60) (by omega)
    rw [show (60 : Int32) = i32 60 from rfl, H1, bd_eq, H2, bd2_eq]
    cases hs : isSg t n 60 (tP t n k1) with
    | true =>
      rw [if_neg (show ¬ bi true = (0 : Int32) by decide), if_pos rfl, if_pos rfl]
      have hlt := isSg_lt hs
      exact te_30 hnf hT hP hp h3 hA g2 hlt (.inl ⟨rfl, rfl⟩) Txx.s7 (q2.s hlt) (sI_n (by decide))
    | false =>
      have hv := hA.sv
      have H3 := t_hasSign hv.2.1 hT (c := 61) (by omega)
      rw [if_pos (show bi false = (0 : Int32) from rfl), if_neg (show ¬ (false = true) by decide), if_neg (show ¬ (false = true) by decide), show (61 : Int32) = i32 61 from rfl, H3, bd2_eq]
      cases hs2 : isSg t n 61 (tP t n k1) with
      | true =>
        rw [if_neg (show ¬ bi true = (0 : Int32) by decide), if_pos rfl, if_pos rfl]
        have hlt := isSg_lt hs2
        exact te_30 hnf hT hP hp h3 hv g2 hlt (.inr ⟨rfl, rfl⟩) Txx.s7 (hv.2.1.s hlt) (sI_n (by decide))
      | false =>
        rw [if_pos (show bi false = (0 : Int32) from rfl), if_neg (show ¬ (false = true) by decide), if_neg (show ¬ (false = true) by decide)]
        exact ok_s hv.sv
end YP
