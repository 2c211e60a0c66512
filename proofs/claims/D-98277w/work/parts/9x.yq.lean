/-! LAYER 2: whole expressions: the twin -/
set_option maxRecDepth 100000
theorem aoW_x : aoW.Nodup ∧ fcW.Nodup := by decide
def owW : List (List Int) := [[111, 118, 101, 114], [111, 110]]
def luW : List (List Int) := [[108, 101, 102, 116], [117, 112]]
theorem owW_d : (wdW.drop 10).take 2 = owW ∧ (wdW.drop 20).take 2 = luW := by decide
section YQ
variable {t : Nat → Int} {n nf : Nat} {τ τ0 τ1 : TS} {k c k0 c0 u : Nat} {e : Int} {rc : Int32 → TS → Option TS} {pt : Nat → XO} {w : Int32}
theorem isWd_18 {f : Nat} : isWd t n 18 f = decide (whV aoW t n f = 0) := isWd_w (i := 0) aoW_x.1 (by decide) rfl
theorem isWd_19 {f : Nat} : isWd t n 19 f = decide (whV aoW t n f = 1) := isWd_w (i := 1) aoW_x.1 (by decide) rfl
theorem isWd_17 {f : Nat} : isWd t n 17 f = decide (whV ntW t n f = 0) := isWd_w (i := 0) (by decide) (by decide) rfl
/-- over, on, left, up from their halves -/
theorem fc_h {f : Nat} : whV fcW t n f = if whV owW t n f < 0 then (if whV luW t n f < 0 then -1 else 2 + whV luW t n f) else whV owW t n f := by
  unfold whV
  by_cases q : tS t n f = 1
  · rw [if_pos q, if_pos q, if_pos q]
    generalize wrd t n f = x
    show (if _ = x then ((0 : Nat) : Int) else if _ = x then ((1 : Nat) : Int) else if _ = x then ((2 : Nat) : Int) else if _ = x then ((3 : Nat) : Int) else -1) = if (if _ = x then ((0 : Nat) : Int) else if _ = x then ((1 : Nat) : Int) else -1) < 0 then (if (if _ = x then ((0 : Nat) : Int) else if _ = x then ((1 : Nat) : Int) else -1) < 0 then -1 else 2 + (if _ = x then ((0 : Nat) : Int) else if _ = x then ((1 : Nat) : Int) else -1)) else (if _ = x then ((0 : Nat) : Int) else if _ = x then ((1 : Nat) : Int) else -1)
    (repeat' split) <;> omega
  · rw [if_neg q, if_neg q, if_neg q]
    rfl
theorem s_al5 {m : Nat} (h : Qx t n τ0 c0 k0 (.inl e) τ1) : Ok (T_all_b5 nf rc (m + 1) w τ1) (Qx t n τ0 c0 k0 (.inl e)) := by
  rw [show T_all_b5 nf rc (m + 1) = T_all_b5_s nf rc (T_all_b5 nf rc m) from rfl]
  unfold T_all_b5_s
  rw [s_isWord h.nf.1, bd_eq, if_pos rfl, s_isWord h.nf.1, bd_eq, if_pos rfl]
  exact ok_s h
theorem tal_23 (hnf : 2000 ≤ nf) (hT : TO t n) (hP : PU t n (rc w) pt) (hp : ∀ k, XG t n u k (pt k)) (h0 : c0 ≤ tP t n k0) {m d : Nat} {A : XV} (hm : 1 ≤ m) (hq : Qx t n τ0 c0 k0 (.inr (A, k)) τ) (hl : A.1.length + tP t n k0 ≤ tP t n k) (hlt : tP t n k < n) (hd : n - tP t n k < d + 1) (ih : ∀ (τ : TS) (k : Nat) (A : XV), n - tP t n k < d → Qx t n τ0 c0 k0 (.inr (A, k)) τ → A.1.length + tP t n k0 ≤ tP t n k → Ok (T_all_b5 nf rc m w τ) (Qx t n τ0 c0 k0 (exL t n pt d A k))) : Ok (T_all_b23 nf rc (T_all_b5 nf rc m) w τ) (Qx t n τ0 c0 k0 (bP (teX t n pt (k + 1)) fun B k2 => exL t n pt d (opX (if whV aoW t n (tP t n k) = 0 then 9 else 10) A B) k2)) := by
  have hn := hT.1
  obtain ⟨q1, q2, q3, q4⟩ := id hq
  have H := t_isWord hT q2 (x := 18) (by omega)
  have hl2 := tP_lt hlt
  have hlp := (tP_b (t := t) (n := n) (k + 1)).1
  obtain ⟨m, rfl⟩ : ∃ q, m = q + 1 := ⟨m - 1, by omega⟩
  unfold T_all_b23
  rw [show (18 : Int32) = i32 ((18 : Nat) : Int) from rfl, H, bd_eq, nm_eq, q2.2.2.1, show (1 : Int32) = i32 1 from rfl, i32_add, show (k : Int) + 1 = ((k + 1 : Nat) : Int) by omega]
  refine ok_qx (t_test hnf hT hP hp _ (k + 1) (c0 + A.1.length) (q2.s hlt) ((sI_n (by decide)).trans q3) (by omega)) (fun e τ1 hf => ?_) (fun B k2 τ2 hx hB => ?_)
  · refine ok_if (fun _ => ?_) (fun _ => ?_)
    · exact ok_b (hf.fe (q1.tr Txx.s7 (Nat.le_refl _)) (by omega) (by omega) hn h0 _ _) fun τ3 h3 => s_al5 h3
    · exact ok_b (hf.fe (q1.tr Txx.s7 (Nat.le_refl _)) (by omega) (by omega) hn h0 _ _) fun τ3 h3 => s_al5 h3
  · obtain ⟨g1, g2, g3⟩ := teX_g hp (k + 1) B k2 hx
    have hlp2 := (tP_b (t := t) (n := n) k2).1
    have L : ∀ op : Nat, (opX op A B).1.length + tP t n k0 ≤ tP t n k2 := fun op => by
      show (A.1 ++ (B.1 ++ [(op, 0)])).length + _ ≤ _
      rw [List.length_append, List.length_append]
      show A.1.length + (B.1.length + 1) + _ ≤ _
      omega
    rw [isWd_18]
    by_cases e1 : whV aoW t n (tP t n k) = 0
    · rw [decide_eq_true e1, if_neg (show ¬ bi true = (0 : Int32) by decide), if_pos e1]
      exact ok_b (hq.two (op := 9) Txx.s7 hB (by omega) rfl) fun τ3 h3 => ih τ3 k2 _ (by omega) h3 (L 9)
    · rw [decide_eq_false e1, if_pos (show bi false = (0 : Int32) from rfl), if_neg e1]
      exact ok_b (hq.two (op := 10) Txx.s7 hB (by omega) rfl) fun τ3 h3 => ih τ3 k2 _ (by omega) h3 (L 10)
theorem tal_5 (hnf : 2000 ≤ nf) (hT : TO t n) (hP : PU t n (rc w) pt) (hp : ∀ k, XG t n u k (pt k)) (h0 : c0 ≤ tP t n k0) : ∀ (d m : Nat) (τ : TS) (k : Nat) (A : XV), n - tP t n k < d → d ≤ m → Qx t n τ0 c0 k0 (.inr (A, k)) τ → A.1.length + tP t n k0 ≤ tP t n k → Ok (T_all_b5 nf rc m w τ) (Qx t n τ0 c0 k0 (exL t n pt d A k)) := by
  intro d
  induction d with
  | zero => intro m τ k A h; omega
  | succ d ih =>
    intro m τ k A h1 h2 hq hl
    obtain ⟨m, rfl⟩ : ∃ q, m = q + 1 := ⟨m - 1, by omega⟩
    obtain ⟨q1, q2, q3, q4⟩ := id hq
    have H := t_isWord hT q2 (x := 18) (by omega)
    have H2 := t_isWord hT q2 (x := 19) (by omega)
    have hb := whV_b aoW t n (tP t n k)
    have hlao : (aoW.length : Int) = 2 := rfl
    rw [isWd_18] at H
    rw [isWd_19] at H2
    unfold exL
    rw [show T_all_b5 nf rc (m + 1) = T_all_b5_s nf rc (T_all_b5 nf rc m) from rfl]
    unfold T_all_b5_s
    rw [show (18 : Int32) = i32 ((18 : Nat) : Int) from rfl, H, bd_eq]
    by_cases hs : whV aoW t n (tP t n k) = 0
    · rw [decide_eq_true hs, if_neg (show ¬ bi true = (0 : Int32) by decide), if_pos (show 0 ≤ whV aoW t n (tP t n k) by omega)]
      have hlt := whV_lt (t := t) (show 0 ≤ whV aoW t n (tP t n k) by omega)
      exact tal_23 hnf hT hP hp h0 (by omega) hq hl hlt h1 fun τ k A a1 a2 a3 => ih m τ k A a1 (by omega) a2 a3
    · rw [decide_eq_false hs, if_pos (show bi false = (0 : Int32) from rfl), show (19 : Int32) = i32 ((19 : Nat) : Int) from rfl, H2, bd_eq]
      by_cases hs2 : whV aoW t n (tP t n k) = 1
      · rw [decide_eq_true hs2, if_neg (show ¬ bi true = (0 : Int32) by decide), if_pos (show 0 ≤ whV aoW t n (tP t n k) by omega)]
        have hlt := whV_lt (t := t) (show 0 ≤ whV aoW t n (tP t n k) by omega)
        exact tal_23 hnf hT hP hp h0 (by omega) hq hl hlt h1 fun τ k A a1 a2 a3 => ih m τ k A a1 (by omega) a2 a3
      · rw [decide_eq_false hs2, if_pos (show bi false = (0 : Int32) from rfl), if_neg (show ¬ 0 ≤ whV aoW t n (tP t n k) by omega)]
        exact ok_s hq
theorem t_all (hnf : 2000 ≤ nf) (hT : TO t n) (hP : PU t n (rc w) pt) (hp : ∀ k, XG t n u k (pt k)) : PU t n (T_all nf rc w) (exX t n pt) := by
  intro τ k c h1 h2 h3
  have hn := hT.1
  unfold T_all
  refine ok_qx (t_test hnf hT hP hp τ k c h1 h2 h3) (fun e τ1 hf => ?_) (fun A k1 τ1 hx hA => ?_)
  · obtain ⟨m, rfl⟩ : ∃ q, nf = q + 1 := ⟨nf - 1, by omega⟩
    exact s_al5 hf
  · obtain ⟨g1, g2, g3⟩ := teX_g hp k A k1 hx
    exact tal_5 hnf hT hP hp h3 1001 nf τ1 k1 A (by omega) (by omega) hA g2
/-- one code for the token at hand -/
theorem tpa_199 {x : Nat} {a : Int} {d : Nat} (h1 : Tkk t n k τ) (h2 : tI τ 13 = i32 (c : Int)) (h3 : c ≤ tP t n k) (hlt : tP t n k < n) (hn : n ≤ 1000) : Ok (T_takePart_b199 nf rc (i32 a) (i32 (x : Int)) τ) (Qx t n τ c k (.inr (([(x, a)], d), k + 1))) := by
  obtain ⟨τ', f1, f2, f3, f4, f5, f6, f7⟩ := t_emit h2 (by omega) (i32 (x : Int)) (i32 a)
  have h' : Tkk t n k τ' := ⟨h1.1.x f2, h1.2.1, f3.trans h1.2.2.1, f4.trans h1.2.2.2⟩
  unfold T_takePart_b199
  rw [f1, bd_eq, nm_eq, h'.2.2.1, show (1 : Int32) = i32 1 from rfl, i32_add, show (k : Int) + 1 = ((k + 1 : Nat) : Int) by omega]
  exact ok_s ⟨f2.tr Txx.s7 (Nat.le_refl _), h'.s hlt, (sI_n (by decide)).trans f5, cdT.o f6 f7⟩
theorem Qx.er (h1 : Tkk t n k τ) (hT : TO t n) (h2 : tI τ 13 = i32 (c : Int)) {kd : Int} (hk : 1 ≤ kd ∧ kd ≤ 10) (hp : tP t n k ≤ n) : Qx t n τ c k (.inl (kd + 16 * (tP t n k : Int))) (sI τ 8 (i32 (kd + 16 * (tP t n k : Int)))) := by
  have hn := hT.1
  exact ⟨Txx.s8, by omega, sI_t, c, (sI_n (by decide)).trans h2, Nat.le_refl _, by omega⟩
theorem tpa_112s {x1 x2 x5 : Int32} (h : ¬ tI τ 8 ≤ 0) : T_takePart_b112 nf rc x1 x2 x5 τ = some τ := if_neg h
theorem tpa_112 (hnf : 2000 ≤ nf) (hT : TO t n) {w : Nat} (hw : w < 5) (hP : PU t n (rc (i32 ((w + 1 : Nat) : Int))) pt) (hp : ∀ k, XG t n u k (pt k)) (h1 : Tkk t n k τ) (h2 : tI τ 13 = i32 (c : Int)) (h3 : c ≤ tP t n k) {x2 : Int32} (hx2 : x2 = bi (decide (tS t n (tP t n k) = 2))) (q0 : ¬ (whV fcW t n (tP t n k) < 0 ∧ whV ntW t n (tP t n k) < 0 ∧ isSg t n 40 (tP t n k) = false ∧ ¬ tS t n (tP t n k) = 2)) : Ok (T_takePart_b112 nf rc (i32 (w : Int)) x2 (i32 (whV fcW t n (tP t n k))) τ) (Qx t n τ c k (p57 t n pt w k)) := by
  have hn := hT.1
  have hpk := (tP_b (t := t) (n := n) k).1
  have hbn := whV_b ntW t n (tP t n k)
  have hln : (ntW.length : Int) = 1 := rfl
  have hts1 : ∀ ws, 0 ≤ whV ws t n (tP t n k) → tS t n (tP t n k) = 1 := fun ws h => Decidable.byContradiction fun z => by
    have e : whV ws t n (tP t n k) = -1 := if_neg z
    omega
  have H := t_hasWord h1 hT (x := 17) (by omega)
  rw [isWd_17] at H
  unfold T_takePart_b112 p57
  rw [if_pos (show tI τ 8 ≤ 0 by rw [h1.2.2.2]; decide), if_neg (show ¬ w = 5 by omega), show (17 : Int32) = i32 ((17 : Nat) : Int) from rfl, H, bd2_eq]
  by_cases y0 : whV ntW t n (tP t n k) = 0
  · have ht := hts1 _ (show 0 ≤ whV ntW t n (tP t n k) by omega)
    have hlt := whV_lt (t := t) (show 0 ≤ whV ntW t n (tP t n k) by omega)
    have hl2 := tP_lt hlt
    have hfc : whV fcW t n (tP t n k) < 0 := by
      have e := hts1 ntW (by omega)
      have hx : wrd t n (tP t n k) = [110, 111, 116] := by
        have := (whI_i (ws := ntW) (w := wrd t n (tP t n k)) (k := 0) (i := 0) (by decide) (by decide)).mp (by
          have y0 := y0
          unfold whV at y0
          rw [if_pos e] at y0
          exact y0)
        exact this
      unfold whV
      rw [if_pos e, hx]
      decide
    rw [decide_eq_true y0, if_neg (show ¬ bi true = (0 : Int32) by decide), if_pos rfl, if_neg (show ¬ tS t n (tP t n k) = 2 by omega), if_pos hfc, if_neg (show ¬ whV ntW t n (tP t n k) < 0 by omega), show (1 : Int32) = i32 1 from rfl, i32_add, show (w : Int) + 1 = ((w + 1 : Nat) : Int) by omega]
    refine ok_qx (hP _ (k + 1) c (h1.s hlt) ((sI_n (by decide)).trans h2) (by omega)) (fun e τ1 hf => ?_) (fun B k2 τ2 hx hB => ?_)
    · exact ok_b (hf.fe Txx.s7 (Nat.le_refl _) (by omega) hn h3 _ _) fun τ3 h3 => ok_s h3
    · obtain ⟨g1, g2, g3⟩ := hp (k + 1) B k2 hx
      have hlp2 := (tP_b (t := t) (n := n) k2).1
      obtain ⟨b1, b2, b3, b4⟩ := hB
      obtain ⟨τ', f1, f2, f3, f4, f5, f6, f7⟩ := t_emit b3 (by omega) 3 0
      rw [f1, bd_eq]
      refine ok_s ⟨(Txx.s7.tr b1 (Nat.le_refl _)).tr f2 (by omega), ⟨b2.1.x f2, b2.2.1, f3.trans b2.2.2.1, f4.trans b2.2.2.2⟩, ?_, cdT.a (b4.x f2 (Nat.le_refl _)) (cdT.o (x := 3) (a := 0) f6 f7)⟩
      show tI τ' 13 = i32 ((c + (B.1 ++ [(3, 0)]).length : Nat) : Int)
      rw [List.length_append, f5]
      rfl
  · have h' : Tkk t n k (sI τ 7 (i32 (k : Int))) := ⟨h1.1.tn (Tn.sI (.inl rfl)), h1.2.1, sI_t, (sI_n (by decide)).trans h1.2.2.2⟩
    have H4 := t_hasSign h' hT (c := 40) (by omega)
    rw [decide_eq_false y0, if_pos (show bi false = (0 : Int32) from rfl), if_neg (show ¬ (false = true) by decide), show (40 : Int32) = i32 40 from rfl, H4, bd2_eq]
    have hs7 : ∀ v v' : Int32, sI (sI τ 7 v) 7 v' = sI τ 7 v' := fun v v' => by
      unfold sI
      congr 1
      funext f
      show (if f = 7 then v' else if f = 7 then v else tI τ f) = if f = 7 then v' else tI τ f
      by_cases z : f = 7
      · rw [if_pos z, if_pos z]
      · rw [if_neg z, if_neg z, if_neg z]
    cases hs : isSg t n 40 (tP t n k) with
    | true =>
      have e3 : tS t n (tP t n k) = 3 := (of_decide_eq_true hs).1
      have hlt := isSg_lt hs
      have hl2 := tP_lt hlt
      have hfc : whV fcW t n (tP t n k) < 0 := by
        have e : whV fcW t n (tP t n k) = -1 := if_neg (by omega)
        omega
      rw [if_neg (show ¬ bi true = (0 : Int32) by decide), if_pos rfl, if_neg (show ¬ tS t n (tP t n k) = 2 by omega), if_pos hfc, if_pos (show whV ntW t n (tP t n k) < 0 by omega), hs7, show (1 : Int32) = i32 1 from rfl, i32_add, show (w : Int) + 1 = ((w + 1 : Nat) : Int) by omega]
      refine ok_qx (t_all hnf hT hP hp _ (k + 1) c (h1.s hlt) ((sI_n (by decide)).trans h2) (by omega)) (fun e τ1 hf => ?_) (fun B k2 τ2 hx hB => ?_)
      · rw [s_takeSign hf.nf.1, bd_eq]
        exact ok_s (hf.f Txx.s7 (Nat.le_refl _) (by omega))
      · obtain ⟨g1, g2, g3⟩ := exX_g hp (k + 1) B k2 hx
        have hlp2 := (tP_b (t := t) (n := n) k2).1
        obtain ⟨b1, b2, b3, b4⟩ := hB
        rw [show (41 : Int32) = i32 41 from rfl, t_takeSign b2 hT (by omega), bd_eq]
        unfold ndP
        cases hs2 : isSg t n 41 (tP t n k2) with
        | true =>
          rw [if_pos rfl, if_pos rfl]
          exact ok_s ⟨(Txx.s7.tr b1 (Nat.le_refl _)).tr Txx.s7 (Nat.le_refl _), b2.s (isSg_lt hs2), (sI_n (by decide)).trans b3, b4⟩
        | false =>
          rw [if_neg (show ¬ (false = true) by decide), if_neg (show ¬ (false = true) by decide)]
          exact ok_s ⟨(Txx.s7.tr b1 (Nat.le_refl _)).tr Txx.s8 (Nat.le_refl _), by omega, sI_t, c + B.1.length, (sI_n (by decide)).trans b3, by omega, by omega⟩
    | false =>
      rw [if_pos (show bi false = (0 : Int32) from rfl), if_neg (show ¬ (false = true) by decide), hs7]
      have hv : Txx c τ (sI τ 7 (i32 (k : Int))) := Txx.s7
      by_cases q2 : tS t n (tP t n k) = 2
      · have hv2 := nV_b (tS_2 q2).1 (tS_2 q2).2.2 (tS_2 q2).2.1
        have enm : nmP t n 0 9999 (tP t n k) k = .inr (nV t n (tP t n k), k + 1) := by
          unfold nmP
          rw [if_pos q2, if_neg (show ¬ nV t n (tP t n k) < 0 by omega), if_pos hv2.2]
        rw [if_pos q2, enm, hx2, decide_eq_true q2, if_neg (show ¬ bi true = (0 : Int32) by decide)]
        unfold T_takePart_b180
        rw [if_neg (show ¬ bi true = (0 : Int32) by decide), h'.2.2.1, ld_i (by omega) (by have := h1.2.1.kn; omega) (by omega), Int.toNat_natCast, (h'.1.1 k h1.2.1).2.2 (tS_2 q2).1, tV_2 q2, i64_int ⟨by omega, by omega⟩, show (1 : Int32) = i32 ((1 : Nat) : Int) from rfl]
        obtain ⟨z, z1, z2⟩ := tpa_199 (nf := nf) (rc := rc) (x := 1) (a := nV t n (tP t n k)) (d := 1) h' ((sI_n (by decide)).trans h2) h3 (tS_2 q2).1 hn
        exact ⟨z, z1, hv.tr z2.1 (Nat.le_refl _), z2.2⟩
      · have hfc : 0 ≤ whV fcW t n (tP t n k) := Decidable.byContradiction fun z => q0 ⟨by omega, by omega, hs, q2⟩
        rw [if_neg q2, if_neg (show ¬ whV fcW t n (tP t n k) < 0 by omega), hx2, decide_eq_false q2, if_pos (show bi false = (0 : Int32) from rfl)]
        unfold T_takePart_b180
        rw [if_pos (show bi false = (0 : Int32) from rfl), show (2 : Int32) = i32 ((2 : Nat) : Int) from rfl]
        obtain ⟨z, z1, z2⟩ := tpa_199 (nf := nf) (rc := rc) (x := 2) (a := whV fcW t n (tP t n k)) (d := 1) h' ((sI_n (by decide)).trans h2) h3 (whV_lt (t := t) hfc) hn
        exact ⟨z, z1, hv.tr z2.1 (Nat.le_refl _), z2.2⟩
theorem tpa_102 (hnf : 2000 ≤ nf) (hT : TO t n) {w : Nat} (hw : w ≤ 5) (hP : w < 5 → PU t n (rc (i32 ((w + 1 : Nat) : Int))) pt) (hp : w < 5 → ∀ k, XG t n u k (pt k)) (h1 : Tkk t n k τ) (h2 : tI τ 13 = i32 (c : Int)) (h3 : c ≤ tP t n k) {x2 : Int32} (hx2 : x2 = bi (decide (tS t n (tP t n k) = 2))) (q0 : ¬ (whV fcW t n (tP t n k) < 0 ∧ whV ntW t n (tP t n k) < 0 ∧ isSg t n 40 (tP t n k) = false ∧ ¬ tS t n (tP t n k) = 2)) : Ok (T_takePart_b102 nf rc (i32 (w : Int)) x2 (i32 (whV fcW t n (tP t n k))) τ) (Qx t n τ c k (p57 t n pt w k)) := by
  have hpk := (tP_b (t := t) (n := n) k).1
  unfold T_takePart_b102
  rw [show (5 : Int32) = i32 5 from rfl]
  refine ok_q ⟨by omega, by omega⟩ ⟨by omega, by omega⟩ (fun q => ?_) (fun q => ?_)
  · have W := Qx.er h1 hT h2 (kd := 5) (by omega) hpk
    rw [t_wrong h1 hT, bd_eq, tpa_112s W.nf.2]
    unfold p57
    rw [if_pos (show w = 5 by omega)]
    exact ok_s W
  · exact tpa_112 hnf hT (by omega) (hP (by omega)) (hp (by omega)) h1 h2 h3 hx2 q0
theorem tpa_26 (hnf : 2000 ≤ nf) (hT : TO t n) {w d : Nat} (hw : w ≤ 5) (hP : w < 5 → PU t n (rc (i32 ((w + 1 : Nat) : Int))) (ptX t n d (w + 1))) (h1 : Tkk t n k τ) (h2 : tI τ 13 = i32 (c : Int)) (h3 : c ≤ tP t n k) {x2 : Int32} (hx2 : x2 = bi (decide (tS t n (tP t n k) = 2))) : Ok (T_takePart_b26 nf rc (i32 (w : Int)) x2 τ) (Qx t n τ c k (ptX t n (d + 1) w k)) := by
  have hpk := (tP_b (t := t) (n := n) k).1
  have Ho := t_wordHere (nf := nf) (x := 10) (m := 2) (by omega) hT h1 (by omega)
  have Hl := t_wordHere (nf := nf) (x := 20) (m := 2) (by omega) hT h1 (by omega)
  rw [owW_d.1] at Ho
  rw [owW_d.2] at Hl
  have hbo := whV_b owW t n (tP t n k)
  have hbl := whV_b luW t n (tP t n k)
  have hlo : (owW.length : Int) = 2 := rfl
  have hll : (luW.length : Int) = 2 := rfl
  have hbf := whV_b fcW t n (tP t n k)
  have hlf : (fcW.length : Int) = 4 := rfl
  have hbn := whV_b ntW t n (tP t n k)
  have hln : (ntW.length : Int) = 1 := rfl
  have hp : w < 5 → ∀ k, XG t n (w + 1) k (ptX t n d (w + 1) k) := fun z => ptX_g d (w + 1) (by omega)
  have G : ∀ s0 : Int32, s0 = i32 (whV fcW t n (tP t n k)) → Ok (T_takePart_b65 nf rc (i32 (w : Int)) x2 s0 τ) (Qx t n τ c k (ptX t n (d + 1) w k)) := fun s0 e0 => by
    have H40 := t_isSign hT h1 (c := 40) (by omega)
    have H17 := t_isWord hT h1 (x := 17) (by omega)
    rw [isWd_17] at H17
    have K : ¬ (whV fcW t n (tP t n k) < 0 ∧ whV ntW t n (tP t n k) < 0 ∧ isSg t n 40 (tP t n k) = false ∧ ¬ tS t n (tP t n k) = 2) → Ok (T_takePart_b102 nf rc (i32 (w : Int)) x2 (i32 (whV fcW t n (tP t n k))) τ) (Qx t n τ c k (ptX t n (d + 1) w k)) := fun z => by
      unfold ptX
      rw [if_neg z]
      exact tpa_102 hnf hT hw hP hp h1 h2 h3 hx2 z
    unfold T_takePart_b65
    rw [e0, show (0 : Int32) = i32 0 from rfl]
    refine ok_le ⟨by omega, by omega⟩ ⟨by omega, by omega⟩ (fun q => K (fun z => by omega)) (fun q => ?_)
    by_cases q2 : tS t n (tP t n k) = 2
    · rw [hx2, decide_eq_true q2, if_neg (show ¬ bi true = i32 0 by decide)]
      rw [hx2, decide_eq_true q2] at K
      exact K (fun z => z.2.2.2 q2)
    · rw [hx2, decide_eq_false q2, if_pos (show bi false = i32 0 from rfl), show (40 : Int32) = i32 40 from rfl, H40, bd_eq]
      rw [hx2, decide_eq_false q2] at K
      cases hs : isSg t n 40 (tP t n k) with
      | true =>
        rw [if_neg (show ¬ bi true = i32 0 by decide)]
        exact K (fun z => by rw [z.2.2.1] at hs; cases hs)
      | false =>
        rw [if_pos (show bi false = i32 0 from rfl), show (17 : Int32) = i32 ((17 : Nat) : Int) from rfl, H17, bd_eq]
        by_cases y0 : whV ntW t n (tP t n k) = 0
        · rw [decide_eq_true y0, if_neg (show ¬ bi true = i32 0 by decide)]
          exact K (fun z => by omega)
        · have W := Qx.er h1 hT h2 (kd := 1) (by omega) hpk
          rw [decide_eq_false y0, if_pos (show bi false = i32 0 from rfl), show (1 : Int32) = i32 1 from rfl, t_wrong h1 hT, bd_eq, tpa_112s W.nf.2]
          unfold ptX
          rw [if_pos ⟨by omega, by omega, hs, q2⟩]
          exact ok_s W
  unfold T_takePart_b26
  rw [show (10 : Int32) = i32 ((10 : Nat) : Int) from rfl, show (20 : Int32) = i32 ((20 : Nat) : Int) from rfl, show (2 : Int32) = i32 ((2 : Nat) : Int) from rfl, Ho, bd_eq, Hl, bd_eq, show (0 : Int32) = i32 0 from rfl]
  have hh := fc_h (t := t) (n := n) (f := tP t n k)
  refine ok_lt ⟨by omega, by omega⟩ ⟨by omega, by omega⟩ (fun q => ?_) (fun q => ?_)
  · rw [if_pos q] at hh
    refine ok_lt ⟨by omega, by omega⟩ ⟨by omega, by omega⟩ (fun q2 => ?_) (fun q2 => ?_)
    · rw [if_pos q2] at hh
      exact G _ (by rw [hh]; rfl)
    · rw [if_neg (show ¬ whV luW t n (tP t n k) < 0 by omega)] at hh
      exact G _ (by rw [hh, i32_add]; rfl)
  · rw [if_neg (show ¬ whV owW t n (tP t n k) < 0 by omega)] at hh
    exact G _ (by rw [hh])
theorem t_takePart (hnf : 2000 ≤ nf) (hT : TO t n) : ∀ (d dp w : Nat), w ≤ 5 → 6 - w ≤ d → d ≤ dp → PU t n (T_takePart nf dp (i32 (w : Int))) (ptX t n d w) := by
  intro d
  induction d with
  | zero => intro dp w h1 h2; omega
  | succ d ih =>
    intro dp w g1 g2 g3 τ k c h1 h2 h3
    obtain ⟨dp, rfl⟩ : ∃ q, dp = q + 1 := ⟨dp - 1, by omega⟩
    have hn := hT.1
    have hs := (tS_b (t := t) (n := n) (f := tP t n k)).1
    have hk := h1.2.1.kn
    have hP : w < 5 → PU t n (T_takePart nf dp (i32 ((w + 1 : Nat) : Int))) (ptX t n d (w + 1)) := fun z => ih dp (w + 1) (by omega) (by omega) (by omega)
    rw [show T_takePart nf (dp + 1) = T_takePart_s nf (T_takePart nf dp) from rfl]
    unfold T_takePart_s
    rw [if_pos (show tI τ 8 ≤ 0 by rw [h1.2.2.2]; decide), h1.2.2.1, ld_i (by omega) (by omega) (by omega), Int.toNat_natCast, (h1.1.1 k h1.2.1).1, show (2 : Int32) = i32 2 from rfl]
    refine ok_q ⟨by omega, by omega⟩ ⟨by omega, by omega⟩ (fun q => ?_) (fun q => ?_)
    · exact tpa_26 hnf hT g1 hP h1 h2 h3 (by rw [decide_eq_true (show tS t n (tP t n k) = 2 by omega)]; rfl)
    · exact tpa_26 hnf hT g1 hP h1 h2 h3 (by rw [decide_eq_false (show ¬ tS t n (tP t n k) = 2 by omega)]; rfl)
/-- a whole expression -/
theorem t_expr (hnf : 2000 ≤ nf) (hT : TO t n) : PU t n (T_all nf (T_takePart nf 10) 0) (exX t n (ptX t n 6 0)) := by
  have h := t_takePart hnf hT 6 10 0 (by omega) (by omega) (by omega)
  rw [show i32 ((0 : Nat) : Int) = (0 : Int32) from rfl] at h
  exact t_all hnf hT h (ptX_g 6 0 (by omega))
end YQ
