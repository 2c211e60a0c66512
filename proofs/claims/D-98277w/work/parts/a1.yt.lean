/-! LAYER 2: a town under way: the twin -/
set_option maxRecDepth 100000
/-- reading changes nothing else -/
def Trx (τ τ' : TS) : Prop := (∀ f, [7, 8, 13, 15].contains f = false → tI τ' f = tI τ f) ∧ (∀ j, [4, 5, 10, 11, 12, 16].contains j = false → tA τ' j = tA τ j) ∧ (∀ i, i < 340 → tA τ' 10 i = tA τ 10 i) ∧ (∀ i, i < 1100 → tA τ' 11 i = tA τ 11 i ∧ tA τ' 12 i = tA τ 12 i) ∧ (∀ i, i < 30 → tA τ' 16 i = tA τ 16 i) ∧ ∀ j, ¬ j = 6 → ¬ j = 14 → tB τ' j = tB τ j
theorem Trx.rf {τ : TS} : Trx τ τ := ⟨fun _ _ => rfl, fun _ _ => rfl, fun _ _ => rfl, fun _ _ => ⟨rfl, rfl⟩, fun _ _ => rfl, fun _ _ _ => rfl⟩
theorem Trx.tr {τ τ1 τ2 : TS} (h : Trx τ τ1) (k : Trx τ1 τ2) : Trx τ τ2 := ⟨fun f q => (k.1 f q).trans (h.1 f q), fun f q => (k.2.1 f q).trans (h.2.1 f q), fun i q => (k.2.2.1 i q).trans (h.2.2.1 i q), fun i q => ⟨(k.2.2.2.1 i q).1.trans (h.2.2.2.1 i q).1, (k.2.2.2.1 i q).2.trans (h.2.2.2.1 i q).2⟩, fun i q => (k.2.2.2.2.1 i q).trans (h.2.2.2.2.1 i q), fun j a b => (k.2.2.2.2.2 j a b).trans (h.2.2.2.2.2 j a b)⟩
theorem Trx.sI {τ : TS} {f : Nat} {v : Int32} (h : [7, 8, 13, 15].contains f = true) : Trx τ (sI τ f v) := by
  refine ⟨fun f' q => ?_, fun _ _ => rfl, fun _ _ => rfl, fun _ _ => ⟨rfl, rfl⟩, fun _ _ => rfl, fun _ _ _ => rfl⟩
  rw [tI_sI, if_neg]
  rintro rfl
  rw [h] at q
  cases q
theorem Trx.n {τ τ' : TS} (h : Tn τ τ') : Trx τ τ' := by
  refine ⟨fun f q => h.1 f ?_ ?_, fun j _ => by rw [h.2.1], fun i _ => by rw [h.2.1], fun i _ => by rw [h.2.1]; exact ⟨rfl, rfl⟩, fun i _ => by rw [h.2.1], fun j _ _ => by rw [h.2.2]⟩
  · rintro rfl; cases q
  · rintro rfl; cases q
theorem Trx.x {c : Nat} {τ τ' : TS} (h : Txx c τ τ') : Trx τ τ' := by
  refine ⟨fun f q => h.1 f ?_ ?_ ?_, fun j q => h.2.1 j ?_ ?_, fun i _ => by rw [h.2.1 10 (by decide) (by decide)], fun i hi => h.2.2.1 i (by omega), fun i _ => by rw [h.2.1 16 (by decide) (by decide)], fun j _ _ => by rw [h.2.2.2]⟩
  · rintro rfl; cases q
  · rintro rfl; cases q
  · rintro rfl; cases q
  · rintro rfl; cases q
  · rintro rfl; cases q
theorem Trx.a10 {τ : TS} {i : Nat} {v : Int32} (h : 340 ≤ i) : Trx τ (sA τ 10 i v) := by
  refine ⟨fun _ _ => rfl, fun j q => ?_, fun j hj => ?_, fun _ _ => ⟨?_, ?_⟩, fun j hj => ?_, fun _ _ _ => rfl⟩
  · rw [tA_sA, if_neg]
    rintro rfl
    cases q
  · rw [rd_sA, if_neg (fun z => by omega)]
  · rw [rd_sA, if_neg (fun z => by omega)]
  · rw [rd_sA, if_neg (fun z => by omega)]
  · rw [rd_sA, if_neg (fun z => by omega)]
theorem Trx.b14 {τ : TS} {i : Nat} {v : Int64} : Trx τ (sB τ 14 i v) := ⟨fun _ _ => rfl, fun _ _ => rfl, fun _ _ => rfl, fun _ _ => ⟨rfl, rfl⟩, fun _ _ => rfl, fun j a b => by rw [tB_sB, if_neg b]⟩
/-- the numbers of a town under way -/
def UDD (w : TV) (τ : TS) : Prop := (∀ j, j < 340 → tA τ 10 (340 + j) = i32 (w.1 j)) ∧ tI τ 15 = i32 (w.2.1 : Int) ∧ (∀ r, r < w.2.2.1.length → tB τ 14 r = i64 (wdL (w.2.2.1.getD r []) 0)) ∧ tI τ 13 = i32 ((cdF w.2.2.2).length : Int) ∧ cdT τ 0 (cdF w.2.2.2)
theorem cdT.e {τ τ' : TS} {c : Nat} {L : List (Nat × Int)} (h : cdT τ c L) (e : tA τ' 11 = tA τ 11 ∧ tA τ' 12 = tA τ 12) : cdT τ' c L := by
  unfold cdT
  rw [e.1, e.2]
  exact h
theorem UDD.n {w : TV} {τ τ' : TS} (h : UDD w τ) (g : Tn τ τ') : UDD w τ' := ⟨fun j hj => by rw [g.2.1]; exact h.1 j hj, (g.1 15 (by decide) (by decide)).trans h.2.1, fun r hr => by rw [g.2.2]; exact h.2.2.1 r hr, (g.1 13 (by decide) (by decide)).trans h.2.2.2.1, h.2.2.2.2.e (by rw [g.2.1]; exact ⟨rfl, rfl⟩)⟩
theorem UDD.w {w : TV} {τ : TS} (h : UDD w τ) {i : Nat} {v : Int} : UDD (upW w.1 i v, w.2) (sA τ 10 (340 + i) (i32 v)) := by
  refine ⟨fun j hj => ?_, h.2.1, h.2.2.1, h.2.2.2.1, h.2.2.2.2.e ⟨?_, ?_⟩⟩
  · rw [rd_sA]
    show _ = i32 (if j = i then v else w.1 j)
    by_cases e : j = i
    · rw [if_pos ⟨rfl, by omega⟩, if_pos e]
    · rw [if_neg (fun z => by omega), if_neg e]
      exact h.1 j hj
  · rw [tA_sA, if_neg (by decide)]
  · rw [tA_sA, if_neg (by decide)]
theorem Tok.r {t : Nat → Int} {n : Nat} {τ τ' : TS} (h : Tok t n τ) (h4 : tA τ' 4 = tA τ 4) (h5 : tA τ' 5 = tA τ 5) (h6 : tB τ' 6 = tB τ 6) (h9 : tB τ' 9 = tB τ 9) : Tok t n τ' := by
  unfold Tok
  rw [h4, h5, h6, h9]
  exact h
theorem Tkk.a10 {t : Nat → Int} {n k i : Nat} {τ : TS} {v : Int32} (h : Tkk t n k τ) : Tkk t n k (sA τ 10 i v) := ⟨h.1.r (by rw [tA_sA, if_neg (by decide)]) (by rw [tA_sA, if_neg (by decide)]) rfl rfl, h.2⟩
/-- a line's outcome -/
def Qt (t : Nat → Int) (n : Nat) (τ : TS) (o : Int ⊕ (TV × Nat)) (τ' : TS) : Prop := Trx τ τ' ∧ match o with
  | .inl e => (1 ≤ e ∧ e < 100000) ∧ tI τ' 8 = i32 e
  | .inr (w, k) => Tkk t n k τ' ∧ UDD w τ'
/-- a number's outcome -/
def Nw (t : Nat → Int) (n : Nat) (τ : TS) (o : Int ⊕ (Int × Nat)) (p : Int32 × TS) : Prop := Tn τ p.2 ∧ match o with
  | .inl e => p.1 = i32 0 ∧ (1 ≤ e ∧ e < 100000) ∧ tI p.2 8 = i32 e
  | .inr (v, k) => p.1 = i32 v ∧ Tkk t n k p.2
theorem nmP_v {t : Nat → Int} {n f k k2 : Nat} {lo hi v : Int} (h : nmP t n lo hi f k = .inr (v, k2)) : tS t n f = 2 ∧ v = nV t n f ∧ lo ≤ v ∧ v ≤ hi ∧ k2 = k + 1 := by
  unfold nmP at h
  by_cases z : tS t n f = 2
  · rw [if_pos z] at h
    by_cases z1 : nV t n f < lo
    · rw [if_pos z1] at h; cases h
    · rw [if_neg z1] at h
      by_cases z2 : nV t n f ≤ hi
      · rw [if_pos z2] at h
        cases h
        exact ⟨z, rfl, by omega, z2, rfl⟩
      · rw [if_neg z2] at h; cases h
  · rw [if_neg z] at h; cases h
theorem nmP_l {t : Nat → Int} {n f k : Nat} {lo hi e : Int} (h : nmP t n lo hi f k = .inl e) : (e = 1 + 16 * (f : Int) ∨ e = 4 + 16 * (f : Int)) ∧ ¬ (tS t n f = 2 ∧ lo ≤ nV t n f ∧ nV t n f ≤ hi) := by
  unfold nmP at h
  by_cases z : tS t n f = 2
  · rw [if_pos z] at h
    by_cases z1 : nV t n f < lo
    · rw [if_pos z1] at h; cases h; exact ⟨.inr rfl, fun q => by omega⟩
    · rw [if_neg z1] at h
      by_cases z2 : nV t n f ≤ hi
      · rw [if_pos z2] at h
        cases h
      · rw [if_neg z2] at h; cases h; exact ⟨.inr rfl, fun q => by omega⟩
  · rw [if_neg z] at h; cases h; exact ⟨.inl rfl, fun q => z q.1⟩
theorem whI_tk : ∀ (ws : List (List Int)) (w : List Int) (k m : Nat), whI (ws.take m) w k = if whI ws w k < ((k + m : Nat) : Int) then whI ws w k else -1 := by
  intro ws
  induction ws with
  | nil =>
    intro w k m
    rw [List.take_nil]
    show (-1 : Int) = if (-1 : Int) < ((k + m : Nat) : Int) then -1 else -1
    rw [ite_self]
  | cons x xs ih =>
    intro w k m
    cases m with
    | zero =>
      rw [List.take_zero]
      rcases whI_b (x :: xs) w k with z | z
      · rw [z, ite_self]
        rfl
      · rw [if_neg (by omega)]
        rfl
    | succ m =>
      rw [List.take_succ_cons]
      show (if x = w then (k : Int) else whI (xs.take m) w (k + 1)) = if (if x = w then (k : Int) else whI xs w (k + 1)) < ((k + (m + 1) : Nat) : Int) then (if x = w then (k : Int) else whI xs w (k + 1)) else -1
      by_cases e : x = w
      · rw [if_pos e, if_pos e, if_pos (by omega)]
      · rw [if_neg e, if_neg e, ih w (k + 1) m, show k + 1 + m = k + (m + 1) by omega]
section YTT
variable {t : Nat → Int} {n nf : Nat} {τ τ0 τ1 : TS} {k : Nat} {w : TV} {e : Int}
theorem t_num (h : Tkk t n k τ) (hT : TO t n) {lo hi : Int} (hlo : ok32 lo) (hhi : ok32 hi) : Ok (T_takeNumber (i32 lo) (i32 hi) τ) (Nw t n τ (nmP t n lo hi (tP t n k) k)) := by
  have hn := hT.1
  have hp := (tP_b (t := t) (n := n) k).1
  rw [t_takeNumber h hT hlo hhi]
  cases hx : nmP t n lo hi (tP t n k) k with
  | inl e =>
    have := (nmP_l hx).1
    exact ok_s ⟨Tn.sI (.inr rfl), rfl, by omega, sI_t⟩
  | inr y =>
    obtain ⟨v, k2⟩ := y
    obtain ⟨x1, x2, x3, x4, rfl⟩ := nmP_v hx
    exact ok_s ⟨Tn.sI (.inl rfl), rfl, h.s (tS_2 x1).1⟩
theorem s_num {a b : Int32} (h : (1 ≤ e ∧ e < 100000) ∧ tI τ 8 = i32 e) : T_takeNumber a b τ = some (i32 0, τ) := s_takeNumber (flt h.1 h.2).1 (flt h.1 h.2).2
theorem isWd_1 {x f : Nat} {ws : List (List Int)} (hw : ws = [wdW.getD x []]) : isWd t n x f = decide (0 ≤ whV ws t n f) := by
  subst hw
  have hb := whV_b [wdW.getD x []] t n f
  have hl : ([wdW.getD x []].length : Int) = 1 := rfl
  rw [isWd_w (ws := [wdW.getD x []]) (x := x) (i := 0) (by simp) (by simp) rfl]
  apply decide_eq_decide.mpr
  omega
theorem t_aft (h : Tkk t n k τ) (hT : TO t n) {x : Nat} (hx : x < 22) {ws : List (List Int)} (hw : ws = [wdW.getD x []]) {lo hi : Int} (hlo : ok32 lo) (hhi : ok32 hi) : Ok (T_takeAfter (i32 (x : Int)) (i32 lo) (i32 hi) τ) (Nw t n τ (nwP t n ws lo hi k)) := by
  have hn := hT.1
  have hp := (tP_b (t := t) (n := n) k).1
  unfold T_takeAfter nwP
  rw [t_takeWord h hT hx, isWd_1 hw, bd_eq]
  unfold ndP
  by_cases q : 0 ≤ whV ws t n (tP t n k)
  · rw [decide_eq_true q, if_pos rfl, if_pos rfl]
    refine ok_2 (t_num (h.s (whV_lt (t := t) q)) hT hlo hhi) fun a τ2 h2 => ok_s ?_
    show Nw t n τ (nmP t n lo hi (tP t n (k + 1)) (k + 1)) (a, τ2)
    exact ⟨(Tn.sI (.inl rfl)).tr h2.1, h2.2⟩
  · rw [decide_eq_false q, if_neg (show ¬ (false = true) by decide), if_neg (show ¬ (false = true) by decide)]
    have hf : (1 ≤ 1 + 16 * (tP t n k : Int) ∧ 1 + 16 * (tP t n k : Int) < 100000) ∧ tI (sI (sI τ 7 (i32 (k : Int))) 8 (i32 (1 + 16 * (tP t n k : Int)))) 8 = i32 (1 + 16 * (tP t n k : Int)) := ⟨by omega, sI_t⟩
    rw [s_num hf, bd2_eq]
    exact ok_s ⟨(Tn.sI (.inl rfl)).tr (Tn.sI (.inr rfl)), rfl, hf.1, hf.2⟩
theorem s_aft {a b c : Int32} (h : (1 ≤ e ∧ e < 100000) ∧ tI τ 8 = i32 e) : Ok (T_takeAfter a b c τ) fun p => p.1 = i32 0 ∧ Tn τ p.2 ∧ tI p.2 8 = i32 e := by
  have hf := flt h.1 h.2
  have h8 : tI (sI τ 7 (tI τ 7 + 0)) 8 = i32 e := (sI_n (by decide)).trans h.2
  unfold T_takeAfter T_takeWord
  rw [s_hasWord hf.1, bd2_eq, if_pos rfl, s_wrong (flt h.1 h8).1, bd_eq, bd_eq, s_num ⟨h.1, h8⟩, bd2_eq]
  exact ok_s ⟨rfl, Tn.sI (.inl rfl), h8⟩
theorem ok_a10 {β : Type} {K : TS → Option β} {Q : β → Prop} {i : Nat} {z : Int} {v : Int32} (hz : z = ((340 + i : Nat) : Int)) (hi : i < 340) (q : Ok (K (sA τ 10 (340 + i) v)) Q) : Ok (stA τ 10 680 (i32 z) v K) Q := by
  subst hz
  exact ok_sA (by omega) (by omega) (by omega) (by rw [Int.toNat_natCast]; exact q)
theorem ok_l10 {β : Type} {K : Int32 → Option β} {Q : β → Prop} {i : Nat} {z : Int} (h : UDD w τ) (hz : z = ((340 + i : Nat) : Int)) (hi : i < 340) (q : Ok (K (i32 (w.1 i))) Q) : Ok (ld (tA τ 10) 680 (i32 z) K) Q := by
  subst hz
  exact ok_ld (by omega) (by omega) (by omega) (by rw [Int.toNat_natCast, h.1 i hi]; exact q)
/-- a fault where the token k stands -/
theorem Qt.er (h : Tkk t n k τ) (hT : TO t n) (h0 : Trx τ0 τ) {kd : Int} (hk : 1 ≤ kd ∧ kd ≤ 10) : T_wrong (i32 kd) τ = some (sI τ 8 (i32 (kd + 16 * (tP t n k : Int)))) ∧ Qt t n τ0 (.inl (kd + 16 * (tP t n k : Int))) (sI τ 8 (i32 (kd + 16 * (tP t n k : Int)))) := by
  have hn := hT.1
  have hp := (tP_b (t := t) (n := n) k).1
  exact ⟨t_wrong h hT, h0.tr (Trx.sI rfl), by omega, sI_t⟩
theorem Tkk.up (h : Tkk t n k τ) : tI τ 7 + 1 = i32 ((k + 1 : Nat) : Int) := by
  rw [h.2.2.1, show (1 : Int32) = i32 1 from rfl, i32_add]
  rfl
theorem td_i : ∀ b : Nat, b < 32 → ∀ j : Nat, j < 5 → (decide (shr32 (i32 (b : Int)) (i32 (j : Int)) &&& 1 = 1)) = b.testBit j ∧ i32 (b : Int) ||| shl32 1 (i32 (j : Int)) = i32 ((b ||| 2 ^ j : Nat) : Int) := by decide +kernel
/-- one number told -/
theorem UDD.on (h : UDD w τ) (hb : w.2.1 < 32) {j : Nat} (hj : j < 5) {v : Int} {τ' : TS} (h1 : tI τ1 15 = i32 ((w.2.1 ||| 2 ^ j : Nat) : Int)) (h2 : tA τ1 = tA τ ∧ tB τ1 = tB τ ∧ tI τ1 13 = tI τ 13) : UDD (onS w j v) (sA τ1 10 (340 + (2 + j)) (i32 v)) := by
  have h3 : UDD (w.1, w.2.1 ||| 2 ^ j, w.2.2) τ1 := ⟨fun i hi => by rw [h2.1]; exact h.1 i hi, h1, fun r hr => by rw [h2.2.1]; exact h.2.2.1 r hr, h2.2.2.trans h.2.2.2.1, h.2.2.2.2.e (by rw [h2.1]; exact ⟨rfl, rfl⟩)⟩
  exact h3.w (i := 2 + j) (v := v)
theorem t_once (hnf : 2000 ≤ nf) (hT : TO t n) (h : Tkk t n k τ) (hU : UDD w τ) (hI : TII t n w k) (hj : whV lnW t n (tP t n k) < 5) : Ok (T_readOnce nf τ) (Qt t n τ (if whV lnW t n (tP t n k) < 0 then .inl (1 + 16 * (tP t n k : Int)) else if w.2.1.testBit (whV lnW t n (tP t n k)).toNat = true then .inl (3 + 16 * (tP t n k : Int)) else lnB t n w (whV lnW t n (tP t n k)) (k + 1))) := by
  have hn := hT.1
  have hb := whV_b lnW t n (tP t n k)
  have hb32 := hI.2.2.1.1
  have H := t_wordHere (nf := nf) (x := 4) (m := 5) (by omega) hT h (by omega)
  have eW : (wdW.drop 4).take 5 = lnW.take 5 := by decide
  have e5 : whV (lnW.take 5) t n (tP t n k) = whV lnW t n (tP t n k) := by
    unfold whV at hj ⊢
    by_cases q : tS t n (tP t n k) = 1
    · rw [if_pos q] at hj ⊢
      rw [if_pos q, whI_tk, if_pos (show _ < ((0 + 5 : Nat) : Int) by omega)]
    · rw [if_neg q, if_neg q]
  rw [eW, e5] at H
  have S : ∀ (kd : Int) (x1 : Int32), 1 ≤ kd ∧ kd ≤ 10 → T_wrong (i32 kd) τ = some (sI τ 8 (i32 (kd + 16 * (tP t n k : Int)))) ∧ Ok (T_readOnce_b36 nf x1 (sI τ 8 (i32 (kd + 16 * (tP t n k : Int))))) (Qt t n τ (.inl (kd + 16 * (tP t n k : Int)))) := fun kd x1 hk => by
    obtain ⟨g1, g2⟩ := Qt.er (τ0 := τ) h hT Trx.rf hk
    refine ⟨g1, ?_⟩
    unfold T_readOnce_b36
    rw [if_neg (flt g2.2.1 g2.2.2).2]
    exact ok_s g2
  unfold T_readOnce
  rw [show (4 : Int32) = i32 ((4 : Nat) : Int) from rfl, show (5 : Int32) = i32 ((5 : Nat) : Int) from rfl, H, bd_eq, show (0 : Int32) = i32 0 from rfl]
  have hS : 0 ≤ whV lnW t n (tP t n k) → tP t n k < n := fun z => whV_lt z
  generalize whV lnW t n (tP t n k) = j at hb hj hS ⊢
  refine ok_le ⟨by omega, by omega⟩ ⟨by omega, by omega⟩ (fun q => ?_) (fun q => ?_)
  · obtain ⟨j, rfl⟩ : ∃ q : Nat, j = q := ⟨j.toNat, by omega⟩
    obtain ⟨d1, d2⟩ := td_i _ hb32 j (by omega)
    rw [if_neg (show ¬ (j : Int) < 0 by omega), Int.toNat_natCast, hU.2.1]
    cases hbit : w.2.1.testBit j with
    | true =>
      rw [hbit] at d1
      rw [if_pos (of_decide_eq_true d1), if_pos rfl, show (3 : Int32) = i32 3 from rfl]
      obtain ⟨s1, s2⟩ := S 3 (i32 (j : Int)) (by omega)
      rw [s1, bd_eq]
      exact s2
    | false =>
      rw [hbit] at d1
      rw [if_neg (of_decide_eq_false d1), if_neg (show ¬ (false = true) by decide)]
      unfold T_readOnce_b36
      rw [if_pos (show tI τ 8 ≤ 0 by rw [h.2.2.2]; decide), nm_eq, nm_eq, hU.2.1, d2, show tI (sI τ 15 (i32 ((w.2.1 ||| 2 ^ j : Nat) : Int))) 7 = tI τ 7 from sI_n (by decide), h.up]
      have hS := hS q
      have h' : Tkk t n (k + 1) (sI (sI τ 15 (i32 ((w.2.1 ||| 2 ^ j : Nat) : Int))) 7 (i32 ((k + 1 : Nat) : Int))) := ⟨h.1.r rfl rfl rfl rfl, h.2.1.s hS, sI_t, (sI_n (by decide)).trans ((sI_n (by decide)).trans h.2.2.2)⟩
      have f' : Trx τ (sI (sI τ 15 (i32 ((w.2.1 ||| 2 ^ j : Nat) : Int))) 7 (i32 ((k + 1 : Nat) : Int))) := (Trx.sI rfl).tr (Trx.sI rfl)
      have e15 : tI (sI (sI τ 15 (i32 ((w.2.1 ||| 2 ^ j : Nat) : Int))) 7 (i32 ((k + 1 : Nat) : Int))) 15 = i32 ((w.2.1 ||| 2 ^ j : Nat) : Int) := (sI_n (by decide)).trans sI_t
      have eR : tA (sI (sI τ 15 (i32 ((w.2.1 ||| 2 ^ j : Nat) : Int))) 7 (i32 ((k + 1 : Nat) : Int))) = tA τ ∧ tB (sI (sI τ 15 (i32 ((w.2.1 ||| 2 ^ j : Nat) : Int))) 7 (i32 ((k + 1 : Nat) : Int))) = tB τ ∧ tI (sI (sI τ 15 (i32 ((w.2.1 ||| 2 ^ j : Nat) : Int))) 7 (i32 ((k + 1 : Nat) : Int))) 13 = tI τ 13 := ⟨rfl, rfl, (sI_n (by decide)).trans (sI_n (by decide))⟩
      generalize sI (sI τ 15 (i32 ((w.2.1 ||| 2 ^ j : Nat) : Int))) 7 (i32 ((k + 1 : Nat) : Int)) = τ2 at *
      have N : ∀ lo hi : Int, ok32 lo → ok32 hi → Ok (bd2 (T_takeNumber (i32 lo) (i32 hi) τ2) fun v6 τ5 => stA τ5 10 680 (i32 342 + i32 (j : Int)) v6 fun τ6 => some τ6) (Qt t n τ (bP (nmP t n lo hi (tP t n (k + 1)) (k + 1)) fun v k1 => .inr (onS w j v, k1))) := fun lo hi h1 h2 => by
        refine ok_2 (t_num h' hT h1 h2) fun a τ5 h5 => ?_
        rw [i32_add]
        refine ok_a10 (i := 2 + j) (by omega) (by omega) (ok_s ?_)
        obtain ⟨g1, g2⟩ := h5
        cases hx : nmP t n lo hi (tP t n (k + 1)) (k + 1) with
        | inl e =>
          rw [hx] at g2
          exact ⟨(f'.tr (Trx.n g1)).tr (Trx.a10 (by omega)), g2.2⟩
        | inr y =>
          rw [hx] at g2
          obtain ⟨v, k2⟩ := y
          have g2 : a = i32 v ∧ Tkk t n k2 τ5 := g2
          rw [g2.1]
          refine ⟨(f'.tr (Trx.n g1)).tr (Trx.a10 (by omega)), g2.2.a10, ?_⟩
          exact UDD.on (τ' := τ) hU hb32 (by omega) ((g1.1 15 (by decide) (by decide)).trans e15) ⟨g1.2.1.trans eR.1, g1.2.2.trans eR.2.1, (g1.1 13 (by decide) (by decide)).trans eR.2.2⟩
      rw [show (342 : Int32) = i32 342 from rfl]
      unfold lnB
      by_cases q4 : j = 4
      · subst q4
        rw [if_pos (show i32 ((4 : Nat) : Int) = 4 from rfl), if_pos (show ((4 : Nat) : Int) = 4 from rfl), i32_add, show (1 : Int32) = i32 1 from rfl]
        exact ok_a10 (i := 2 + 4) (by omega) (by omega) (ok_s ⟨f'.tr (Trx.a10 (by omega)), h'.a10, UDD.on (τ' := τ) (v := 1) hU hb32 (by omega) e15 eR⟩)
      · rw [if_neg (show ¬ i32 (j : Int) = 4 from fun z => by have := (i32_eq (a := (j : Int)) (b := 4) ⟨by omega, by omega⟩ ⟨by omega, by omega⟩).mp z; omega), if_neg (show ¬ (j : Int) = 4 by omega)]
        by_cases q3 : j = 3
        · subst q3
          rw [if_pos (show i32 ((3 : Nat) : Int) = 3 from rfl), if_pos (show ((3 : Nat) : Int) = 3 from rfl), show (9 : Int32) = i32 9 from rfl]
          exact N 0 9 ⟨by omega, by omega⟩ ⟨by omega, by omega⟩
        · rw [if_neg (show ¬ i32 (j : Int) = 3 from fun z => by have := (i32_eq (a := (j : Int)) (b := 3) ⟨by omega, by omega⟩ ⟨by omega, by omega⟩).mp z; omega), if_neg (show ¬ (j : Int) = 3 by omega), if_pos (show (j : Int) < 3 by omega), Int.toNat_natCast, show (1 : Int32) = i32 1 from rfl, show (30 : Int32) = i32 30 from rfl]
          exact N 1 30 ⟨by omega, by omega⟩ ⟨by omega, by omega⟩
  · rw [if_pos q, show (1 : Int32) = i32 1 from rfl]
    obtain ⟨s1, s2⟩ := S 1 (i32 j) (by omega)
    rw [s1, bd_eq]
    exact s2
end YTT
