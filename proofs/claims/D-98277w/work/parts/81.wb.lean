/-! LAYER 2: waves: all beginnings tried, the twin -/
set_option maxRecDepth 100000
def Twq (τ : TS) (M : Nat) (q : Int × (Nat → Int)) : Prop := tI τ 42 = i32 q.1 ∧ (0 ≤ q.1 → ∀ k, 1 ≤ k → k < M → tA τ 41 k = i32 (q.2 k)) ∧ qB q
def Tgb (τ : TS) (a : Nat) (bg : Nat → Int) : Prop := ∀ k, 1 ≤ k → k < a → tA τ 40 k = i32 (bg k)
def Ttb (τ : TS) (R M : Nat) (G H : Nat → Nat → Nat) : Prop := ∀ k b, k < M → b < R → tB τ 38 (60 * k + b) = i64 ((G k b : Nat) : Int) ∧ tB τ 39 (60 * k + b) = i64 ((H k b : Nat) : Int)
section WB
variable {τ : TS} {nf : Nat} {R M : Nat} {G H : Nat → Nat → Nat}
theorem rd_sA {τ : TS} {a c i j : Nat} {v : Int32} : tA (sA τ a i v) c j = if c = a ∧ j = i then v else tA τ c j := by
  rw [tA_sA]
  by_cases e : c = a
  · rw [if_pos e, e]
    show (if j = i then v else tA τ a j) = _
    by_cases e2 : j = i
    · rw [if_pos e2, if_pos ⟨rfl, e2⟩]
    · rw [if_neg e2, if_neg (fun z => e2 z.2)]
  · rw [if_neg e, if_neg (fun z => e z.1)]
theorem tw_45 (hM : M ≤ 4) {rc : Int32 → Int32 → Int32 → Int64 → Int64 → Int32 → TS → Option TS} : ∀ (d n k : Nat) (τ1 : TS), k + d = M → d < n → Tk τ τ1 → tB τ1 = tB τ → tI τ1 = tI τ → (∀ j, tA τ1 40 j = tA τ 40 j) → (∀ j, 1 ≤ j → j < k → tA τ1 41 j = tA τ 40 j) → Ok (T_triesWave_b45 nf rc n (i32 (M : Int)) (i32 (k : Int)) τ1) fun τ' => Tk τ τ' ∧ tB τ' = tB τ ∧ tI τ' = tI τ ∧ (∀ j, tA τ' 40 j = tA τ 40 j) ∧ ∀ j, 1 ≤ j → j < M → tA τ' 41 j = tA τ 40 j := by
  intro d
  induction d with
  | zero =>
    intro n k τ1 h1 h2 f1 f2 f3 f4 f5
    obtain ⟨n, rfl⟩ : ∃ q, n = q + 1 := ⟨n - 1, by omega⟩
    rw [show T_triesWave_b45 nf rc (n + 1) = T_triesWave_b45_s nf rc (T_triesWave_b45 nf rc n) from rfl]
    unfold T_triesWave_b45_s
    refine ok_le ⟨by omega, by omega⟩ ⟨by omega, by omega⟩ (fun _ => ?_) (fun z => by omega)
    exact ok_s ⟨f1, f2, f3, f4, fun j a1 a2 => f5 j a1 (by omega)⟩
  | succ d ih =>
    intro n k τ1 h1 h2 f1 f2 f3 f4 f5
    obtain ⟨n, rfl⟩ : ∃ q, n = q + 1 := ⟨n - 1, by omega⟩
    rw [show T_triesWave_b45 nf rc (n + 1) = T_triesWave_b45_s nf rc (T_triesWave_b45 nf rc n) from rfl]
    unfold T_triesWave_b45_s
    refine ok_le ⟨by omega, by omega⟩ ⟨by omega, by omega⟩ (fun z => by omega) (fun _ => ?_)
    refine ok_ld (by omega) (by omega) (by omega) (ok_sA (by omega) (by omega) (by omega) ?_)
    rw [Int.toNat_natCast, show (1 : Int32) = i32 1 from rfl, i32_add]
    refine ih n (k + 1) _ (by omega) (by omega) (f1.tr (Tk.sA rfl rfl)) f2 f3 (fun j => ?_) (fun j a1 a2 => ?_)
    · rw [rd_sA, if_neg (fun z => absurd z.1 (by decide))]
      exact f4 j
    · rw [rd_sA]
      by_cases e : j = k
      · rw [if_pos ⟨rfl, e⟩, e, f4]
      · rw [if_neg (fun z => e z.2)]
        exact f5 j a1 (by omega)
theorem tw_23 (hn : 100 ≤ nf) (hM : M ≤ 4) {bg : Nat → Int} {q : Int × (Nat → Int)} {rc : Int32 → Int32 → Int32 → Int64 → Int64 → Int32 → TS → Option TS} (hb : Tgb τ M bg) (hq : Twq τ M q) {v w : Int} (hv : 0 ≤ v ∧ v ≤ 60) (hw : 0 ≤ w ∧ w ≤ 60) : Ok (T_triesWave_b24 nf rc (i32 (M : Int)) (i32 w) (i32 v) τ) fun τ' => Tk τ τ' ∧ tB τ' = tB τ ∧ (∀ j, tA τ' 40 j = tA τ 40 j) ∧ Twq τ' M (if q.1 < v + w then (v + w, bg) else q) := by
  obtain ⟨q1, q2, q3, q4⟩ := hq
  unfold T_triesWave_b24
  refine ok_n ?_
  rw [q1, i32_add]
  refine ok_le ⟨by omega, by omega⟩ ⟨by omega, by omega⟩ (fun z => ?_) (fun z => ?_)
  · rw [if_neg (by omega)]
    exact ok_s ⟨Tk.rf, rfl, fun _ => rfl, q1, q2, q3, q4⟩
  · rw [if_pos z, nm_eq]
    have f1 : Tk τ (sI τ 42 (i32 (v + w))) := Tk.sI rfl rfl
    have L := tw_45 (nf := nf) (τ := sI τ 42 (i32 (v + w))) (rc := rc) (M := M) hM M nf 0 _ (by omega) (by omega) Tk.rf rfl rfl (fun _ => rfl) (fun j a1 a2 => by omega)
    refine ok_w L fun τ' hs' => ⟨f1.tr hs'.1, hs'.2.1, hs'.2.2.2.1, ?_, fun _ k a1 a2 => ?_, by show -1 ≤ v + w; omega, by show v + w ≤ 120; omega⟩
    · rw [hs'.2.2.1]
      rfl
    · rw [hs'.2.2.2.2 k a1 a2]
      exact hb k a1 a2
theorem t_triesWave (hn : 100 ≤ nf) (hM : M ≤ 4) (hR : 1 ≤ R ∧ R ≤ 60) {v : Int32} : ∀ (d a n : Nat) (bg : Nat → Int) (x y : Nat) (q : Int × (Nat → Int)) (τ : TS), a + d = M → d < n → 1 ≤ a → Ttb τ R M G H → Tgb τ a bg → Twq τ M q → x < 2 ^ 60 → y < 2 ^ 60 → Ok (T_triesWave nf n (i32 (a : Int)) (i32 (M : Int)) (i32 (R : Int)) (i64 ((x : Nat) : Int)) (i64 ((y : Nat) : Int)) v τ) fun τ' => Tk τ τ' ∧ tB τ' = tB τ ∧ (∀ j, j < a → tA τ' 40 j = tA τ 40 j) ∧ Twq τ' M (wvN R G H (!decide (v = 0)) d a bg x y q) := by
  intro d
  induction d with
  | zero =>
    intro a n bg x y q τ h1 h2 h3 ht hb hq hx hy
    obtain ⟨n, rfl⟩ : ∃ p, n = p + 1 := ⟨n - 1, by omega⟩
    have ea : a = M := by omega
    subst ea
    rw [show T_triesWave nf (n + 1) = T_triesWave_s nf (T_triesWave nf n) from rfl]
    unfold T_triesWave_s wvN
    rw [if_pos rfl]
    refine ok_be (t_ones hn hx) ?_
    have o1 := onL_b x
    have o2 := onL_b y
    by_cases e : v = 0
    · rw [if_pos e, e, show (!decide ((0 : Int32) = 0)) = false from rfl]
      have L := tw_23 (nf := nf) (rc := T_triesWave nf n) hn hM hb hq o1 (w := 0) ⟨by omega, by omega⟩
      simp only [Bool.false_eq_true, if_false]
      exact ok_w L fun s' h => ⟨h.1, h.2.1, fun j _ => h.2.2.1 j, h.2.2.2⟩
    · rw [if_neg e, decide_eq_false e]
      refine ok_be (t_ones hn hy) ?_
      have L := tw_23 (nf := nf) (rc := T_triesWave nf n) hn hM hb hq o1 o2
      simp only [Bool.not_false, if_true]
      exact ok_w L fun s' h => ⟨h.1, h.2.1, fun j _ => h.2.2.1 j, h.2.2.2⟩
  | succ d ihd =>
    intro a n bg x y q τ h1 h2 h3 ht hb hq hx hy
    obtain ⟨n, rfl⟩ : ∃ p, n = p + 1 := ⟨n - 1, by omega⟩
    have loop : ∀ (e n2 c : Nat) (q1 : Int × (Nat → Int)) (τ1 : TS), c + e = R → e < n2 → Tk τ τ1 → tB τ1 = tB τ → (∀ j, j < a → tA τ1 40 j = tA τ 40 j) → Twq τ1 M q1 → Ok (T_triesWave_b75 nf (T_triesWave nf n) n2 (i32 (a : Int)) (i32 (M : Int)) (i32 (R : Int)) (i64 ((x : Nat) : Int)) (i64 ((y : Nat) : Int)) v (i32 (c : Int)) τ1) fun τ' => Tk τ τ' ∧ tB τ' = tB τ ∧ (∀ j, j < a → tA τ' 40 j = tA τ 40 j) ∧ Twq τ' M (wvL (fun b q => wvN R G H (!decide (v = 0)) d (a + 1) (upN bg a b) (x &&& G a b) (y &&& H a b) q) e c q1) := by
      intro e
      induction e with
      | zero =>
        intro n2 c q1 τ1 g1 g2 f1 f2 f3 f4
        obtain ⟨n2, rfl⟩ : ∃ p, n2 = p + 1 := ⟨n2 - 1, by omega⟩
        rw [show T_triesWave_b75 nf (T_triesWave nf n) (n2 + 1) = T_triesWave_b75_s nf (T_triesWave nf n) (T_triesWave_b75 nf (T_triesWave nf n) n2) from rfl]
        unfold T_triesWave_b75_s
        refine ok_le ⟨by omega, by omega⟩ ⟨by omega, by omega⟩ (fun _ => ?_) (fun z => by omega)
        exact ok_s ⟨f1, f2, f3, f4⟩
      | succ e ihe =>
        intro n2 c q1 τ1 g1 g2 f1 f2 f3 f4
        obtain ⟨n2, rfl⟩ : ∃ p, n2 = p + 1 := ⟨n2 - 1, by omega⟩
        rw [show T_triesWave_b75 nf (T_triesWave nf n) (n2 + 1) = T_triesWave_b75_s nf (T_triesWave nf n) (T_triesWave_b75 nf (T_triesWave nf n) n2) from rfl]
        unfold T_triesWave_b75_s
        refine ok_le ⟨by omega, by omega⟩ ⟨by omega, by omega⟩ (fun z => by omega) (fun _ => ?_)
        refine ok_sA (by omega) (by omega) (by omega) ?_
        rw [Int.toNat_natCast]
        have hq2 : Tk τ1 (sA τ1 40 a (i32 (c : Int))) := Tk.sA rfl rfl
        have hz : ((60 : Int) * (a : Int) + (c : Int)) = ((60 * a + c : Nat) : Int) := by omega
        rw [show (60 : Int32) = i32 60 from rfl, show (1 : Int32) = i32 1 from rfl, i32_mul, i32_add, i32_add, i32_add, hz]
        refine ok_ld (by omega) (by omega) (by omega) (ok_ld (by omega) (by omega) (by omega) ?_)
        rw [Int.toNat_natCast]
        have ht2 : Ttb (sA τ1 40 a (i32 (c : Int))) R M G H := fun k b a1 a2 => by
          show tB τ1 38 (60 * k + b) = _ ∧ tB τ1 39 (60 * k + b) = _
          rw [f2]
          exact ht k b a1 a2
        have t0 := ht2 a c (by omega) (by omega)
        rw [t0.1, t0.2, i64_and, i64_and]
        have hb2 : Tgb (sA τ1 40 a (i32 (c : Int))) (a + 1) (upN bg a c) := fun k a1 a2 => by
          rw [rd_sA]
          unfold upN
          by_cases ek : k = a
          · rw [if_pos ⟨rfl, ek⟩, if_pos ek]
          · rw [if_neg (fun z => ek z.2), if_neg ek, f3 k (by omega)]
            exact hb k a1 (by omega)
        have hq3 : Twq (sA τ1 40 a (i32 (c : Int))) M q1 := ⟨f4.1, fun z k a1 a2 => by
          rw [rd_sA, if_neg (fun z => absurd z.1 (by decide))]
          exact f4.2.1 z k a1 a2, f4.2.2⟩
        have L := ihd (a + 1) n (upN bg a c) (x &&& G a c) (y &&& H a c) q1 _ (by omega) (by omega) (by omega) ht2 hb2 hq3 (and_b hx) (and_b hy)
        refine ok_b L fun s3 h3 => ?_
        refine ihe n2 (c + 1) _ s3 (by omega) (by omega) ((f1.tr hq2).tr h3.1) (h3.2.1.trans f2) (fun j hj => ?_) h3.2.2.2
        rw [h3.2.2.1 j (by omega), rd_sA, if_neg (fun z => by omega)]
        exact f3 j hj
    rw [show T_triesWave nf (n + 1) = T_triesWave_s nf (T_triesWave nf n) from rfl]
    unfold T_triesWave_s
    refine ok_q ⟨by omega, by omega⟩ ⟨by omega, by omega⟩ (fun z => by omega) (fun _ => ?_)
    exact loop R nf 0 q τ (by omega) (by omega) Tk.rf rfl (fun _ _ => rfl) hq
end WB
