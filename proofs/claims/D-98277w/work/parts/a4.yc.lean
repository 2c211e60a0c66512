/-! LAYER 2: the twin cuts its text -/
set_option maxRecDepth 100000
theorem t_isL {τ : TS} {z : Int} (hz : 0 ≤ z ∧ z ≤ 126) : T_isLetter τ (i32 z) = some (bi (isL z)) := by
  unfold T_isLetter isL
  rw [show (97 : Int32) = i32 97 from rfl, show (122 : Int32) = i32 122 from rfl]
  by_cases q : 97 ≤ z ∧ z ≤ 122
  · rw [decide_eq_true q, if_neg (fun h => by have := (i32_lt ⟨by omega, by omega⟩ ⟨by omega, by omega⟩).mp h; omega), if_neg (fun h => by have := (i32_lt ⟨by omega, by omega⟩ ⟨by omega, by omega⟩).mp h; omega)]
    rfl
  · rw [decide_eq_false q]
    by_cases q2 : z < 97
    · rw [if_pos ((i32_lt ⟨by omega, by omega⟩ ⟨by omega, by omega⟩).mpr q2)]
      rfl
    · rw [if_neg (fun h => by have := (i32_lt ⟨by omega, by omega⟩ ⟨by omega, by omega⟩).mp h; omega), if_pos ((i32_lt ⟨by omega, by omega⟩ ⟨by omega, by omega⟩).mpr (by omega))]
      rfl
theorem t_isD {τ : TS} {z : Int} (hz : 0 ≤ z ∧ z ≤ 126) : T_isDigit τ (i32 z) = some (bi (isD z)) := by
  unfold T_isDigit isD
  rw [show (48 : Int32) = i32 48 from rfl, show (57 : Int32) = i32 57 from rfl]
  by_cases q : 48 ≤ z ∧ z ≤ 57
  · rw [decide_eq_true q, if_neg (fun h => by have := (i32_lt ⟨by omega, by omega⟩ ⟨by omega, by omega⟩).mp h; omega), if_neg (fun h => by have := (i32_lt ⟨by omega, by omega⟩ ⟨by omega, by omega⟩).mp h; omega)]
    rfl
  · rw [decide_eq_false q]
    by_cases q2 : z < 48
    · rw [if_pos ((i32_lt ⟨by omega, by omega⟩ ⟨by omega, by omega⟩).mpr q2)]
      rfl
    · rw [if_neg (fun h => by have := (i32_lt ⟨by omega, by omega⟩ ⟨by omega, by omega⟩).mp h; omega), if_pos ((i32_lt ⟨by omega, by omega⟩ ⟨by omega, by omega⟩).mpr (by omega))]
      rfl
theorem t_isG {τ : TS} {z : Nat} (hz : z < 127) : T_isSignOf τ (i32 (z : Int)) = some (bi (isG (z : Int))) := by
  have h : ∀ z : Nat, z < 127 → (if i32 (z : Int) = 40 then (1 : Int32) else if i32 (z : Int) = 41 then 1 else if i32 (z : Int) = 59 then 1 else if i32 (z : Int) = 61 then 1 else if i32 (z : Int) = 60 then 1 else if i32 (z : Int) = 43 then 1 else if i32 (z : Int) = 45 then 1 else if i32 (z : Int) = 42 then 1 else 0) = bi (isG (z : Int)) := by decide +kernel
  rw [← h z hz]
  unfold T_isSignOf
  (repeat' split) <;> rfl
theorem t_rank {τ : TS} {z : Int} (hz : 97 ≤ z ∧ z ≤ 122) : T_rank τ (i32 z) = some (i32 (z - 96)) := by
  have e : isL z = true := decide_eq_true hz
  unfold T_rank
  rw [t_isL (by omega), e, bd_eq, if_neg (show ¬ bi true = (0 : Int32) by decide), show (96 : Int32) = i32 96 from rfl, i32_sub]
/-- the text at hand -/
def Tape (t : Nat → Int) (n : Nat) (τ : TS) : Prop := tI τ 3 = i32 (n : Int) ∧ ∀ i, i < n → tA τ 1 i = i32 (t i)
section YCC
variable {t : Nat → Int} {n nf : Nat} {τ τ0 τ1 : TS} {K : Int32 → Int32 → TS → Option TS} {Q : TS → Prop}
theorem cu_129 {j p f : Nat} {v : Int64} (hj : j < 1002) (hp : f ≤ p ∧ p ≤ 1000) (q : Ok (K (i32 ((j + 1 : Nat) : Int)) (i32 (p : Int)) (sB (sA τ 4 j (i32 ((if p - f ≤ 8 then 1 else 4 : Nat) : Int))) 6 j v)) Q) : Ok (T_cutAll_b129 nf K (i32 (j : Int)) (i32 (p : Int)) (i32 (f : Int)) v τ) Q := by
  unfold T_cutAll_b129 T_cutAll_b265
  rw [i32_sub, show (8 : Int32) = i32 8 from rfl, show (1 : Int32) = i32 1 from rfl, i32_add, show (j : Int) + 1 = ((j + 1 : Nat) : Int) by omega]
  refine ok_le ⟨by omega, by omega⟩ ⟨by omega, by omega⟩ (fun z => ?_) (fun z => ?_)
  · rw [if_pos (show p - f ≤ 8 by omega)] at q
    exact ok_sA (by omega) (by omega) (by omega) (ok_sB (by omega) (by omega) (by omega) (by rw [Int.toNat_natCast]; exact q))
  · rw [if_neg (show ¬ p - f ≤ 8 by omega)] at q
    exact ok_sA (by omega) (by omega) (by omega) (ok_sB (by omega) (by omega) (by omega) (by rw [Int.toNat_natCast]; exact q))
theorem cu_218 {j p f : Nat} {v : Int64} (hj : j < 1002) (hp : f ≤ p ∧ p ≤ 1000) (q : Ok (K (i32 ((j + 1 : Nat) : Int)) (i32 (p : Int)) (sB (sA τ 4 j (i32 ((if p - f ≤ 4 then 2 else 4 : Nat) : Int))) 6 j v)) Q) : Ok (T_cutAll_b218 nf K (i32 (j : Int)) (i32 (p : Int)) (i32 (f : Int)) v τ) Q := by
  unfold T_cutAll_b218 T_cutAll_b265
  rw [i32_sub, show (4 : Int32) = i32 4 from rfl, show (1 : Int32) = i32 1 from rfl, i32_add, show (j : Int) + 1 = ((j + 1 : Nat) : Int) by omega]
  refine ok_le ⟨by omega, by omega⟩ ⟨by omega, by omega⟩ (fun z => ?_) (fun z => ?_)
  · rw [if_pos (show p - f ≤ 4 by omega)] at q
    exact ok_sA (by omega) (by omega) (by omega) (ok_sB (by omega) (by omega) (by omega) (by rw [Int.toNat_natCast]; exact q))
  · rw [if_neg (show ¬ p - f ≤ 4 by omega)] at q
    exact ok_sA (by omega) (by omega) (by omega) (ok_sB (by omega) (by omega) (by omega) (by rw [Int.toNat_natCast]; exact q))
theorem cu_70 (hT : TO t n) (hτ : Tape t n τ) {j f : Nat} (hj : j < 1002) : ∀ (d m i : Nat) (v : Int), n - i = d → d < m → f ≤ i → i ≤ n → Ok (K (i32 ((j + 1 : Nat) : Int)) (i32 (run t n isL i : Int)) (sB (sA τ 4 j (i32 ((if run t n isL i - f ≤ 8 then 1 else 4 : Nat) : Int))) 6 j (i64 (wdF t f (run t n isL i - i) i v)))) Q → Ok (T_cutAll_b70 nf K m (i32 (j : Int)) (i32 (i : Int)) (i32 (f : Int)) (i64 v) τ) Q := by
  have hn := hT.1
  intro d
  induction d with
  | zero =>
    intro m i v h1 h2 h3 h4 q
    obtain ⟨m, rfl⟩ : ∃ q, m = q + 1 := ⟨m - 1, by omega⟩
    rw [show T_cutAll_b70 nf K (m + 1) = T_cutAll_b70_s nf K (T_cutAll_b70 nf K m) from rfl]
    unfold T_cutAll_b70_s
    rw [hτ.1]
    refine ok_le ⟨by omega, by omega⟩ ⟨by omega, by omega⟩ (fun _ => ?_) (fun z => by omega)
    rw [run_e (show n ≤ i by omega), Nat.sub_self] at q
    exact cu_129 hj ⟨h3, by omega⟩ q
  | succ d ih =>
    intro m i v h1 h2 h3 h4 q
    obtain ⟨m, rfl⟩ : ∃ q, m = q + 1 := ⟨m - 1, by omega⟩
    have hin : i < n := by omega
    have ht := hT.2 i hin
    rw [show T_cutAll_b70 nf K (m + 1) = T_cutAll_b70_s nf K (T_cutAll_b70 nf K m) from rfl]
    unfold T_cutAll_b70_s
    rw [hτ.1]
    refine ok_le ⟨by omega, by omega⟩ ⟨by omega, by omega⟩ (fun z => by omega) (fun _ => ?_)
    refine ok_ld (by omega) (by omega) (by omega) ?_
    rw [Int.toNat_natCast, hτ.2 i hin, t_isL (by omega), bd_eq]
    rw [run_s hin] at q
    cases hl : isL (t i) with
    | false =>
      rw [hl, if_neg (show ¬ (false = true) by decide), Nat.sub_self] at q
      rw [if_pos (show bi false = (0 : Int32) from rfl)]
      exact cu_129 hj ⟨h3, by omega⟩ q
    | true =>
      have hz : 97 ≤ t i ∧ t i ≤ 122 := of_decide_eq_true hl
      rw [hl, if_pos rfl] at q
      rw [if_neg (show ¬ bi true = (0 : Int32) by decide), i32_sub, show (8 : Int32) = i32 8 from rfl, show (1 : Int32) = i32 1 from rfl, i32_add, show (i : Int) + 1 = ((i + 1 : Nat) : Int) by omega]
      have hr := (run_le t n isL (i + 1)).1
      rw [show run t n isL (i + 1) - i = (run t n isL (i + 1) - (i + 1)) + 1 by omega] at q
      have ew : wdF t f ((run t n isL (i + 1) - (i + 1)) + 1) i v = wdF t f (run t n isL (i + 1) - (i + 1)) (i + 1) (if i - f < 8 then 37 * v + (t i - 96) else v) := rfl
      rw [ew] at q
      refine ok_le ⟨by omega, by omega⟩ ⟨by omega, by omega⟩ (fun z => ?_) (fun z => ?_)
      · rw [if_neg (show ¬ i - f < 8 by omega)] at q
        exact ih m (i + 1) v (by omega) (by omega) (by omega) (by omega) q
      · rw [if_pos (show i - f < 8 by omega)] at q
        refine ok_ld (by omega) (by omega) (by omega) ?_
        rw [Int.toNat_natCast, hτ.2 i hin, t_rank hz, bd_eq, i32_long ⟨by omega, by omega⟩, show (37 : Int64) = i64 37 from rfl, i64_mul, i64_add, nm_eq]
        exact ih m (i + 1) _ (by omega) (by omega) (by omega) (by omega) q
theorem cu_159 (hT : TO t n) (hτ : Tape t n τ) {j f : Nat} (hj : j < 1002) : ∀ (d m i : Nat) (v : Int), n - i = d → d < m → f ≤ i → i ≤ n → Ok (K (i32 ((j + 1 : Nat) : Int)) (i32 (run t n isD i : Int)) (sB (sA τ 4 j (i32 ((if run t n isD i - f ≤ 4 then 2 else 4 : Nat) : Int))) 6 j (i64 (nvF t f (run t n isD i - i) i v)))) Q → Ok (T_cutAll_b159 nf K m (i32 (j : Int)) (i32 (i : Int)) (i32 (f : Int)) (i64 v) τ) Q := by
  have hn := hT.1
  intro d
  induction d with
  | zero =>
    intro m i v h1 h2 h3 h4 q
    obtain ⟨m, rfl⟩ : ∃ q, m = q + 1 := ⟨m - 1, by omega⟩
    rw [show T_cutAll_b159 nf K (m + 1) = T_cutAll_b159_s nf K (T_cutAll_b159 nf K m) from rfl]
    unfold T_cutAll_b159_s
    rw [hτ.1]
    refine ok_le ⟨by omega, by omega⟩ ⟨by omega, by omega⟩ (fun _ => ?_) (fun z => by omega)
    rw [run_e (show n ≤ i by omega), Nat.sub_self] at q
    exact cu_218 hj ⟨h3, by omega⟩ q
  | succ d ih =>
    intro m i v h1 h2 h3 h4 q
    obtain ⟨m, rfl⟩ : ∃ q, m = q + 1 := ⟨m - 1, by omega⟩
    have hin : i < n := by omega
    have ht := hT.2 i hin
    rw [show T_cutAll_b159 nf K (m + 1) = T_cutAll_b159_s nf K (T_cutAll_b159 nf K m) from rfl]
    unfold T_cutAll_b159_s
    rw [hτ.1]
    refine ok_le ⟨by omega, by omega⟩ ⟨by omega, by omega⟩ (fun z => by omega) (fun _ => ?_)
    refine ok_ld (by omega) (by omega) (by omega) ?_
    rw [Int.toNat_natCast, hτ.2 i hin, t_isD (by omega), bd_eq]
    rw [run_s hin] at q
    cases hl : isD (t i) with
    | false =>
      rw [hl, if_neg (show ¬ (false = true) by decide), Nat.sub_self] at q
      rw [if_pos (show bi false = (0 : Int32) from rfl)]
      exact cu_218 hj ⟨h3, by omega⟩ q
    | true =>
      have hz : 48 ≤ t i ∧ t i ≤ 57 := of_decide_eq_true hl
      rw [hl, if_pos rfl] at q
      rw [if_neg (show ¬ bi true = (0 : Int32) by decide), i32_sub, show (4 : Int32) = i32 4 from rfl, show (1 : Int32) = i32 1 from rfl, i32_add, show (i : Int) + 1 = ((i + 1 : Nat) : Int) by omega]
      have hr := (run_le t n isD (i + 1)).1
      rw [show run t n isD (i + 1) - i = (run t n isD (i + 1) - (i + 1)) + 1 by omega] at q
      have ew : nvF t f ((run t n isD (i + 1) - (i + 1)) + 1) i v = nvF t f (run t n isD (i + 1) - (i + 1)) (i + 1) (if i - f < 4 then 10 * v + t i - 48 else v) := rfl
      rw [ew] at q
      refine ok_le ⟨by omega, by omega⟩ ⟨by omega, by omega⟩ (fun z => ?_) (fun z => ?_)
      · rw [if_neg (show ¬ i - f < 4 by omega)] at q
        exact ih m (i + 1) v (by omega) (by omega) (by omega) (by omega) q
      · rw [if_pos (show i - f < 4 by omega)] at q
        refine ok_ld (by omega) (by omega) (by omega) ?_
        rw [Int.toNat_natCast, hτ.2 i hin, i32_long ⟨by omega, by omega⟩, show (10 : Int64) = i64 10 from rfl, show (48 : Int64) = i64 48 from rfl, i64_mul, i64_add, i64_sub, nm_eq]
        exact ih m (i + 1) _ (by omega) (by omega) (by omega) (by omega) q
/-- nothing but the tokens is another -/
def Tcc (τ τ' : TS) : Prop := (∀ f, tI τ' f = tI τ f) ∧ (∀ j, ¬ j = 4 → ¬ j = 5 → tA τ' j = tA τ j) ∧ ∀ j, ¬ j = 6 → tB τ' j = tB τ j
theorem Tcc.tr {τ τ1 τ2 : TS} (h : Tcc τ τ1) (k : Tcc τ1 τ2) : Tcc τ τ2 := ⟨fun f => (k.1 f).trans (h.1 f), fun j a b => (k.2.1 j a b).trans (h.2.1 j a b), fun j a => (k.2.2 j a).trans (h.2.2 j a)⟩
theorem Tcc.w {τ : TS} {j i k : Nat} {a b : Int32} {v : Int64} : Tcc τ (sB (sA (sA τ 5 j a) 4 i b) 6 k v) := ⟨fun f => rfl, fun j a b => by
  show tA (sA (sA τ 5 _ _) 4 _ _) j = _
  rw [tA_sA, if_neg a, tA_sA, if_neg b], fun j a => by rw [tB_sB, if_neg a]; rfl⟩
theorem Tape.c {τ τ' : TS} (h : Tape t n τ) (g : Tcc τ τ') : Tape t n τ' := ⟨(g.1 3).trans h.1, fun i hi => by rw [g.2.1 1 (by decide) (by decide)]; exact h.2 i hi⟩
/-- the tokens ahead of j stand -/
def Tks (t : Nat → Int) (n j : Nat) (τ : TS) : Prop := ∀ i, i < j → tP t n i < n ∧ tA τ 4 i = i32 (tS t n (tP t n i) : Int) ∧ tA τ 5 i = i32 (tP t n i : Int) ∧ tB τ 6 i = i64 (tV t n (tP t n i))
theorem Tks.s {j : Nat} (h : Tks t n j τ) (hp : tP t n j < n) : Tks t n (j + 1) (sB (sA (sA τ 5 j (i32 (tP t n j : Int))) 4 j (i32 (tS t n (tP t n j) : Int))) 6 j (i64 (tV t n (tP t n j)))) := fun i hi => by
  have e4 : tA (sB (sA (sA τ 5 j (i32 (tP t n j : Int))) 4 j (i32 (tS t n (tP t n j) : Int))) 6 j (i64 (tV t n (tP t n j)))) 4 i = if i = j then i32 (tS t n (tP t n j) : Int) else tA τ 4 i := by
    rw [tA_sB, rd_sA]
    by_cases q : i = j
    · rw [if_pos ⟨rfl, q⟩, if_pos q]
    · rw [if_neg (fun z => q z.2), if_neg q, tA_sA, if_neg (by decide)]
  have e5 : tA (sB (sA (sA τ 5 j (i32 (tP t n j : Int))) 4 j (i32 (tS t n (tP t n j) : Int))) 6 j (i64 (tV t n (tP t n j)))) 5 i = if i = j then i32 (tP t n j : Int) else tA τ 5 i := by
    rw [tA_sB, tA_sA, if_neg (by decide), rd_sA]
    by_cases q : i = j
    · rw [if_pos ⟨rfl, q⟩, if_pos q]
    · rw [if_neg (fun z => q z.2), if_neg q]
  have e6 : tB (sB (sA (sA τ 5 j (i32 (tP t n j : Int))) 4 j (i32 (tS t n (tP t n j) : Int))) 6 j (i64 (tV t n (tP t n j)))) 6 i = if i = j then i64 (tV t n (tP t n j)) else tB τ 6 i := by
    rw [rd_sB]
    by_cases q : i = j
    · rw [if_pos ⟨rfl, q⟩, if_pos q]
    · rw [if_neg (fun z => q z.2), if_neg q]
      rfl
  rw [e4, e5, e6]
  by_cases q : i = j
  · subst q
    rw [if_pos rfl, if_pos rfl, if_pos rfl]
    exact ⟨hp, rfl, rfl, rfl⟩
  · rw [if_neg q, if_neg q, if_neg q]
    exact h i (by omega)
theorem Tks.le {j : Nat} (h : Tks t n j τ) : j ≤ n := by
  have hR : Rc t n j := fun i hi => (h i hi).1
  exact hR.kn
theorem cu_17 (hnf : 2000 ≤ nf) (hT : TO t n) (hw : ∀ k, k < 22 → tB τ 9 k = wordsL.getD k 0) : ∀ (d m j p : Nat) (τ1 : TS), n - p = d → d < m → p ≤ n → run t n isB p = tP t n j → Tape t n τ1 → Tcc τ τ1 → Tks t n j τ1 → Ok (T_cutAll_b17 nf m (i32 (j : Int)) (i32 (p : Int)) τ1) fun τ' => Tkk t n 0 τ' ∧ (∀ f, ¬ f = 7 → ¬ f = 8 → tI τ' f = tI τ f) ∧ (∀ j, ¬ j = 4 → ¬ j = 5 → tA τ' j = tA τ j) ∧ ∀ j, ¬ j = 6 → tB τ' j = tB τ j := by
  have hn := hT.1
  intro d
  induction d using Nat.strongRecOn with
  | ind d ih =>
    intro m j p τ1 h1 h2 hp hr hτ hc hk
    obtain ⟨m, rfl⟩ : ∃ q, m = q + 1 := ⟨m - 1, by omega⟩
    have hj := hk.le
    rw [show T_cutAll_b17 nf (m + 1) = T_cutAll_b17_s nf (T_cutAll_b17 nf m) from rfl]
    unfold T_cutAll_b17_s
    rw [hτ.1]
    refine ok_le ⟨by omega, by omega⟩ ⟨by omega, by omega⟩ (fun z => ?_) (fun z => ?_)
    · have ep : tP t n j = n := by rw [← hr, run_e (by omega)]; omega
      rw [show (0 : Int32) = i32 0 from rfl]
      refine ok_sA (by omega) (by omega) (by omega) (ok_sA (by omega) (by omega) (by omega) ?_)
      rw [Int.toNat_natCast, nm_eq, nm_eq, show tI (sA τ1 4 j (i32 0)) 3 = tI τ1 3 from rfl, hτ.1]
      refine ok_s ⟨⟨⟨fun i hi => ?_, fun k hk => ?_⟩, fun i hi => absurd hi (Nat.not_lt_zero i), (sI_n (by decide)).trans sI_t, sI_t⟩, fun f a b => (sI_n b).trans ((sI_n a).trans (hc.1 f)), fun i a b => ?_, fun i a => hc.2.2 i a⟩
      · have hij : i ≤ j := Decidable.byContradiction fun q => by
          have := hi j (by omega)
          omega
        have e4 : tA (sA (sA τ1 4 j (i32 0)) 5 j (i32 (n : Int))) 4 i = if i = j then i32 0 else tA τ1 4 i := by
          rw [tA_sA, if_neg (by decide), rd_sA]
          by_cases q : i = j
          · rw [if_pos ⟨rfl, q⟩, if_pos q]
          · rw [if_neg (fun z => q z.2), if_neg q]
        have e5 : tA (sA (sA τ1 4 j (i32 0)) 5 j (i32 (n : Int))) 5 i = if i = j then i32 (n : Int) else tA τ1 5 i := by
          rw [rd_sA]
          by_cases q : i = j
          · rw [if_pos ⟨rfl, q⟩, if_pos q]
          · rw [if_neg (fun z => q z.2), if_neg q, tA_sA, if_neg (by decide)]
        show tA (sA (sA τ1 4 j (i32 0)) 5 j (i32 (n : Int))) 4 i = _ ∧ tA (sA (sA τ1 4 j (i32 0)) 5 j (i32 (n : Int))) 5 i = _ ∧ (_ → tB τ1 6 i = _)
        rw [e4, e5]
        by_cases q : i = j
        · subst q
          rw [if_pos rfl, if_pos rfl, ep]
          refine ⟨?_, rfl, fun z => by omega⟩
          rw [(tS_b (t := t) (n := n) (f := n)).2.mpr (Nat.le_refl _)]
          rfl
        · rw [if_neg q, if_neg q]
          obtain ⟨k1, k2, k3, k4⟩ := hk i (by omega)
          exact ⟨k2, k3, fun _ => k4⟩
      · show tB τ1 9 k = _
        rw [hc.2.2 9 (by decide)]
        exact hw k hk
      · show tA (sA (sA τ1 4 j (i32 0)) 5 j (i32 (n : Int))) i = _
        rw [tA_sA, if_neg b, tA_sA, if_neg a]
        exact hc.2.1 i a b
    · have hpn : p < n := by omega
      have ht := hT.2 p hpn
      refine ok_ld (by omega) (by omega) (by omega) ?_
      rw [Int.toNat_natCast, hτ.2 p hpn, show (10 : Int32) = i32 10 from rfl, show (32 : Int32) = i32 32 from rfl, show (1 : Int32) = i32 1 from rfl, i32_add, show (p : Int) + 1 = ((p + 1 : Nat) : Int) by omega]
      have hrs := run_s (t := t) (p := isB) hpn
      have BL : isB (t p) = true → Ok (T_cutAll_b17 nf m (i32 (j : Int)) (i32 ((p + 1 : Nat) : Int)) τ1) fun τ' => Tkk t n 0 τ' ∧ (∀ f, ¬ f = 7 → ¬ f = 8 → tI τ' f = tI τ f) ∧ (∀ j, ¬ j = 4 → ¬ j = 5 → tA τ' j = tA τ j) ∧ ∀ j, ¬ j = 6 → tB τ' j = tB τ j := fun hb => by
        rw [hb, if_pos rfl] at hrs
        exact ih (n - (p + 1)) (by omega) m j (p + 1) τ1 rfl (by omega) (by omega) (by rw [← hrs]; exact hr) hτ hc hk
      refine ok_q ⟨by omega, by omega⟩ ⟨by omega, by omega⟩ (fun q => BL (decide_eq_true (.inl q))) (fun q => ?_)
      refine ok_q ⟨by omega, by omega⟩ ⟨by omega, by omega⟩ (fun q2 => BL (decide_eq_true (.inr q2))) (fun q2 => ?_)
      have hb : isB (t p) = false := decide_eq_false (fun z => z.elim q q2)
      rw [hb, if_neg (show ¬ (false = true) by decide)] at hrs
      have ep : tP t n j = p := by rw [← hr, hrs]
      have hE := (tE_b (t := t) (n := n) (f := p)).1 hpn
      have hk' := hk.s (by omega)
      have eN : run t n isB (tE t n p) = tP t n (j + 1) := by rw [← ep]; rfl
      rw [ep] at hk'
      refine ok_sA (by omega) (by omega) (by omega) ?_
      rw [Int.toNat_natCast, t_isL (by omega), bd_eq]
      have hτ5 : Tape t n (sA τ1 5 j (i32 (p : Int))) := ⟨hτ.1, fun i hi => by rw [tA_sA, if_neg (by decide)]; exact hτ.2 i hi⟩
      have GO : ∀ (s : Nat) (v : Int), s = tS t n p → v = tV t n p → Ok (T_cutAll_b17 nf m (i32 ((j + 1 : Nat) : Int)) (i32 (tE t n p : Int)) (sB (sA (sA τ1 5 j (i32 (p : Int))) 4 j (i32 (s : Int))) 6 j (i64 v))) fun τ' => Tkk t n 0 τ' ∧ (∀ f, ¬ f = 7 → ¬ f = 8 → tI τ' f = tI τ f) ∧ (∀ j, ¬ j = 4 → ¬ j = 5 → tA τ' j = tA τ j) ∧ ∀ j, ¬ j = 6 → tB τ' j = tB τ j := fun s v es ev => by
        subst es
        subst ev
        exact ih (n - tE t n p) (by omega) m (j + 1) (tE t n p) _ rfl (by omega) (by omega) eN (hτ.c Tcc.w) (hc.tr Tcc.w) hk'
      cases hl : isL (t p) with
      | true =>
        have eE : tE t n p = run t n isL p := tE_L hpn hl
        rw [if_neg (show ¬ bi true = (0 : Int32) by decide), show (0 : Int64) = i64 0 from rfl]
        refine cu_70 hT hτ5 (by omega) (n - p) nf p 0 rfl (by omega) (Nat.le_refl _) (by omega) ?_
        rw [← eE]
        refine GO _ _ ?_ ?_
        · unfold tS
          rw [if_neg (show ¬ n ≤ p by omega), hl, if_pos rfl]
        · unfold tV
          rw [hl, if_pos rfl]
      | false =>
        rw [if_pos (show bi false = (0 : Int32) from rfl), t_isD (by omega), bd_eq]
        cases hd : isD (t p) with
        | true =>
          have eE : tE t n p = run t n isD p := tE_D hpn hl hd
          rw [if_neg (show ¬ bi true = (0 : Int32) by decide), show (0 : Int64) = i64 0 from rfl]
          refine cu_159 hT hτ5 (by omega) (n - p) nf p 0 rfl (by omega) (Nat.le_refl _) (by omega) ?_
          rw [← eE]
          refine GO _ _ ?_ ?_
          · unfold tS
            rw [if_neg (show ¬ n ≤ p by omega), hl, if_neg (show ¬ (false = true) by decide), hd, if_pos rfl]
          · unfold tV
            rw [hl, if_neg (show ¬ (false = true) by decide), hd, if_pos rfl]
            rfl
        | false =>
          have eE : tE t n p = p + 1 := by
            unfold tE
            rw [if_neg (by omega), hl, if_neg (show ¬ (false = true) by decide), hd, if_neg (show ¬ (false = true) by decide)]
          have hg := t_isG (τ := sA τ1 5 j (i32 (p : Int))) (z := (t p).toNat) (by omega)
          rw [Int.toNat_of_nonneg (show 0 ≤ t p by omega)] at hg
          rw [if_pos (show bi false = (0 : Int32) from rfl), hg, bd_eq, i32_long ⟨by omega, by omega⟩]
          have ev : t p = tV t n p := by
            unfold tV
            rw [hl, if_neg (show ¬ (false = true) by decide), hd, if_neg (show ¬ (false = true) by decide)]
          have es : tS t n p = if isG (t p) = true then 3 else 4 := by
            unfold tS
            rw [if_neg (show ¬ n ≤ p by omega), hl, if_neg (show ¬ (false = true) by decide), hd, if_neg (show ¬ (false = true) by decide)]
          unfold T_cutAll_b265
          rw [show (4 : Int32) = i32 ((4 : Nat) : Int) from rfl, show (3 : Int32) = i32 ((3 : Nat) : Int) from rfl, show (1 : Int32) = i32 1 from rfl, i32_add, show (j : Int) + 1 = ((j + 1 : Nat) : Int) by omega]
          rw [eE] at GO
          cases hgg : isG (t p) with
          | false =>
            rw [hgg, if_neg (show ¬ (false = true) by decide)] at es
            rw [if_pos (show bi false = (0 : Int32) from rfl)]
            exact ok_sA (by omega) (by omega) (by omega) (ok_sB (by omega) (by omega) (by omega) (by rw [Int.toNat_natCast]; exact GO 4 (t p) es.symm ev))
          | true =>
            rw [hgg, if_pos rfl] at es
            rw [if_neg (show ¬ bi true = (0 : Int32) by decide)]
            exact ok_sA (by omega) (by omega) (by omega) (ok_sB (by omega) (by omega) (by omega) (by rw [Int.toNat_natCast]; exact GO 3 (t p) es.symm ev))
/-- the text cut -/
theorem t_cutAll (hnf : 2000 ≤ nf) (hT : TO t n) (h2 : tI τ 2 = i32 (n : Int)) (ht : ∀ i, i < n → tA τ 1 i = i32 (t i)) (hw : ∀ k, k < 22 → tB τ 9 k = wordsL.getD k 0) : Ok (T_cutAll nf τ) fun τ' => Tkk t n 0 τ' ∧ tI τ' 2 = i32 0 ∧ (∀ f, ¬ f = 2 → ¬ f = 3 → ¬ f = 7 → ¬ f = 8 → tI τ' f = tI τ f) ∧ (∀ j, ¬ j = 4 → ¬ j = 5 → tA τ' j = tA τ j) ∧ ∀ j, ¬ j = 6 → tB τ' j = tB τ j := by
  have hn := hT.1
  unfold T_cutAll
  rw [nm_eq, nm_eq, h2, show (0 : Int32) = i32 ((0 : Nat) : Int) from rfl]
  have hτ : Tape t n (sI (sI τ 3 (i32 (n : Int))) 2 (i32 ((0 : Nat) : Int))) := ⟨(sI_n (by decide)).trans sI_t, ht⟩
  refine ok_w (cu_17 (τ := sI (sI τ 3 (i32 (n : Int))) 2 (i32 ((0 : Nat) : Int))) hnf hT hw (n - 0) nf 0 0 _ rfl (by omega) (Nat.zero_le _) rfl hτ ⟨fun _ => rfl, fun _ _ _ => rfl, fun _ _ => rfl⟩ fun i hi => absurd hi (Nat.not_lt_zero i)) fun τ' h => ?_
  obtain ⟨g1, g2, g3, g4⟩ := h
  exact ⟨g1, (g2 2 (by decide) (by decide)).trans sI_t, fun f a b c d => (g2 f c d).trans ((sI_n a).trans (sI_n b)), g3, g4⟩
end YCC
