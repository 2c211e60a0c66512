/-! LAYER 2: waves: sets of seconds, their ones, both sides -/
set_option maxRecDepth 100000
/-- seconds from which it is green, having begun so much earlier -/
def grS (R G : Nat) (fr : Int) (t : Nat) : Bool := decide (((t : Int) - fr) % (R : Int) < (G : Int))
theorem gr_or {R k : Nat} {fr : Int} (hk : k < R) : bN (grS R k fr) R ||| 2 ^ ((fr + k) % (R : Int)).toNat = bN (grS R (k + 1) fr) R := by
  have q0 : 0 ≤ (fr + k) % (R : Int) := Int.emod_nonneg _ (by omega)
  have q1 : (fr + k) % (R : Int) < R := Int.emod_lt_of_pos _ (by omega)
  rw [← bN_one (show ((fr + k) % (R : Int)).toNat < R by omega), bN_or]
  refine bN_e R fun j hj => ?_
  have key : j = ((fr + k) % (R : Int)).toNat ↔ ((j : Int) - fr) % (R : Int) = k := by
    constructor
    · intro e
      have e2 : (j : Int) = (fr + k) % (R : Int) := by omega
      rw [e2, Int.emod_sub_emod, show fr + (k : Int) - fr = k by omega]
      exact Int.emod_eq_of_lt (by omega) (by omega)
    · intro e
      have e2 : (fr + k) % (R : Int) = j := by
        rw [← e, Int.add_emod_emod, show fr + ((j : Int) - fr) = j by omega]
        exact Int.emod_eq_of_lt (by omega) (by omega)
      omega
  unfold grS
  have p0 : 0 ≤ ((j : Int) - fr) % (R : Int) := Int.emod_nonneg _ (by omega)
  by_cases q : j = ((fr + k) % (R : Int)).toNat
  · have := key.mp q
    rw [decide_eq_true q, Bool.or_true, decide_eq_true (by omega)]
  · have : ¬ ((j : Int) - fr) % (R : Int) = k := fun e => q (key.mpr e)
    rw [decide_eq_false q, Bool.or_false]
    exact decide_eq_decide.mpr (by omega)
theorem gr_up {f : Nat → Bool} {R k : Nat} (hk : k < R) : bN (fun j => decide (j < k) && f j) R ||| (if f k = true then 2 ^ k else 0) = bN (fun j => decide (j < k + 1) && f j) R := by
  by_cases q : f k = true
  · rw [if_pos q, ← bN_one hk, bN_or]
    refine bN_e R fun j hj => ?_
    by_cases e : j = k
    · rw [e, q, decide_eq_true rfl, decide_eq_true (show k < k + 1 by omega), Bool.or_true]; rfl
    · rw [decide_eq_false e, Bool.or_false]
      congr 1
      exact decide_eq_decide.mpr (by omega)
  · rw [if_neg q, Nat.or_zero]
    refine bN_e R fun j hj => ?_
    by_cases e : j = k
    · rw [e, Bool.eq_false_iff.mpr q, Bool.and_false, Bool.and_false]
    · congr 1
      exact decide_eq_decide.mpr (by omega)
section WU
variable {W : Nat → Int} {s : CS} {τ : TS} {nf : Nat}
theorem t_turnedL {R G : Nat} {fr : Int} (hR : 1 ≤ R ∧ R ≤ 60) (hG : G ≤ R) (hf : -1000 ≤ fr ∧ fr ≤ 1000) : ∀ (d n k : Nat), k + d = G → d < n → T_turned_b5 nf τ n (i32 fr) (i32 (G : Int)) (i32 (R : Int)) (i64 ((bN (grS R k fr) R : Nat) : Int)) (i32 (k : Int)) = some (i64 ((bN (grS R G fr) R : Nat) : Int)) := by
  intro d
  induction d with
  | zero =>
    intro n k h1 h2
    obtain ⟨n, rfl⟩ : ∃ q, n = q + 1 := ⟨n - 1, by omega⟩
    rw [show T_turned_b5 nf τ (n + 1) = T_turned_b5_s nf τ (T_turned_b5 nf τ n) from rfl]
    unfold T_turned_b5_s
    rw [if_pos ((i32_le ⟨by omega, by omega⟩ ⟨by omega, by omega⟩).mpr (by omega)), show k = G by omega]
  | succ d ih =>
    intro n k h1 h2
    obtain ⟨n, rfl⟩ : ∃ q, n = q + 1 := ⟨n - 1, by omega⟩
    have hb := tmod_b (a := fr + k) (b := (R : Int)) (by omega)
    have q0 : 0 ≤ (fr + k) % (R : Int) := Int.emod_nonneg _ (by omega)
    have q1 : (fr + k) % (R : Int) < R := Int.emod_lt_of_pos _ (by omega)
    have e1 : rem32 (rem32 (i32 fr + i32 (k : Int)) (i32 (R : Int)) + i32 (R : Int)) (i32 (R : Int)) = i32 ((((fr + k) % (R : Int)).toNat : Nat) : Int) := by
      rw [i32_add, i32_tmod ⟨by omega, by omega⟩ ⟨by omega, by omega⟩ (by omega), i32_add, i32_rem ⟨by omega, by omega⟩ ⟨by omega, by omega⟩ (by omega) (by omega), hb.2.2, Int.toNat_of_nonneg q0]
    rw [show T_turned_b5 nf τ (n + 1) = T_turned_b5_s nf τ (T_turned_b5 nf τ n) from rfl]
    unfold T_turned_b5_s
    rw [if_neg (fun z => by have := (i32_le (a := (G : Int)) (b := (k : Int)) ⟨by omega, by omega⟩ ⟨by omega, by omega⟩).mp z; omega), d32_c (by omega) (by omega), d32_c (by omega) (by omega), nm_eq, e1, shl64_1 _ (by omega), i64_or, gr_or (by omega), show (1 : Int32) = i32 1 from rfl, i32_add]
    exact ih n (k + 1) (by omega) (by omega)
theorem t_turned {R G : Nat} {fr : Int} (hn : 100 ≤ nf) (hR : 1 ≤ R ∧ R ≤ 60) (hG : G ≤ R) (hf : -1000 ≤ fr ∧ fr ≤ 1000) : T_turned nf τ (i32 fr) (i32 (G : Int)) (i32 (R : Int)) = some (i64 ((bN (grS R G fr) R : Nat) : Int)) := by
  have h0 : bN (grS R 0 fr) R = 0 := (bN_e R fun j _ => decide_eq_false (by
    have : 0 ≤ ((j : Int) - fr) % (R : Int) := Int.emod_nonneg _ (by omega)
    omega)).trans (bN_z R)
  have L := t_turnedL (nf := nf) (τ := τ) hR hG hf G nf 0 (by omega) (by omega)
  rw [h0] at L
  exact L
theorem c_greenL {c l : Nat} (hl : Rl s W c l) (h1 : 0 < W (10 + 4 * c)) (h2 : W (10 + 4 * c) ≤ 4) {R G : Nat} {b la : Int} (eR : W (11 + 4 * c) = R) (eG : W (11 + 4 * c) - W (13 + 4 * c) = G) (hR : 1 ≤ R ∧ R ≤ 60) (hG : G ≤ R) (hb : -1000 ≤ b ∧ b ≤ 1000) (hla : -1000 ≤ la ∧ la ≤ 1000) : ∀ (d n k : Nat), k + d = R → d < n → FX0_greenFrom_b5 nf s n l (i32 b) (i32 la) (i64 ((bN (fun j => decide (j < k) && grS R G (b - la) j) R : Nat) : Int)) (i32 (k : Int)) = some (i64 ((bN (grS R G (b - la)) R : Nat) : Int)) := by
  have hx := lf_cx hl h1 h2
  intro d
  induction d with
  | zero =>
    intro n k g1 g2
    obtain ⟨n, rfl⟩ : ∃ q, n = q + 1 := ⟨n - 1, by omega⟩
    rw [show FX0_greenFrom_b5 nf s (n + 1) = FX0_greenFrom_b5_s nf s (FX0_greenFrom_b5 nf s n) from rfl]
    unfold FX0_greenFrom_b5_s
    rw [hx.1, eR, if_pos ((i32_le ⟨by omega, by omega⟩ ⟨by omega, by omega⟩).mpr (by omega))]
    have e : bN (fun j => decide (j < k) && grS R G (b - la) j) R = bN (grS R G (b - la)) R := bN_e R fun j hj => by rw [decide_eq_true (show j < k by omega), Bool.true_and]
    rw [e]
  | succ d ih =>
    intro n k g1 g2
    obtain ⟨n, rfl⟩ : ∃ q, n = q + 1 := ⟨n - 1, by omega⟩
    have L := ih n (k + 1) (by omega) (by omega)
    have hbt := tmod_b (a := (k : Int) - (b - la)) (b := (R : Int)) (by omega)
    have q0 : 0 ≤ ((k : Int) - (b - la)) % (R : Int) := Int.emod_nonneg _ (by omega)
    have q1 : ((k : Int) - (b - la)) % (R : Int) < R := Int.emod_lt_of_pos _ (by omega)
    have e1 : rem32 ((i32 (k : Int) + i32 la) - i32 b) (i32 (R : Int)) = i32 (((k : Int) - (b - la)).tmod (R : Int)) := by
      rw [i32_add, i32_sub, show (k : Int) + la - b = (k : Int) - (b - la) by omega, i32_tmod ⟨by omega, by omega⟩ ⟨by omega, by omega⟩ (by omega)]
    have X : FX0_greenFrom_b44 nf s (FX0_greenFrom_b5 nf s n) l (i32 b) (i32 la) (i64 ((bN (fun j => decide (j < k) && grS R G (b - la) j) R : Nat) : Int)) (i32 (k : Int)) (i32 (((k : Int) - (b - la)) % (R : Int))) = some (i64 ((bN (grS R G (b - la)) R : Nat) : Int)) := by
      have hu := gr_up (f := grS R G (b - la)) (R := R) (k := k) (by omega)
      unfold FX0_greenFrom_b44
      rw [hx.1, hx.2.2, i32_sub, eG, show (1 : Int32) = i32 1 from rfl, i32_add]
      by_cases q : (G : Int) ≤ ((k : Int) - (b - la)) % (R : Int)
      · rw [if_pos ((i32_le ⟨by omega, by omega⟩ ⟨by omega, by omega⟩).mpr q)]
        rw [if_neg (show ¬ grS R G (b - la) k = true by unfold grS; rw [decide_eq_false (show ¬ ((k : Int) - (b - la)) % (R : Int) < G by omega)]; decide), Nat.or_zero] at hu
        rw [hu]
        exact L
      · rw [if_neg (fun z => q ((i32_le ⟨by omega, by omega⟩ ⟨by omega, by omega⟩).mp z))]
        rw [if_pos (show grS R G (b - la) k = true from decide_eq_true (show ((k : Int) - (b - la)) % (R : Int) < G by omega))] at hu
        rw [nm_eq, shl64_1 _ (by omega), i64_or, hu]
        exact L
    rw [show FX0_greenFrom_b5 nf s (n + 1) = FX0_greenFrom_b5_s nf s (FX0_greenFrom_b5 nf s n) from rfl]
    unfold FX0_greenFrom_b5_s
    rw [hx.1, eR, if_neg (fun z => by have := (i32_le (a := (R : Int)) (b := (k : Int)) ⟨by omega, by omega⟩ ⟨by omega, by omega⟩).mp z; omega), hx.1, eR, d32_c (by omega) (by omega), nm_eq, e1, show (0 : Int32) = i32 0 from rfl]
    by_cases q : 0 ≤ ((k : Int) - (b - la)).tmod (R : Int)
    · have e2 : ((k : Int) - (b - la)).tmod (R : Int) = ((k : Int) - (b - la)) % (R : Int) := by
        rw [← hbt.2.2, Int.add_emod_right]
        exact (Int.emod_eq_of_lt q hbt.2.1).symm
      rw [if_pos ((i32_le ⟨by omega, by omega⟩ ⟨by omega, by omega⟩).mpr q), e2]
      exact X
    · have e2 : ((k : Int) - (b - la)).tmod (R : Int) + R = ((k : Int) - (b - la)) % (R : Int) := by
        rw [← hbt.2.2]
        exact (Int.emod_eq_of_lt (by omega) (by omega)).symm
      rw [if_neg (fun z => q ((i32_le ⟨by omega, by omega⟩ ⟨by omega, by omega⟩).mp z)), hx.1, eR, i32_add, e2]
      exact X
theorem c_greenFrom {c l : Nat} (hn : 100 ≤ nf) (hl : Rl s W c l) (h1 : 0 < W (10 + 4 * c)) (h2 : W (10 + 4 * c) ≤ 4) {R G : Nat} {b la : Int} (eR : W (11 + 4 * c) = R) (eG : W (11 + 4 * c) - W (13 + 4 * c) = G) (hR : 1 ≤ R ∧ R ≤ 60) (hG : G ≤ R) (hb : -1000 ≤ b ∧ b ≤ 1000) (hla : -1000 ≤ la ∧ la ≤ 1000) : FX0_greenFrom nf s l (i32 b) (i32 la) = some (i64 ((bN (grS R G (b - la)) R : Nat) : Int)) := by
  have L := c_greenL (nf := nf) hl h1 h2 eR eG hR hG hb hla R nf 0 (by omega) (by omega)
  have e0 : bN (fun j => decide (j < 0) && grS R G (b - la) j) R = 0 := (bN_e R fun j _ => by rw [decide_eq_false (Nat.not_lt_zero j)]; rfl).trans (bN_z R)
  rw [e0] at L
  exact L
theorem t_onesL {a : Nat} (ha : a < 2 ^ 60) : ∀ (d n k : Nat) (acc : Int), k + d = 60 → d < n → T_ones_b4 nf τ n (i64 ((a : Nat) : Int)) (i32 acc) (i32 (k : Int)) = some (i32 (acc + ((onL d (a / 2 ^ k) : Nat) : Int))) := by
  intro d
  induction d with
  | zero =>
    intro n k acc h1 h2
    obtain ⟨n, rfl⟩ : ∃ q, n = q + 1 := ⟨n - 1, by omega⟩
    rw [show T_ones_b4 nf τ (n + 1) = T_ones_b4_s nf τ (T_ones_b4 nf τ n) from rfl]
    unfold T_ones_b4_s
    rw [show (60 : Int32) = i32 60 from rfl, if_pos ((i32_le ⟨by omega, by omega⟩ ⟨by omega, by omega⟩).mpr (by omega)), show onL 0 (a / 2 ^ k) = 0 from rfl]
    congr 2
    omega
  | succ d ih =>
    intro n k acc h1 h2
    obtain ⟨n, rfl⟩ : ∃ q, n = q + 1 := ⟨n - 1, by omega⟩
    have e1 : ((shr64 (i64 ((a : Nat) : Int)) (i32 (k : Int))) &&& 1).toInt32 = i32 ((a / 2 ^ k % 2 : Nat) : Int) := by
      rw [shr64_n (Nat.lt_trans ha (by decide)) (by omega), show (1 : Int64) = i64 ((1 : Nat) : Int) from rfl, i64_and, i64_cut, Nat.and_one_is_mod, Nat.shiftRight_eq_div_pow]
    have e2 : onL (d + 1) (a / 2 ^ k) = a / 2 ^ k % 2 + onL d (a / 2 ^ (k + 1)) := by
      show a / 2 ^ k % 2 + onL d (a / 2 ^ k / 2) = _
      rw [Nat.div_div_eq_div_mul, Nat.pow_succ]
    rw [show T_ones_b4 nf τ (n + 1) = T_ones_b4_s nf τ (T_ones_b4 nf τ n) from rfl]
    unfold T_ones_b4_s
    rw [show (60 : Int32) = i32 60 from rfl, if_neg (fun z => by have := (i32_le (a := 60) (b := (k : Int)) ⟨by omega, by omega⟩ ⟨by omega, by omega⟩).mp z; omega), nm_eq, e1, i32_add, show (1 : Int32) = i32 1 from rfl, i32_add, show (k : Int) + 1 = ((k + 1 : Nat) : Int) from rfl, ih n (k + 1) _ (by omega) (by omega), e2]
    congr 2
    omega
theorem t_ones {a : Nat} (hn : 100 ≤ nf) (ha : a < 2 ^ 60) : T_ones nf τ (i64 ((a : Nat) : Int)) = some (i32 ((onL 60 a : Nat) : Int)) := by
  have L := t_onesL (nf := nf) (τ := τ) ha 60 nf 0 0 (by omega) (by omega)
  rw [Nat.pow_zero, Nat.div_one, Int.zero_add] at L
  exact L
end WU
