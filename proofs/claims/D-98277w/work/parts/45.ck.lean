/-! LAYER 2: the component's rows as rules of runs -/
set_option maxRecDepth 100000
section CK
variable {α : Type} {s : CS} {a c n : Nat} {w : Bool} {cs : List Nat} {f : Nat} {Q : α → Prop}
theorem ok_gd (h : s.1 a = some (w, c, n)) (k : cs.contains c = true) {o : Option α} (q : Ok o Q) : Ok (gd (isK s a cs) o) Q := ok_g (isK_o h k) q
theorem ok_gI (h : s.1 a = some (w, c, n)) (k : cs.contains c = true) {K : Int32 → Option α} (q : Ok (K (cI s f a)) Q) : Ok (gI s a cs f K) Q := by rw [gI_t (isK_o h k)]; exact q
theorem ok_gJ (h : s.1 a = some (w, c, n)) (k : cs.contains c = true) {K : Int64 → Option α} (q : Ok (K (cJ s f a)) Q) : Ok (gJ s a cs f K) Q := by unfold gJ; rw [if_pos (isK_o h k)]; exact q
theorem ok_gR (h : s.1 a = some (w, c, n)) (k : cs.contains c = true) {K : Option Nat → Option α} (q : Ok (K (cR s f a)) Q) : Ok (gR s a cs f K) Q := by rw [gR_t (isK_o h k)]; exact q
theorem ok_gRs (h : s.1 a = some (w, c, n)) (k : cs.contains c = true) {p : Nat} (e : cR s f a = some p) {K : Option Nat → Option α} (q : Ok (K (some p)) Q) : Ok (gR s a cs f K) Q := by rw [gR_t (isK_o h k), e]; exact q
theorem ok_pI (h : s.1 a = some (true, c, n)) (k : cs.contains c = true) {v : Int32} {K : CS → Option α} (q : Ok (K (uI s f a v)) Q) : Ok (pI s a cs f v K) Q := by unfold pI; rw [if_pos (isW_o h k)]; exact q
theorem ok_pJ (h : s.1 a = some (true, c, n)) (k : cs.contains c = true) {v : Int64} {K : CS → Option α} (q : Ok (K (uJ s f a v)) Q) : Ok (pJ s a cs f v K) Q := by unfold pJ; rw [if_pos (isW_o h k)]; exact q
theorem ok_pR (h : s.1 a = some (true, c, n)) (k : cs.contains c = true) {v : Option Nat} {K : CS → Option α} (q : Ok (K (uR s f a v)) Q) : Ok (pR s a cs f v K) Q := by unfold pR; rw [if_pos (isW_o h k)]; exact q
theorem ok_nn {p : Nat} {K : Nat → Option α} (q : Ok (K p) Q) : Ok (nn (some p) K) Q := q
theorem ok_lI {z : Int} (h : s.1 a = some (w, c, n)) (h0 : 0 ≤ z) (h1 : z < n) (hn : n ≤ 2147483648) {K : Int32 → Option α} (q : Ok (K (cA s a z.toNat)) Q) : Ok (lI s a c (i32 z) K) Q := by rw [lI_i h h0 h1 hn]; exact q
theorem ok_lJ {z : Int} (h : s.1 a = some (w, c, n)) (h0 : 0 ≤ z) (h1 : z < n) (hn : n ≤ 2147483648) {K : Int64 → Option α} (q : Ok (K (cB s a z.toNat)) Q) : Ok (lJ s a c (i32 z) K) Q := by rw [lJ_i h h0 h1 hn]; exact q
theorem ok_lR {z : Int} (h : s.1 a = some (w, c, n)) (h0 : 0 ≤ z) (h1 : z < n) (hn : n ≤ 2147483648) {K : Option Nat → Option α} (q : Ok (K (cQ s a z.toNat)) Q) : Ok (lR s a c (i32 z) K) Q := by rw [lR_i h h0 h1 hn]; exact q
theorem ok_tI {z : Int} (h : s.1 a = some (true, c, n)) (h0 : 0 ≤ z) (h1 : z < n) (hn : n ≤ 2147483648) {v : Int32} {K : CS → Option α} (q : Ok (K (uA s a z.toNat v)) Q) : Ok (tI_ s a c (i32 z) v K) Q := by rw [tI_i h h0 h1 hn]; exact q
theorem ok_tJ {z : Int} (h : s.1 a = some (true, c, n)) (h0 : 0 ≤ z) (h1 : z < n) (hn : n ≤ 2147483648) {v : Int64} {K : CS → Option α} (q : Ok (K (uB s a z.toNat v)) Q) : Ok (tJ_ s a c (i32 z) v K) Q := by rw [tJ_i h h0 h1 hn]; exact q
theorem ok_tR {z : Int} (h : s.1 a = some (true, c, n)) (h0 : 0 ≤ z) (h1 : z < n) (hn : n ≤ 2147483648) {v : Option Nat} {K : CS → Option α} (q : Ok (K (uQ s a z.toNat v)) Q) : Ok (tR_ s a c (i32 z) v K) Q := by rw [tR_i h h0 h1 hn]; exact q
end CK
theorem ok_ld {α β : Type} {f : Nat → α} {n : Nat} {z : Int} {K : α → Option β} {Q : β → Prop} (h0 : 0 ≤ z) (h : z < n) (hn : n ≤ 2147483648) (q : Ok (K (f z.toNat)) Q) : Ok (ld f n (i32 z) K) Q := by rw [ld_i h0 h hn]; exact q
theorem ok_sA {β : Type} {τ : TS} {k n : Nat} {z : Int} {v : Int32} {K : TS → Option β} {Q : β → Prop} (h0 : 0 ≤ z) (h : z < n) (hn : n ≤ 2147483648) (q : Ok (K (sA τ k z.toNat v)) Q) : Ok (stA τ k n (i32 z) v K) Q := by rw [stA_i h0 h hn]; exact q
theorem ok_sB {β : Type} {τ : TS} {k n : Nat} {z : Int} {v : Int64} {K : TS → Option β} {Q : β → Prop} (h0 : 0 ≤ z) (h : z < n) (hn : n ≤ 2147483648) (q : Ok (K (sB τ k z.toNat v)) Q) : Ok (stB τ k n (i32 z) v K) Q := by rw [stB_i h0 h hn]; exact q
theorem ok_d32 {α : Type} {z : Int} {k : Option α} {Q : α → Prop} (h : 0 < z) (h2 : z < 2147483648) (q : Ok k Q) : Ok (d32 (i32 z) k) Q := by rw [d32_c h h2]; exact q
/-- reading the component's state behind a write -/
theorem crd : (∀ (s : CS) (f a g b : Nat) (v : Int32), cI (uI s f a v) g b = if g = f ∧ b = a then v else cI s g b) ∧ (∀ (s : CS) (f a : Nat) (v : Int32), cA (uI s f a v) = cA s) ∧ (∀ (s : CS) (f a : Nat) (v : Int32), cR (uI s f a v) = cR s) ∧ (∀ (s : CS) (f a : Nat) (v : Int32), cQ (uI s f a v) = cQ s) ∧ (∀ (s : CS) (f a : Nat) (v : Int32), cB (uI s f a v) = cB s) ∧ (∀ (s : CS) (f a : Nat) (v : Int32), cJ (uI s f a v) = cJ s) ∧ (∀ (s : CS) (a i b : Nat) (v : Int32), cA (uA s a i v) b = if b = a then upd (cA s a) i v else cA s b) ∧ (∀ (s : CS) (a i : Nat) (v : Int32), cI (uA s a i v) = cI s) ∧ (∀ (s : CS) (a i : Nat) (v : Int32), cR (uA s a i v) = cR s) ∧ (∀ (s : CS) (a i : Nat) (v : Int32), cQ (uA s a i v) = cQ s) ∧ (∀ (s : CS) (a i : Nat) (v : Int32), cB (uA s a i v) = cB s) ∧ (∀ (s : CS) (a i : Nat) (v : Int32), cJ (uA s a i v) = cJ s) ∧ (∀ (s : CS) (f a g b : Nat) (v : Int64), cJ (uJ s f a v) g b = if g = f ∧ b = a then v else cJ s g b) ∧ (∀ (s : CS) (f a : Nat) (v : Int64), cI (uJ s f a v) = cI s) ∧ (∀ (s : CS) (f a : Nat) (v : Int64), cA (uJ s f a v) = cA s) ∧ (∀ (s : CS) (f a : Nat) (v : Int64), cB (uJ s f a v) = cB s) ∧ (∀ (s : CS) (a i b : Nat) (v : Int64), cB (uB s a i v) b = if b = a then vp_updL (cB s a) i v else cB s b) ∧ (∀ (s : CS) (a i : Nat) (v : Int64), cI (uB s a i v) = cI s) ∧ (∀ (s : CS) (a i : Nat) (v : Int64), cA (uB s a i v) = cA s) ∧ (∀ (s : CS) (a i : Nat) (v : Int64), cJ (uB s a i v) = cJ s) := ⟨fun _ _ _ _ _ _ => rfl, fun _ _ _ _ => rfl, fun _ _ _ _ => rfl, fun _ _ _ _ => rfl, fun _ _ _ _ => rfl, fun _ _ _ _ => rfl, fun _ _ _ _ _ => rfl, fun _ _ _ _ => rfl, fun _ _ _ _ => rfl, fun _ _ _ _ => rfl, fun _ _ _ _ => rfl, fun _ _ _ _ => rfl, fun _ _ _ _ _ _ => rfl, fun _ _ _ _ => rfl, fun _ _ _ _ => rfl, fun _ _ _ _ => rfl, fun _ _ _ _ _ => rfl, fun _ _ _ _ => rfl, fun _ _ _ _ => rfl, fun _ _ _ _ => rfl⟩
/-- sums of long numbers -/
theorem i32_long {z : Int} (h : ok32 z) : (i32 z).toInt64 = i64 z := by
  apply Int64.toInt_inj.mp
  rw [Int32.toInt_toInt64, i32_toInt h, i64_toInt ⟨by have := h.1; omega, by have := h.2; omega⟩]
theorem i64_int {z : Int} (h : ok32 z) : (i64 z).toInt32 = i32 z := by
  apply Int32.toInt_inj.mp
  rw [Int64.toInt_toInt32, i64_toInt ⟨by have := h.1; omega, by have := h.2; omega⟩, i32_toInt h]
  exact Int.bmod_eq_of_le (by have := h.1; omega) (by have := h.2; omega)
theorem i64_div {a b : Int} (ha : ok64 a) (hb : ok64 b) (h0 : 0 ≤ a) (hb0 : 0 < b) : i64 a / i64 b = i64 (a / b) := by
  apply Int64.toInt_inj.mp
  have hq : ok64 (a / b) := by
    have h1 : 0 ≤ a / b := Int.ediv_nonneg h0 (by omega)
    have h2 : a / b ≤ a := Int.ediv_le_self b h0
    exact ⟨by have := ha.1; omega, by have := ha.2; omega⟩
  rw [Int64.toInt_div, i64_toInt ha, i64_toInt hb, i64_toInt hq, Int.tdiv_eq_ediv_of_nonneg h0]
  exact Int.bmod_eq_of_le (by have := hq.1; omega) (by have := hq.2; omega)
theorem i64_rem {a b : Int} (ha : ok64 a) (hb : ok64 b) (h0 : 0 ≤ a) (hb0 : 0 < b) : rem64 (i64 a) (i64 b) = i64 (a % b) := by
  unfold rem64
  rw [i64_div ha hb h0 hb0, i64_mul, i64_sub]
  congr 1
  rw [Int.emod_def, Int.mul_comm]
theorem d64_n {α : Type} {z : Int} {k : Option α} (h : ok64 z) (h0 : ¬ z = 0) : d64 (i64 z) k = k := by
  unfold d64
  rw [if_neg]
  intro e
  exact h0 ((i64_eq h ⟨by omega, by omega⟩).mp e)
theorem mx_c {a b : Int} (h1 : -2147483648 ≤ a) (h2 : a < 2147483648) (h3 : -2147483648 ≤ b) (h4 : b < 2147483648) : mx32 (i32 a) (i32 b) = i32 (if a < b then b else a) := by
  unfold mx32
  by_cases h : a < b
  · rw [if_pos h, if_pos ((i32_lt ⟨h1, h2⟩ ⟨h3, h4⟩).mpr h)]
  · rw [if_neg h, if_neg (fun z => h ((i32_lt ⟨h1, h2⟩ ⟨h3, h4⟩).mp z))]
theorem mn_c {a b : Int} (h1 : -2147483648 ≤ a) (h2 : a < 2147483648) (h3 : -2147483648 ≤ b) (h4 : b < 2147483648) : mn32 (i32 a) (i32 b) = i32 (if b < a then b else a) := by
  unfold mn32
  by_cases h : b < a
  · rw [if_pos h, if_pos ((i32_lt ⟨h3, h4⟩ ⟨h1, h2⟩).mpr h)]
  · rw [if_neg h, if_neg (fun z => h ((i32_lt ⟨h3, h4⟩ ⟨h1, h2⟩).mp z))]
