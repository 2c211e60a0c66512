/-! LAYER 2: runs that come to an end; what the rewriting of programs rests on -/
set_option maxRecDepth 100000
theorem lits : ((0 : Int32) = i32 0) ∧ ((1 : Int32) = i32 1) ∧ ((2 : Int32) = i32 2) ∧ ((3 : Int32) = i32 3) ∧ ((4 : Int32) = i32 4) ∧ ((5 : Int32) = i32 5) ∧ ((6 : Int32) = i32 6) ∧ ((7 : Int32) = i32 7) ∧ ((8 : Int32) = i32 8) ∧ ((9 : Int32) = i32 9) ∧ ((10 : Int32) = i32 10) ∧ ((11 : Int32) = i32 11) ∧ ((12 : Int32) = i32 12) ∧ ((13 : Int32) = i32 13) ∧ ((14 : Int32) = i32 14) ∧ ((15 : Int32) = i32 15) ∧ ((16 : Int32) = i32 16) ∧ ((17 : Int32) = i32 17) ∧ ((18 : Int32) = i32 18) ∧ ((19 : Int32) = i32 19) ∧ ((20 : Int32) = i32 20) ∧ ((21 : Int32) = i32 21) ∧ ((22 : Int32) = i32 22) ∧ ((23 : Int32) = i32 23) ∧ ((24 : Int32) = i32 24) ∧ ((25 : Int32) = i32 25) ∧ ((26 : Int32) = i32 26) ∧ ((27 : Int32) = i32 27) ∧ ((28 : Int32) = i32 28) ∧ ((29 : Int32) = i32 29) ∧ ((30 : Int32) = i32 30) ∧ ((31 : Int32) = i32 31) ∧ ((48 : Int32) = i32 48) ∧ ((50 : Int32) = i32 50) ∧ ((54 : Int32) = i32 54) ∧ ((56 : Int32) = i32 56) ∧ ((58 : Int32) = i32 58) ∧ ((59 : Int32) = i32 59) ∧ ((60 : Int32) = i32 60) ∧ ((61 : Int32) = i32 61) ∧ ((90 : Int32) = i32 90) ∧ ((92 : Int32) = i32 92) ∧ ((96 : Int32) = i32 96) ∧ ((97 : Int32) = i32 97) ∧ ((100 : Int32) = i32 100) ∧ ((120 : Int32) = i32 120) ∧ ((122 : Int32) = i32 122) ∧ ((126 : Int32) = i32 126) ∧ ((127 : Int32) = i32 127) ∧ ((226 : Int32) = i32 226) ∧ ((240 : Int32) = i32 240) ∧ ((280 : Int32) = i32 280) ∧ ((340 : Int32) = i32 340) ∧ ((341 : Int32) = i32 341) ∧ ((342 : Int32) = i32 342) ∧ ((347 : Int32) = i32 347) ∧ ((348 : Int32) = i32 348) ∧ ((349 : Int32) = i32 349) ∧ ((350 : Int32) = i32 350) ∧ ((400 : Int32) = i32 400) ∧ ((566 : Int32) = i32 566) ∧ ((569 : Int32) = i32 569) ∧ ((573 : Int32) = i32 573) ∧ ((620 : Int32) = i32 620) ∧ ((793 : Int32) = i32 793) ∧ ((999 : Int32) = i32 999) ∧ ((1000 : Int32) = i32 1000) ∧ ((1002 : Int32) = i32 1002) ∧ ((1100 : Int32) = i32 1100) ∧ ((1171 : Int32) = i32 1171) ∧ ((1200 : Int32) = i32 1200) ∧ ((2200 : Int32) = i32 2200) ∧ ((2520 : Int32) = i32 2520) ∧ ((9999 : Int32) = i32 9999) ∧ ((64800 : Int32) = i32 64800) ∧ ((65536 : Int32) = i32 65536) ∧ ((100000 : Int32) = i32 100000) ∧ ((156000 : Int32) = i32 156000) ∧ ((1000000 : Int32) = i32 1000000) ∧ ((100000000 : Int32) = i32 100000000) ∧ ((2000000000 : Int32) = i32 2000000000) ∧ ((2147483647 : Int32) = i32 2147483647) := ⟨rfl, rfl, rfl, rfl, rfl, rfl, rfl, rfl, rfl, rfl, rfl, rfl, rfl, rfl, rfl, rfl, rfl, rfl, rfl, rfl, rfl, rfl, rfl, rfl, rfl, rfl, rfl, rfl, rfl, rfl, rfl, rfl, rfl, rfl, rfl, rfl, rfl, rfl, rfl, rfl, rfl, rfl, rfl, rfl, rfl, rfl, rfl, rfl, rfl, rfl, rfl, rfl, rfl, rfl, rfl, rfl, rfl, rfl, rfl, rfl, rfl, rfl, rfl, rfl, rfl, rfl, rfl, rfl, rfl, rfl, rfl, rfl, rfl, rfl, rfl, rfl, rfl, rfl, rfl, rfl, rfl, rfl⟩
/-- sums and literals to whole numbers -/
theorem nrm : (∀ a b : Int, i32 a + i32 b = i32 (a + b)) ∧ (∀ a b : Int, i32 a - i32 b = i32 (a - b)) ∧ (∀ a b : Int, i32 a * i32 b = i32 (a * b)) ∧ (∀ a : Int, -i32 a = i32 (-a)) ∧ (∀ n : Nat, Int32.ofNat n = i32 (n : Int)) ∧ (((0 : Int32) = i32 0) ∧ ((1 : Int32) = i32 1) ∧ ((2 : Int32) = i32 2) ∧ ((3 : Int32) = i32 3) ∧ ((4 : Int32) = i32 4) ∧ ((5 : Int32) = i32 5) ∧ ((6 : Int32) = i32 6) ∧ ((7 : Int32) = i32 7) ∧ ((8 : Int32) = i32 8) ∧ ((9 : Int32) = i32 9) ∧ ((10 : Int32) = i32 10) ∧ ((11 : Int32) = i32 11) ∧ ((12 : Int32) = i32 12) ∧ ((13 : Int32) = i32 13) ∧ ((14 : Int32) = i32 14) ∧ ((15 : Int32) = i32 15) ∧ ((16 : Int32) = i32 16) ∧ ((17 : Int32) = i32 17) ∧ ((18 : Int32) = i32 18) ∧ ((19 : Int32) = i32 19) ∧ ((20 : Int32) = i32 20) ∧ ((21 : Int32) = i32 21) ∧ ((22 : Int32) = i32 22) ∧ ((23 : Int32) = i32 23) ∧ ((24 : Int32) = i32 24) ∧ ((25 : Int32) = i32 25) ∧ ((26 : Int32) = i32 26) ∧ ((27 : Int32) = i32 27) ∧ ((28 : Int32) = i32 28) ∧ ((29 : Int32) = i32 29) ∧ ((30 : Int32) = i32 30) ∧ ((31 : Int32) = i32 31) ∧ ((48 : Int32) = i32 48) ∧ ((50 : Int32) = i32 50) ∧ ((54 : Int32) = i32 54) ∧ ((56 : Int32) = i32 56) ∧ ((58 : Int32) = i32 58) ∧ ((59 : Int32) = i32 59) ∧ ((60 : Int32) = i32 60) ∧ ((61 : Int32) = i32 61) ∧ ((90 : Int32) = i32 90) ∧ ((92 : Int32) = i32 92) ∧ ((96 : Int32) = i32 96) ∧ ((97 : Int32) = i32 97) ∧ ((100 : Int32) = i32 100) ∧ ((120 : Int32) = i32 120) ∧ ((122 : Int32) = i32 122) ∧ ((126 : Int32) = i32 126) ∧ ((127 : Int32) = i32 127) ∧ ((226 : Int32) = i32 226) ∧ ((240 : Int32) = i32 240) ∧ ((280 : Int32) = i32 280) ∧ ((340 : Int32) = i32 340) ∧ ((341 : Int32) = i32 341) ∧ ((342 : Int32) = i32 342) ∧ ((347 : Int32) = i32 347) ∧ ((348 : Int32) = i32 348) ∧ ((349 : Int32) = i32 349) ∧ ((350 : Int32) = i32 350) ∧ ((400 : Int32) = i32 400) ∧ ((566 : Int32) = i32 566) ∧ ((569 : Int32) = i32 569) ∧ ((573 : Int32) = i32 573) ∧ ((620 : Int32) = i32 620) ∧ ((793 : Int32) = i32 793) ∧ ((999 : Int32) = i32 999) ∧ ((1000 : Int32) = i32 1000) ∧ ((1002 : Int32) = i32 1002) ∧ ((1100 : Int32) = i32 1100) ∧ ((1171 : Int32) = i32 1171) ∧ ((1200 : Int32) = i32 1200) ∧ ((2200 : Int32) = i32 2200) ∧ ((2520 : Int32) = i32 2520) ∧ ((9999 : Int32) = i32 9999) ∧ ((64800 : Int32) = i32 64800) ∧ ((65536 : Int32) = i32 65536) ∧ ((100000 : Int32) = i32 100000) ∧ ((156000 : Int32) = i32 156000) ∧ ((1000000 : Int32) = i32 1000000) ∧ ((100000000 : Int32) = i32 100000000) ∧ ((2000000000 : Int32) = i32 2000000000) ∧ ((2147483647 : Int32) = i32 2147483647)) := ⟨i32_add, i32_sub, i32_mul, i32_neg, i32_nat, lits⟩
theorem nm_eq {α β : Type} (e : α) (f : α → β) : nm e f = f e := rfl
theorem bd_eq {α β : Type} (a : α) (f : α → Option β) : (some a).bind f = f a := rfl
theorem bd2_eq {α β γ : Type} (a : α) (b : β) (K : α → β → Option γ) : bd2 (some (a, b)) K = K a b := rfl
theorem gd_eq {α : Type} (k : Option α) : gd true k = k := rfl
theorem nn_eq {α : Type} (a : Nat) (K : Nat → Option α) : nn (some a) K = K a := rfl
theorem nul_eS {α : Type} (a : Nat) (A : Option α) (K : Nat → Option α) : nul (some a) A K = K a := rfl
theorem nul_eN {α : Type} (A : Option α) (K : Nat → Option α) : nul none A K = A := rfl
theorem isb_bi (p : Bool) : isb (bi p) = true := by cases p <;> rfl
theorem bi_z (p : Bool) : (bi p = i32 0) = (p = false) := by cases p <;> simp [bi] <;> decide
theorem bi_y (p : Bool) : (bi p = i32 1) = (p = true) := by cases p <;> simp [bi] <;> decide
theorem dec_f (P : Prop) [Decidable P] : (decide P = false) = ¬ P := by simp
theorem dec_t (P : Prop) [Decidable P] : (decide P = true) = P := by simp
theorem if_nn {α : Type} (P : Prop) {i : Decidable (¬ P)} {j : Decidable P} (A B : α) : (@ite α (¬ P) i A B) = (@ite α P j B A) := by
  by_cases h : P
  · rw [if_pos h, if_neg (fun z => z h)]
  · rw [if_neg h, if_pos h]
theorem wy_tf : ((wy true = i32 0) = False) ∧ (wy false = i32 0) = True := ⟨eq_false (by decide), eq_true rfl⟩
theorem wps : ((wy true = i32 0) = False) ∧ ((wy false = i32 0) = True) ∧ (∀ (α β : Type) (e : α) (f : α → β), nm e f = f e) ∧ (∀ (α β : Type) (a : α) (f : α → Option β), (some a).bind f = f a) ∧ (∀ (α β γ : Type) (a : α) (b : β) (K : α → β → Option γ), bd2 (some (a, b)) K = K a b) ∧ (∀ (α : Type) (k : Option α), gd true k = k) ∧ (∀ (α : Type) (a : Nat) (K : Nat → Option α), nn (some a) K = K a) ∧ (∀ (α : Type) (a : Nat) (A : Option α) (K : Nat → Option α), nul (some a) A K = K a) ∧ (∀ (α : Type) (A : Option α) (K : Nat → Option α), nul none A K = A) ∧ (∀ p : Bool, isb (bi p) = true) ∧ (∀ p : Bool, (bi p = i32 0) = (p = false)) ∧ (∀ p : Bool, (bi p = i32 1) = (p = true)) := ⟨wy_tf.1, wy_tf.2, fun _ _ => nm_eq, fun _ _ => bd_eq, fun _ _ _ => bd2_eq, fun _ => gd_eq, fun _ => nn_eq, fun _ => nul_eS, fun _ => nul_eN, isb_bi, bi_z, bi_y⟩
/-- comparisons, within bounds -/
theorem le_c {a b : Int} (h1 : -2147483648 ≤ a) (h2 : a < 2147483648) (h3 : -2147483648 ≤ b) (h4 : b < 2147483648) : (i32 a ≤ i32 b) = (a ≤ b) := propext (i32_le ⟨h1, h2⟩ ⟨h3, h4⟩)
theorem lt_c {a b : Int} (h1 : -2147483648 ≤ a) (h2 : a < 2147483648) (h3 : -2147483648 ≤ b) (h4 : b < 2147483648) : (i32 a < i32 b) = (a < b) := propext (i32_lt ⟨h1, h2⟩ ⟨h3, h4⟩)
theorem eq_c {a b : Int} (h1 : -2147483648 ≤ a) (h2 : a < 2147483648) (h3 : -2147483648 ≤ b) (h4 : b < 2147483648) : (i32 a = i32 b) = (a = b) := propext (i32_eq ⟨h1, h2⟩ ⟨h3, h4⟩)
theorem cmps : (∀ a b : Int, -2147483648 ≤ a → a < 2147483648 → -2147483648 ≤ b → b < 2147483648 → (i32 a ≤ i32 b) = (a ≤ b)) ∧ (∀ a b : Int, -2147483648 ≤ a → a < 2147483648 → -2147483648 ≤ b → b < 2147483648 → (i32 a < i32 b) = (a < b)) ∧ (∀ a b : Int, -2147483648 ≤ a → a < 2147483648 → -2147483648 ≤ b → b < 2147483648 → (i32 a = i32 b) = (a = b)) := ⟨fun _ _ => le_c, fun _ _ => lt_c, fun _ _ => eq_c⟩
theorem bi_t2 {P : Prop} {i : Decidable P} (h : P) : some (i32 1) = some (bi (@decide P i)) := by rw [decide_eq_true h]; rfl
theorem bi_f2 {P : Prop} {i : Decidable P} (h : ¬ P) : some (i32 0) = some (bi (@decide P i)) := by rw [decide_eq_false h]; rfl
theorem si {a b : Int} (h : a = b) : some (i32 a) = some (i32 b) := by rw [h]
theorem sip {α : Type} {a b : Int} {t : α} (h : a = b) : some (i32 a, t) = some (i32 b, t) := by rw [h]
/-- a run that ends well -/
def Ok {α : Type} (o : Option α) (Q : α → Prop) : Prop := ∃ z, o = some z ∧ Q z
theorem ok_s {α : Type} {z : α} {Q : α → Prop} (q : Q z) : Ok (some z) Q := ⟨z, rfl, q⟩
theorem ok_e {α : Type} {o : Option α} {z : α} {Q : α → Prop} (h : o = some z) (q : Q z) : Ok o Q := ⟨z, h, q⟩
theorem ok_w {α : Type} {o : Option α} {P Q : α → Prop} (h : Ok o P) (k : ∀ z, P z → Q z) : Ok o Q := by
  obtain ⟨z, h1, h2⟩ := h
  exact ⟨z, h1, k z h2⟩
theorem ok_b {α β : Type} {o : Option α} {K : α → Option β} {P : α → Prop} {Q : β → Prop} (h : Ok o P) (k : ∀ z, P z → Ok (K z) Q) : Ok (o.bind K) Q := by
  obtain ⟨z, h1, h2⟩ := h
  rw [h1]
  exact k z h2
theorem ok_2 {α β γ : Type} {o : Option (α × β)} {K : α → β → Option γ} {P : α × β → Prop} {Q : γ → Prop} (h : Ok o P) (k : ∀ a b, P (a, b) → Ok (K a b) Q) : Ok (bd2 o K) Q := by
  obtain ⟨⟨a, b⟩, h1, h2⟩ := h
  rw [h1]
  exact k a b h2
theorem ok_be {α β : Type} {o : Option α} {K : α → Option β} {z : α} {Q : β → Prop} (h : o = some z) (k : Ok (K z) Q) : Ok (o.bind K) Q := by
  rw [h]
  exact k
theorem ok_2e {α β γ : Type} {o : Option (α × β)} {K : α → β → Option γ} {a : α} {b : β} {Q : γ → Prop} (h : o = some (a, b)) (k : Ok (K a b) Q) : Ok (bd2 o K) Q := by
  rw [h]
  exact k
theorem ok_n {α β : Type} {e : α} {f : α → Option β} {Q : β → Prop} (k : Ok (f e) Q) : Ok (nm e f) Q := k
theorem ok_g {α : Type} {b : Bool} {k : Option α} {Q : α → Prop} (h : b = true) (q : Ok k Q) : Ok (gd b k) Q := by
  rw [h]
  exact q
theorem ok_if {α : Type} {c : Prop} {i : Decidable c} {A B : Option α} {Q : α → Prop} (h1 : c → Ok A Q) (h2 : ¬ c → Ok B Q) : Ok (@ite (Option α) c i A B) Q := by
  by_cases h : c
  · rw [if_pos h]; exact h1 h
  · rw [if_neg h]; exact h2 h
theorem ok_le {α : Type} {a b : Int} {i : Decidable (i32 a ≤ i32 b)} {A B : Option α} {Q : α → Prop} (ha : ok32 a) (hb : ok32 b) (h1 : a ≤ b → Ok A Q) (h2 : b < a → Ok B Q) : Ok (@ite (Option α) (i32 a ≤ i32 b) i A B) Q := ok_if (fun h => h1 ((i32_le ha hb).mp h)) (fun h => h2 (Int.not_le.mp (fun z => h ((i32_le ha hb).mpr z))))
theorem ok_lt {α : Type} {a b : Int} {i : Decidable (i32 a < i32 b)} {A B : Option α} {Q : α → Prop} (ha : ok32 a) (hb : ok32 b) (h1 : a < b → Ok A Q) (h2 : b ≤ a → Ok B Q) : Ok (@ite (Option α) (i32 a < i32 b) i A B) Q := ok_if (fun h => h1 ((i32_lt ha hb).mp h)) (fun h => h2 (Int.not_lt.mp (fun z => h ((i32_lt ha hb).mpr z))))
theorem ok_q {α : Type} {a b : Int} {i : Decidable (i32 a = i32 b)} {A B : Option α} {Q : α → Prop} (ha : ok32 a) (hb : ok32 b) (h1 : a = b → Ok A Q) (h2 : ¬ a = b → Ok B Q) : Ok (@ite (Option α) (i32 a = i32 b) i A B) Q := ok_if (fun h => h1 ((i32_eq ha hb).mp h)) (fun h => h2 (fun z => h ((i32_eq ha hb).mpr z)))
theorem ld_i {α β : Type} {f : Nat → α} {n : Nat} {z : Int} {K : α → Option β} (h0 : 0 ≤ z) (h : z < n) (hn : n ≤ 2147483648) : ld f n (i32 z) K = K (f z.toNat) := by
  obtain ⟨k, rfl⟩ : ∃ k : Nat, z = k := ⟨z.toNat, by omega⟩
  rw [ld_n (by omega) hn]
  rfl
theorem stA_i {β : Type} {τ : TS} {k n : Nat} {z : Int} {v : Int32} {K : TS → Option β} (h0 : 0 ≤ z) (h : z < n) (hn : n ≤ 2147483648) : stA τ k n (i32 z) v K = K (sA τ k z.toNat v) := by
  unfold stA
  rw [if_pos (i32_inb_t h0 h hn), i32_clamp h0 ⟨by omega, by omega⟩]
theorem stB_i {β : Type} {τ : TS} {k n : Nat} {z : Int} {v : Int64} {K : TS → Option β} (h0 : 0 ≤ z) (h : z < n) (hn : n ≤ 2147483648) : stB τ k n (i32 z) v K = K (sB τ k z.toNat v) := by
  unfold stB
  rw [if_pos (i32_inb_t h0 h hn), i32_clamp h0 ⟨by omega, by omega⟩]
theorem d32_n {α : Type} {z : Int} {k : Option α} (h : ok32 z) (h0 : ¬ z = 0) : d32 (i32 z) k = k := by
  unfold d32
  rw [if_neg]
  intro e
  exact h0 ((i32_eq h ⟨by omega, by omega⟩).mp e)
/-- reading the twin's state behind a write -/
theorem tI_sI (τ : TS) (k j : Nat) (v : Int32) : tI (sI τ k v) j = if j = k then v else tI τ j := rfl
theorem tA_sI (τ : TS) (k j : Nat) (v : Int32) : tA (sI τ k v) j = tA τ j := rfl
theorem tL_sI (τ : TS) (k j : Nat) (v : Int32) : tL (sI τ k v) j = tL τ j := rfl
theorem tB_sI (τ : TS) (k j : Nat) (v : Int32) : tB (sI τ k v) j = tB τ j := rfl
theorem tI_sA (τ : TS) (k j i : Nat) (v : Int32) : tI (sA τ k i v) j = tI τ j := rfl
theorem tL_sA (τ : TS) (k j i : Nat) (v : Int32) : tL (sA τ k i v) j = tL τ j := rfl
theorem tB_sA (τ : TS) (k j i : Nat) (v : Int32) : tB (sA τ k i v) j = tB τ j := rfl
theorem tA_sA (τ : TS) (k j i : Nat) (v : Int32) : tA (sA τ k i v) j = if j = k then upd (tA τ k) i v else tA τ j := rfl
theorem tI_sB (τ : TS) (k j i : Nat) (v : Int64) : tI (sB τ k i v) j = tI τ j := rfl
theorem tL_sB (τ : TS) (k j i : Nat) (v : Int64) : tL (sB τ k i v) j = tL τ j := rfl
theorem tA_sB (τ : TS) (k j i : Nat) (v : Int64) : tA (sB τ k i v) j = tA τ j := rfl
theorem tB_sB (τ : TS) (k j i : Nat) (v : Int64) : tB (sB τ k i v) j = if j = k then vp_updL (tB τ k) i v else tB τ j := rfl
theorem tI_sL (τ : TS) (k j : Nat) (v : Int64) : tI (sL τ k v) j = tI τ j := rfl
theorem tA_sL (τ : TS) (k j : Nat) (v : Int64) : tA (sL τ k v) j = tA τ j := rfl
theorem tB_sL (τ : TS) (k j : Nat) (v : Int64) : tB (sL τ k v) j = tB τ j := rfl
theorem tL_sL (τ : TS) (k j : Nat) (v : Int64) : tL (sL τ k v) j = if j = k then v else tL τ j := rfl
theorem trd : (∀ (τ : TS) (k j : Nat) (v : Int32), tI (sI τ k v) j = if j = k then v else tI τ j) ∧ (∀ (τ : TS) (k j : Nat) (v : Int32), tA (sI τ k v) j = tA τ j) ∧ (∀ (τ : TS) (k j : Nat) (v : Int32), tL (sI τ k v) j = tL τ j) ∧ (∀ (τ : TS) (k j : Nat) (v : Int32), tB (sI τ k v) j = tB τ j) ∧ (∀ (τ : TS) (k j i : Nat) (v : Int32), tI (sA τ k i v) j = tI τ j) ∧ (∀ (τ : TS) (k j i : Nat) (v : Int32), tL (sA τ k i v) j = tL τ j) ∧ (∀ (τ : TS) (k j i : Nat) (v : Int32), tB (sA τ k i v) j = tB τ j) ∧ (∀ (τ : TS) (k j i : Nat) (v : Int32), tA (sA τ k i v) j = if j = k then upd (tA τ k) i v else tA τ j) ∧ (∀ (τ : TS) (k j i : Nat) (v : Int64), tI (sB τ k i v) j = tI τ j) ∧ (∀ (τ : TS) (k j i : Nat) (v : Int64), tL (sB τ k i v) j = tL τ j) ∧ (∀ (τ : TS) (k j i : Nat) (v : Int64), tA (sB τ k i v) j = tA τ j) ∧ (∀ (τ : TS) (k j i : Nat) (v : Int64), tB (sB τ k i v) j = if j = k then vp_updL (tB τ k) i v else tB τ j) ∧ (∀ (τ : TS) (k j : Nat) (v : Int64), tI (sL τ k v) j = tI τ j) ∧ (∀ (τ : TS) (k j : Nat) (v : Int64), tA (sL τ k v) j = tA τ j) ∧ (∀ (τ : TS) (k j : Nat) (v : Int64), tB (sL τ k v) j = tB τ j) ∧ (∀ (τ : TS) (k j : Nat) (v : Int64), tL (sL τ k v) j = if j = k then v else tL τ j) := ⟨tI_sI, tA_sI, tL_sI, tB_sI, tI_sA, tL_sA, tB_sA, tA_sA, tI_sB, tL_sB, tA_sB, tB_sB, tI_sL, tA_sL, tB_sL, tL_sL⟩
/-! the twin's checks -/
theorem s_within {τ : TS} {a b c : Int} (ha : ok32 a) (hb : ok32 b) (hc : ok32 c) : T_within τ (i32 a) (i32 b) (i32 c) = some (bi (decide (b ≤ a ∧ a ≤ c))) := by
  obtain ⟨a1, a2⟩ := ha
  obtain ⟨b1, b2⟩ := hb
  obtain ⟨c1, c2⟩ := hc
  unfold T_within
  simp (disch := first | assumption | omega) only [nrm, wps, cmps]
  (repeat' split) <;> first | exact bi_t2 (by omega) | exact bi_f2 (by omega) | rfl
theorem s_isSecond {τ : TS} {a : Int} (ha : ok32 a) : T_isSecond τ (i32 a) = some (bi (decide (0 ≤ a ∧ a ≤ 1000000))) := by
  unfold T_isSecond
  simp only [nrm, wps]
  rw [s_within ha ⟨by omega, by omega⟩ ⟨by omega, by omega⟩]
  simp only [nrm, wps]
theorem s_isCorner {W : Nat → Int} {τ : TS} {x y : Int} (hW : TW W) (h : Rw W τ) (hx : ok32 x) (hy : ok32 y) : T_isCorner τ (i32 x) (i32 y) = some (bi (decide ((0 ≤ x ∧ x < W 0) ∧ 0 ≤ y ∧ y < W 1))) := by
  obtain ⟨a1, a2⟩ := hx
  obtain ⟨b1, b2⟩ := hy
  obtain ⟨w0, w1, -⟩ := hW
  unfold T_isCorner
  simp (disch := first | assumption | omega) only [nrm, wps, cmps, s_wide h, s_deep h]
  (repeat' split) <;> first | exact bi_t2 (by omega) | exact bi_f2 (by omega) | rfl
def hmA (W : Nat → Int) (x y : Nat) : Bool := decide ((x : Int) = W 0 - 1 ∧ (y : Int) = W 1 - 1)
theorem s_isHome {W : Nat → Int} {τ : TS} {x y : Nat} (hW : TW W) (h : Rw W τ) (hx : x < 10) (hy : y < 10) : T_isHome τ (i32 x) (i32 y) = some (bi (hmA W x y)) := by
  obtain ⟨w0, w1, -⟩ := hW
  unfold T_isHome hmA
  simp (disch := first | assumption | omega) only [nrm, wps, cmps, s_wide h, s_deep h]
  (repeat' split) <;> first | exact bi_t2 (by omega) | exact bi_f2 (by omega) | rfl
theorem s_mayAsk {W : Nat → Int} {τ : TS} {x y w t : Int} (hW : TW W) (h : Rw W τ) (hx : ok32 x) (hy : ok32 y) (hw : ok32 w) (ht : ok32 t) : T_mayAsk τ (i32 x) (i32 y) (i32 w) (i32 t) = some (bi (decide ((0 ≤ x ∧ x < W 0) ∧ 0 ≤ y ∧ y < W 1) && (decide (0 ≤ w ∧ w ≤ 1) && (decide (0 ≤ t ∧ t ≤ 1000000) && cgA W x.toNat y.toNat (decide (w = 1)))))) := by
  have w0 := hW.1
  have w1 := hW.2.1
  unfold T_mayAsk
  rw [s_isCorner hW h hx hy]
  simp only [nrm, wps]
  rw [s_within hw ⟨by omega, by omega⟩ ⟨by omega, by omega⟩, s_isSecond ht]
  simp only [nrm, wps]
  cases h1 : decide ((0 ≤ x ∧ x < W 0) ∧ 0 ≤ y ∧ y < W 1) with
  | false => rfl
  | true =>
    have h1 := of_decide_eq_true h1
    cases h2 : decide (0 ≤ w ∧ w ≤ 1) with
    | false => rfl
    | true =>
      have h2 := of_decide_eq_true h2
      cases h3 : decide (0 ≤ t ∧ t ≤ 1000000) with
      | false => rfl
      | true =>
        have e1 : i32 x = i32 ((x.toNat : Nat) : Int) := by congr 1; omega
        have e2 : i32 y = i32 ((y.toNat : Nat) : Int) := by congr 1; omega
        have e3 : i32 w = wy (decide (w = 1)) := by
          rcases (show w = 0 ∨ w = 1 by omega) with rfl | rfl <;> rfl
        rw [e1, e2, e3, s_canGo hW h (by omega) (by omega)]
        cases cgA W x.toNat y.toNat (decide (w = 1)) <;> rfl
