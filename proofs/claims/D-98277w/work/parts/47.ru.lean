/-! LAYER 2: rules: an expression's worth on both sides -/
set_option maxRecDepth 100000
def evc (c : Nat) (a b : Int32) : Int32 := if c = 4 then a + b else if c = 5 then a - b else if c = 6 then a * b else if c = 7 then (if b ≤ a then 0 else 1) else if c = 8 then (if a = b then 1 else 0) else if c = 9 then (if a = 0 then 0 else if b = 0 then 0 else 1) else if a = 0 then (if b = 0 then 0 else 1) else 1
/-- codes on a pile -/
def rpn (φ : Nat → Int32) : List (Nat × Int) → List Int32 → List Int32
  | [], st => st
  | (c, a) :: L, st => rpn φ L (if c = 1 then i32 a :: st else if c = 2 then φ a.toNat :: st else match st with
    | [] => []
    | v :: st1 => if c = 3 then (if v = 0 then 1 else 0) :: st1 else match st1 with
      | [] => []
      | u :: st2 => evc c u v :: st2)
theorem isK_n {s : CS} {a c n : Nat} {w : Bool} {cs : List Nat} (h : s.1 a = some (w, c, n)) (k : cs.contains c = false) : ¬ isK s a cs = true := by
  rw [isK_i h, k]
  decide
theorem ex_c {s : CS} {φ : Nat → Int32} {fa : Nat} (hk : s.1 fa = some (true, 100, 4)) (hφ : ∀ j, j < 4 → cA s fa j = φ j) : ∀ d e L, exAt s d e L → ∀ dp, d ≤ dp → ∃ v, V17_worked s dp e fa = some v ∧ ∀ L' st, rpn φ (L ++ L') st = rpn φ L' (v :: st) := by
  intro d
  induction d with
  | zero => intro e L h; exact h.elim
  | succ d ih =>
    intro e L h dp hd
    obtain ⟨dp, rfl⟩ : ∃ q, dp = q + 1 := ⟨dp - 1, by omega⟩
    show ∃ v, V17_worked_s (V17_worked s dp) s e fa = some v ∧ _
    unfold V17_worked_s
    rcases h with ⟨n, k1, k2, rfl⟩ | ⟨f, k1, k2, k3, rfl⟩ | ⟨p, L1, k1, k2, k3, rfl⟩ | ⟨a, b, La, Lb, c, k1, k2, k3, k4, k5, k6, k7, k8, rfl⟩
    · refine ⟨i32 n, ?_, fun L' st => rfl⟩
      rw [if_pos (isK_o k1 rfl)]
      unfold FX18_worked
      rw [gd_t (isK_o k1 rfl), gI_t (isK_o k1 rfl), k2]
    · refine ⟨φ f, ?_, fun L' st => rfl⟩
      rw [if_neg (isK_n k1 rfl), if_pos (isK_o k1 rfl)]
      unfold FX19_worked
      rw [gd_t (isK_o k1 rfl), gI_t (isK_o k1 rfl), k2, lI_i hk (by omega) (by omega) (by decide), Int.toNat_natCast, hφ f k3]
    · obtain ⟨v, e1, e2⟩ := ih p L1 k3 dp (by omega)
      refine ⟨if v = 0 then 1 else 0, ?_, fun L' st => ?_⟩
      · rw [if_neg (isK_n k1 rfl), if_neg (isK_n k1 rfl), if_pos (isK_o k1 rfl)]
        unfold FX20_worked
        rw [gd_t (isK_o k1 rfl), gR_t (isK_o k1 rfl), k2, nn_eq, e1, bd_eq]
        split <;> rfl
      · rw [List.append_assoc, e2]
        rfl
    · obtain ⟨v, e1, e2⟩ := ih a La k7 dp (by omega)
      obtain ⟨u, e3, e4⟩ := ih b Lb k8 dp (by omega)
      refine ⟨evc c v u, ?_, fun L' st => ?_⟩
      · rw [if_neg (isK_n k1 rfl), if_neg (isK_n k1 rfl), if_neg (isK_n k1 rfl), if_pos (isK_o k1 rfl)]
        unfold FX21_worked
        rw [gd_t (isK_o k1 rfl), gR_t (isK_o k1 rfl), k2, nn_eq, e1, bd_eq, gR_t (isK_o k1 rfl), k3, nn_eq, e3, bd_eq, gI_t (isK_o k1 rfl), k6]
        rcases (show c = 4 ∨ c = 5 ∨ c = 6 ∨ c = 7 ∨ c = 8 ∨ c = 9 ∨ c = 10 by omega) with rfl | rfl | rfl | rfl | rfl | rfl | rfl
        · rw [if_neg (by decide), if_neg (by decide), if_pos (by decide)]
          rfl
        · rw [if_neg (by decide), if_neg (by decide), if_neg (by decide), if_pos (by decide)]
          rfl
        · rw [if_neg (by decide), if_pos (by decide)]
          rfl
        · rw [if_neg (by decide), if_neg (by decide), if_neg (by decide), if_neg (by decide), if_pos (by decide)]
          show _ = some (if u ≤ v then 0 else 1)
          split <;> rfl
        · rw [if_neg (by decide), if_neg (by decide), if_neg (by decide), if_neg (by decide), if_neg (by decide), if_pos (by decide)]
          show _ = some (if v = u then 1 else 0)
          split <;> rfl
        · rw [if_pos (by decide)]
          show _ = some (if v = 0 then 0 else if u = 0 then 0 else 1)
          split
          · rfl
          · split <;> rfl
        · rw [if_neg (by decide), if_neg (by decide), if_neg (by decide), if_neg (by decide), if_neg (by decide), if_neg (by decide)]
          show _ = some (if v = 0 then (if u = 0 then 0 else 1) else 1)
          split
          · split <;> rfl
          · rfl
      · rw [List.append_assoc, e2, List.append_assoc, e4]
        show rpn φ L' (if c = 1 then _ else if c = 2 then _ else if c = 3 then _ else evc c v u :: st) = _
        rw [if_neg (by omega), if_neg (by omega), if_neg (by omega)]
/-- but some of the twin's int arrays nothing changed -/
def Tm (ks : List Nat) (τ τ' : TS) : Prop := (∀ k, tI τ' k = tI τ k) ∧ (∀ k, tL τ' k = tL τ k) ∧ (∀ k, tB τ' k = tB τ k) ∧ ∀ k, ks.contains k = false → tA τ' k = tA τ k
theorem Tm.rf {ks : List Nat} {τ : TS} : Tm ks τ τ := ⟨fun _ => rfl, fun _ => rfl, fun _ => rfl, fun _ _ => rfl⟩
theorem Tm.tr {ks : List Nat} {τ τ1 τ2 : TS} (h : Tm ks τ τ1) (k : Tm ks τ1 τ2) : Tm ks τ τ2 := ⟨fun j => (k.1 j).trans (h.1 j), fun j => (k.2.1 j).trans (h.2.1 j), fun j => (k.2.2.1 j).trans (h.2.2.1 j), fun j q => (k.2.2.2 j q).trans (h.2.2.2 j q)⟩
theorem Tm.sA {ks : List Nat} {τ : TS} {k i : Nat} {v : Int32} (h : ks.contains k = true) : Tm ks τ (sA τ k i v) := by
  refine ⟨fun _ => rfl, fun _ => rfl, fun _ => rfl, fun j q => ?_⟩
  rw [tA_sA, if_neg]
  rintro rfl
  rw [h] at q
  cases q
theorem Tm.le {ks ks' : List Nat} {τ τ' : TS} (h : Tm ks τ τ') (k : ∀ j, ks'.contains j = false → ks.contains j = false) : Tm ks' τ τ' := ⟨h.1, h.2.1, h.2.2.1, fun j q => h.2.2.2 j (k j q)⟩
theorem Tm.q {ks : List Nat} {τ τ' : TS} (h : Tm ks τ τ') (k : ∀ j, tsA j = false → ks.contains j = false) : Tq τ τ' := ⟨fun j _ => h.1 j, fun j q => h.2.2.2 j (k j q), h.2.2.1 9⟩
/-- the pile: what is on it, the last first -/
def Stk (τ : TS) (st : List Int32) : Prop := ∀ j v, st[j]? = some v → tA τ 18 (st.length - 1 - j) = v
theorem upd_e (f : Nat → Int32) (k : Nat) (v : Int32) : upd f k v k = v := if_pos rfl
theorem upd_n (f : Nat → Int32) {k j : Nat} (v : Int32) (h : ¬ j = k) : upd f k v j = f j := if_neg h
theorem Stk.push {τ : TS} {st : List Int32} {v : Int32} (h : Stk τ st) : Stk (sA τ 18 st.length v) (v :: st) := by
  intro j u hu
  rw [tA_sA, if_pos rfl]
  cases j with
  | zero =>
    have e : v = u := Option.some.inj hu
    show upd _ _ _ (st.length + 1 - 1 - 0) = u
    rw [show st.length + 1 - 1 - 0 = st.length by omega, upd_e, e]
  | succ j =>
    have hu : st[j]? = some u := hu
    have hl : j < st.length := (List.getElem?_eq_some_iff.mp hu).1
    show upd _ _ _ (st.length + 1 - 1 - (j + 1)) = u
    rw [upd_n _ _ (by omega), show st.length + 1 - 1 - (j + 1) = st.length - 1 - j by omega]
    exact h j u hu
theorem Stk.pop {τ : TS} {st : List Int32} {v : Int32} (h : Stk τ (v :: st)) : Stk τ st := by
  intro j u hu
  have hl : j < st.length := (List.getElem?_eq_some_iff.mp hu).1
  have := h (j + 1) u hu
  rw [show st.length - 1 - j = (v :: st).length - 1 - (j + 1) by show st.length - 1 - j = st.length + 1 - 1 - (j + 1); omega]
  exact this
theorem Stk.top {τ : TS} {st : List Int32} {v : Int32} (h : Stk τ (v :: st)) : tA τ 18 st.length = v := by
  have := h 0 v rfl
  rwa [show (v :: st).length - 1 - 0 = st.length by show st.length + 1 - 1 - 0 = st.length; omega] at this
theorem s_both {τ : TS} {c : Nat} (h : 4 ≤ c) (h2 : c ≤ 10) (a b : Int32) : T_both τ (i32 (c : Int)) a b = some (evc c a b) := by
  unfold T_both
  rcases (show c = 4 ∨ c = 5 ∨ c = 6 ∨ c = 7 ∨ c = 8 ∨ c = 9 ∨ c = 10 by omega) with rfl | rfl | rfl | rfl | rfl | rfl | rfl
  · rw [if_pos (by decide)]
    rfl
  · rw [if_neg (by decide), if_pos (by decide)]
    rfl
  · rw [if_neg (by decide), if_neg (by decide), if_pos (by decide)]
    rfl
  · rw [if_neg (by decide), if_neg (by decide), if_neg (by decide), if_pos (by decide)]
    show _ = some (if b ≤ a then 0 else 1)
    split <;> rfl
  · rw [if_neg (by decide), if_neg (by decide), if_neg (by decide), if_neg (by decide), if_pos (by decide)]
    show _ = some (if a = b then 1 else 0)
    split <;> rfl
  · rw [if_neg (by decide), if_neg (by decide), if_neg (by decide), if_neg (by decide), if_neg (by decide), if_pos (by decide)]
    show _ = some (if a = 0 then 0 else if b = 0 then 0 else 1)
    split
    · rfl
    · split <;> rfl
  · rw [if_neg (by decide), if_neg (by decide), if_neg (by decide), if_neg (by decide), if_neg (by decide), if_neg (by decide)]
    show _ = some (if a = 0 then (if b = 0 then 0 else 1) else 1)
    split
    · split <;> rfl
    · rfl
/-- codes lie from p on -/
def cdL (τ : TS) (p : Nat) (L : List (Nat × Int)) : Prop := ∀ (i c : Nat) (a : Int), L[i]? = some (c, a) → tA τ 11 (p + i) = i32 (c : Int) ∧ tA τ 12 (p + i) = i32 a
theorem cdL.l {τ : TS} {p : Nat} {L L' : List (Nat × Int)} (h : cdL τ p (L ++ L')) : cdL τ p L := fun i c a k => h i c a (by
  have hl : i < L.length := (List.getElem?_eq_some_iff.mp k).1
  rw [List.getElem?_append_left hl]
  exact k)
theorem cdL.r {τ : TS} {p : Nat} {L L' : List (Nat × Int)} (h : cdL τ p (L ++ L')) : cdL τ (p + L.length) L' := fun i c a k => by
  have := h (L.length + i) c a (by rw [List.getElem?_append_right (by omega), show L.length + i - L.length = i by omega]; exact k)
  rwa [show p + (L.length + i) = p + L.length + i by omega] at this
theorem cdL.m {τ τ' : TS} {p : Nat} {L : List (Nat × Int)} (h : cdL τ p L) (k : Tm [18] τ τ') : cdL τ' p L := fun i c a q => by
  rw [k.2.2.2 11 rfl, k.2.2.2 12 rfl]
  exact h i c a q
theorem wb_n {τ : TS} {nf n top p : Nat} (hp : p < 2200) {c : Nat} (hc : tA τ 11 p = i32 (c : Int)) (h0 : 0 < c) (h1 : c < 100) : T_worthAt_b4 nf (n + 1) (i32 top) (i32 p) τ = if (i32 (c : Int)) = 1 then T_worthAt_b33 nf (T_worthAt_b4 nf n) (i32 top) (i32 p) (i32 (c : Int)) τ else if (i32 (c : Int)) = 2 then T_worthAt_b33 nf (T_worthAt_b4 nf n) (i32 top) (i32 p) (i32 (c : Int)) τ else if (i32 (c : Int)) = 3 then (ld (tA τ 18) 1100 ((i32 top) - 1) fun v8 => if v8 = 0 then (stA τ 18 1100 ((i32 top) - 1) 1 fun τ10 => T_worthAt_b4 nf n (i32 top) ((i32 p) + 1) τ10) else (stA τ 18 1100 ((i32 top) - 1) 0 fun τ9 => T_worthAt_b4 nf n (i32 top) ((i32 p) + 1) τ9)) else (ld (tA τ 18) 1100 (((i32 top) + (-1)) - 1) fun v4 => ld (tA τ 18) 1100 ((i32 top) + (-1)) fun v5 => (T_both τ (i32 (c : Int)) v4 v5).bind fun v6 => stA τ 18 1100 (((i32 top) + (-1)) - 1) v6 fun τ7 => T_worthAt_b4 nf n ((i32 top) + (-1)) ((i32 p) + 1) τ7) := by
  show T_worthAt_b4_s nf (T_worthAt_b4 nf n) (i32 top) (i32 p) τ = _
  unfold T_worthAt_b4_s
  rw [ld_n (by omega) (by decide), hc, if_neg, ld_n (by omega) (by decide), hc]
  intro e
  rw [show (0 : Int32) = i32 0 from rfl] at e
  have := (i32_eq ⟨by omega, by omega⟩ ⟨by omega, by omega⟩).mp e
  omega
theorem ex_t {s : CS} {φ : Nat → Int32} {nf : Nat} : ∀ d e L, exAt s d e L → ∃ v, (∀ L' st, rpn φ (L ++ L') st = rpn φ L' (v :: st)) ∧ ∀ (st : List Int32) (τ : TS) (n p : Nat) (Q : Int32 × TS → Prop), (∀ j, j < 4 → tA τ 17 j = φ j) → Stk τ st → cdL τ p L → p + L.length < 2200 → st.length + L.length < 1100 → (∀ τ', Tm [18] τ τ' → Stk τ' (v :: st) → Ok (T_worthAt_b4 nf n (i32 ((st.length + 1 : Nat) : Int)) (i32 ((p + L.length : Nat) : Int)) τ') Q) → Ok (T_worthAt_b4 nf (n + L.length) (i32 (st.length : Int)) (i32 (p : Int)) τ) Q := by
  intro d
  induction d with
  | zero => intro e L h; exact h.elim
  | succ d ih =>
    intro e L h
    rcases h with ⟨n0, k1, k2, rfl⟩ | ⟨f, k1, k2, k3, rfl⟩ | ⟨p0, L1, k1, k2, k3, rfl⟩ | ⟨a, b, La, Lb, c, k1, k2, k3, k4, k5, k6, k7, k8, rfl⟩
    · refine ⟨i32 n0, fun L' st => rfl, ?_⟩
      intro st τ n p Q hφ hs hc hp hl K
      have hp : p + 1 < 2200 := hp
      have hl : st.length + 1 < 1100 := hl
      obtain ⟨c1, c2⟩ := hc 0 1 n0 rfl
      have c1 : tA τ 11 p = i32 ((1 : Nat) : Int) := c1
      show Ok (T_worthAt_b4 nf (n + 1) _ _ τ) Q
      rw [wb_n (by omega) c1 (by omega) (by omega), if_pos (show (i32 ((1 : Nat) : Int) : Int32) = 1 from rfl)]
      unfold T_worthAt_b33
      have c2 : tA τ 12 p = i32 n0 := c2
      rw [if_pos (show (i32 ((1 : Nat) : Int) : Int32) = 1 from rfl), ld_n (by omega) (by decide), c2, stA_i (by omega) (by omega) (by decide), Int.toNat_natCast, show (1 : Int32) = i32 1 from rfl, i32_add, i32_add]
      exact K _ (Tm.sA rfl) hs.push
    · refine ⟨φ f, fun L' st => rfl, ?_⟩
      intro st τ n p Q hφ hs hc hp hl K
      have hp : p + 1 < 2200 := hp
      have hl : st.length + 1 < 1100 := hl
      obtain ⟨c1, c2⟩ := hc 0 2 f rfl
      have c1 : tA τ 11 p = i32 ((2 : Nat) : Int) := c1
      show Ok (T_worthAt_b4 nf (n + 1) _ _ τ) Q
      rw [wb_n (by omega) c1 (by omega) (by omega), if_neg (by decide), if_pos (show (i32 ((2 : Nat) : Int) : Int32) = 2 from rfl)]
      unfold T_worthAt_b33
      have c2 : tA τ 12 p = i32 f := c2
      rw [if_neg (by decide), ld_n (by omega) (by decide), c2, ld_n (by omega) (by decide), hφ f k3, stA_i (by omega) (by omega) (by decide), Int.toNat_natCast, show (1 : Int32) = i32 1 from rfl, i32_add, i32_add]
      exact K _ (Tm.sA rfl) hs.push
    · obtain ⟨v, e2, e3⟩ := ih p0 L1 k3
      refine ⟨if v = 0 then 1 else 0, fun L' st => ?_, ?_⟩
      · rw [List.append_assoc, e2]
        rfl
      · intro st τ n p Q hφ hs hc hp hl K
        have hL : (L1 ++ [((3 : Nat), (0 : Int))]).length = L1.length + 1 := by simp
        rw [hL] at hp hl K
        rw [hL, show n + (L1.length + 1) = (n + 1) + L1.length by omega]
        refine e3 st τ (n + 1) p Q hφ hs hc.l (by omega) (by omega) fun τ' h1 h2 => ?_
        obtain ⟨c1, -⟩ := (hc.m h1).r 0 3 0 rfl
        have c1 : tA τ' 11 (p + L1.length) = i32 ((3 : Nat) : Int) := c1
        rw [wb_n (by omega) c1 (by omega) (by omega), if_neg (by decide), if_neg (by decide), if_pos (show (i32 ((3 : Nat) : Int) : Int32) = 3 from rfl)]
        have et : (i32 ((st.length + 1 : Nat) : Int) : Int32) - 1 = i32 (st.length : Int) := by
          rw [show (1 : Int32) = i32 1 from rfl, i32_sub]
          congr 1
          omega
        rw [et, ld_n (by omega) (by decide), h2.top]
        have ep : (i32 ((p + L1.length : Nat) : Int) : Int32) + 1 = i32 ((p + (L1.length + 1) : Nat) : Int) := by
          rw [show (1 : Int32) = i32 1 from rfl, i32_add]
          rfl
        rw [ep]
        by_cases q : v = 0
        · rw [if_pos q, stA_i (by omega) (by omega) (by decide), Int.toNat_natCast]
          refine K _ (h1.tr (Tm.sA rfl)) ?_
          rw [if_pos q]
          exact h2.pop.push
        · rw [if_neg q, stA_i (by omega) (by omega) (by decide), Int.toNat_natCast]
          refine K _ (h1.tr (Tm.sA rfl)) ?_
          rw [if_neg q]
          exact h2.pop.push
    · obtain ⟨v, e2, e3⟩ := ih a La k7
      obtain ⟨u, e4, e5⟩ := ih b Lb k8
      refine ⟨evc c v u, fun L' st => ?_, ?_⟩
      · rw [List.append_assoc, e2, List.append_assoc, e4]
        show rpn φ L' (if c = 1 then _ else if c = 2 then _ else if c = 3 then _ else evc c v u :: st) = _
        rw [if_neg (by omega), if_neg (by omega), if_neg (by omega)]
      · intro st τ n p Q hφ hs hc hp hl K
        have hL : (La ++ (Lb ++ [((c : Nat), (0 : Int))])).length = La.length + Lb.length + 1 := by simp; omega
        rw [hL] at hp hl K
        rw [hL, show n + (La.length + Lb.length + 1) = (n + 1 + Lb.length) + La.length by omega]
        refine e3 st τ (n + 1 + Lb.length) p Q hφ hs hc.l (by omega) (by omega) fun τ' h1 h2 => ?_
        refine e5 (v :: st) τ' (n + 1) (p + La.length) Q (fun j hj => by rw [h1.2.2.2 17 rfl]; exact hφ j hj) h2 (hc.m h1).r.l (by omega) (by show st.length + 1 + Lb.length < 1100; omega) fun τ2 h3 h4 => ?_
        obtain ⟨c1, -⟩ := ((hc.m h1).m h3).r.r 0 c 0 rfl
        have c1 : tA τ2 11 (p + La.length + Lb.length) = i32 (c : Int) := c1
        show Ok (T_worthAt_b4 nf (n + 1) (i32 ((st.length + 1 + 1 : Nat) : Int)) _ τ2) Q
        rw [wb_n (by omega) c1 (by omega) (by omega)]
        have hn : ∀ z : Int, 0 ≤ z → z < 4 → ¬ i32 (c : Int) = i32 z := fun z z0 z1 e => by
          have := (i32_eq ⟨by omega, by omega⟩ ⟨by omega, by omega⟩).mp e
          omega
        rw [if_neg (show ¬ (i32 (c : Int) : Int32) = 1 from hn 1 (by omega) (by omega)), if_neg (show ¬ (i32 (c : Int) : Int32) = 2 from hn 2 (by omega) (by omega)), if_neg (show ¬ (i32 (c : Int) : Int32) = 3 from hn 3 (by omega) (by omega))]
        have et1 : (i32 ((st.length + 1 + 1 : Nat) : Int) : Int32) + (-1) = i32 ((st.length + 1 : Nat) : Int) := by
          rw [show (-1 : Int32) = i32 (-1) from rfl, i32_add]
          congr 1
          omega
        have et : (i32 ((st.length + 1 : Nat) : Int) : Int32) - 1 = i32 (st.length : Int) := by
          rw [show (1 : Int32) = i32 1 from rfl, i32_sub]
          congr 1
          omega
        have ep : (i32 ((p + La.length + Lb.length : Nat) : Int) : Int32) + 1 = i32 ((p + (La.length + Lb.length + 1) : Nat) : Int) := by
          rw [show (1 : Int32) = i32 1 from rfl, i32_add]
          congr 1
          omega
        have t1 : tA τ2 18 st.length = v := h4.pop.top
        have t2 : tA τ2 18 (st.length + 1) = u := h4.top
        rw [et1, et, ep, ld_n (by omega) (by decide), ld_n (by omega) (by decide), t1, t2, s_both k4 k5, bd_eq, stA_i (by omega) (by omega) (by decide), Int.toNat_natCast]
        exact K _ ((h1.tr h3).tr (Tm.sA rfl)) h4.pop.pop.push
/-- a rule's worth on facts -/
def ruV (L : List (Nat × Int)) (φ : Nat → Int32) : Int32 := (rpn φ L []).headD 0
theorem ru_c {s : CS} {φ : Nat → Int32} {fa d e : Nat} {L : List (Nat × Int)} (hk : s.1 fa = some (true, 100, 4)) (hφ : ∀ j, j < 4 → cA s fa j = φ j) (h : exAt s d e L) {dp : Nat} (hd : d ≤ dp) : V17_worked s dp e fa = some (ruV L φ) := by
  obtain ⟨v, e1, e2⟩ := ex_c hk hφ d e L h dp hd
  have := e2 [] []
  rw [List.append_nil] at this
  unfold ruV
  rw [e1, this]
  rfl
theorem ru_t {s : CS} {φ : Nat → Int32} {nf d e : Nat} {L : List (Nat × Int)} {τ : TS} {p : Int} (h : exAt s d e L) (hn : 1200 ≤ nf) (hφ : ∀ j, j < 4 → tA τ 17 j = φ j) (hc : cdAt τ p L) : Ok (T_worthAt nf (i32 p) τ) (fun z => z.1 = ruV L φ ∧ Tm [18] τ z.2) := by
  obtain ⟨v, e1, e2⟩ := ex_t (nf := nf) (φ := φ) d e L h
  obtain ⟨c0, c1, c2, c3⟩ := hc
  have ev : ruV L φ = v := by
    have := e1 [] []
    rw [List.append_nil] at this
    unfold ruV
    rw [this]
    rfl
  obtain ⟨q, rfl⟩ : ∃ q : Nat, p = q := ⟨p.toNat, by omega⟩
  rw [Int.toNat_natCast] at c2 c3
  unfold T_worthAt
  obtain ⟨n, rfl⟩ : ∃ n, nf = (n + 1) + L.length := ⟨nf - 1 - L.length, by omega⟩
  refine e2 [] τ (n + 1) q _ hφ (fun j v z => by simp at z) c2 (by omega) (by show 0 + L.length < 1100; omega) fun τ' h1 h2 => ?_
  show Ok (T_worthAt_b4_s _ (T_worthAt_b4 _ n) _ _ τ') _
  unfold T_worthAt_b4_s
  rw [ld_n (by omega) (by decide), h1.2.2.2 11 rfl, c3, if_pos (show (i32 0 : Int32) = 0 from rfl), show (0 : Int32) = i32 ((0 : Nat) : Int) from rfl, ld_n (by omega) (by decide)]
  have ht : tA τ' 18 0 = v := h2.top
  rw [ht]
  exact ok_s ⟨ev.symm, h1⟩
