/-! LAYER 2: keeps: the twin; what writing leaves to the twin's caches -/
set_option maxRecDepth 100000
/-- the twin's rows of states -/
def Sx (S : Nat → Nat → Int) (τ : TS) : Prop := ∀ j k, j < 21 → k < 120 → tA τ 19 (120 * j + k) = i32 (S j k)
/-- nothing but some ints, some arrays is another -/
def Tgx (ks as : List Nat) (τ τ' : TS) : Prop := (∀ k, ks.contains k = false → tI τ' k = tI τ k) ∧ (∀ k, as.contains k = false → tA τ' k = tA τ k) ∧ (∀ k, tL τ' k = tL τ k) ∧ ∀ k, tB τ' k = tB τ k
theorem Tgx.rf {ks as : List Nat} {τ : TS} : Tgx ks as τ τ := ⟨fun _ _ => rfl, fun _ _ => rfl, fun _ => rfl, fun _ => rfl⟩
theorem Tgx.tr {ks as : List Nat} {τ τ1 τ2 : TS} (h : Tgx ks as τ τ1) (k : Tgx ks as τ1 τ2) : Tgx ks as τ τ2 := ⟨fun j q => (k.1 j q).trans (h.1 j q), fun j q => (k.2.1 j q).trans (h.2.1 j q), fun j => (k.2.2.1 j).trans (h.2.2.1 j), fun j => (k.2.2.2 j).trans (h.2.2.2 j)⟩
theorem Tgx.le {ks as ks' as' : List Nat} {τ τ' : TS} (h : Tgx ks as τ τ') (h1 : ∀ k, ks'.contains k = false → ks.contains k = false) (h2 : ∀ k, as'.contains k = false → as.contains k = false) : Tgx ks' as' τ τ' := ⟨fun j q => h.1 j (h1 j q), fun j q => h.2.1 j (h2 j q), h.2.2⟩
theorem Tgx.sI {ks as : List Nat} {τ : TS} {k : Nat} {v : Int32} (h : ks.contains k = true) : Tgx ks as τ (sI τ k v) := by
  refine ⟨fun j q => ?_, fun _ _ => rfl, fun _ => rfl, fun _ => rfl⟩
  rw [tI_sI, if_neg]
  rintro rfl
  rw [h] at q
  cases q
theorem Tgx.sA {ks as : List Nat} {τ : TS} {k i : Nat} {v : Int32} (h : as.contains k = true) : Tgx ks as τ (sA τ k i v) := by
  refine ⟨fun _ _ => rfl, fun j q => ?_, fun _ => rfl, fun _ => rfl⟩
  rw [tA_sA, if_neg]
  rintro rfl
  rw [h] at q
  cases q
def upS (S : Nat → Nat → Int) (j k : Nat) (v : Int) : Nat → Nat → Int := fun j' k' => if j' = j ∧ k' = k then v else S j' k'
theorem Sx.up {S : Nat → Nat → Int} {τ : TS} {j k : Nat} {v : Int} (h : Sx S τ) (hk : k < 120) : Sx (upS S j k v) (sA τ 19 (120 * j + k) (i32 v)) := fun j' k' h1 h2 => by
  rw [rd_sA]
  unfold upS
  by_cases e : j' = j ∧ k' = k
  · rw [if_pos ⟨rfl, by rw [e.1, e.2]⟩, if_pos e]
  · rw [if_neg (fun z => e (by omega)), if_neg e]
    exact h j' k' h1 h2
section KT
variable {W : Nat → Int} {S S' : Nat → Nat → Int} {V m m' Tp Tp' : Nat → Int} {RC : Nat → List (Nat × Int)} {τ τ' : TS} {T : Int} {nf : Nat}
theorem tc_3 {a b N : Nat} (ha : a < 21) (hb : b < 21) (hne : ¬ a = b) (hN : N ≤ 120) : ∀ (d n k : Nat) (τ1 : TS), k + d = N → d < n → Tgx [] [19] τ τ1 → Sx (cpS S a b k) τ1 → Ok (T_copies_b3 nf n (i32 (a : Int)) (i32 (b : Int)) (i32 (N : Int)) (i32 (k : Int)) τ1) fun τ' => Tgx [] [19] τ τ' ∧ Sx (cpS S a b N) τ' := by
  intro d
  induction d with
  | zero =>
    intro n k τ1 h1 h2 f hx
    obtain ⟨n, rfl⟩ : ∃ q, n = q + 1 := ⟨n - 1, by omega⟩
    rw [show T_copies_b3 nf (n + 1) = T_copies_b3_s nf (T_copies_b3 nf n) from rfl]
    unfold T_copies_b3_s
    refine ok_le ⟨by omega, by omega⟩ ⟨by omega, by omega⟩ (fun _ => ?_) (fun z => by omega)
    rw [show k = N by omega] at hx
    exact ok_s ⟨f, hx⟩
  | succ d ih =>
    intro n k τ1 h1 h2 f hx
    obtain ⟨n, rfl⟩ : ∃ q, n = q + 1 := ⟨n - 1, by omega⟩
    rw [show T_copies_b3 nf (n + 1) = T_copies_b3_s nf (T_copies_b3 nf n) from rfl]
    unfold T_copies_b3_s
    refine ok_le ⟨by omega, by omega⟩ ⟨by omega, by omega⟩ (fun z => by omega) (fun _ => ?_)
    rw [show (120 : Int32) = i32 120 from rfl, show (1 : Int32) = i32 1 from rfl, i32_mul, i32_mul, i32_add, i32_add, i32_add, show (120 : Int) * (a : Int) + (k : Int) = ((120 * a + k : Nat) : Int) by omega, show (120 : Int) * (b : Int) + (k : Int) = ((120 * b + k : Nat) : Int) by omega]
    refine ok_ld (by omega) (by omega) (by omega) (ok_sA (by omega) (by omega) (by omega) ?_)
    rw [Int.toNat_natCast, Int.toNat_natCast, hx a k ha (by omega)]
    have ea : cpS S a b k a k = S a k := by
      unfold cpS
      rw [if_neg (fun z => hne z.1)]
    have eS : upS (cpS S a b k) b k (S a k) = cpS S a b (k + 1) := by
      funext j i
      unfold upS cpS
      by_cases e : j = b
      · by_cases e2 : i = k
        · rw [if_pos ⟨e, e2⟩, if_pos ⟨e, by omega⟩, e2]
        · rw [if_neg (fun z => e2 z.2)]
          by_cases e3 : i < k
          · rw [if_pos ⟨e, e3⟩, if_pos ⟨e, by omega⟩]
          · rw [if_neg (fun z => e3 z.2), if_neg (fun z => by omega)]
      · rw [if_neg (fun z => e z.1), if_neg (fun z => e z.1), if_neg (fun z => e z.1)]
    have hx2 := hx.up (j := b) (k := k) (v := S a k) (by omega)
    rw [eS] at hx2
    rw [ea]
    exact ih n (k + 1) _ (by omega) (by omega) (f.tr (Tgx.sA rfl)) hx2
theorem t_copies (hn : 200 ≤ nf) (hx : Sx S τ) {a b N : Nat} (ha : a < 21) (hb : b < 21) (hne : ¬ a = b) (hN : N ≤ 120) : Ok (T_copies nf (i32 (a : Int)) (i32 (b : Int)) (i32 (N : Int)) τ) fun τ' => Tgx [] [19] τ τ' ∧ Sx (cpS S a b N) τ' := by
  unfold T_copies
  refine tc_3 (nf := nf) ha hb hne hN N nf 0 τ (by omega) (by omega) Tgx.rf ?_
  have e : cpS S a b 0 = S := by
    funext j i
    unfold cpS
    rw [if_neg (by omega)]
  rw [e]
  exact hx
/-- moved down so far -/
def shP (S : Nat → Nat → Int) (c : Nat) : Nat → Nat → Int := fun j k => if 5 ≤ j ∧ j < 4 + c ∧ k < 58 then S (j + 1) k else S j k
theorem shP_s {c : Nat} (hc : 1 ≤ c) : cpS (shP S c) (5 + c) (4 + c) 58 = shP S (c + 1) := by
  funext j k
  unfold cpS shP
  by_cases e : j = 4 + c ∧ k < 58
  · rw [if_pos e, if_neg (by omega), if_pos (by omega), show j + 1 = 5 + c by omega]
  · rw [if_neg e]
    by_cases e2 : 5 ≤ j ∧ j < 4 + c ∧ k < 58
    · rw [if_pos e2, if_pos (by omega)]
    · rw [if_neg e2, if_neg (by omega)]
theorem tk_47 (hn : 200 ≤ nf) (hx : Sx S τ) {u : Nat} (hu : u < 16) (h20 : tI τ 20 = i32 (u : Int)) : Ok (T_keeps_b47 nf τ) fun τ' => Tgx [20] [19] τ τ' ∧ Sx (cpS S 0 (5 + u) 58) τ' ∧ tI τ' 20 = i32 ((u : Int) + 1) := by
  unfold T_keeps_b47
  rw [h20, show (5 : Int32) = i32 5 from rfl, i32_add, show (5 : Int) + (u : Int) = ((5 + u : Nat) : Int) by omega, show (0 : Int32) = i32 ((0 : Nat) : Int) from rfl, show (58 : Int32) = i32 ((58 : Nat) : Int) from rfl]
  refine ok_b (t_copies (a := 0) hn hx (by omega) (by omega) (by omega) (by omega)) fun τ1 h1 => ?_
  obtain ⟨f1, x1⟩ := h1
  rw [nm_eq]
  refine ok_s ⟨(f1.le (fun _ _ => rfl) (fun _ q => q)).tr (Tgx.sI rfl), x1, ?_⟩
  show tI τ1 20 + 1 = _
  rw [f1.1 20 rfl, h20]
  exact i32_add u 1
theorem tk_11 (hn : 200 ≤ nf) (h20 : tI τ 20 = i32 16) : ∀ (d n c : Nat) (τ1 : TS), c + d = 16 → d < n → 1 ≤ c → Tgx [20] [19] τ τ1 → tI τ1 20 = i32 16 → Sx (shP S c) τ1 → Ok (T_keeps_b11 nf n (i32 (c : Int)) τ1) fun τ' => Tgx [20] [19] τ τ' ∧ Sx (cpS (shS S) 0 20 58) τ' ∧ tI τ' 20 = i32 16 := by
  intro d
  induction d with
  | zero =>
    intro n c τ1 h1 h2 h3 f e20 hx
    obtain ⟨n, rfl⟩ : ∃ q, n = q + 1 := ⟨n - 1, by omega⟩
    have ec : c = 16 := by omega
    subst ec
    rw [show T_keeps_b11 nf (n + 1) = T_keeps_b11_s nf (T_keeps_b11 nf n) from rfl]
    unfold T_keeps_b11_s
    rw [if_pos (show (16 : Int32) ≤ i32 ((16 : Nat) : Int) by decide), nm_eq, e20]
    have hx2 : Sx (shS S) (sI τ1 20 (i32 16 - 1)) := hx
    refine ok_w (tk_47 (u := 15) hn hx2 (by omega) rfl) fun τ' h => ⟨(f.tr (Tgx.sI rfl)).tr h.1, h.2.1, h.2.2⟩
  | succ d ih =>
    intro n c τ1 h1 h2 h3 f e20 hx
    obtain ⟨n, rfl⟩ : ∃ q, n = q + 1 := ⟨n - 1, by omega⟩
    rw [show T_keeps_b11 nf (n + 1) = T_keeps_b11_s nf (T_keeps_b11 nf n) from rfl]
    unfold T_keeps_b11_s
    rw [if_neg (show ¬ (16 : Int32) ≤ i32 (c : Int) from fun z => by have := (i32_le (a := 16) ⟨by omega, by omega⟩ ⟨by omega, by omega⟩).mp z; omega), show (5 : Int32) = i32 5 from rfl, show (1 : Int32) = i32 1 from rfl, i32_add, i32_sub, i32_add, show (5 : Int) + (c : Int) - 1 = ((4 + c : Nat) : Int) by omega, show (5 : Int) + (c : Int) = ((5 + c : Nat) : Int) by omega, show (58 : Int32) = i32 ((58 : Nat) : Int) from rfl]
    refine ok_b (t_copies hn hx (by omega) (by omega) (by omega) (by omega)) fun τ2 h2' => ?_
    obtain ⟨f2, x2⟩ := h2'
    rw [shP_s h3] at x2
    exact ih n (c + 1) τ2 (by omega) (by omega) (by omega) (f.tr (f2.le (fun _ _ => rfl) (fun _ q => q))) (by rw [f2.1 20 rfl]; exact e20) x2
theorem t_keeps (hn : 200 ≤ nf) (hx : Sx S τ) (h20 : tI τ 20 = i32 (m 1)) (hm : 0 ≤ m 1 ∧ m 1 ≤ 16) : Ok (T_keeps nf τ) fun τ' => Tgx [20] [19] τ τ' ∧ Sx (kpS S m) τ' ∧ tI τ' 20 = i32 (kpM m 1) := by
  unfold T_keeps
  rw [h20, show (16 : Int32) = i32 16 from rfl]
  refine ok_q ⟨by omega, by omega⟩ ⟨by omega, by omega⟩ (fun q => ?_) (fun q => ?_)
  · have e1 : kpS S m = cpS (shS S) 0 20 58 := if_pos q
    have e2 : kpM m 1 = 16 := by
      unfold kpM upM
      rw [if_pos rfl, if_pos q]
    rw [e1, e2, show (1 : Int32) = i32 ((1 : Nat) : Int) from rfl]
    refine tk_11 (nf := nf) (by omega) (by rw [h20, q]) 15 nf 1 τ (by omega) (by omega) (by omega) Tgx.rf (by rw [h20, q]) ?_
    have e : shP S 1 = S := by
      funext j k
      unfold shP
      rw [if_neg (by omega)]
    rw [e]
    exact hx
  · have e1 : kpS S m = cpS S 0 (5 + (m 1).toNat) 58 := if_neg q
    have e2 : kpM m 1 = ((m 1).toNat : Int) + 1 := by
      unfold kpM upM
      rw [if_pos rfl, if_neg q, Int.toNat_of_nonneg hm.1]
    rw [e1, e2]
    exact tk_47 hn hx (by omega) (by rw [h20, Int.toNat_of_nonneg hm.1])
theorem TB.w {ks as : List Nat} (tb : TB W S V m Tp RC τ) (h : Tgx ks as τ τ') (ha : as.contains 10 = false ∧ as.contains 16 = false ∧ as.contains 11 = false ∧ as.contains 12 = false) (hS : Sx S' τ') (h2 : tI τ' 2 = i32 (m' 0) ∧ tI τ' 20 = i32 (m' 1)) (h21 : ∀ j, j < 4 → tA τ' 21 j = i32 (m' (2 + j))) (h1 : ∀ k : Nat, (k : Int) < m' 0 → tA τ' 1 k = i32 (Tp' k)) : TB W S' V m' Tp' RC τ' := by
  obtain ⟨t1, t2, t3, t4, t5, t6, t7, t8⟩ := tb
  refine ⟨fun k hk => by rw [h.2.1 10 ha.1]; exact t1 k hk, hS, fun k hk => by rw [h.2.1 16 ha.2.1]; exact t3 k hk, h2, h21, h1, fun k hk => by rw [h.2.2.2]; exact t7 k hk, fun r hr => ?_⟩
  unfold cdAt
  rw [h.2.1 11 ha.2.2.1, h.2.1 12 ha.2.2.2]
  exact t8 r hr
theorem TB.sx (tb : TB W S V m Tp RC τ) : Sx S τ := tb.2.1
/-- the caches when a state's corners are known as before -/
theorem Cv.un {N N' : Int} {σ σ' : Nat → Int} {ks as : List Nat} (hW : TW W) (h : Cv W σ RC N τ) (f : Tgx ks as τ τ') (hk : ∀ k ∈ [22, 25, 26, 27, 28, 29, 30, 33], ks.contains k = false) (ha : ∀ k ∈ [23, 24, 32], as.contains k = false) (hu : ∀ c, c < 54 → unA W σ c = unA W σ' c) (hN : N ≤ N') : Cv W σ' RC N' τ' := by
  have w0 := hW.1
  have w1 := hW.2.1
  obtain ⟨h1, h2, h3, h4, h5, h6⟩ := h
  unfold Cv
  rw [f.2.1 24 (ha 24 (by decide)), f.1 25 (hk 25 (by decide)), f.1 28 (hk 28 (by decide)), f.1 22 (hk 22 (by decide)), f.1 26 (hk 26 (by decide)), f.1 27 (hk 27 (by decide)), f.1 29 (hk 29 (by decide)), f.1 30 (hk 30 (by decide)), f.2.1 32 (ha 32 (by decide)), f.1 33 (hk 33 (by decide))]
  refine ⟨h1, by omega, by omega, fun e k wst wat sh a1 a2 a3 a4 a5 a6 a7 => ?_, h5, by omega⟩
  have K := h4 e k wst wat sh a1 a2 a3 a4 a5 a6 a7
  intro x y t b1 b2 b3 b4 b5
  rw [f.2.1 24 (ha 24 (by decide)), f.1 25 (hk 25 (by decide))] at b5
  rw [f.2.1 23 (ha 23 (by decide)), K x y t b1 b2 b3 b4 b5]
  congr 1
  exact VS_one hW (fun _ _ => True) (fun _ _ _ _ _ => trivial) vT_VS vT_VS (fun x y _ _ _ => by
    by_cases q : ((6 * y + x : Nat) : Int) = wat
    · exact .inl ⟨q, q, rfl⟩
    · exact .inr ⟨q, q⟩) hu (dsA W x y) x y t trivial b1 b2 b3 b4 (Nat.le_refl _)
/-- the caches when what was told is another -/
theorem Cv.vr {N N' : Int} {σ : Nat → Int} {W' σ' : Nat → Int} {RC' : Nat → List (Nat × Int)} (h : Cv W σ RC N τ) (hk : ∀ k ∈ [25, 28, 33], tI τ' k = tI τ k) (ha : ∀ k ∈ [24, 32], tA τ' k = tA τ k) (h22 : tI τ' 22 = tI τ 22 + 1) (hN : N + 1 ≤ N') (hN2 : N < 2000000000) : Cv W' σ' RC' N' τ' := by
  obtain ⟨h1, h2, h3, h4, h5, h6⟩ := h
  have hv : (tI τ 22 + 1).toInt = (tI τ 22).toInt + 1 := by
    have e : tI τ 22 = i32 (tI τ 22).toInt := (i32_of _).symm
    have e2 : tI τ 22 + 1 = i32 ((tI τ 22).toInt + 1) := by
      rw [show (1 : Int32) = i32 1 from rfl, ← i32_add, ← e]
    rw [e2, i32_toInt ⟨by omega, by omega⟩]
  unfold Cv
  rw [ha 24 (by decide), hk 25 (by decide), hk 28 (by decide), h22, ha 32 (by decide), hk 33 (by decide), hv]
  refine ⟨h1, by omega, by omega, fun e => ?_, h5, by omega⟩
  have := congrArg Int32.toInt e
  rw [hv] at this
  omega
end KT
