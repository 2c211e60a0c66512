/-! LAYER 2: the component's checks and small readings -/
set_option maxRecDepth 100000
theorem rem_c {a b : Int} (h0 : 0 ≤ a) (h1 : a < 2147483648) (h2 : 0 < b) (h3 : b < 2147483648) : rem32 (i32 a) (i32 b) = i32 (a % b) := i32_rem ⟨by omega, by omega⟩ ⟨by omega, by omega⟩ h0 h2
theorem div_c {a b : Int} (h0 : 0 ≤ a) (h1 : a < 2147483648) (h2 : 0 < b) (h3 : b < 2147483648) : i32 a / i32 b = i32 (a / b) := i32_div ⟨by omega, by omega⟩ ⟨by omega, by omega⟩ h0 h2
theorem d32_c {α : Type} {z : Int} {k : Option α} (h1 : 0 < z) (h2 : z < 2147483648) : d32 (i32 z) k = k := d32_n ⟨by omega, by omega⟩ (by omega)
theorem nc1 (x : Nat) : (x : Int) + 1 = ((x + 1 : Nat) : Int) := rfl
theorem c_in {s : CS} {a b c : Int} (a1 : -2147483648 ≤ a) (a2 : a < 2147483648) (b1 : -2147483648 ≤ b) (b2 : b < 2147483648) (c1 : -2147483648 ≤ c) (c2 : c < 2147483648) : FX0_in s (i32 a) (i32 b) (i32 c) = some (bi (decide (b ≤ a ∧ a ≤ c))) := by
  unfold FX0_in
  simp (disch := first | assumption | omega) only [nrm, wps, cmps]
  (repeat' split) <;> first | exact bi_t2 (by omega) | exact bi_f2 (by omega) | rfl
theorem c_isSecond {s : CS} {a : Int} (ha : ok32 a) : FX0_isSecond s (i32 a) = some (bi (decide (0 ≤ a ∧ a ≤ 1000000))) := by
  obtain ⟨a1, a2⟩ := ha
  unfold FX0_isSecond
  simp (disch := first | assumption | omega) only [nrm, wps, cmps, c_in]
theorem c_isWay {s : CS} {a : Int} (ha : ok32 a) : FX0_isWay s (i32 a) = some (bi (decide (0 ≤ a ∧ a ≤ 1))) := by
  obtain ⟨a1, a2⟩ := ha
  unfold FX0_isWay
  simp (disch := first | assumption | omega) only [nrm, wps, cmps, c_in]
theorem mz_s {α : Type} {s : CS} {p : α → CS} {z : α} (h : cz s ≤ cz (p z) ∧ cl s ≤ cl (p z)) : mz s p (some z) = some z := if_pos h
theorem ok_mz {α : Type} {s : CS} {p : α → CS} {o : Option α} {Q : α → Prop} (h : Ok o Q) (k : ∀ z, Q z → cz s ≤ cz (p z) ∧ cl s ≤ cl (p z)) : Ok (mz s p o) Q := by
  obtain ⟨z, rfl, h2⟩ := h
  exact ⟨z, mz_s (k z h2), h2⟩
theorem ok_mq {α : Type} {ρ : Nat → Nat × Nat} {s : CS} {p : α → CS} {o : Option α} {Q : α → Prop} (h : Ok o Q) (k : ∀ z, Q z → Fq ρ s (p z)) : Ok (mz s p o) Q := ok_mz h fun z hz => by
  have e := k z hz
  exact ⟨by rw [e.2.2.2.2.2.1]; exact Nat.le_refl _, by rw [e.2.2.2.2.2.2]; exact Nat.le_refl _⟩
section CB
variable {g : Nat → Nat} {ρ : Nat → Nat × Nat} {W : Nat → Int} {S : Nat → Nat → Int} {V m Tp : Nat → Int} {RC : Nat → List (Nat × Int)} {s : CS} {T : Int}
theorem b_200 (b : B g ρ W S V m Tp RC s) : cI s 200 (g 1) = i32 (W 0) := b.2.2.1.2.1
theorem b_201 (b : B g ρ W S V m Tp RC s) : cI s 201 (g 1) = i32 (W 1) := b.2.2.1.2.2.1
theorem b_206 (b : B g ρ W S V m Tp RC s) : cI s 206 (g 1) = i32 (W 9) := b.2.2.2.1.2.2.2.2.1
theorem b_208 (b : B g ρ W S V m Tp RC s) : cI s 208 (g 1) = i32 (W 6) := b.2.2.2.1.2.2.2.2.2
theorem c_isCorner (b : B g ρ W S V m Tp RC s) (hW : TW W) {x y : Int} (hx : ok32 x) (hy : ok32 y) : FX2_isCorner s (g 1) (i32 x) (i32 y) = some (bi (decide ((0 ≤ x ∧ x < W 0) ∧ 0 ≤ y ∧ y < W 1))) := by
  obtain ⟨a1, a2⟩ := hx
  obtain ⟨b1, b2⟩ := hy
  have w0 := hW.1
  have w1 := hW.2.1
  unfold FX2_isCorner
  simp (disch := first | assumption | omega) only [nrm, wps, cmps, bcx b, b_200 b, b_201 b, c_in, dec_f]
  (repeat' split) <;> first | exact bi_t2 (by omega) | exact bi_f2 (by omega) | rfl
theorem c_isAsked (b : B g ρ W S V m Tp RC s) (hW : TW W) {x y t : Int} (hx : ok32 x) (hy : ok32 y) (ht : ok32 t) : FX0_isAsked s (g 0) (i32 x) (i32 y) (i32 t) = some (bi (decide (((0 ≤ x ∧ x < W 0) ∧ 0 ≤ y ∧ y < W 1) ∧ 0 ≤ t ∧ t ≤ 1000000))) := by
  unfold FX0_isAsked
  simp (disch := first | assumption | omega) only [nrm, wps, cmps, bcx b, c_isCorner b hW hx hy, c_isSecond ht, dec_f]
  (repeat' split) <;> first | exact bi_t2 (by omega) | exact bi_f2 (by omega) | rfl
theorem s_isPlace {τ : TS} (hW : TW W) (h : Rw W τ) {x y t : Int} (hx : ok32 x) (hy : ok32 y) (ht : ok32 t) : T_isPlace τ (i32 x) (i32 y) (i32 t) = some (bi (decide (((0 ≤ x ∧ x < W 0) ∧ 0 ≤ y ∧ y < W 1) ∧ 0 ≤ t ∧ t ≤ 1000000))) := by
  unfold T_isPlace
  simp (disch := first | assumption | omega) only [nrm, wps, cmps, s_isCorner hW h hx hy, s_isSecond ht, dec_f]
  (repeat' split) <;> first | exact bi_t2 (by omega) | exact bi_f2 (by omega) | rfl
theorem c_isHome (b : B g ρ W S V m Tp RC s) (hW : TW W) {x y : Nat} (hx : x < 10) (hy : y < 10) : FX0_isHome s (g 0) (i32 x) (i32 y) = some (bi (hmA W x y)) := by
  have w0 := hW.1
  have w1 := hW.2.1
  unfold FX0_isHome hmA
  simp (disch := first | assumption | omega) only [nrm, wps, cmps, bcx b, b_200 b, b_201 b]
  (repeat' split) <;> first | exact bi_t2 (by omega) | exact bi_f2 (by omega) | rfl
theorem c_walk (b : B g ρ W S V m Tp RC s) (hW : TW W) : FX2_walk s (g 1) = some (i32 (W 2)) := by
  have w2 := hW.2.2.1
  unfold FX2_walk
  rcases b.2.2.2.1.1 with e | ⟨e, e2⟩
  · simp (disch := first | assumption | omega) only [nrm, wps, cmps, bcx b, e]
    rw [if_pos (by omega)]
  · simp (disch := first | assumption | omega) only [nrm, wps, cmps, bcx b, e]
    rw [if_neg (by omega), e2]
def rnA (W : Nat → Int) : Int := if W 3 < 0 then W 2 else W 3
def slA (W : Nat → Int) : Int := if W 4 < 0 then W 2 else W 4
def rsA (W : Nat → Int) : Int := if W 6 = 1 then 0 else W 5
theorem rn_b (hW : TW W) : 1 ≤ rnA W ∧ rnA W ≤ 30 := by
  have w2 := hW.2.2.1
  have w3 := hW.2.2.2.1
  unfold rnA
  split <;> omega
theorem sl_b (hW : TW W) : 1 ≤ slA W ∧ slA W ≤ 30 := by
  have w2 := hW.2.2.1
  have w3 := hW.2.2.2.2.1
  unfold slA
  split <;> omega
theorem rs_b (hW : TW W) : 0 ≤ rsA W ∧ rsA W ≤ 9 := by
  have w5 := hW.2.2.2.2.2.1
  unfold rsA
  split <;> omega
theorem c_run (b : B g ρ W S V m Tp RC s) (hW : TW W) : FX2_run s (g 1) = some (i32 (rnA W)) := by
  have w2 := hW.2.2.1
  have w3 := hW.2.2.2.1
  unfold FX2_run rnA
  simp (disch := first | assumption | omega) only [nrm, wps, cmps, bcx b, b.2.2.2.1.2.1, c_walk b hW]
  split
  · rw [if_neg (by omega)]
  · rw [if_pos (by omega)]
theorem c_slow (b : B g ρ W S V m Tp RC s) (hW : TW W) : FX2_slow s (g 1) = some (i32 (slA W)) := by
  have w2 := hW.2.2.1
  have w3 := hW.2.2.2.2.1
  unfold FX2_slow slA
  simp (disch := first | assumption | omega) only [nrm, wps, cmps, bcx b, b.2.2.2.1.2.2.1, c_walk b hW]
  split
  · rw [if_neg (by omega)]
  · rw [if_pos (by omega)]
theorem c_runs (b : B g ρ W S V m Tp RC s) (hW : TW W) : FX2_runs s (g 1) = some (i32 (rsA W)) := by
  have w5 := hW.2.2.2.2.2.1
  have w6 := hW.2.2.2.2.2.2.1
  unfold FX2_runs rsA
  rcases b.2.2.2.1.2.2.2.1 with e | ⟨e, e2⟩
  · simp (disch := first | assumption | omega) only [nrm, wps, cmps, bcx b, b_208 b, e]
    split
    · rw [if_pos (by omega), if_neg (by omega)]
    · rw [if_pos (by omega)]
  · simp (disch := first | assumption | omega) only [nrm, wps, cmps, bcx b, b_208 b, e]
    split
    · rw [if_neg (by omega), if_neg (by omega), e2]
    · rw [if_pos (by omega)]
theorem s_ld (τ : TS) {k : Nat} (h : Rw W τ) (hk : k < 340) {α : Type} {K : Int32 → Option α} : ld (tA τ 10) 680 (i32 (k : Int)) K = K (i32 (W k)) := by rw [ld_n (by omega) (by omega), h k hk]
theorem s_runTime {τ : TS} (hW : TW W) (h : Rw W τ) : T_runTime τ = some (i32 (rnA W)) := by
  have w2 := hW.2.2.1
  have w3 := hW.2.2.2.1
  unfold T_runTime rnA
  rw [show (3 : Int32) = i32 ((3 : Nat) : Int) from rfl, show (2 : Int32) = i32 ((2 : Nat) : Int) from rfl, s_ld τ h (by omega)]
  simp (disch := first | assumption | omega) only [nrm, wps, cmps, s_ld τ h (show 3 < 340 by omega), s_ld τ h (show 2 < 340 by omega)]
  split
  · rw [if_neg (by omega)]
  · rw [if_pos (by omega)]
theorem s_slowTime {τ : TS} (hW : TW W) (h : Rw W τ) : T_slowTime τ = some (i32 (slA W)) := by
  have w2 := hW.2.2.1
  have w3 := hW.2.2.2.2.1
  unfold T_slowTime slA
  rw [show (4 : Int32) = i32 ((4 : Nat) : Int) from rfl, show (2 : Int32) = i32 ((2 : Nat) : Int) from rfl, s_ld τ h (by omega)]
  simp (disch := first | assumption | omega) only [nrm, wps, cmps, s_ld τ h (show 4 < 340 by omega), s_ld τ h (show 2 < 340 by omega)]
  split
  · rw [if_neg (by omega)]
  · rw [if_pos (by omega)]
/-- the fastest and the slowest street -/
def fsA (W : Nat → Int) : Int := if rnA W ≤ slA W then rnA W else W 2
def swA (W : Nat → Int) : Int := if rnA W ≤ slA W then slA W else W 2
theorem c_fast (b : B g ρ W S V m Tp RC s) (hW : TW W) : FX0_fast s (g 0) = some (i32 (fsA W)) := by
  have w2 := hW.2.2.1
  have h1 := rn_b hW
  have h2 := sl_b hW
  unfold FX0_fast fsA
  simp (disch := first | assumption | omega) only [nrm, wps, cmps, bcx b, c_run b hW, c_slow b hW, c_walk b hW]
  split <;> rfl
theorem c_slow0 (b : B g ρ W S V m Tp RC s) (hW : TW W) : FX0_slow s (g 0) = some (i32 (swA W)) := by
  have w2 := hW.2.2.1
  have h1 := rn_b hW
  have h2 := sl_b hW
  unfold FX0_slow swA
  simp (disch := first | assumption | omega) only [nrm, wps, cmps, bcx b, c_run b hW, c_slow b hW, c_walk b hW]
  split <;> rfl
theorem s_fastest {τ : TS} (hW : TW W) (h : Rw W τ) : T_fastest τ = some (i32 (fsA W)) := by
  have w2 := hW.2.2.1
  have h1 := rn_b hW
  have h2 := sl_b hW
  unfold T_fastest fsA
  rw [show (2 : Int32) = i32 ((2 : Nat) : Int) from rfl, s_ld τ h (by omega)]
  simp (disch := first | assumption | omega) only [nrm, wps, cmps, s_runTime hW h, s_slowTime hW h]
  split <;> rfl
theorem s_slowest {τ : TS} (hW : TW W) (h : Rw W τ) : T_slowest τ = some (i32 (swA W)) := by
  have w2 := hW.2.2.1
  have h1 := rn_b hW
  have h2 := sl_b hW
  unfold T_slowest swA
  rw [show (2 : Int32) = i32 ((2 : Nat) : Int) from rfl, s_ld τ h (by omega)]
  simp (disch := first | assumption | omega) only [nrm, wps, cmps, s_runTime hW h, s_slowTime hW h]
  split <;> rfl
/-- kinds of lights, virtual -/
theorem rl_k {c l : Nat} (hl : Rl s W c l) (h1 : 0 < W (10 + 4 * c)) (h2 : W (10 + 4 * c) ≤ 4) : ∃ w n, (W (10 + 4 * c) = 1 ∧ s.1 l = some (w, 12, n)) ∨ (W (10 + 4 * c) = 2 ∧ s.1 l = some (w, 13, n)) ∨ (W (10 + 4 * c) = 3 ∧ s.1 l = some (w, 14, n)) ∨ (W (10 + 4 * c) = 4 ∧ s.1 l = some (w, 15, n)) := by
  obtain ⟨⟨w, n, h⟩, -⟩ := hl
  refine ⟨w, n, ?_⟩
  rcases (show W (10 + 4 * c) = 1 ∨ W (10 + 4 * c) = 2 ∨ W (10 + 4 * c) = 3 ∨ W (10 + 4 * c) = 4 by omega) with e | e | e | e <;> rw [e] at h
  · exact .inl ⟨e, h⟩
  · exact .inr (.inl ⟨e, h⟩)
  · exact .inr (.inr (.inl ⟨e, h⟩))
  · exact .inr (.inr (.inr ⟨e, h⟩))
theorem c_vHidden {c l : Nat} (hl : Rl s W c l) (h1 : 0 < W (10 + 4 * c)) (h2 : W (10 + 4 * c) ≤ 4) : V11_isHidden s l = some (bi (decide (W (10 + 4 * c) = 2))) := by
  obtain ⟨w, n, ⟨e, h⟩ | ⟨e, h⟩ | ⟨e, h⟩ | ⟨e, h⟩⟩ := rl_k hl h1 h2 <;> rw [e] <;> unfold V11_isHidden FX11_isHidden FX13_isHidden isK <;> rw [h] <;> rfl
theorem c_vButton {c l : Nat} (hl : Rl s W c l) (h1 : 0 < W (10 + 4 * c)) (h2 : W (10 + 4 * c) ≤ 4) : V11_isButton s l = some (bi (decide (W (10 + 4 * c) = 3))) := by
  obtain ⟨w, n, ⟨e, h⟩ | ⟨e, h⟩ | ⟨e, h⟩ | ⟨e, h⟩⟩ := rl_k hl h1 h2 <;> rw [e] <;> unfold V11_isButton FX11_isButton FX14_isButton isK <;> rw [h] <;> rfl
theorem c_vClock {c l : Nat} (hl : Rl s W c l) (h1 : 0 < W (10 + 4 * c)) (h2 : W (10 + 4 * c) ≤ 4) : V11_isClock s l = some (bi (decide (W (10 + 4 * c) ≤ 2))) := by
  obtain ⟨w, n, ⟨e, h⟩ | ⟨e, h⟩ | ⟨e, h⟩ | ⟨e, h⟩⟩ := rl_k hl h1 h2 <;> rw [e] <;> unfold V11_isClock FX12_isClock FX11_isClock isK <;> rw [h] <;> rfl
theorem c_vKind {c l : Nat} (hl : Rl s W c l) (h1 : 0 < W (10 + 4 * c)) (h2 : W (10 + 4 * c) ≤ 4) : V11_kind s l = some (i32 (W (10 + 4 * c) - 1)) := by
  obtain ⟨w, n, ⟨e, h⟩ | ⟨e, h⟩ | ⟨e, h⟩ | ⟨e, h⟩⟩ := rl_k hl h1 h2 <;> rw [e] <;> unfold V11_kind FX12_kind FX13_kind FX14_kind FX15_kind isK <;> rw [h] <;> rfl
/-- a light's fields -/
theorem c_lf {c l : Nat} (hl : Rl s W c l) (h1 : 0 < W (10 + 4 * c)) (h2 : W (10 + 4 * c) ≤ 4) : isK s l [12, 13, 14, 15] = true := by
  obtain ⟨w, n, ⟨e, h⟩ | ⟨e, h⟩ | ⟨e, h⟩ | ⟨e, h⟩⟩ := rl_k hl h1 h2 <;> exact isK_o h rfl
theorem lf_cx {c l : Nat} (hl : Rl s W c l) (h1 : 0 < W (10 + 4 * c)) (h2 : W (10 + 4 * c) ≤ 4) : (∀ (α : Type) (K : Int32 → Option α), gI s l [12, 13, 14, 15] 1100 K = K (i32 (W (11 + 4 * c)))) ∧ (∀ (α : Type) (K : Int32 → Option α), gI s l [12, 13, 14, 15] 1101 K = K (i32 (W (12 + 4 * c)))) ∧ (∀ (α : Type) (K : Int32 → Option α), gI s l [12, 13, 14, 15] 1102 K = K (i32 (W (13 + 4 * c)))) := by
  have h := c_lf hl h1 h2
  refine ⟨fun α K => ?_, fun α K => ?_, fun α K => ?_⟩
  · rw [gI_t h, hl.2.1]
  · rw [gI_t h, hl.2.2.1]
  · rw [gI_t h, hl.2.2.2]
/-- the light at a corner -/
theorem c_light0 (b : B g ρ W S V m Tp RC s) {c : Nat} (hc : c < 54) : (W (10 + 4 * c) = 0 ∧ cQ s (g 8) c = none) ∨ (0 < W (10 + 4 * c) ∧ ∃ l, cQ s (g 8) c = some l ∧ Rl s W c l) := b.2.2.1.2.2.2.2.2.2.2.2 c hc
theorem c_ltAt (b : B g ρ W S V m Tp RC s) {x y : Nat} (hx : x < 6) (hy : y < 9) : FX0_lightAt s (g 0) (i32 x) (i32 y) = some (cQ s (g 8) (6 * y + x)) := c_lightAt (bcx b).1.1 (b.2.1 2 _ rfl).1 b.2.2.1 hx hy
theorem c_wts (b : B g ρ W S V m Tp RC s) (hW : TW W) {x y : Nat} {way : Bool} {t : Int} (hx : x < 6) (hy : y < 9) (ht : 0 ≤ t) (ht2 : t ≤ 1900000000) : FX0_waits s (g 0) (i32 x) (i32 y) (wy way) (i32 t) = some (i32 (if cgA W x y way = true then wtA W x y way t else -1)) := c_waits hW (bcx b).1.1 (b.2.1 2 _ rfl).1 b.2.2.1 hx hy ⟨ht, ht2⟩
/-- a corner's light is hidden and not known -/
def unA (W : Nat → Int) (σ : Nat → Int) (c : Nat) : Bool := decide (W (10 + 4 * c) = 2 ∧ σ (4 + c) = 0)
theorem kw_b (hW : TW W) {c : Nat} (hc : c < 54) : 0 ≤ W (10 + 4 * c) ∧ W (10 + 4 * c) ≤ 4 := (hW.2.2.2.2.2.2.2.2.2.2.1 c hc).1
theorem b_now (b : B g ρ W S V m Tp RC s) : SO ρ s (g 3) ∧ SV s (g 3) (S 0) ∧ SV2 s (g 3) (S 0) := by
  obtain ⟨h1, h2⟩ := (b.2.2.2.2.2.2.2.2.1 0 (by omega)).2 (g 3) rfl
  exact ⟨h1, (h2 (.inl rfl)).1, (h2 (.inl rfl)).2 (by omega)⟩
/-- reading a state object -/
theorem so_cx {o : Nat} (h : SO ρ s o) : (∀ (α : Type) (f : Nat) (K : Int32 → Option α), gI s o [8] f K = K (cI s f o)) ∧ (∀ (α : Type) (f : Nat) (K : Option Nat → Option α), gR s o [8] f K = K (cR s f o)) ∧ (∀ (α : Type) (f : Nat) (v : Int32) (K : CS → Option α), pI s o [8] f v K = K (uI s f o v)) ∧ isK s o [8] = true ∧ cR s 806 o = some (av s 806 o) ∧ cR s 807 o = some (av s 807 o) ∧ cR s 808 o = some (av s 808 o) ∧ cR s 809 o = some (av s 809 o) ∧ cR s 810 o = some (av s 810 o) ∧ cR s 811 o = some (av s 811 o) := by
  have k := gcx h.1 [8] rfl
  exact ⟨k.2.1, k.2.2.2.1, k.2.2.2.2.1, k.1, h.2.1.1, h.2.2.1.1, h.2.2.2.1.1, h.2.2.2.2.1.1, h.2.2.2.2.2.1.1, h.2.2.2.2.2.2.1⟩
theorem so_ld {o : Nat} (h : SO ρ s o) : (∀ (α : Type) (z : Int) (K : Int32 → Option α), 0 ≤ z → z < 54 → lI s (av s 806 o) 102 (i32 z) K = K (cA s (av s 806 o) z.toNat)) ∧ (∀ (α : Type) (z : Int) (K : Int32 → Option α), 0 ≤ z → z < 10 → lI s (av s 807 o) 102 (i32 z) K = K (cA s (av s 807 o) z.toNat)) ∧ (∀ (α : Type) (z : Int) (K : Int32 → Option α), 0 ≤ z → z < 10 → lI s (av s 808 o) 100 (i32 z) K = K (cA s (av s 808 o) z.toNat)) ∧ (∀ (α : Type) (z : Int) (K : Int32 → Option α), 0 ≤ z → z < 10 → lI s (av s 809 o) 100 (i32 z) K = K (cA s (av s 809 o) z.toNat)) ∧ (∀ (α : Type) (z : Int) (K : Int32 → Option α), 0 ≤ z → z < 8 → lI s (av s 810 o) 100 (i32 z) K = K (cA s (av s 810 o) z.toNat)) ∧ (∀ (α : Type) (z : Int) (K : Int32 → Option α), 0 ≤ z → z < 8 → lI s (av s 811 o) 100 (i32 z) K = K (cA s (av s 811 o) z.toNat)) := ⟨fun _ _ _ h0 h1 => lI_i h.2.1.2.1 h0 h1 (by decide), fun _ _ _ h0 h1 => lI_i h.2.2.1.2.1 h0 h1 (by decide), fun _ _ _ h0 h1 => lI_i h.2.2.2.1.2.1 h0 h1 (by decide), fun _ _ _ h0 h1 => lI_i h.2.2.2.2.1.2.1 h0 h1 (by decide), fun _ _ _ h0 h1 => lI_i h.2.2.2.2.2.1.2.1 h0 h1 (by decide), fun _ _ _ h0 h1 => lI_i h.2.2.2.2.2.2.2.1 h0 h1 (by decide)⟩
theorem so_st {o : Nat} (h : SO ρ s o) : (∀ (α : Type) (z : Int) (v : Int32) (K : CS → Option α), 0 ≤ z → z < 54 → tI_ s (av s 806 o) 102 (i32 z) v K = K (uA s (av s 806 o) z.toNat v)) ∧ (∀ (α : Type) (z : Int) (v : Int32) (K : CS → Option α), 0 ≤ z → z < 10 → tI_ s (av s 807 o) 102 (i32 z) v K = K (uA s (av s 807 o) z.toNat v)) ∧ (∀ (α : Type) (z : Int) (v : Int32) (K : CS → Option α), 0 ≤ z → z < 10 → tI_ s (av s 808 o) 100 (i32 z) v K = K (uA s (av s 808 o) z.toNat v)) ∧ (∀ (α : Type) (z : Int) (v : Int32) (K : CS → Option α), 0 ≤ z → z < 10 → tI_ s (av s 809 o) 100 (i32 z) v K = K (uA s (av s 809 o) z.toNat v)) ∧ (∀ (α : Type) (z : Int) (v : Int32) (K : CS → Option α), 0 ≤ z → z < 8 → tI_ s (av s 810 o) 100 (i32 z) v K = K (uA s (av s 810 o) z.toNat v)) ∧ (∀ (α : Type) (z : Int) (v : Int32) (K : CS → Option α), 0 ≤ z → z < 8 → tI_ s (av s 811 o) 100 (i32 z) v K = K (uA s (av s 811 o) z.toNat v)) := ⟨fun _ _ _ _ h0 h1 => tI_i h.2.1.2.1 h0 h1 (by decide), fun _ _ _ _ h0 h1 => tI_i h.2.2.1.2.1 h0 h1 (by decide), fun _ _ _ _ h0 h1 => tI_i h.2.2.2.1.2.1 h0 h1 (by decide), fun _ _ _ _ h0 h1 => tI_i h.2.2.2.2.1.2.1 h0 h1 (by decide), fun _ _ _ _ h0 h1 => tI_i h.2.2.2.2.2.1.2.1 h0 h1 (by decide), fun _ _ _ _ h0 h1 => tI_i h.2.2.2.2.2.2.2.1 h0 h1 (by decide)⟩
theorem c_isUnknown (b : B g ρ W S V m Tp RC s) (hW : TW W) (hS : SW W T (S 0)) {c : Nat} (hc : c < 54) : FX0_isUnknown s (g 0) (i32 c) = some (bi (unA W (S 0) c)) := by
  obtain ⟨o1, o2, -⟩ := b_now b
  have hk := kw_b hW hc
  have hs := hS.2.2.2.2 c hc
  have en : (c : Int).toNat = c := Int.toNat_natCast c
  unfold FX0_isUnknown unA
  rcases c_light0 b hc with ⟨h0, hq⟩ | ⟨h0, l, hq, hl⟩
  · simp (disch := first | assumption | omega) only [nrm, wps, cmps, bcx b, bld b, en, hq]
    rw [decide_eq_false (by omega)]
    rfl
  · simp (disch := first | assumption | omega) only [nrm, wps, cmps, bcx b, bld b, so_cx o1, so_ld o1, en, hq, c_vHidden hl h0 hk.2, o2.2.2.2.2 c hc, dec_f]
    (repeat' split) <;> first | exact bi_t2 (by omega) | exact bi_f2 (by omega) | rfl
theorem c_isButton (b : B g ρ W S V m Tp RC s) (hW : TW W) {x y : Int} (hx : ok32 x) (hy : ok32 y) : FX0_isButton s (g 0) (i32 x) (i32 y) = some (bi (decide (((0 ≤ x ∧ x < W 0) ∧ 0 ≤ y ∧ y < W 1) ∧ W (10 + 4 * (6 * y.toNat + x.toNat)) = 3))) := by
  have w0 := hW.1
  have w1 := hW.2.1
  unfold FX0_isButton
  simp (disch := first | assumption | omega) only [nrm, wps, cmps, bcx b, c_isCorner b hW hx hy, dec_f]
  by_cases q : (0 ≤ x ∧ x < W 0) ∧ 0 ≤ y ∧ y < W 1
  · have hk := kw_b hW (c := 6 * y.toNat + x.toNat) (by omega)
    have e1 : i32 x = i32 ((x.toNat : Nat) : Int) := by congr 1; omega
    have e2 : i32 y = i32 ((y.toNat : Nat) : Int) := by congr 1; omega
    rw [if_neg (fun z => z q), e1, e2, c_ltAt b (by omega) (by omega)]
    rcases c_light0 b (c := 6 * y.toNat + x.toNat) (by omega) with ⟨h0, hq⟩ | ⟨h0, l, hq, hl⟩
    · rw [hq, decide_eq_false (by omega)]
      rfl
    · rw [hq]
      simp (disch := first | assumption | omega) only [nrm, wps, cmps, c_vButton hl h0 hk.2, dec_f]
      (repeat' split) <;> first | exact bi_t2 (by omega) | exact bi_f2 (by omega) | rfl
  · rw [if_pos q, decide_eq_false (fun z => q z.1)]
    rfl
end CB
