/-! LAYER 2: the pure parser of towns -/
set_option maxRecDepth 100000
/-- a town under way: its numbers, the bits of the lines told, names, rules -/
abbrev TV := (Nat → Int) × Nat × List (List Int) × List (List (Nat × Int))
def upW (W : Nat → Int) (i : Nat) (v : Int) : Nat → Int := fun j => if j = i then v else W j
theorem upW_t {W : Nat → Int} {i : Nat} {v : Int} : upW W i v i = v := if_pos rfl
theorem upW_n {W : Nat → Int} {i j : Nat} {v : Int} (h : ¬ j = i) : upW W i v j = W j := if_neg h
/-- all codes, each rule's end behind it -/
def cdF (R : List (List (Nat × Int))) : List (Nat × Int) := (R.map fun L => L ++ [(0, 0)]).flatten
def lnW : List (List Int) := [[119, 97, 108, 107], [114, 117, 110], [115, 108, 111, 119], [114, 117, 110, 115], [99, 104, 105, 108, 100], [108, 105, 103, 104, 116], [98, 97, 114], [114, 117, 108, 101]]
def kdW : List (List Int) := [[99, 108, 111, 99, 107], [104, 105, 100, 100, 101, 110], [98, 117, 116, 116, 111, 110], [112, 111, 108, 105, 99, 101]]
def rdW : List (List Int) := [[114, 111, 117, 110, 100]]
def ovW : List (List Int) := [[111, 118, 101, 114]]
def foW : List (List Int) := [[102, 111, 114]]
def twnW : List (List Int) := [[116, 111, 119, 110]]
def kpW : List (List Int) := wdW.take 20
theorem wL_s : wL 1 = joinW twnW ∧ wL 2 = joinW lnW ∧ wL 3 = joinW kdW ∧ wL 4 = joinW rdW ∧ wL 5 = joinW ovW ∧ wL 6 = joinW foW ∧ wL 7 = joinW owW ∧ wL 8 = joinW kpW := by decide +kernel
theorem wW_n : (∀ x ∈ twnW, ∀ z ∈ x, ¬ z = 32) ∧ (∀ x ∈ lnW, ∀ z ∈ x, ¬ z = 32) ∧ (∀ x ∈ kdW, ∀ z ∈ x, ¬ z = 32) ∧ (∀ x ∈ rdW, ∀ z ∈ x, ¬ z = 32) ∧ (∀ x ∈ ovW, ∀ z ∈ x, ¬ z = 32) ∧ (∀ x ∈ foW, ∀ z ∈ x, ¬ z = 32) ∧ (∀ x ∈ owW, ∀ z ∈ x, ¬ z = 32) ∧ ∀ x ∈ kpW, ∀ z ∈ x, ¬ z = 32 := by decide
def lcI (a r : Int) : Int := ((a.toNat / Nat.gcd a.toNat r.toNat * r.toNat : Nat) : Int)
section TWP
variable (t : Nat → Int) (n : Nat)
/-- a number behind a word -/
def nwP (ws : List (List Int)) (lo hi : Int) (k : Nat) : Int ⊕ (Int × Nat) := bP (ndP (decide (0 ≤ whV ws t n (tP t n k))) (tP t n k) k) fun _ k1 => nmP t n lo hi (tP t n k1) k1
def liS (w : TV) (c : Nat) (kd rd ov le : Int) : TV := (upW (upW (upW (upW (upW (upW w.1 9 (if kd < 2 then lcI (w.1 9) rd else w.1 9)) (10 + 4 * c) (1 + kd)) (11 + 4 * c) rd) (12 + 4 * c) ov) (13 + 4 * c) le) 7 (w.1 7 + 1), w.2)
/-- behind the kind of a light -/
def liP2 (w : TV) (c : Nat) (kd : Int) (k : Nat) : Int ⊕ (TV × Nat) := bP (ndP (decide (0 ≤ whV rdW t n (tP t n k))) (tP t n k) k) fun _ k3 => if tS t n (tP t n k3) = 2 ∧ kd < 2 ∧ (1 ≤ nV t n (tP t n k3) ∧ nV t n (tP t n k3) ≤ 60) ∧ 1200 < lcI (w.1 9) (nV t n (tP t n k3)) then .inl (4 + 16 * (tP t n k3 : Int)) else bP (nmP t n 1 60 (tP t n k3) k3) fun rd k4 => bP (nwP t n ovW 0 (rd - 1) k4) fun ov k6 => bP (nwP t n foW 0 rd k6) fun le k8 => .inr (liS w c kd rd ov le, k8)
def liP (w : TV) (k : Nat) : Int ⊕ (TV × Nat) := bP (nmP t n 0 (w.1 0 - 1) (tP t n k) k) fun x k1 => if tS t n (tP t n k1) = 2 ∧ (0 ≤ nV t n (tP t n k1) ∧ nV t n (tP t n k1) ≤ w.1 1 - 1) ∧ 0 < w.1 (10 + 4 * (6 * (nV t n (tP t n k1)).toNat + x.toNat)) then .inl (3 + 16 * (tP t n k1 : Int)) else bP (nmP t n 0 (w.1 1 - 1) (tP t n k1) k1) fun y k2 => if whV kdW t n (tP t n k2) < 0 then .inl (1 + 16 * (tP t n k2 : Int)) else liP2 t n w (6 * y.toNat + x.toNat) (whV kdW t n (tP t n k2)) (k2 + 1)
def baP (w : TV) (k : Nat) : Int ⊕ (TV × Nat) := bP (nmP t n 0 (w.1 0 - 1) (tP t n k) k) fun x k1 => bP (nmP t n 0 (w.1 1 - 1) (tP t n k1) k1) fun y k2 => if whV owW t n (tP t n k2) < 0 then .inl (1 + 16 * (tP t n k2 : Int)) else if brA w.1 x.toNat y.toNat (decide (whV owW t n (tP t n k2) = 1)) = true then .inl (3 + 16 * (tP t n k2 : Int)) else .inr ((upW w.1 (226 + (6 * y.toNat + x.toNat)) (w.1 (226 + (6 * y.toNat + x.toNat)) + (1 + whV owW t n (tP t n k2))), w.2), k2 + 1)
def ruS (w : TV) (nm : List Int) (L : List (Nat × Int)) : TV := (upW (upW w.1 (280 + w.2.2.1.length) ((cdF w.2.2.2).length : Int)) 8 (w.1 8 + 1), w.2.1, w.2.2.1 ++ [nm], w.2.2.2 ++ [L])
def ruP (w : TV) (k : Nat) : Int ⊕ (TV × Nat) := if ¬ (tS t n (tP t n k) = 1 ∧ whV kpW t n (tP t n k) < 0) then .inl (1 + 16 * (tP t n k : Int)) else if wrd t n (tP t n k) ∈ w.2.2.1 then .inl (3 + 16 * (tP t n k : Int)) else bP (exX t n (ptX t n 6 0) (k + 1)) fun A k2 => .inr (ruS w (wrd t n (tP t n k)) A.1, k2)
def onS (w : TV) (j : Nat) (v : Int) : TV := (upW w.1 (2 + j) v, w.2.1 ||| 2 ^ j, w.2.2)
/-- what follows the first word of a line -/
def lnB (w : TV) (j : Int) (k : Nat) : Int ⊕ (TV × Nat) := if j = 4 then .inr (onS w 4 1, k) else if j = 3 then bP (nmP t n 0 9 (tP t n k) k) fun v k1 => .inr (onS w 3 v, k1) else if j < 3 then bP (nmP t n 1 30 (tP t n k) k) fun v k1 => .inr (onS w j.toNat v, k1) else if j = 5 then liP t n w k else if j = 6 then baP t n w k else ruP t n w k
def lnX (w : TV) (k : Nat) : Int ⊕ (TV × Nat) := if whV lnW t n (tP t n k) < 0 then .inl (1 + 16 * (tP t n k : Int)) else if w.2.1.testBit (whV lnW t n (tP t n k)).toNat = true then .inl (3 + 16 * (tP t n k : Int)) else if whV lnW t n (tP t n k) = 7 ∧ w.2.2.1.length = 4 then .inl (5 + 16 * (tP t n k : Int)) else bP (lnB t n w (whV lnW t n (tP t n k)) (k + 1)) fun w' k2 => bP (ndP (isSg t n 59 (tP t n k2)) (tP t n k2) k2) fun _ k3 => .inr (w', k3)
def twL : Nat → TV → Nat → Int ⊕ (TV × Nat)
  | 0, w, k => .inr (w, k)
  | m + 1, w, k => if tS t n (tP t n k) = 0 then .inr (w, k) else bP (lnX t n w k) fun w' k' => twL m w' k'
def W00 (a b : Int) : Nat → Int := fun j => if j = 0 then a else if j = 1 then b else if j = 2 then 10 else if j = 3 then -1 else if j = 4 then -1 else if j = 9 then 1 else 0
def twX : Int ⊕ (TV × Nat) := bP (nwP t n twnW 1 6 0) fun a k1 => bP (nmP t n 1 9 (tP t n k1) k1) fun b k2 => bP (ndP (isSg t n 59 (tP t n k2)) (tP t n k2) k2) fun _ k3 => twL t n 1001 (W00 a b, 0, [], []) k3
end TWP
/-- told lines -/
def tdR (b : Nat) (W : Nat → Int) : Prop := b < 32 ∧ (b.testBit 0 = false → W 2 = 10) ∧ b.testBit 1 = decide (0 ≤ W 3) ∧ b.testBit 2 = decide (0 ≤ W 4) ∧ (b.testBit 3 = false → W 5 = 0) ∧ b.testBit 4 = decide (W 6 = 1)
/-- a town under way is well -/
def TII (t : Nat → Int) (n : Nat) (w : TV) (k : Nat) : Prop := TW w.1 ∧ LW_ w.1 ∧ tdR w.2.1 w.1 ∧ (w.2.2.1.length : Int) = w.1 8 ∧ w.2.2.2.length = w.2.2.1.length ∧ (cdF w.2.2.2).length ≤ tP t n k ∧ (∀ r, r < w.2.2.2.length → w.1 (280 + r) = ((cdF (w.2.2.2.take r)).length : Int)) ∧ ∀ nm ∈ w.2.2.1, nm.length ≤ 8 ∧ ∀ z ∈ nm, 97 ≤ z ∧ z ≤ 122
theorem cdF_a (R : List (List (Nat × Int))) (L : List (Nat × Int)) : cdF (R ++ [L]) = cdF R ++ (L ++ [(0, 0)]) := by
  unfold cdF
  rw [List.map_append, List.flatten_append]
  simp
theorem cnt_up : ∀ (m c0 : Nat) (p p' : Nat → Bool), c0 < m → p c0 = false → p' c0 = true → (∀ c, ¬ c = c0 → p' c = p c) → ((List.range m).filter p').length = ((List.range m).filter p).length + 1 := by
  have S : ∀ (m c0 : Nat) (p p' : Nat → Bool), m ≤ c0 → (∀ c, ¬ c = c0 → p' c = p c) → (List.range m).filter p' = (List.range m).filter p := fun m c0 p p' h k => by
    apply List.filter_congr
    intro x hx
    have := List.mem_range.mp hx
    exact k x (by omega)
  intro m
  induction m with
  | zero => intro c0 p p' h; omega
  | succ m ih =>
    intro c0 p p' h h1 h2 h3
    rw [List.range_succ, List.filter_append, List.filter_append, List.length_append, List.length_append]
    by_cases q : c0 = m
    · rw [S m c0 p p' (by omega) h3, ← q, List.filter_cons_of_pos h2, List.filter_cons_of_neg (by rw [h1]; decide)]
      rfl
    · rw [ih c0 p p' (by omega) h1 h2 h3, show List.filter p' [m] = List.filter p [m] from by
        apply List.filter_congr
        intro x hx
        have := List.mem_singleton.mp hx
        exact h3 x (by omega)]
      omega
theorem lcI_b {a r : Int} (ha : 1 ≤ a) (hr : 1 ≤ r) : 1 ≤ lcI a r ∧ a ∣ lcI a r ∧ r ∣ lcI a r := by
  obtain ⟨a, rfl⟩ : ∃ x : Nat, a = x := ⟨a.toNat, by omega⟩
  obtain ⟨r, rfl⟩ : ∃ x : Nat, r = x := ⟨r.toNat, by omega⟩
  unfold lcI
  rw [Int.toNat_natCast, Int.toNat_natCast]
  obtain ⟨a', ea⟩ := Nat.gcd_dvd_left a r
  obtain ⟨r', er⟩ := Nat.gcd_dvd_right a r
  have hg : 0 < Nat.gcd a r := Nat.gcd_pos_of_pos_left r (by omega)
  generalize Nat.gcd a r = g at *
  have e1 : a / g = a' := by rw [ea]; exact Nat.mul_div_cancel_left a' hg
  have ha' : 0 < a' := Nat.pos_of_ne_zero fun z => by rw [z, Nat.mul_zero] at ea; omega
  rw [e1]
  refine ⟨?_, ?_, ?_⟩
  · have : 0 < a' * r := Nat.mul_pos ha' (by omega)
    omega
  · exact Int.natCast_dvd_natCast.mpr ⟨r', by rw [er, ea, ← Nat.mul_assoc, Nat.mul_comm a' g]⟩
  · exact Int.natCast_dvd_natCast.mpr (Nat.dvd_mul_left r a')
section TWI
variable {t : Nat → Int} {n : Nat} {w w' : TV} {k k' : Nat}
theorem liS_r {c : Nat} {kd rd ov le : Int} (j : Nat) : (liS w c kd rd ov le).1 j = if j = 7 then w.1 7 + 1 else if j = 13 + 4 * c then le else if j = 12 + 4 * c then ov else if j = 11 + 4 * c then rd else if j = 10 + 4 * c then 1 + kd else if j = 9 then (if kd < 2 then lcI (w.1 9) rd else w.1 9) else w.1 j := rfl
/-- the corners whose lights stand -/
theorem LW_c {W : Nat → Int} (h : LW_ W) : 0 ≤ W 7 ∧ W 7 ≤ 54 := by
  rw [h.2]
  have := List.length_filter_le (fun c => decide (0 < W (10 + 4 * c))) (List.range 54)
  rw [List.length_range] at this
  omega
theorem liS_w (h : TW w.1) (hL : LW_ w.1) {x y : Nat} {kd rd ov le : Int} (hx : (x : Int) < w.1 0) (hy : (y : Int) < w.1 1) (h0 : ¬ 0 < w.1 (10 + 4 * (6 * y + x))) (hk : 0 ≤ kd ∧ kd ≤ 3) (hr : 1 ≤ rd ∧ rd ≤ 60) (ho : 0 ≤ ov ∧ ov ≤ rd - 1) (hl : 0 ≤ le ∧ le ≤ rd) (hc : kd < 2 → lcI (w.1 9) rd ≤ 1200) : TW (liS w (6 * y + x) kd rd ov le).1 ∧ LW_ (liS w (6 * y + x) kd rd ov le).1 := by
  obtain ⟨a0, a1, a2, a3, a4, a5, a6, a7, a8, a9, a10, a11⟩ := h
  have hlc := lcI_b a9.1 hr.1
  have hc54 : 6 * y + x < 54 := by omega
  obtain ⟨c, ec⟩ : ∃ c, c = 6 * y + x := ⟨_, rfl⟩
  rw [← ec] at h0 hc54 ⊢
  have r := liS_r (w := w) (c := c) (kd := kd) (rd := rd) (ov := ov) (le := le)
  have R0 : ∀ j, ¬ j = 7 → ¬ j = 9 → ¬ (10 + 4 * c ≤ j ∧ j ≤ 13 + 4 * c) → (liS w c kd rd ov le).1 j = w.1 j := fun j z1 z2 z3 => by
    rw [r, if_neg z1, if_neg (by omega), if_neg (by omega), if_neg (by omega), if_neg (by omega), if_neg z2]
  have R10 : (liS w c kd rd ov le).1 (10 + 4 * c) = 1 + kd := by rw [r, if_neg (by omega), if_neg (by omega), if_neg (by omega), if_neg (by omega), if_pos rfl]
  have R11 : (liS w c kd rd ov le).1 (11 + 4 * c) = rd := by rw [r, if_neg (by omega), if_neg (by omega), if_neg (by omega), if_pos rfl]
  have R12 : (liS w c kd rd ov le).1 (12 + 4 * c) = ov := by rw [r, if_neg (by omega), if_neg (by omega), if_pos rfl]
  have R13 : (liS w c kd rd ov le).1 (13 + 4 * c) = le := by rw [r, if_neg (by omega), if_pos rfl]
  have R9 : (liS w c kd rd ov le).1 9 = if kd < 2 then lcI (w.1 9) rd else w.1 9 := by rw [r, if_neg (by omega), if_neg (by omega), if_neg (by omega), if_neg (by omega), if_neg (by omega), if_pos rfl]
  have R7 : (liS w c kd rd ov le).1 7 = w.1 7 + 1 := by rw [r, if_pos rfl]
  have hL2 : LW_ (liS w c kd rd ov le).1 := by
    refine ⟨fun c' hc' q => ?_, ?_⟩
    · rw [R0 0 (by omega) (by omega) (by omega), R0 1 (by omega) (by omega) (by omega)]
      by_cases e : c' = c
      · rw [e, ec]
        omega
      · rw [R0 _ (by omega) (by omega) (by omega)] at q
        exact hL.1 c' hc' q
    · rw [R7, hL.2, cnt_up 54 c (fun c => decide (0 < w.1 (10 + 4 * c))) (fun c' => decide (0 < (liS w c kd rd ov le).1 (10 + 4 * c'))) hc54 (decide_eq_false h0) (decide_eq_true (by rw [R10]; omega)) (fun c' z => by rw [R0 _ (by omega) (by omega) (by omega)])]
      omega
  refine ⟨?_, hL2⟩
  have h7 := LW_c hL2
  have h9 : 1 ≤ (liS w c kd rd ov le).1 9 ∧ (liS w c kd rd ov le).1 9 ≤ 1200 ∧ w.1 9 ∣ (liS w c kd rd ov le).1 9 ∧ (kd < 2 → rd ∣ (liS w c kd rd ov le).1 9) := by
    rw [R9]
    by_cases q : kd < 2
    · rw [if_pos q]
      exact ⟨hlc.1, hc q, hlc.2.1, fun _ => hlc.2.2⟩
    · rw [if_neg q]
      exact ⟨a9.1, a9.2, Int.dvd_refl _, fun z => absurd z q⟩
  unfold TW
  rw [R0 0 (by omega) (by omega) (by omega), R0 1 (by omega) (by omega) (by omega), R0 2 (by omega) (by omega) (by omega), R0 3 (by omega) (by omega) (by omega), R0 4 (by omega) (by omega) (by omega), R0 5 (by omega) (by omega) (by omega), R0 6 (by omega) (by omega) (by omega), R0 8 (by omega) (by omega) (by omega)]
  refine ⟨a0, a1, a2, a3, a4, a5, a6, h7, a8, ⟨h9.1, h9.2.1⟩, fun c' hc' => ?_, fun c' hc' => ?_⟩
  · by_cases e : c' = c
    · rw [e, R10, R11, R12, R13]
      refine ⟨by omega, fun _ => ⟨by omega, by omega, by omega, fun z => ?_⟩⟩
      exact Int.emod_eq_zero_of_dvd (h9.2.2.2 (by omega))
    · rw [R0 _ (by omega) (by omega) (by omega), R0 _ (by omega) (by omega) (by omega), R0 _ (by omega) (by omega) (by omega), R0 _ (by omega) (by omega) (by omega)]
      obtain ⟨b1, b2⟩ := a10 c' hc'
      refine ⟨b1, fun z => ?_⟩
      obtain ⟨d1, d2, d3, d4⟩ := b2 z
      exact ⟨d1, d2, d3, fun z2 => Int.emod_eq_zero_of_dvd (Int.dvd_trans (Int.dvd_of_emod_eq_zero (d4 z2)) h9.2.2.1)⟩
  · rw [R0 _ (by omega) (by omega) (by omega)]
    exact a11 c' hc'
theorem nwP_i {ws : List (List Int)} {lo hi v : Int} {k2 : Nat} (h : nwP t n ws lo hi k = .inr (v, k2)) : tP t n k < n ∧ tP t n (k + 1) < n ∧ k2 = k + 2 ∧ lo ≤ v ∧ v ≤ hi := by
  unfold nwP at h
  obtain ⟨u, k1, e1, e2⟩ := bP_of h
  obtain ⟨g1, g2⟩ := ndP_i e1
  subst g2
  obtain ⟨f1, f2, f3, f4⟩ := nmP_i e2
  exact ⟨whV_lt (t := t) (of_decide_eq_true g1), f1, f2, f3, f4⟩
theorem liP_g (h : TII t n w k) (e : liP t n w k = .inr (w', k')) : (TW w'.1 ∧ LW_ w'.1) ∧ w'.2 = w.2 ∧ (∀ j, j < 10 → ¬ j = 7 → ¬ j = 9 → w'.1 j = w.1 j) ∧ (∀ j, 226 ≤ j → w'.1 j = w.1 j) ∧ tP t n k < tP t n k' := by
  have a0 := h.1.1
  have a1 := h.1.2.1
  unfold liP at e
  obtain ⟨x, k1, e1, e⟩ := bP_of e
  obtain ⟨x1, rfl, x2, x3⟩ := nmP_i e1
  by_cases q : tS t n (tP t n (k + 1)) = 2 ∧ (0 ≤ nV t n (tP t n (k + 1)) ∧ nV t n (tP t n (k + 1)) ≤ w.1 1 - 1) ∧ 0 < w.1 (10 + 4 * (6 * (nV t n (tP t n (k + 1))).toNat + x.toNat))
  · rw [if_pos q] at e; cases e
  · rw [if_neg q] at e
    obtain ⟨y, k2, e2, e⟩ := bP_of e
    have ey : tS t n (tP t n (k + 1)) = 2 ∧ y = nV t n (tP t n (k + 1)) := by
      unfold nmP at e2
      by_cases z : tS t n (tP t n (k + 1)) = 2
      · rw [if_pos z] at e2
        refine ⟨z, ?_⟩
        by_cases z1 : nV t n (tP t n (k + 1)) < 0
        · rw [if_pos z1] at e2; cases e2
        · rw [if_neg z1] at e2
          by_cases z2 : nV t n (tP t n (k + 1)) ≤ w.1 1 - 1
          · rw [if_pos z2] at e2
            cases e2
            rfl
          · rw [if_neg z2] at e2; cases e2
      · rw [if_neg z] at e2; cases e2
    obtain ⟨y1, rfl, y2, y3⟩ := nmP_i e2
    have h0 : ¬ 0 < w.1 (10 + 4 * (6 * y.toNat + x.toNat)) := fun z => q ⟨ey.1, by rw [← ey.2]; exact ⟨y2, y3⟩, by rw [← ey.2]; exact z⟩
    by_cases q2 : whV kdW t n (tP t n (k + 2)) < 0
    · rw [show k + 1 + 1 = k + 2 from rfl, if_pos q2] at e; cases e
    · rw [show k + 1 + 1 = k + 2 from rfl, if_neg q2] at e
      have hkd := whV_b kdW t n (tP t n (k + 2))
      have hlk : (kdW.length : Int) = 4 := rfl
      have hlt := whV_lt (t := t) (show 0 ≤ whV kdW t n (tP t n (k + 2)) by omega)
      unfold liP2 at e
      obtain ⟨u, k3, e3, e⟩ := bP_of e
      obtain ⟨g1, rfl⟩ := ndP_i e3
      have hlt3 := whV_lt (t := t) (of_decide_eq_true g1)
      split at e
      · cases e
      · rename_i q3
        obtain ⟨rd, k4, e4, e⟩ := bP_of e
        have er : tS t n (tP t n (k + 2 + 1 + 1)) = 2 ∧ rd = nV t n (tP t n (k + 2 + 1 + 1)) := by
          unfold nmP at e4
          by_cases z : tS t n (tP t n (k + 2 + 1 + 1)) = 2
          · rw [if_pos z] at e4
            refine ⟨z, ?_⟩
            by_cases z1 : nV t n (tP t n (k + 2 + 1 + 1)) < 1
            · rw [if_pos z1] at e4; cases e4
            · rw [if_neg z1] at e4
              by_cases z2 : nV t n (tP t n (k + 2 + 1 + 1)) ≤ 60
              · rw [if_pos z2] at e4
                cases e4
                rfl
              · rw [if_neg z2] at e4; cases e4
          · rw [if_neg z] at e4; cases e4
        obtain ⟨r1, rfl, r2, r3⟩ := nmP_i e4
        obtain ⟨ov, k6, e6, e⟩ := bP_of e
        obtain ⟨o1, o2, rfl, o3, o4⟩ := nwP_i e6
        obtain ⟨le, k8, e8, e⟩ := bP_of e
        obtain ⟨l1, l2, rfl, l3, l4⟩ := nwP_i e8
        cases e
        have t0 := tP_lt x1
        have t1 := tP_lt y1
        have t2 := tP_lt hlt
        have t3 := tP_lt hlt3
        have t4 := tP_lt r1
        have t5 := tP_lt o1
        have t6 := tP_lt o2
        have t7 := tP_lt l1
        have t8 := tP_lt l2
        have u1 : tP t n (k + 1 + 1) = tP t n (k + 2) := rfl
        have u2 : tP t n (k + 2 + 1 + 1 + 1 + 1 + 1) = tP t n (k + 2 + 1 + 1 + 1 + 2) := rfl
        have u3 : tP t n (k + 2 + 1 + 1 + 1 + 2 + 1 + 1) = tP t n (k + 2 + 1 + 1 + 1 + 2 + 2) := rfl
        refine ⟨liS_w h.1 h.2.1 (by omega) (by omega) h0 (by omega) ⟨r2, r3⟩ ⟨o3, o4⟩ ⟨l3, l4⟩ (fun z => ?_), rfl, fun j j1 j2 j3 => ?_, fun j j1 => ?_, by omega⟩
        · refine Decidable.byContradiction fun q4 => q3 ⟨er.1, z, by rw [← er.2]; exact ⟨r2, r3⟩, by rw [← er.2]; omega⟩
        · rw [liS_r, if_neg j2, if_neg (by omega), if_neg (by omega), if_neg (by omega), if_neg (by omega), if_neg j3]
        · have hx6 : x.toNat < 6 := by omega
          have hy9 : y.toNat < 9 := by omega
          rw [liS_r, if_neg (by omega), if_neg (by omega), if_neg (by omega), if_neg (by omega), if_neg (by omega), if_neg (by omega)]
theorem td_b : ∀ b, b < 32 → ∀ j, j < 5 → (b ||| 2 ^ j) < 32 ∧ ∀ i, i < 5 → (b ||| 2 ^ j).testBit i = (b.testBit i || decide (i = j)) := by decide
theorem td_5 : ∀ b, b < 32 → ∀ j, j < 8 → 5 ≤ j → b.testBit j = false := by decide
end TWI
