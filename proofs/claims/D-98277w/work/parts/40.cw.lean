/-! LAYER 2: the component's town: its object, lights, bars; waits -/
set_option maxRecDepth 100000
/-- the light object of corner c -/
def Rl (s : CS) (W : Nat → Int) (c l : Nat) : Prop := (∃ w n, s.1 l = some (w, 11 + (W (10 + 4 * c)).toNat, n)) ∧ cI s 1100 l = i32 (W (11 + 4 * c)) ∧ cI s 1101 l = i32 (W (12 + 4 * c)) ∧ cI s 1102 l = i32 (W (13 + 4 * c))
/-- the town object ta with its lights at la, bars at ba -/
def Ro (s : CS) (W : Nat → Int) (ta la ba : Nat) : Prop := isK s ta [2] = true ∧ cI s 200 ta = i32 (W 0) ∧ cI s 201 ta = i32 (W 1) ∧ cR s 209 ta = some la ∧ cR s 210 ta = some ba ∧ s.1 la = some (true, 104, 54) ∧ s.1 ba = some (true, 100, 54) ∧ (∀ c, c < 54 → cA s ba c = i32 (W (226 + c))) ∧ ∀ c, c < 54 → (W (10 + 4 * c) = 0 ∧ cQ s la c = none) ∨ (0 < W (10 + 4 * c) ∧ ∃ l, cQ s la c = some l ∧ Rl s W c l)
theorem gI_t {α : Type} {s : CS} {a f : Nat} {cs : List Nat} {K : Int32 → Option α} (h : isK s a cs = true) : gI s a cs f K = K (cI s f a) := if_pos h
theorem gR_t {α : Type} {s : CS} {a f : Nat} {cs : List Nat} {K : Option Nat → Option α} (h : isK s a cs = true) : gR s a cs f K = K (cR s f a) := if_pos h
theorem gd_t {α : Type} {b : Bool} {k : Option α} (h : b = true) : gd b k = k := by rw [h]; rfl
theorem lI_n {α : Type} {s : CS} {a c n k : Nat} {w : Bool} {K : Int32 → Option α} (h : s.1 a = some (w, c, n)) (hk : k < n) (hn : n ≤ 2147483648) : lI s a c (i32 (k : Int)) K = K (cA s a k) := by
  unfold lI inA
  rw [h]
  dsimp only
  rw [if_pos (by rw [i32_inb_t (by omega) (by omega) hn]; simp), i32_clamp (by omega) ⟨by omega, by omega⟩]
  rfl
theorem lR_n {α : Type} {s : CS} {a c n k : Nat} {w : Bool} {K : Option Nat → Option α} (h : s.1 a = some (w, c, n)) (hk : k < n) (hn : n ≤ 2147483648) : lR s a c (i32 (k : Int)) K = K (cQ s a k) := by
  unfold lR inA
  rw [h]
  dsimp only
  rw [if_pos (by rw [i32_inb_t (by omega) (by omega) hn]; simp), i32_clamp (by omega) ⟨by omega, by omega⟩]
  rfl
theorem c_ix (x y : Nat) : ((i32 (y : Int) * 6) + i32 (x : Int) : Int32) = i32 ((6 * y + x : Nat) : Int) := by
  rw [show (6 : Int32) = i32 6 from rfl, i32_mul, i32_add]
  congr 1
  omega
theorem s_bar0 {z : Int} (h : 0 ≤ z ∧ z ≤ 3) (way : Bool) : (shr32 (i32 z) (wy way) &&& 1 = 0) ↔ (if way = true then decide (2 ≤ z) else decide (z % 2 = 1)) = false := by
  rcases (show z = 0 ∨ z = 1 ∨ z = 2 ∨ z = 3 by omega) with rfl | rfl | rfl | rfl <;> cases way <;> decide
theorem c_leads27 {s : CS} {W : Nat → Int} {ta la ba x y : Nat} {way : Bool} (hW : TW W) (h : Ro s W ta la ba) (hx : x < 6) (hy : y < 9) : FX2_leads_b27 s ta (i32 x) (i32 y) (wy way) = some (bi (!brA W x y way)) := by
  obtain ⟨h0, h1, h2, h3, h4, h5, h6, h7, h8⟩ := h
  have hb := hW.2.2.2.2.2.2.2.2.2.2.2 (6 * y + x) (by omega)
  unfold FX2_leads_b27
  rw [gR_t h0, h4]
  show (lI s ba 100 ((i32 (y : Int) * 6) + i32 (x : Int)) fun v3 => if shr32 v3 (wy way) &&& 1 = 0 then some (1 : Int32) else some 0) = _
  rw [c_ix, lI_n h6 (by omega) (by omega), h7 _ (by omega), bi_ite]
  unfold brA
  congr 2
  have q := s_bar0 hb way
  cases e : (if way = true then decide (2 ≤ W (226 + (6 * y + x))) else decide (W (226 + (6 * y + x)) % 2 = 1)) with
  | false => exact decide_eq_true (q.mpr e)
  | true => exact decide_eq_false (fun z => by rw [q.mp z] at e; cases e)
theorem c_leads {s : CS} {W : Nat → Int} {ta la ba x y : Nat} {way : Bool} (hW : TW W) (h : Ro s W ta la ba) (hx : x < 6) (hy : y < 9) : FX2_leads s ta (i32 x) (i32 y) (wy way) = some (bi (thA W x y way && !brA W x y way)) := by
  have h0 := h.1
  have w0 := hW.1
  have w1 := hW.2.1
  unfold FX2_leads thA
  rw [gd_t h0, gI_t h0, gI_t h0, h.2.1, h.2.2.1, c_leads27 hW h hx hy]
  cases way with
  | false =>
    rw [if_pos (show wy false = 0 from rfl), if_neg (show ¬ false = true by decide), show (1 : Int32) = i32 1 from rfl, i32_add]
    by_cases q : i32 (W 0) ≤ i32 ((x : Int) + 1)
    · have q2 := (i32_le ⟨by omega, by omega⟩ ⟨by omega, by omega⟩).mp q
      have e1 : decide ((x : Int) + 1 < W 0) = false := decide_eq_false (by omega)
      rw [if_pos q, e1]
      rfl
    · have q2 : ¬ W 0 ≤ (x : Int) + 1 := fun e => q ((i32_le ⟨by omega, by omega⟩ ⟨by omega, by omega⟩).mpr e)
      have e1 : decide ((x : Int) + 1 < W 0) = true := decide_eq_true (by omega)
      rw [if_neg q, e1]
      rfl
  | true =>
    rw [if_neg (show ¬ wy true = 0 by decide), if_pos rfl, show (1 : Int32) = i32 1 from rfl, i32_add]
    by_cases q : i32 (W 1) ≤ i32 ((y : Int) + 1)
    · have q2 := (i32_le ⟨by omega, by omega⟩ ⟨by omega, by omega⟩).mp q
      have e1 : decide ((y : Int) + 1 < W 1) = false := decide_eq_false (by omega)
      rw [if_pos q, e1]
      rfl
    · have q2 : ¬ W 1 ≤ (y : Int) + 1 := fun e => q ((i32_le ⟨by omega, by omega⟩ ⟨by omega, by omega⟩).mpr e)
      have e1 : decide ((y : Int) + 1 < W 1) = true := decide_eq_true (by omega)
      rw [if_neg q, e1]
      rfl
theorem tmod_e {a b : Int} (hb0 : 0 < b) : (0 ≤ a.tmod b → a.tmod b = a % b) ∧ (¬ 0 ≤ a.tmod b → a.tmod b + b = a % b) := by
  obtain ⟨h1, h2, h3⟩ := tmod_b (a := a) hb0
  constructor
  · intro h
    rw [← h3, Int.add_emod_right, Int.emod_eq_of_lt h h2]
  · intro h
    rw [← h3, Int.emod_eq_of_lt (by omega) (by omega)]
theorem c_b44 {s : CS} {W : Nat → Int} {l x y : Nat} {way : Bool} {ph : Int} (hk : isK s l [12, 13] = true) (hl : Rl s W (6 * y + x) l) (hb : 0 ≤ ltA W x y 3 ∧ ltA W x y 3 ≤ 60) (hp : 0 ≤ ph ∧ ph < 60) : FX12_waits_b44 s l (wy way) (i32 ph) = some (i32 (if (if way = true then decide (ltA W x y 3 ≤ ph) else decide (ph < ltA W x y 3)) = true then 0 else if way = true then ltA W x y 3 - ph else ltA W x y 1 - ph)) := by
  have h1 : cI s 1100 l = i32 (ltA W x y 1) := by rw [hl.2.1]; unfold ltA; congr 2; omega
  have h3 : cI s 1102 l = i32 (ltA W x y 3) := by rw [hl.2.2.2]; unfold ltA; congr 2; omega
  unfold FX12_waits_b44 FX12_waits_b66
  simp only [gI_t hk, h1, h3]
  have q1 := i32_le (a := ltA W x y 3) (b := ph) ⟨by omega, by omega⟩ ⟨by omega, by omega⟩
  by_cases q : ltA W x y 3 ≤ ph
  · rw [if_pos (q1.mpr q)]
    cases way with
    | true => rw [if_neg (show ¬ wy true = 0 by decide), if_pos rfl, if_pos rfl, if_pos (decide_eq_true q)]; rfl
    | false =>
      rw [if_pos (show wy false = 0 from rfl), if_neg (show ¬ (0 : Int32) = 1 by decide), if_pos (show wy false = 0 from rfl), i32_sub]
      simp only [Bool.false_eq_true, if_false]
      rw [if_neg (by simp; omega)]
  · rw [if_neg (fun z => q (q1.mp z))]
    cases way with
    | true =>
      rw [if_neg (show ¬ wy true = 0 by decide), if_neg (show ¬ (1 : Int32) = 0 by decide), if_neg (show ¬ wy true = 0 by decide), i32_sub]
      simp only [if_true]
      rw [if_neg (by simp; omega)]
    | false =>
      rw [if_pos (show wy false = 0 from rfl)]
      simp only [Bool.false_eq_true, if_false, if_true]
      rw [if_pos (by simp; omega)]
      rfl
/-- a timed or hidden light's waits -/
theorem c_timed {s : CS} {W : Nat → Int} {l x y : Nat} {way : Bool} {sec : Int} (hW : TW W) (hx : x < 6) (hy : y < 9) (ht : tmA W x y = true) (hk : isK s l [12, 13] = true) (hl : Rl s W (6 * y + x) l) (hs : 0 ≤ sec ∧ sec ≤ 1900000000) : FX12_waits s l (wy way) (i32 sec) = some (i32 (if evA W x y way = true then wtA W x y way sec else -1)) := by
  have hk0 := of_decide_eq_true ht
  have hb := ltA_b hW hx hy (by omega)
  have h1 : cI s 1100 l = i32 (ltA W x y 1) := by rw [hl.2.1]; unfold ltA; congr 2; omega
  have h2 : cI s 1101 l = i32 (ltA W x y 2) := by rw [hl.2.2.1]; unfold ltA; congr 2; omega
  have h3 : cI s 1102 l = i32 (ltA W x y 3) := by rw [hl.2.2.2]; unfold ltA; congr 2; omega
  have hp0 : 0 ≤ phA W x y sec := Int.emod_nonneg _ (by omega)
  have hp1 : phA W x y sec < ltA W x y 1 := Int.emod_lt_of_pos _ (by omega)
  have hr0 : ¬ i32 (ltA W x y 1) = 0 := fun e => by
    rw [show (0 : Int32) = i32 0 from rfl] at e
    have := (i32_eq ⟨by omega, by omega⟩ ⟨by omega, by omega⟩).mp e
    omega
  have hm := tmod_e (a := sec - ltA W x y 2) (b := ltA W x y 1) (by omega)
  have hmb := tmod_b (a := sec - ltA W x y 2) (b := ltA W x y 1) (by omega)
  have key : ∀ z : Int32, (z = i32 (ltA W x y 3) ∨ ¬ z = i32 (ltA W x y 3)) := fun z => Classical.em _
  have go : ∀ s0 : Int, ok32 s0 → ¬ ltA W x y 3 = s0 → FX12_waits_b16 s l (wy way) (i32 sec) (i32 s0) (i32 (ltA W x y 3)) = some (i32 (if (if way = true then decide (ltA W x y 3 ≤ phA W x y sec) else decide (phA W x y sec < ltA W x y 3)) = true then 0 else if way = true then ltA W x y 3 - phA W x y sec else ltA W x y 1 - phA W x y sec)) := fun s0 hs0 hne => by
    unfold FX12_waits_b16
    rw [if_neg (fun e => hne ((i32_eq ⟨by omega, by omega⟩ hs0).mp e))]
    simp only [gI_t hk, h1, h2]
    unfold d32
    rw [if_neg hr0, i32_sub, i32_tmod ⟨by omega, by omega⟩ ⟨by omega, by omega⟩ (by omega)]
    show (if 0 ≤ i32 ((sec - ltA W x y 2).tmod (ltA W x y 1)) then FX12_waits_b44 s l (wy way) (i32 ((sec - ltA W x y 2).tmod (ltA W x y 1))) else FX12_waits_b44 s l (wy way) (i32 ((sec - ltA W x y 2).tmod (ltA W x y 1)) + i32 (ltA W x y 1))) = _
    have q1 := i32_le (a := 0) (b := (sec - ltA W x y 2).tmod (ltA W x y 1)) ⟨by omega, by omega⟩ ⟨by omega, by omega⟩
    by_cases q : 0 ≤ (sec - ltA W x y 2).tmod (ltA W x y 1)
    · rw [if_pos (show (0 : Int32) ≤ _ from q1.mpr q), hm.1 q]
      exact c_b44 hk hl (by omega) ⟨hp0, by show phA W x y sec < 60; omega⟩
    · rw [if_neg (show ¬ (0 : Int32) ≤ i32 ((sec - ltA W x y 2).tmod (ltA W x y 1)) from fun z => q (q1.mp z)), i32_add, hm.2 q]
      exact c_b44 hk hl (by omega) ⟨hp0, by show phA W x y sec < 60; omega⟩
  have fin : evA W x y way = true → wtA W x y way sec = (if (if way = true then decide (ltA W x y 3 ≤ phA W x y sec) else decide (phA W x y sec < ltA W x y 3)) = true then 0 else if way = true then ltA W x y 3 - phA W x y sec else ltA W x y 1 - phA W x y sec) := fun _ => by
    unfold wtA
    rw [if_neg (by omega), ht, if_pos rfl]
    rfl
  unfold FX12_waits
  rw [gd_t hk]
  simp only [gI_t hk, h1, h3]
  have hev : evA W x y way = (if way = true then decide (ltA W x y 3 < ltA W x y 1) else decide (0 < ltA W x y 3)) := by unfold evA; rw [ht]; rfl
  cases way with
  | false =>
    rw [if_pos (show wy false = 0 from rfl)]
    by_cases q : ltA W x y 3 = 0
    · have e1 : evA W x y false = false := by rw [hev]; exact decide_eq_false (by omega)
      rw [e1, if_neg (by decide)]
      unfold FX12_waits_b16
      rw [q, if_pos (show i32 0 = 0 from rfl)]
      rfl
    · have e1 : evA W x y false = true := by rw [hev]; exact decide_eq_true (by omega)
      rw [fin e1, e1, if_pos rfl]
      exact go 0 ⟨by omega, by omega⟩ q
  | true =>
    rw [if_neg (show ¬ wy true = 0 by decide)]
    by_cases q : ltA W x y 3 = ltA W x y 1
    · have e1 : evA W x y true = false := by rw [hev]; exact decide_eq_false (by omega)
      rw [e1, if_neg (by decide)]
      unfold FX12_waits_b16
      rw [q, if_pos rfl]
      rfl
    · have e1 : evA W x y true = true := by rw [hev]; exact decide_eq_true (by omega)
      rw [fin e1, e1, if_pos rfl]
      exact go (ltA W x y 1) ⟨by omega, by omega⟩ q
theorem isK_i {s : CS} {a c n : Nat} {w : Bool} {cs : List Nat} (h : s.1 a = some (w, c, n)) : isK s a cs = cs.contains c := by
  unfold isK
  rw [h]
theorem nn_s {α : Type} {a : Nat} {K : Nat → Option α} : nn (some a) K = K a := rfl
theorem c_lightAt {s : CS} {W : Nat → Int} {x0 ta la ba x y : Nat} (hx0 : isK s x0 [0] = true) (hta : cR s 2 x0 = some ta) (h : Ro s W ta la ba) (hx : x < 6) (hy : y < 9) : FX0_lightAt s x0 (i32 x) (i32 y) = some (cQ s la (6 * y + x)) := by
  unfold FX0_lightAt
  rw [gd_t hx0, gR_t hx0, hta, nn_s, gR_t h.1, h.2.2.2.1, nn_s, c_ix, lR_n h.2.2.2.2.2.1 (by omega) (by omega)]
theorem c_waits {s : CS} {W : Nat → Int} {x0 ta la ba x y : Nat} {way : Bool} {sec : Int} (hW : TW W) (hx0 : isK s x0 [0] = true) (hta : cR s 2 x0 = some ta) (h : Ro s W ta la ba) (hx : x < 6) (hy : y < 9) (hs : 0 ≤ sec ∧ sec ≤ 1900000000) : FX0_waits s x0 (i32 x) (i32 y) (wy way) (i32 sec) = some (i32 (if cgA W x y way = true then wtA W x y way sec else -1)) := by
  have hkb := kdA_b (x := x) (y := y) hW hx hy
  unfold FX0_waits
  rw [gd_t hx0, gR_t hx0, hta, nn_s, c_leads hW h hx hy, bd_bi, c_lightAt hx0 hta h hx hy]
  have ecg : cgA W x y way = ((thA W x y way && !brA W x y way) && evA W x y way) := by unfold cgA; rw [Bool.and_assoc]
  rw [ecg]
  cases hth : (thA W x y way && !brA W x y way) with
  | false => rw [if_neg (show ¬ false = true by decide), Bool.false_and, if_neg (show ¬ false = true by decide)]; rfl
  | true =>
    rw [if_pos rfl, Bool.true_and]
    show nul (cQ s la (6 * y + x)) (some 0) (fun p5 => (V11_waits s p5 (wy way) (i32 sec)).bind fun v6 => some v6) = _
    rcases h.2.2.2.2.2.2.2.2 (6 * y + x) (by omega) with ⟨h0, hq⟩ | ⟨h0, l, hq, hl⟩
    · have hk : kdA W x y = -1 := by unfold kdA; omega
      have ht : tmA W x y = false := by unfold tmA; rw [hk]; decide
      have he : evA W x y way = true := by unfold evA; rw [ht]; rfl
      rw [hq, he, if_pos rfl]
      unfold wtA
      rw [if_neg (by omega), ht, if_neg (by decide)]
      rfl
    · rw [hq]
      show ((V11_waits s l (wy way) (i32 sec)).bind fun v6 => some v6) = _
      rw [show ((V11_waits s l (wy way) (i32 sec)).bind fun v6 => some v6) = V11_waits s l (wy way) (i32 sec) from by cases V11_waits s l (wy way) (i32 sec) <;> rfl]
      obtain ⟨⟨w, n, hc⟩, -⟩ := id hl
      have hk : kdA W x y = W (10 + 4 * (6 * y + x)) - 1 := rfl
      have hb := ltA_b hW hx hy (by omega)
      unfold V11_waits
      by_cases ht : tmA W x y = true
      · have hk2 := of_decide_eq_true ht
        have hK : isK s l [12, 13] = true := by
          rw [isK_i hc]
          rcases hk2 with e | e
          · rw [show (W (10 + 4 * (6 * y + x))).toNat = 1 by omega]; rfl
          · rw [show (W (10 + 4 * (6 * y + x))).toNat = 2 by omega]; rfl
        rw [if_pos hK]
        exact c_timed hW hx hy ht hK hl hs
      · have ht2 : tmA W x y = false := by simpa using ht
        have he : evA W x y way = true := by unfold evA; rw [ht2]; rfl
        rw [he, if_pos rfl]
        have hk2 : kdA W x y = 2 ∨ kdA W x y = 3 := by
          have : ¬ (kdA W x y = 0 ∨ kdA W x y = 1) := fun z => ht (decide_eq_true z)
          omega
        rcases hk2 with e | e
        · have e3 : (W (10 + 4 * (6 * y + x))).toNat = 3 := by omega
          rw [e3] at hc
          rw [if_neg (by rw [isK_i hc]; decide), if_pos (by rw [isK_i hc]; rfl)]
          unfold FX14_waits wtA
          rw [gd_t (by rw [isK_i hc]; rfl), gI_t (by rw [isK_i hc]; rfl), hl.2.2.1, if_pos e]
          cases way with
          | true => rfl
          | false =>
            rw [if_pos (show wy false = 0 from rfl), if_neg (by decide)]
            unfold ltA
            rw [show 12 + 4 * (6 * y + x) = 10 + 4 * (6 * y + x) + 2 by omega]
        · have e3 : (W (10 + 4 * (6 * y + x))).toNat = 4 := by omega
          rw [e3] at hc
          rw [if_neg (by rw [isK_i hc]; decide), if_neg (by rw [isK_i hc]; decide), if_pos (by rw [isK_i hc]; rfl)]
          unfold FX15_waits wtA
          rw [gd_t (by rw [isK_i hc]; rfl), if_neg (by omega), ht2, if_neg (by decide)]
          rfl
