/-! LAYER 2: odds to be home by a second: the plain law, the component -/
set_option maxRecDepth 100000
/-- in millionths, by corner and seconds since one set out -/
def prN (W σ : Nat → Int) (RC : Nat → List (Nat × Int)) (k : Nat) (sec due : Int) : Nat → Nat → Nat → Int → Int
  | 0, _, _, i => if sec + i ≤ due then 1000000 else 0
  | n + 1, x, y, i => if unA W σ (6 * y + x) = true then smN (fun s : Nat => prN W σ RC k sec due n (nx (wyN W k (goR RC) 1000 (vG W σ RC k false) x y (sec + i) s) x) (ny (wyN W k (goR RC) 1000 (vG W σ RC k false) x y (sec + i) s) y) (i + wtA W x y (wyN W k (goR RC) 1000 (vG W σ RC k false) x y (sec + i) s) s + W 2)) (W (11 + 4 * (6 * y + x))).toNat / W (11 + 4 * (6 * y + x)) else prN W σ RC k sec due n (nx (wyN W k (goR RC) 1000 (vG W σ RC k false) x y (sec + i) (sec + i)) x) (ny (wyN W k (goR RC) 1000 (vG W σ RC k false) x y (sec + i) (sec + i)) y) (i + wtA W x y (wyN W k (goR RC) 1000 (vG W σ RC k false) x y (sec + i) (sec + i)) (sec + i) + W 2)
def prV (W σ : Nat → Int) (RC : Nat → List (Nat × Int)) (k : Nat) (sec due : Int) (x y : Nat) (i : Int) : Int := prN W σ RC k sec due (dsA W x y) x y i
section OD
variable {g : Nat → Nat} {ρ : Nat → Nat × Nat} {W : Nat → Int} {S : Nat → Nat → Int} {V m Tp : Nat → Int} {RC : Nat → List (Nat × Int)} {s : CS} {τ : TS} {T N : Int} {nf : Nat} {σ : Nat → Int} {k : Nat} {sec due : Int}
/-- a way that takes something is one he can go -/
theorem sn_way {rv : Nat → Int → Int → Int → Int → Bool} {sc : Int} {R : Nat → Nat → Int → Int} {x y : Nat} {t lt : Int} (h : 0 ≤ snN W k rv sc R x y t lt) : cgA W x y (wyN W k rv sc R x y t lt) = true ∧ 0 ≤ byN W sc R x y (wyN W k rv sc R x y t lt) t (wtN W x y (wyN W k rv sc R x y t lt) lt) ∧ ¬ (wtN W x y false lt < 0 ∧ wtN W x y true lt < 0) ∧ wyT W k rv sc R x y t lt = if wyN W k rv sc R x y t lt = true then 1 else 0 := by
  have hby : ∀ w, 0 ≤ byN W sc R x y w t (wtN W x y w lt) → cgA W x y w = true ∧ 0 ≤ wtN W x y w lt := fun w z => by
    have : ¬ wtN W x y w lt < 0 := fun q => by
      unfold byN at z
      rw [if_pos q] at z
      omega
    exact ⟨wtN_cg this, by omega⟩
  unfold snN at h
  unfold wyN wyT
  by_cases q3 : k = 3
  · rw [if_pos q3] at h
    rw [if_pos q3, if_pos q3]
    cases q : btr (byN W sc R x y false t (wtN W x y false lt)) (byN W sc R x y true t (wtN W x y true lt)) with
    | true =>
      rw [q, if_pos rfl] at h
      have := hby true h
      refine ⟨this.1, h, by omega, ?_⟩
      rw [if_neg (by omega)]
    | false =>
      rw [q, if_neg (by decide)] at h
      have := hby false h
      refine ⟨this.1, h, by omega, ?_⟩
      rw [if_neg (by omega)]
  · rw [if_neg q3] at h
    rw [if_neg q3, if_neg q3]
    by_cases q4 : wtN W x y false lt < 0 ∧ wtN W x y true lt < 0
    · rw [if_pos q4] at h
      omega
    · rw [if_neg q4] at h
      rw [if_neg q4]
      cases q : gsel k rv (wtN W x y false lt) (wtN W x y true lt) (lfA W x) (upA W y) with
      | true =>
        rw [q, if_pos rfl] at h
        exact ⟨(hby true h).1, h, q4, rfl⟩
      | false =>
        rw [q, if_neg (by decide)] at h
        exact ⟨(hby false h).1, h, q4, rfl⟩
theorem byN_per {sc : Int} {R : Nat → Nat → Int → Int} {x y : Nat} {w : Bool} {t wt : Int} : byN W sc R x y w (t % W 9) wt = byN W sc R x y w t wt := by
  unfold byN
  rw [Int.emod_add_emod]
theorem snN_per {rv : Nat → Int → Int → Int → Int → Bool} {sc : Int} {R : Nat → Nat → Int → Int} {x y : Nat} {t lt : Int} : snN W k rv sc R x y (t % W 9) lt = snN W k rv sc R x y t lt := by
  unfold snN
  rw [byN_per, byN_per]
theorem wyN_per {rv : Nat → Int → Int → Int → Int → Bool} {sc : Int} {R : Nat → Nat → Int → Int} {x y : Nat} {t lt : Int} : wyN W k rv sc R x y (t % W 9) lt = wyN W k rv sc R x y t lt := by
  unfold wyN
  rw [byN_per, byN_per]
theorem wyN_perl (hW : TW W) {rv : Nat → Int → Int → Int → Int → Bool} {sc : Int} {R : Nat → Nat → Int → Int} {x y : Nat} {t lt : Int} (hx : x < 6) (hy : y < 9) : wyN W k rv sc R x y t (lt % W 9) = wyN W k rv sc R x y t lt := by
  unfold wyN
  rw [wt_per hW hx hy, wt_per hW hx hy]
theorem snN_perl (hW : TW W) {rv : Nat → Int → Int → Int → Int → Bool} {sc : Int} {R : Nat → Nat → Int → Int} {x y : Nat} {t lt : Int} (hx : x < 6) (hy : y < 9) : snN W k rv sc R x y t (lt % W 9) = snN W k rv sc R x y t lt := by
  unfold snN
  rw [wt_per hW hx hy, wt_per hW hx hy]
/-- one step on: still within what takes something -/
theorem od_step (hW : TW W) {R : Nat → Nat → Int → Int} {rv : Nat → Int → Int → Int → Int → Bool} {x y : Nat} {t lt : Int} (hx : (x : Int) < W 0) (hy : (y : Int) < W 1) (h : 0 ≤ snN W k rv 1000 R x y t lt) {w : Bool} (hw : w = wyN W k rv 1000 R x y t lt) : cgA W x y w = true ∧ (nx w x : Int) < W 0 ∧ (ny w y : Int) < W 1 ∧ dsA W x y = dsA W (nx w x) (ny w y) + 1 ∧ wtN W x y w lt = wtA W x y w lt ∧ (0 ≤ wtA W x y w lt ∧ wtA W x y w lt ≤ 59) ∧ 0 ≤ R (nx w x) (ny w y) ((t + (wtA W x y w lt + W 2)) % W 9) := by
  have w0 := hW.1
  have w1 := hW.2.1
  obtain ⟨h1, h2, -⟩ := sn_way h
  rw [← hw] at h1 h2
  have i := th_in (cg_ev h1).1 hx hy
  have hb := wt_b (sec := lt) hW (x := x) (y := y) (by omega) (by omega) (cg_ev h1).2.2
  have ew : wtN W x y w lt = wtA W x y w lt := by unfold wtN; rw [if_pos h1]
  refine ⟨h1, i.1, i.2.1, i.2.2, ew, hb, ?_⟩
  unfold byN at h2
  rw [ew, if_neg (by omega)] at h2
  by_cases q : R (nx w x) (ny w y) ((t + (wtA W x y w lt + W 2)) % W 9) < 0
  · rw [if_pos q] at h2
    omega
  · omega
theorem anyN_f {f : Nat → Int} {n i : Nat} (h : anyN f n = false) (hi : i < n) : 0 ≤ f i := by
  by_cases q : f i < 0
  · rw [anyN_lt hi q] at h
    cases h
  · omega
/-- what a corner's number says of a light's seconds -/
theorem od_sn (hW : TW W) {x y : Nat} {t : Int} (hx : (x : Int) < W 0) (hy : (y : Int) < W 1) (hh : hmA W x y = false) (h : 0 ≤ vG W σ RC k false x y (t % W 9)) : (unA W σ (6 * y + x) = true → ∀ s : Nat, s < (W (11 + 4 * (6 * y + x))).toNat → 0 ≤ snN W k (goR RC) 1000 (vG W σ RC k false) x y t s) ∧ (unA W σ (6 * y + x) = false → 0 ≤ snN W k (goR RC) 1000 (vG W σ RC k false) x y t t) := by
  have w0 := hW.1
  have w1 := hW.2.1
  have hV : VS W σ k (goR RC) false false (-1) 0 (vG W σ RC k false) := vT_VS
  rw [hV x y (t % W 9) hx hy (wtN_ev hW).1 (wtN_ev hW).2, hh, if_neg (by decide)] at h
  unfold stN at h
  rw [if_neg (show ¬ ((6 * y + x : Nat) : Int) = -1 by omega)] at h
  refine ⟨fun hu s hs => ?_, fun hu => ?_⟩
  · rw [if_pos ⟨rfl, hu⟩] at h
    have ha : anyN (fun s : Nat => snN W k (goR RC) (scN false) (vG W σ RC k false) x y (t % W 9) s) (W (11 + 4 * (6 * y + x))).toNat = false := by
      cases q : anyN (fun s : Nat => snN W k (goR RC) (scN false) (vG W σ RC k false) x y (t % W 9) s) (W (11 + 4 * (6 * y + x))).toNat with
      | false => rfl
      | true =>
        unfold hdN at h
        rw [q, if_pos rfl] at h
        omega
    have := anyN_f ha hs
    have this : 0 ≤ snN W k (goR RC) 1000 (vG W σ RC k false) x y (t % W 9) s := this
    rwa [snN_per] at this
  · rw [if_neg (fun z => by rw [hu] at z; cases z.2)] at h
    have this : 0 ≤ snN W k (goR RC) 1000 (vG W σ RC k false) x y (t % W 9) (t % W 9) := h
    rwa [snN_per, snN_perl hW (by omega) (by omega)] at this
theorem smN_b {f : Nat → Int} {B : Int} {n : Nat} (h : ∀ i, i < n → 0 ≤ f i ∧ f i ≤ B) : 0 ≤ smN f n ∧ smN f n ≤ B * (n : Int) := by
  induction n with
  | zero => exact ⟨Int.le_refl 0, by show (0 : Int) ≤ B * 0; omega⟩
  | succ n ih =>
    have e := ih fun i hi => h i (by omega)
    have e2 := h n (by omega)
    have e3 : smN f (n + 1) = smN f n + f n := rfl
    rw [e3]
    refine ⟨by omega, ?_⟩
    rw [show ((n + 1 : Nat) : Int) = (n : Int) + 1 from rfl, Int.mul_add]
    omega
theorem prN_b (hW : TW W) : ∀ (n x y : Nat) (i : Int), (x : Int) < W 0 → (y : Int) < W 1 → dsA W x y = n → 0 ≤ sec + i → 0 ≤ vG W σ RC k false x y ((sec + i) % W 9) → 0 ≤ prN W σ RC k sec due n x y i ∧ prN W σ RC k sec due n x y i ≤ 1000000 ∧ (due < sec + i → prN W σ RC k sec due n x y i = 0) := by
  have w0 := hW.1
  have w1 := hW.2.1
  have w2 := hW.2.2.1
  intro n
  induction n with
  | zero =>
    intro x y i hx hy hd h0 hv
    unfold prN
    split
    · exact ⟨by omega, by omega, fun z => by omega⟩
    · exact ⟨by omega, by omega, fun _ => rfl⟩
  | succ n ih =>
    intro x y i hx hy hd h0 hv
    have hh : hmA W x y = false := by unfold hmA; unfold dsA at hd; exact decide_eq_false (by omega)
    obtain ⟨o1, o2⟩ := od_sn hW hx hy hh hv
    have one : ∀ lt, 0 ≤ snN W k (goR RC) 1000 (vG W σ RC k false) x y (sec + i) lt → 0 ≤ prN W σ RC k sec due n (nx (wyN W k (goR RC) 1000 (vG W σ RC k false) x y (sec + i) lt) x) (ny (wyN W k (goR RC) 1000 (vG W σ RC k false) x y (sec + i) lt) y) (i + wtA W x y (wyN W k (goR RC) 1000 (vG W σ RC k false) x y (sec + i) lt) lt + W 2) ∧ prN W σ RC k sec due n (nx (wyN W k (goR RC) 1000 (vG W σ RC k false) x y (sec + i) lt) x) (ny (wyN W k (goR RC) 1000 (vG W σ RC k false) x y (sec + i) lt) y) (i + wtA W x y (wyN W k (goR RC) 1000 (vG W σ RC k false) x y (sec + i) lt) lt + W 2) ≤ 1000000 ∧ (due < sec + i → prN W σ RC k sec due n (nx (wyN W k (goR RC) 1000 (vG W σ RC k false) x y (sec + i) lt) x) (ny (wyN W k (goR RC) 1000 (vG W σ RC k false) x y (sec + i) lt) y) (i + wtA W x y (wyN W k (goR RC) 1000 (vG W σ RC k false) x y (sec + i) lt) lt + W 2) = 0) := fun lt hs => by
      obtain ⟨-, p2, p3, p4, -, p6, p7⟩ := od_step hW hx hy hs rfl
      rw [show sec + i + (wtA W x y (wyN W k (goR RC) 1000 (vG W σ RC k false) x y (sec + i) lt) lt + W 2) = sec + (i + wtA W x y (wyN W k (goR RC) 1000 (vG W σ RC k false) x y (sec + i) lt) lt + W 2) by omega] at p7
      obtain ⟨z1, z2, z3⟩ := ih _ _ (i + wtA W x y (wyN W k (goR RC) 1000 (vG W σ RC k false) x y (sec + i) lt) lt + W 2) p2 p3 (by omega) (by omega) p7
      exact ⟨z1, z2, fun q => z3 (by omega)⟩
    unfold prN
    cases hu : unA W σ (6 * y + x) with
    | true =>
      have hr := un_rd hW (c := 6 * y + x) (by omega) hu
      rw [if_pos rfl]
      have hs := smN_b (f := fun s : Nat => prN W σ RC k sec due n (nx (wyN W k (goR RC) 1000 (vG W σ RC k false) x y (sec + i) s) x) (ny (wyN W k (goR RC) 1000 (vG W σ RC k false) x y (sec + i) s) y) (i + wtA W x y (wyN W k (goR RC) 1000 (vG W σ RC k false) x y (sec + i) s) s + W 2)) (B := 1000000) (n := (W (11 + 4 * (6 * y + x))).toNat) (fun j hj => ⟨(one j (o1 hu j hj)).1, (one j (o1 hu j hj)).2.1⟩)
      refine ⟨Int.ediv_nonneg hs.1 (by omega), ?_, fun q => ?_⟩
      · apply Int.ediv_le_of_le_mul (by omega)
        have := hs.2
        rw [Int.toNat_of_nonneg (by omega)] at this
        exact this
      · have hs0 := smN_b (f := fun s : Nat => prN W σ RC k sec due n (nx (wyN W k (goR RC) 1000 (vG W σ RC k false) x y (sec + i) s) x) (ny (wyN W k (goR RC) 1000 (vG W σ RC k false) x y (sec + i) s) y) (i + wtA W x y (wyN W k (goR RC) 1000 (vG W σ RC k false) x y (sec + i) s) s + W 2)) (B := 0) (n := (W (11 + 4 * (6 * y + x))).toNat) (fun j hj => by
          have e : prN W σ RC k sec due n (nx (wyN W k (goR RC) 1000 (vG W σ RC k false) x y (sec + i) j) x) (ny (wyN W k (goR RC) 1000 (vG W σ RC k false) x y (sec + i) j) y) (i + wtA W x y (wyN W k (goR RC) 1000 (vG W σ RC k false) x y (sec + i) j) j + W 2) = 0 := (one j (o1 hu j hj)).2.2 q
          show 0 ≤ prN W σ RC k sec due n _ _ _ ∧ prN W σ RC k sec due n _ _ _ ≤ 0
          rw [e]
          omega)
        rw [Int.zero_mul] at hs0
        rw [show smN (fun s : Nat => prN W σ RC k sec due n (nx (wyN W k (goR RC) 1000 (vG W σ RC k false) x y (sec + i) s) x) (ny (wyN W k (goR RC) 1000 (vG W σ RC k false) x y (sec + i) s) y) (i + wtA W x y (wyN W k (goR RC) 1000 (vG W σ RC k false) x y (sec + i) s) s + W 2)) (W (11 + 4 * (6 * y + x))).toNat = 0 by omega]
        exact Int.zero_ediv _
    | false =>
      rw [if_neg (by decide)]
      exact one _ (o2 hu)
end OD
