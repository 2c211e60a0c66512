/-! LAYER 2: turning so often at most: the plain law -/
set_option maxRecDepth 100000
def mn2 (a b : Int) : Int := if b < a then b else a
theorem mn2_le {a b : Int} : mn2 a b ≤ a ∧ mn2 a b ≤ b ∧ (mn2 a b = a ∨ mn2 a b = b) := by
  unfold mn2
  split <;> omega
/-- a turn or none -/
def tcO : Option Bool → Bool → Nat
  | none, _ => 0
  | some w, w' => if w' = w then 0 else 1
/-- the soonest at home, having come so, turning so often at most yet -/
def tuF (W : Nat → Int) : Nat → Nat → Nat → Int → Option Bool → Nat → Int
  | 0, _, _, t, _, _ => t
  | d + 1, x, y, t, o, l => mn2 (if tcO o false ≤ l ∧ cgA W x y false = true then tuF W d (nx false x) (ny false y) (t + wtA W x y false t + W 2) (some false) (l - tcO o false) else 2000000000) (if tcO o true ≤ l ∧ cgA W x y true = true then tuF W d (nx true x) (ny true y) (t + wtA W x y true t + W 2) (some true) (l - tcO o true) else 2000000000)
/-- by one way -/
def tuA (W : Nat → Int) (d x y : Nat) (t : Int) (o : Option Bool) (l : Nat) (w : Bool) : Int := if tcO o w ≤ l ∧ cgA W x y w = true then tuF W d (nx w x) (ny w y) (t + wtA W x y w t + W 2) (some w) (l - tcO o w) else 2000000000
section TU
variable {W : Nat → Int}
theorem tuF_s {d x y : Nat} {t : Int} {o : Option Bool} {l : Nat} : tuF W (d + 1) x y t o l = mn2 (tuA W d x y t o l false) (tuA W d x y t o l true) := rfl
theorem cg_in (hW : TW W) {x y : Nat} {w : Bool} {t : Int} (hx : (x : Int) < W 0) (hy : (y : Int) < W 1) (h : cgA W x y w = true) : ((nx w x : Nat) : Int) < W 0 ∧ ((ny w y : Nat) : Int) < W 1 ∧ dsA W x y = dsA W (nx w x) (ny w y) + 1 ∧ 0 ≤ wtA W x y w t ∧ wtA W x y w t ≤ 59 ∧ evA W x y w = true := by
  have w0 := hW.1
  have w1 := hW.2.1
  have h1 := th_in (cg_ev h).1 hx hy
  have h2 := wt_b (sec := t) hW (x := x) (y := y) (by omega) (by omega) (cg_ev h).2.2
  exact ⟨h1.1, h1.2.1, h1.2.2, h2.1, h2.2, (cg_ev h).2.2⟩
theorem tuF_b (hW : TW W) : ∀ (d x y : Nat) (t : Int) (o : Option Bool) (l : Nat), (x : Int) < W 0 → (y : Int) < W 1 → dsA W x y = d → 0 ≤ t → t + 89 * d ≤ 90000000 → 0 ≤ tuF W d x y t o l ∧ tuF W d x y t o l ≤ 2000000000 := by
  have w2 := hW.2.2.1
  intro d
  induction d with
  | zero => intro x y t o l _ _ _ h0 h1; exact ⟨h0, show t ≤ 2000000000 by omega⟩
  | succ d ih =>
    intro x y t o l hx hy hd h0 h1
    rw [tuF_s]
    have A : ∀ w, 0 ≤ tuA W d x y t o l w ∧ tuA W d x y t o l w ≤ 2000000000 := fun w => by
      unfold tuA
      by_cases q : tcO o w ≤ l ∧ cgA W x y w = true
      · rw [if_pos q]
        obtain ⟨i1, i2, i3, i4, i5, -⟩ := cg_in hW (t := t) hx hy q.2
        exact ih _ _ _ _ _ i1 i2 (by omega) (by omega) (by omega)
      · rw [if_neg q]
        omega
    have := A false
    have := A true
    have := (mn2_le (a := tuA W d x y t o l false) (b := tuA W d x y t o l true)).2.2
    omega
theorem tuF_mono (hW : TW W) : ∀ (d x y : Nat) (t1 t2 : Int) (o : Option Bool) (l : Nat), (x : Int) < W 0 → (y : Int) < W 1 → dsA W x y = d → t1 ≤ t2 → tuF W d x y t1 o l ≤ tuF W d x y t2 o l := by
  have w0 := hW.1
  have w1 := hW.2.1
  intro d
  induction d with
  | zero => intro x y t1 t2 o l _ _ _ h; exact h
  | succ d ih =>
    intro x y t1 t2 o l hx hy hd h
    rw [tuF_s, tuF_s]
    have A : ∀ w, tuA W d x y t1 o l w ≤ tuA W d x y t2 o l w := fun w => by
      unfold tuA
      by_cases q : tcO o w ≤ l ∧ cgA W x y w = true
      · rw [if_pos q, if_pos q]
        obtain ⟨i1, i2, i3, i4, i5, i6⟩ := cg_in hW (t := t1) hx hy q.2
        have := fifo hW (x := x) (y := y) (by omega) (by omega) i6 h
        exact ih _ _ _ _ _ _ i1 i2 (by omega) (by omega)
      · rw [if_neg q, if_neg q]
        omega
    have := A false
    have := A true
    have m1 := mn2_le (a := tuA W d x y t1 o l false) (b := tuA W d x y t1 o l true)
    have m2 := (mn2_le (a := tuA W d x y t2 o l false) (b := tuA W d x y t2 o l true)).2.2
    omega
/-! the component's table -/
def ixT (x y : Nat) (w : Bool) (k : Nat) : Nat := ((6 * y + x) * 2 + (if w = true then 1 else 0)) * 13 + k
def updI (c : Nat → Int) (i : Nat) (v : Int) : Nat → Int := fun j => if j = i then v else c j
def onV (W : Nat → Int) (c : Nat → Int) (x y : Nat) (w : Bool) (t : Int) (k : Nat) : Nat → Int := if cgA W x y w = true then updI c (ixT (nx w x) (ny w y) w k) (mn2 (c (ixT (nx w x) (ny w y) w k)) (t + wtA W x y w t + W 2)) else c
def dmT (W : Nat → Int) (O x y k : Nat) : Prop := (x : Int) < W 0 ∧ (y : Int) < W 1 ∧ k ≤ O
theorem ix_inj {x y x2 y2 k k2 : Nat} {w w2 : Bool} (hx : x < 6) (hx2 : x2 < 6) (hk : k ≤ 12) (hk2 : k2 ≤ 12) (h : ixT x y w k = ixT x2 y2 w2 k2) : x = x2 ∧ y = y2 ∧ w = w2 ∧ k = k2 := by
  unfold ixT at h
  cases w <;> cases w2
  all_goals first
    | (simp only [Bool.false_eq_true, if_false, if_true] at h; refine ⟨by omega, by omega, rfl, by omega⟩)
    | (simp only [Bool.false_eq_true, if_false, if_true] at h; exfalso; omega)
/-- the invariant: what is told and not worked yet is no better than the answer; one is as good -/
def tJ (W : Nat → Int) (O : Nat) (An : Int) (c : Nat → Int) (i : Nat) : Prop := (∀ j, 0 ≤ c j ∧ c j ≤ 2147483647) ∧ (∀ x y w k, dmT W O x y k → c (ixT x y w k) ≠ 2147483647 → c (ixT x y w k) ≤ 1000000 + 89 * ((x : Int) + y) ∧ ((i ≤ ixT x y w k ∨ hmA W x y = true) → An ≤ tuF W (dsA W x y) x y (c (ixT x y w k)) (some w) (O - k))) ∧ (An < 2000000000 → ∃ x y w k, dmT W O x y k ∧ (i ≤ ixT x y w k ∨ hmA W x y = true) ∧ c (ixT x y w k) ≠ 2147483647 ∧ tuF W (dsA W x y) x y (c (ixT x y w k)) (some w) (O - k) = An)
theorem tJ_skip {O : Nat} {An : Int} {c : Nat → Int} {i i2 : Nat} (h : tJ W O An c i) (h1 : i ≤ i2) (h2 : ∀ x y w k, dmT W O x y k → i ≤ ixT x y w k → i2 ≤ ixT x y w k ∨ hmA W x y = true ∨ c (ixT x y w k) = 2147483647) : tJ W O An c i2 := by
  obtain ⟨j0, j1, j2⟩ := h
  refine ⟨j0, fun x y w k hd hc => ⟨(j1 x y w k hd hc).1, fun z => (j1 x y w k hd hc).2 (z.imp (fun q => Nat.le_trans h1 q) id)⟩, fun hA => ?_⟩
  obtain ⟨x, y, w, k, hd, ha, hc, he⟩ := j2 hA
  refine ⟨x, y, w, k, hd, ?_, hc, he⟩
  rcases ha with ha | ha
  · rcases h2 x y w k hd ha with z | z | z
    · exact .inl z
    · exact .inr z
    · exact absurd z hc
  · exact .inr ha
/-- going on from a cell that is not worked yet -/
theorem tJ_on (hW : TW W) {O : Nat} (hO : O ≤ 12) {An : Int} {c : Nat → Int} {i x y k : Nat} {w w' : Bool} {t : Int} (h : tJ W O An c i) (hd : dmT W O x y k) (ha : i ≤ ixT x y w k ∨ hmA W x y = true) (ht : c (ixT x y w k) = t) (ht2 : ¬ t = 2147483647) (hk : k + tcO (some w) w' ≤ O) : tJ W O An (onV W c x y w' t (k + tcO (some w) w')) i ∧ (∀ j, onV W c x y w' t (k + tcO (some w) w') j ≤ c j) ∧ (∀ x2 y2 w2 k2, dmT W O x2 y2 k2 → ixT x2 y2 w2 k2 ≤ ixT x y w k → onV W c x y w' t (k + tcO (some w) w') (ixT x2 y2 w2 k2) = c (ixT x2 y2 w2 k2)) ∧ (cgA W x y w' = true → onV W c x y w' t (k + tcO (some w) w') (ixT (nx w' x) (ny w' y) w' (k + tcO (some w) w')) ≤ t + wtA W x y w' t + W 2) := by
  have w0 := hW.1
  have w1 := hW.2.1
  have w2 := hW.2.2.1
  obtain ⟨hx, hy, hkO⟩ := id hd
  generalize hk2 : k + tcO (some w) w' = k2 at hk ⊢
  unfold onV
  by_cases q : cgA W x y w' = true
  · rw [if_pos q]
    obtain ⟨i1, i2, i3, i4, i5, i6⟩ := cg_in hW (t := t) hx hy q
    obtain ⟨j0, j1, j2⟩ := id h
    have jc := j1 x y w k hd (by rw [ht]; exact ht2)
    have j0t := j0 (ixT x y w k)
    rw [ht] at jc j0t
    have hsum : ((nx w' x : Nat) : Int) + (ny w' y : Nat) = (x : Int) + y + 1 := by
      unfold nx ny
      cases w' <;> simp only [Bool.false_eq_true, if_false, if_true] <;> omega
    have hcell : An ≤ tuF W (dsA W (nx w' x) (ny w' y)) (nx w' x) (ny w' y) (t + wtA W x y w' t + W 2) (some w') (O - k2) := by
      have e := jc.2 ha
      rw [i3, tuF_s] at e
      have ew : tuA W (dsA W (nx w' x) (ny w' y)) x y t (some w) (O - k) w' = tuF W (dsA W (nx w' x) (ny w' y)) (nx w' x) (ny w' y) (t + wtA W x y w' t + W 2) (some w') (O - k2) := by
        unfold tuA
        rw [if_pos ⟨by omega, q⟩]
        congr 1
        omega
      rw [← ew]
      have m1 := mn2_le (a := tuA W (dsA W (nx w' x) (ny w' y)) x y t (some w) (O - k) false) (b := tuA W (dsA W (nx w' x) (ny w' y)) x y t (some w) (O - k) true)
      cases w'
      · exact Int.le_trans e m1.1
      · exact Int.le_trans e m1.2.1
    have hm := mn2_le (a := c (ixT (nx w' x) (ny w' y) w' k2)) (b := t + wtA W x y w' t + W 2)
    generalize hv : mn2 (c (ixT (nx w' x) (ny w' y) w' k2)) (t + wtA W x y w' t + W 2) = v at hm
    have j0c := j0 (ixT (nx w' x) (ny w' y) w' k2)
    have hup : ∀ j, updI c (ixT (nx w' x) (ny w' y) w' k2) v j ≤ c j := fun j => by
      unfold updI
      split
      · rename_i e
        rw [e]
        exact hm.1
      · exact Int.le_refl _
    have hch : dmT W O (nx w' x) (ny w' y) k2 := ⟨i1, i2, hk⟩
    have hAn : ∀ (x3 y3 : Nat) (w3 : Bool) (k3 : Nat), dmT W O x3 y3 k3 → updI c (ixT (nx w' x) (ny w' y) w' k2) v (ixT x3 y3 w3 k3) ≠ 2147483647 → updI c (ixT (nx w' x) (ny w' y) w' k2) v (ixT x3 y3 w3 k3) ≤ 1000000 + 89 * ((x3 : Int) + y3) ∧ ((i ≤ ixT x3 y3 w3 k3 ∨ hmA W x3 y3 = true) → An ≤ tuF W (dsA W x3 y3) x3 y3 (updI c (ixT (nx w' x) (ny w' y) w' k2) v (ixT x3 y3 w3 k3)) (some w3) (O - k3)) := fun x3 y3 w3 k3 hd3 hc3 => by
      by_cases e : ixT x3 y3 w3 k3 = ixT (nx w' x) (ny w' y) w' k2
      · have ev : updI c (ixT (nx w' x) (ny w' y) w' k2) v (ixT x3 y3 w3 k3) = v := if_pos e
        rw [ev] at hc3 ⊢
        obtain ⟨e1, e2, e3, e4⟩ := ix_inj (by have := hd3.1; omega) (by omega) (by have := hd3.2.2; omega) (by omega) e
        subst e1 e2 e3 e4
        rcases hm.2.2 with z | z
        · rw [z] at hc3 ⊢
          exact j1 _ _ _ _ hd3 hc3
        · rw [z]
          exact ⟨by omega, fun _ => hcell⟩
      · have ev : updI c (ixT (nx w' x) (ny w' y) w' k2) v (ixT x3 y3 w3 k3) = c (ixT x3 y3 w3 k3) := if_neg e
        rw [ev] at hc3 ⊢
        exact j1 _ _ _ _ hd3 hc3
    refine ⟨⟨fun j => ?_, hAn, fun hA => ?_⟩, hup, fun x2 y2 w2 k3 hd2 hle => ?_, fun _ => ?_⟩
    · unfold updI
      split
      · omega
      · exact j0 j
    · obtain ⟨x3, y3, w3, k3, hd3, ha3, hc3, he3⟩ := j2 hA
      have hl := hup (ixT x3 y3 w3 k3)
      have j03 := j0 (ixT x3 y3 w3 k3)
      have hc4 : updI c (ixT (nx w' x) (ny w' y) w' k2) v (ixT x3 y3 w3 k3) ≠ 2147483647 := by omega
      have hb := (hAn x3 y3 w3 k3 hd3 hc4).2 ha3
      have hmo := tuF_mono hW (dsA W x3 y3) x3 y3 _ _ (some w3) (O - k3) hd3.1 hd3.2.1 rfl hl
      exact ⟨x3, y3, w3, k3, hd3, ha3, hc4, by omega⟩
    · have hne : ¬ ixT x2 y2 w2 k3 = ixT (nx w' x) (ny w' y) w' k2 := fun e => by
        rw [e] at hle
        unfold ixT nx ny at hle
        cases w' <;> cases w <;> simp only [Bool.false_eq_true, if_false, if_true] at hle <;> omega
      exact if_neg hne
    · have ev : updI c (ixT (nx w' x) (ny w' y) w' k2) v (ixT (nx w' x) (ny w' y) w' k2) = v := if_pos rfl
      rw [ev]
      exact hm.2.1
  · rw [if_neg q]
    exact ⟨h, fun _ => Int.le_refl _, fun _ _ _ _ _ _ => rfl, fun z => absurd z q⟩
/-- a cell is worked -/
theorem tJ_done (hW : TW W) {O : Nat} {An : Int} {c : Nat → Int} {x y k : Nat} {w : Bool} {t : Int} (hO : O ≤ 12) (h : tJ W O An c (ixT x y w k)) (hd : dmT W O x y k) (ht : c (ixT x y w k) = t) (ht2 : ¬ t = 2147483647) (hch : ∀ w', k + tcO (some w) w' ≤ O → cgA W x y w' = true → c (ixT (nx w' x) (ny w' y) w' (k + tcO (some w) w')) ≤ t + wtA W x y w' t + W 2) : tJ W O An c (ixT x y w k + 1) := by
  have w0 := hW.1
  have w1 := hW.2.1
  have w2 := hW.2.2.1
  obtain ⟨hx, hy, hkO⟩ := id hd
  obtain ⟨j0, j1, j2⟩ := id h
  refine ⟨j0, fun x y w k hd hc => ⟨(j1 x y w k hd hc).1, fun z => (j1 x y w k hd hc).2 (z.imp (fun q => by omega) id)⟩, fun hA => ?_⟩
  obtain ⟨x3, y3, w3, k3, hd3, ha3, hc3, he3⟩ := j2 hA
  by_cases q : ixT x y w k + 1 ≤ ixT x3 y3 w3 k3 ∨ hmA W x3 y3 = true
  · exact ⟨x3, y3, w3, k3, hd3, q, hc3, he3⟩
  · have e : ixT x3 y3 w3 k3 = ixT x y w k := by
      rcases ha3 with z | z
      · by_cases q2 : ixT x y w k + 1 ≤ ixT x3 y3 w3 k3
        · exact absurd (.inl q2) q
        · omega
      · exact absurd (.inr z) q
    obtain ⟨e1, e2, e3, e4⟩ := ix_inj (by have := hd3.1; omega) (by omega) (by have := hd3.2.2; omega) (by omega) e
    subst e1 e2 e3 e4
    have hh : ¬ hmA W x3 y3 = true := fun z => q (.inr z)
    obtain ⟨d, hds⟩ : ∃ d, dsA W x3 y3 = d + 1 := by
      refine ⟨dsA W x3 y3 - 1, ?_⟩
      unfold hmA at hh
      have hh : ¬ ((x3 : Int) = W 0 - 1 ∧ (y3 : Int) = W 1 - 1) := fun z => hh (decide_eq_true z)
      unfold dsA
      omega
    rw [ht, hds, tuF_s] at he3
    obtain ⟨w', hw'⟩ : ∃ w', tuA W d x3 y3 t (some w3) (O - k3) w' = An := by
      rcases (mn2_le (a := tuA W d x3 y3 t (some w3) (O - k3) false) (b := tuA W d x3 y3 t (some w3) (O - k3) true)).2.2 with z | z
      · exact ⟨false, by omega⟩
      · exact ⟨true, by omega⟩
    unfold tuA at hw'
    by_cases q5 : tcO (some w3) w' ≤ O - k3 ∧ cgA W x3 y3 w' = true
    · rw [if_pos q5] at hw'
      obtain ⟨i1, i2, i3, i4, i5, i6⟩ := cg_in hW (t := t) hx hy q5.2
      have hc := hch w' (by omega) q5.2
      have jt := j0 (ixT x3 y3 w3 k3)
      have jb := (j1 x3 y3 w3 k3 hd hc3).1
      rw [ht] at jt jb
      have hct : c (ixT (nx w' x3) (ny w' y3) w' (k3 + tcO (some w3) w')) ≠ 2147483647 := by omega
      have hdc : dmT W O (nx w' x3) (ny w' y3) (k3 + tcO (some w3) w') := ⟨i1, i2, by omega⟩
      have hix : ixT x3 y3 w3 k3 + 1 ≤ ixT (nx w' x3) (ny w' y3) w' (k3 + tcO (some w3) w') := by
        unfold ixT nx ny
        cases w' <;> cases w3 <;> simp only [Bool.false_eq_true, if_false, if_true] <;> omega
      have hbd := (j1 _ _ _ _ hdc hct).2 (.inl (by omega))
      have hmo := tuF_mono hW (dsA W (nx w' x3) (ny w' y3)) (nx w' x3) (ny w' y3) _ _ (some w') (O - (k3 + tcO (some w3) w')) i1 i2 rfl hc
      refine ⟨_, _, w', _, hdc, .inl hix, hct, ?_⟩
      rw [show O - k3 - tcO (some w3) w' = O - (k3 + tcO (some w3) w') by omega, show d = dsA W (nx w' x3) (ny w' y3) by omega] at hw'
      omega
    · rw [if_neg q5] at hw'
      omega
end TU
