/-! LAYER 2: the component's tables -/
set_option maxRecDepth 100000
/-- nothing but rules' facts is another -/
def Ff (ρ : Nat → Nat × Nat) (s s' : CS) : Prop := s'.1 = s.1 ∧ (∀ f a, cI s' f a = cI s f a) ∧ (∀ f a, cR s' f a = cR s f a) ∧ (∀ a, ¬ (ρ a).1 = 29 → cA s' a = cA s a) ∧ (∀ a, cQ s' a = cQ s a) ∧ cz s' = cz s ∧ cl s' = cl s ∧ (∀ f a, cJ s' f a = cJ s f a) ∧ ∀ a, cB s' a = cB s a
theorem Ff.rf {ρ : Nat → Nat × Nat} {s : CS} : Ff ρ s s := ⟨rfl, fun _ _ => rfl, fun _ _ => rfl, fun _ _ => rfl, fun _ => rfl, rfl, rfl, fun _ _ => rfl, fun _ => rfl⟩
theorem Ff.tr {ρ : Nat → Nat × Nat} {s s1 s2 : CS} (h : Ff ρ s s1) (k : Ff ρ s1 s2) : Ff ρ s s2 := ⟨k.1.trans h.1, fun f a => (k.2.1 f a).trans (h.2.1 f a), fun f a => (k.2.2.1 f a).trans (h.2.2.1 f a), fun a q => (k.2.2.2.1 a q).trans (h.2.2.2.1 a q), fun a => (k.2.2.2.2.1 a).trans (h.2.2.2.2.1 a), k.2.2.2.2.2.1.trans h.2.2.2.2.2.1, k.2.2.2.2.2.2.1.trans h.2.2.2.2.2.2.1, fun f a => (k.2.2.2.2.2.2.2.1 f a).trans (h.2.2.2.2.2.2.2.1 f a), fun a => (k.2.2.2.2.2.2.2.2 a).trans (h.2.2.2.2.2.2.2.2 a)⟩
theorem Ff.uA {ρ : Nat → Nat × Nat} {s : CS} {a i : Nat} {v : Int32} (h : (ρ a).1 = 29) : Ff ρ s (uA s a i v) := by
  refine ⟨rfl, fun _ _ => rfl, fun _ _ => rfl, fun a' q => ?_, fun _ => rfl, rfl, rfl, fun _ _ => rfl, fun _ => rfl⟩
  show (if a' = a then upd (cA s a) i v else cA s a') = cA s a'
  rw [if_neg]
  rintro rfl
  exact q h
theorem Ff.q {ρ : Nat → Nat × Nat} {s s' : CS} (h : Ff ρ s s') : Fq ρ s s' := by
  refine ⟨h.1, fun f a _ => h.2.1 f a, h.2.2.1, fun a q => h.2.2.2.1 a ?_, h.2.2.2.2.1, h.2.2.2.2.2.1, h.2.2.2.2.2.2.1⟩
  intro e
  have q := of_decide_eq_false q
  omega
def fcN (a b l u : Int) : Nat → Int32 := fun j => if j = 0 then i32 (if a < 0 then 999 else a) else if j = 1 then i32 (if b < 0 then 999 else b) else if j = 2 then i32 l else i32 u
def goR (RC : Nat → List (Nat × Int)) (r : Nat) (a b l u : Int) : Bool := decide (ruV (RC r) (fcN a b l u) = 0)
/-- the goer object of number k -/
def GO (ρ : Nat → Nat × Nat) (RC : Nat → List (Nat × Int)) (s : CS) (k o : Nat) : Prop := (k = 0 → s.1 o = some (true, 4, 0) ∧ cI s 400 o = i32 0) ∧ (k = 1 → s.1 o = some (true, 4, 0) ∧ cI s 400 o = i32 1) ∧ (k = 2 → s.1 o = some (true, 5, 0)) ∧ (k = 3 → s.1 o = some (true, 6, 0)) ∧ (4 ≤ k → s.1 o = some (true, 16, 0) ∧ oA ρ s o 1601 100 4 29 ∧ ∃ e, cR s 1600 o = some e ∧ exAt s 550 e (RC (k - 4)))
theorem GO.q {ρ : Nat → Nat × Nat} {RC : Nat → List (Nat × Int)} {s s' : CS} {k o : Nat} (h : GO ρ RC s k o) (q : Fq ρ s s') : GO ρ RC s' k o := by
  obtain ⟨h1, h2, h3, h4, h5⟩ := h
  refine ⟨fun e => ?_, fun e => ?_, fun e => ?_, fun e => ?_, fun e => ?_⟩
  · rw [q.1, q.2.1 _ _ rfl]; exact h1 e
  · rw [q.1, q.2.1 _ _ rfl]; exact h2 e
  · rw [q.1]; exact h3 e
  · rw [q.1]; exact h4 e
  · obtain ⟨a1, a2, ee, a3, a4⟩ := h5 e
    exact ⟨by rw [q.1]; exact a1, (a2.q q).1, ee, by rw [q.2.2.1]; exact a3, a4.q q _ _ _⟩
section TB
variable {g : Nat → Nat} {ρ : Nat → Nat × Nat} {W : Nat → Int} {S : Nat → Nat → Int} {V m Tp : Nat → Int} {RC : Nat → List (Nat × Int)} {s : CS} {T : Int}
theorem b_goer (b : B g ρ W S V m Tp RC s) {k : Nat} (h : (k : Int) < 4 + W 8) : ∃ o, cQ s (g 12) k = some o ∧ GO ρ RC s k o := b.2.2.2.2.1.2.2.2.2 k h
theorem go_k {k o : Nat} (h : GO ρ RC s k o) : ∃ c, s.1 o = some (true, c, 0) ∧ (c = 4 ∨ c = 5 ∨ c = 6 ∨ c = 16) := by
  obtain ⟨h1, h2, h3, h4, h5⟩ := h
  rcases (show k = 0 ∨ k = 1 ∨ k = 2 ∨ k = 3 ∨ 4 ≤ k by omega) with e | e | e | e | e
  · exact ⟨4, (h1 e).1, by omega⟩
  · exact ⟨4, (h2 e).1, by omega⟩
  · exact ⟨5, h3 e, by omega⟩
  · exact ⟨6, h4 e, by omega⟩
  · exact ⟨16, (h5 e).1, by omega⟩
theorem ok_get (b : B g ρ W S V m Tp RC s) (hW : TW W) {k : Nat} (h : (k : Int) < 4 + W 8) : ∃ o, FJ2_get s (g 11) (i32 (k : Int)) = some (some o) ∧ GO ρ RC s k o ∧ isK s o [4, 5, 6, 16] = true := by
  obtain ⟨o, e, ho⟩ := b_goer b h
  have w8 := hW.2.2.2.2.2.2.2.2.1
  obtain ⟨g1, g2, g3, ⟨n, g4, g5, g6⟩, -⟩ := b.2.2.2.2.1
  refine ⟨o, ?_, ho, ?_⟩
  · unfold FJ2_get FJ16_checkIndex FJ2_elementData
    simp only [nrm, wps, bcx b, g1, g3]
    rw [lR_i g4 (by omega) (by omega) (by omega), Int.toNat_natCast, e]
    unfold FJ9_checkIndex
    simp (disch := first | assumption | omega) only [nrm, wps, cmps]
    split <;> first | rfl | omega | (split <;> first | rfl | omega)
  · obtain ⟨c, h1, h2 | h2 | h2 | h2⟩ := go_k ho <;> exact isK_o h1 (by rw [h2]; rfl)
/-- which way a goer goes -/
theorem ok_way {k o : Nat} (h : GO ρ RC s k o) (h3 : ¬ k = 3) {a c l u : Int} (ha : -1 ≤ a ∧ a ≤ 59) (hc : -1 ≤ c ∧ c ≤ 59) (hac : 0 ≤ a ∨ 0 ≤ c) : Ok (V3_way o (i32 a) (i32 c) (i32 l) (i32 u) s) fun p => p.1 = i32 (if gsel k (goR RC) a c l u = true then 1 else 0) ∧ Ff ρ s p.2 := by
  obtain ⟨h0, h1, h2, -, h5⟩ := h
  unfold V3_way
  have first : ∀ w : Int, (w = 0 ∨ w = 1) → s.1 o = some (true, 4, 0) → cI s 400 o = i32 w → FX4_way s o (i32 a) (i32 c) (i32 l) (i32 u) = some (i32 (if (if w = 0 then a else c) < 0 then 1 - w else w)) := fun w hw k1 k2 => by
    unfold FX4_way FX4_way_b12
    rcases hw with rfl | rfl <;> simp (disch := omega) only [nrm, wps, cmps, if_pos, if_neg, eq_self, if_true, if_false, Bool.false_eq_true, gcx k1 [4] rfl, k2] <;> (repeat' split) <;> first | rfl | exact si (by omega) | exact sip (by omega) | (exfalso; omega)
  rcases (show k = 0 ∨ k = 1 ∨ k = 2 ∨ 4 ≤ k by omega) with e | e | e | e
  · obtain ⟨k1, k2⟩ := h0 e
    rw [if_pos (isK_o k1 rfl), first 0 (.inl rfl) k1 k2]
    refine ok_s ⟨?_, Ff.rf⟩
    subst e
    show i32 _ = i32 _
    congr 1
    unfold gsel
    by_cases q1 : a < 0 <;> by_cases q2 : c < 0 <;> first | omega | simp [q1, q2]
  · obtain ⟨k1, k2⟩ := h1 e
    rw [if_pos (isK_o k1 rfl), first 1 (.inr rfl) k1 k2]
    refine ok_s ⟨?_, Ff.rf⟩
    subst e
    show i32 _ = i32 _
    congr 1
    unfold gsel
    by_cases q1 : a < 0 <;> by_cases q2 : c < 0 <;> first | omega | simp [q1, q2]
  · have k1 := h2 e
    rw [if_neg (isK_n k1 rfl), if_pos (isK_o k1 rfl)]
    have e5 : FX5_way s o (i32 a) (i32 c) (i32 l) (i32 u) = some (i32 (if gsel k (goR RC) a c l u = true then 1 else 0)) := by
      unfold FX5_way gsel
      subst e
      simp (disch := omega) only [nrm, wps, cmps, if_pos, if_neg, eq_self, if_true, if_false, Bool.false_eq_true, gcx k1 [5] rfl]
      by_cases q1 : a < 0 <;> by_cases q2 : c < 0 <;> by_cases q3 : c < a <;> first | omega | (simp (disch := omega) only [nrm, wps, cmps, if_pos, if_neg, eq_self, if_true, if_false, Bool.false_eq_true, decide_eq_true_eq])
    rw [e5]
    exact ok_s ⟨rfl, Ff.rf⟩
  · obtain ⟨k1, ⟨k2, k3, k4⟩, ee, k5, k6⟩ := h5 e
    have k4 : (ρ (av s 1601 o)).1 = 29 := by rw [k4]
    rw [if_neg (isK_n k1 rfl), if_neg (isK_n k1 rfl), if_neg (isK_n k1 rfl), if_pos (isK_o k1 rfl)]
    unfold FX16_way
    refine ok_mz (ok_gd k1 rfl (ok_gRs k1 rfl k2 ?_)) (fun z hz => by rw [hz.2.2.2.2.2.2.1, hz.2.2.2.2.2.2.2.1]; exact ⟨Nat.le_refl _, Nat.le_refl _⟩)
    obtain ⟨fa, hfa⟩ : ∃ fa, fa = av s 1601 o := ⟨_, rfl⟩
    rw [← hfa] at k2 k3 k4 ⊢
    have go : ∀ v1 v2 : Int, v1 = (if a < 0 then 999 else a) → v2 = (if c < 0 then 999 else c) → Ok (FX16_way_b33 o (i32 a) (i32 c) (i32 l) (i32 u) (i32 v2) 1 (some fa) (uA s fa 0 (i32 v1))) fun p => p.1 = i32 (if gsel k (goR RC) a c l u = true then 1 else 0) ∧ Ff ρ s p.2 := fun v1 v2 e1 e2 => by
      unfold FX16_way_b33
      refine ok_nn ?_
      rw [show (1 : Int32) = i32 1 from rfl]
      refine ok_tI (s := uA s fa 0 (i32 v1)) k3 (by omega) (by omega) (by decide) ?_
      refine ok_gRs (s := uA (uA s fa 0 (i32 v1)) fa 1 (i32 v2)) k1 rfl k2 (ok_nn ?_)
      rw [show (2 : Int32) = i32 2 from rfl]
      refine ok_tI (s := uA (uA s fa 0 (i32 v1)) fa 1 (i32 v2)) k3 (by omega) (by omega) (by decide) ?_
      refine ok_gRs (s := uA (uA (uA s fa 0 (i32 v1)) fa 1 (i32 v2)) fa 2 (i32 l)) k1 rfl k2 (ok_nn ?_)
      rw [show (3 : Int32) = i32 3 from rfl]
      refine ok_tI (s := uA (uA (uA s fa 0 (i32 v1)) fa 1 (i32 v2)) fa 2 (i32 l)) k3 (by omega) (by omega) (by decide) ?_
      have hf : Ff ρ s (uA (uA (uA (uA s fa 0 (i32 v1)) fa 1 (i32 v2)) fa 2 (i32 l)) fa 3 (i32 u)) := (((Ff.uA k4).tr (Ff.uA k4)).tr (Ff.uA k4)).tr (Ff.uA k4)
      have hv : ∀ j, j < 4 → cA (uA (uA (uA (uA s fa 0 (i32 v1)) fa 1 (i32 v2)) fa 2 (i32 l)) fa 3 (i32 u)) fa j = fcN a c l u j := fun j hj => by
        unfold fcN
        rw [← e1, ← e2]
        simp only [crd, if_true]
        unfold upd
        rcases (show j = 0 ∨ j = 1 ∨ j = 2 ∨ j = 3 by omega) with rfl | rfl | rfl | rfl <;> rfl
      refine ok_gRs (s := uA (uA (uA (uA s fa 0 (i32 v1)) fa 1 (i32 v2)) fa 2 (i32 l)) fa 3 (i32 u)) k1 rfl k5 (ok_gRs (s := uA (uA (uA (uA s fa 0 (i32 v1)) fa 1 (i32 v2)) fa 2 (i32 l)) fa 3 (i32 u)) k1 rfl k2 (ok_nn (ok_nn ?_)))
      refine ok_be (ru_c (s := uA (uA (uA (uA s fa 0 (i32 v1)) fa 1 (i32 v2)) fa 2 (i32 l)) fa 3 (i32 u)) k3 hv (k6.q hf.q _ _ _) (by omega)) ?_
      have hg : ¬ a < 0 → ¬ c < 0 → gsel k (goR RC) a c l u = decide (ruV (RC (k - 4)) (fcN a c l u) = 0) := fun q1 q2 => by
        unfold gsel
        rw [if_neg q1, if_neg q2, if_neg (by omega), if_neg (by omega), if_neg (by omega)]
        rfl
      have hg1 : a < 0 → gsel k (goR RC) a c l u = true := fun q1 => by
        unfold gsel
        rw [if_pos q1]
      have hg2 : ¬ a < 0 → c < 0 → gsel k (goR RC) a c l u = false := fun q1 q2 => by
        unfold gsel
        rw [if_neg q1, if_pos q2]
      unfold FX16_way_b68 FX16_way_b80
      simp (disch := first | assumption | omega) only [nrm, wps, cmps]
      by_cases q0 : ruV (RC (k - 4)) (fcN a c l u) = i32 0
      · rw [if_pos q0, if_neg (by omega)]
        by_cases q1 : a < 0
        · rw [hg1 q1, if_neg (by omega)]
          exact ok_s ⟨rfl, hf⟩
        · by_cases q2 : c < 0
          · rw [hg2 q1 q2, if_pos q2]
            exact ok_s ⟨rfl, hf⟩
          · rw [hg q1 q2, if_neg q2, decide_eq_true (show _ = (0 : Int32) from q0)]
            exact ok_s ⟨rfl, hf⟩
      · rw [if_neg q0]
        by_cases q1 : a < 0
        · rw [hg1 q1]
          simp only [if_true, q1]
          exact ok_s ⟨rfl, hf⟩
        · by_cases q2 : c < 0
          · rw [hg2 q1 q2]
            simp only [if_true, q1, if_false]
            exact ok_s ⟨rfl, hf⟩
          · rw [hg q1 q2, decide_eq_false (show ¬ _ = (0 : Int32) from q0)]
            simp only [if_true, q1, if_false]
            exact ok_s ⟨rfl, hf⟩
    have go2 : ∀ v1 : Int, v1 = (if a < 0 then 999 else a) → Ok (FX16_way_b16 o (i32 a) (i32 c) (i32 l) (i32 u) (i32 v1) 0 (some fa) s) fun p => p.1 = i32 (if gsel k (goR RC) a c l u = true then 1 else 0) ∧ Ff ρ s p.2 := fun v1 e1 => by
      unfold FX16_way_b16
      refine ok_nn ?_
      rw [show (0 : Int32) = i32 0 from rfl]
      refine ok_tI k3 (by omega) (by omega) (by decide) ?_
      refine ok_gRs (s := uA s fa 0 (i32 v1)) k1 rfl k2 ?_
      refine ok_le ⟨by omega, by omega⟩ ⟨by omega, by omega⟩ (fun q => ?_) (fun q => ?_)
      · exact go v1 c e1 (by rw [if_neg (by omega)])
      · rw [show (999 : Int32) = i32 999 from rfl]
        exact go v1 999 e1 (by rw [if_pos q])
    rw [show (0 : Int32) = i32 0 from rfl]
    refine ok_le ⟨by omega, by omega⟩ ⟨by omega, by omega⟩ (fun q => ?_) (fun q => ?_)
    · exact go2 a (by rw [if_neg (by omega)])
    · rw [show (999 : Int32) = i32 999 from rfl]
      exact go2 999 (by rw [if_pos q])
/-- a corner's row of the table -/
def Tab (s : CS) (g : Nat → Nat) (W : Nat → Int) (R : Nat → Nat → Int → Int) (x y : Nat) : Prop := ∀ t, 0 ≤ t → t < W 9 → cA s (g 20) ((((y : Int) * 6) + (x : Int)) * 1200 + t).toNat = i32 (R x y t)
theorem b_20 (b : B g ρ W S V m Tp RC s) : ρ (g 20) = (20, 0) := (b.2.1 6 _ rfl).2.2
theorem Tab.f {s' : CS} {R : Nat → Nat → Int → Int} {x y : Nat} (b : B g ρ W S V m Tp RC s) (h : Tab s g W R x y) (k : Ff ρ s s') : Tab s' g W R x y := by
  unfold Tab
  rw [k.2.2.2.1 _ (by rw [b_20 b]; decide)]
  exact h
theorem c_takesAt (b : B g ρ W S V m Tp RC s) (hW : TW W) {R : Nat → Nat → Int → Int} {x y : Nat} (h : Tab s g W R x y) (hx : (x : Int) < W 0) (hy : (y : Int) < W 1) {t : Int} (h0 : 0 ≤ t) (h1 : t < 2147483648) : FX0_takesAt s (g 0) (i32 x) (i32 y) (i32 t) = some (i32 (R x y (t % W 9))) := by
  have w0 := hW.1
  have w1 := hW.2.1
  have w9 := hW.2.2.2.2.2.2.2.2.2.1
  have hm := wtN_ev hW (t := t)
  unfold FX0_takesAt
  simp (disch := first | assumption | omega) only [nrm, wps, cmps, bcx b, b_206 b, d32_c, rem_c, bld b]
  rw [h _ hm.1 hm.2]
theorem c_scale (b : B g ρ W S V m Tp RC s) {wst : Bool} (h : cI s 10 (g 0) = bi wst) : FX0_scale s (g 0) = some (i32 (scN wst)) := by
  unfold FX0_scale
  simp only [nrm, wps, bcx b, h]
  cases wst <;> rfl
theorem c_by (b : B g ρ W S V m Tp RC s) (hW : TW W) {R : Nat → Nat → Int → Int} {x y : Nat} {w wst : Bool} (hs : cI s 10 (g 0) = bi wst) (hx : (x : Int) < W 0) (hy : (y : Int) < W 1) {t wt : Int} (h0 : 0 ≤ t) (h1 : t ≤ 1900000000) (hw : -1 ≤ wt ∧ wt ≤ 59) (h : 0 ≤ wt → thA W x y w = true ∧ Tab s g W R (nx w x) (ny w y) ∧ ∀ t', R (nx w x) (ny w y) (t' % W 9) ≤ 1170000 ∧ -1 ≤ R (nx w x) (ny w y) (t' % W 9)) : FX0_by s (g 0) (i32 x) (i32 y) (wy w) (i32 t) (i32 wt) = some (i32 (byN W (scN wst) R x y w t wt)) := by
  have w0 := hW.1
  have w1 := hW.2.1
  have w2 := hW.2.2.1
  unfold FX0_by FX0_by_b31 FX0_by_b42 byN
  simp (disch := first | assumption | omega) only [nrm, wps, cmps, bcx b, c_walk b hW, c_scale b hs]
  by_cases q : wt < 0
  · rw [if_neg (by omega), if_pos q]
  · obtain ⟨e1, e2, e3⟩ := h (by omega)
    obtain ⟨i1, i2, -⟩ := th_in e1 hx hy
    have e3 := e3 (t + (wt + W 2))
    rw [if_pos (by omega), if_neg q]
    cases w with
    | true =>
      have ht := c_takesAt b hW e2 i1 i2 (t := t + (wt + W 2)) (by omega) (by omega)
      have ht : FX0_takesAt s (g 0) (i32 (x : Int)) (i32 ((y : Int) + 1)) (i32 (t + (wt + W 2))) = _ := ht
      simp only [nrm, wps, if_false]
      rw [ht]
      generalize R (nx true x) (ny true y) ((t + (wt + W 2)) % W 9) = r at e3 ⊢
      by_cases q5 : r < 0
      · simp (disch := omega) only [nrm, wps, cmps, if_pos, if_neg, eq_self, if_true, if_false, Bool.false_eq_true]
      · simp (disch := omega) only [nrm, wps, cmps, if_pos, if_neg, eq_self, if_true, if_false, Bool.false_eq_true]
    | false =>
      have ht := c_takesAt b hW e2 i1 i2 (t := t + (wt + W 2)) (by omega) (by omega)
      have ht : FX0_takesAt s (g 0) (i32 ((x : Int) + 1)) (i32 (y : Int)) (i32 (t + (wt + W 2))) = _ := ht
      simp only [nrm, wps, if_true]
      rw [ht]
      generalize R (nx false x) (ny false y) ((t + (wt + W 2)) % W 9) = r at e3 ⊢
      by_cases q5 : r < 0
      · simp (disch := omega) only [nrm, wps, cmps, if_pos, if_neg, eq_self, if_true, if_false, Bool.false_eq_true]
      · simp (disch := omega) only [nrm, wps, cmps, if_pos, if_neg, eq_self, if_true, if_false, Bool.false_eq_true]
theorem c_better (b : B g ρ W S V m Tp RC s) {u v : Int} (hu : ok32 u) (hv : ok32 v) : FX0_better s (g 0) (i32 u) (i32 v) = some (bi (btr u v)) := by
  obtain ⟨a1, a2⟩ := hu
  obtain ⟨b1, b2⟩ := hv
  unfold FX0_better btr
  simp (disch := first | assumption | omega) only [nrm, wps, cmps, bcx b]
  (repeat' split) <;> first | exact bi_t2 (by omega) | exact bi_f2 (by omega) | rfl
/-- what the next corners' rows hold is at hand -/
def Nxt (s : CS) (g : Nat → Nat) (W : Nat → Int) (R : Nat → Nat → Int → Int) (x y : Nat) : Prop := ∀ w, thA W x y w = true → Tab s g W R (nx w x) (ny w y) ∧ ∀ t', R (nx w x) (ny w y) (t' % W 9) ≤ 1170000 ∧ -1 ≤ R (nx w x) (ny w y) (t' % W 9)
theorem Nxt.f {s' : CS} {R : Nat → Nat → Int → Int} {x y : Nat} (b : B g ρ W S V m Tp RC s) (h : Nxt s g W R x y) (k : Ff ρ s s') : Nxt s' g W R x y := fun w hw => ⟨(h w hw).1.f b k, (h w hw).2⟩
theorem byN_ok (hW : TW W) {R : Nat → Nat → Int → Int} {x y : Nat} {w wst : Bool} {t lt : Int} (hx : (x : Int) < W 0) (hy : (y : Int) < W 1) (h : Nxt s g W R x y) : -1 ≤ byN W (scN wst) R x y w t (wtN W x y w lt) ∧ byN W (scN wst) R x y w t (wtN W x y w lt) ≤ 1260000 := by
  have hs := scN_b wst
  have := byN_b (sc := scN wst) (R := R) (x := x) (y := y) (w := w) (t := t) (wt := wtN W x y w lt) (B := 1170000) hW hs (wtN_b hW hx hy).2 (fun q => ((h w (cg_ev (wtN_cg q)).1).2 _).1) (by omega)
  omega
/-- the way of a goer, as the component asks -/
def wyN (W : Nat → Int) (k : Nat) (rv : Nat → Int → Int → Int → Int → Bool) (sc : Int) (R : Nat → Nat → Int → Int) (x y : Nat) (t lt : Int) : Bool := if k = 3 then btr (byN W sc R x y false t (wtN W x y false lt)) (byN W sc R x y true t (wtN W x y true lt)) else gsel k rv (wtN W x y false lt) (wtN W x y true lt) (lfA W x) (upA W y)
theorem ok_wayOf (b : B g ρ W S V m Tp RC s) (hW : TW W) {k o : Nat} (ho : GO ρ RC s k o) {wst : Bool} (hs : cI s 10 (g 0) = bi wst) {R : Nat → Nat → Int → Int} {x y : Nat} (hx : (x : Int) < W 0) (hy : (y : Int) < W 1) (hR : k = 3 → Nxt s g W R x y) {t lt : Int} (h0 : 0 ≤ t) (h1 : t ≤ 1900000000) : Ok (FX0_wayOf (g 0) o (i32 x) (i32 y) (i32 t) (i32 (wtN W x y false lt)) (i32 (wtN W x y true lt)) s) fun p => p.1 = (if wtN W x y false lt < 0 ∧ wtN W x y true lt < 0 then i32 (-1) else bi (wyN W k (goR RC) (scN wst) R x y t lt)) ∧ Ff ρ s p.2 := by
  have w0 := hW.1
  have w1 := hW.2.1
  have a1 := wtN_b (w := false) (t := lt) hW hx hy
  have a2 := wtN_b (w := true) (t := lt) hW hx hy
  unfold FX0_wayOf
  refine ok_mz (ok_gd b.1 rfl ?_) (fun z hz => by rw [hz.2.2.2.2.2.2.1, hz.2.2.2.2.2.2.2.1]; exact ⟨Nat.le_refl _, Nat.le_refl _⟩)
  have go : ¬ (wtN W x y false lt < 0 ∧ wtN W x y true lt < 0) → Ok (FX0_wayOf_b12 (g 0) o (i32 x) (i32 y) (i32 t) (i32 (wtN W x y false lt)) (i32 (wtN W x y true lt)) s) fun p => p.1 = (if wtN W x y false lt < 0 ∧ wtN W x y true lt < 0 then i32 (-1) else bi (wyN W k (goR RC) (scN wst) R x y t lt)) ∧ Ff ρ s p.2 := fun q => by
    unfold FX0_wayOf_b12
    rw [if_neg q]
    by_cases q3 : k = 3
    · have k1 := ho.2.2.2.1 q3
      have hb : V3_isBest s o = some 1 := by
        unfold V3_isBest FX6_isBest
        rw [if_neg (isK_n k1 rfl), if_pos (isK_o k1 rfl), gd_t (isK_o k1 rfl)]
      have hN := hR q3
      have b0 := byN_ok (w := false) (wst := wst) (t := t) (lt := lt) hW hx hy hN
      have b1 := byN_ok (w := true) (wst := wst) (t := t) (lt := lt) hW hx hy hN
      have c0 := c_by (w := false) b hW hs hx hy h0 h1 a1 (fun z => by
        have e := (cg_ev (wtN_cg (show ¬ wtN W x y false lt < 0 by omega))).1
        exact ⟨e, hN false e⟩)
      have c1 := c_by (w := true) b hW hs hx hy h0 h1 a2 (fun z => by
        have e := (cg_ev (wtN_cg (show ¬ wtN W x y true lt < 0 by omega))).1
        exact ⟨e, hN true e⟩)
      refine ok_be hb ?_
      rw [if_neg (show ¬ (1 : Int32) = 0 by decide)]
      refine ok_be c0 (ok_be c1 (ok_be (c_better b ⟨by omega, by omega⟩ ⟨by omega, by omega⟩) ?_))
      refine ok_s ⟨?_, Ff.rf⟩
      unfold wyN
      rw [if_pos q3]
    · have hb : V3_isBest s o = some 0 := by
        obtain ⟨c, k1, hc⟩ := go_k ho
        have hc6 : ¬ c = 6 := by
          intro e
          rcases (show k = 0 ∨ k = 1 ∨ k = 2 ∨ 4 ≤ k by omega) with z | z | z | z
          · have := (ho.1 z).1; rw [k1] at this; cases this; cases e
          · have := (ho.2.1 z).1; rw [k1] at this; cases this; cases e
          · have := ho.2.2.1 z; rw [k1] at this; cases this; cases e
          · have := (ho.2.2.2.2 z).1; rw [k1] at this; cases this; cases e
        unfold V3_isBest FX3_isBest
        rcases hc with rfl | rfl | rfl | rfl
        · rw [if_pos (isK_o k1 rfl), gd_t (isK_o k1 rfl)]
        · rw [if_pos (isK_o k1 rfl), gd_t (isK_o k1 rfl)]
        · exact absurd rfl hc6
        · rw [if_pos (isK_o k1 rfl), gd_t (isK_o k1 rfl)]
      refine ok_be hb ?_
      rw [if_pos rfl]
      (try simp only [lits]) <;> simp (disch := omega) only [↓wps, ↓bcp b, bci b, nrm, wps, cmps, if_pos, if_neg, eq_self, if_true, if_false, Bool.false_eq_true, Bool.true_eq_false, dec_f]
      refine ok_2 (ok_way ho q3 a1 a2 (by omega)) fun v s' hv => ?_
      refine ok_s ⟨?_, hv.2⟩
      rw [hv.1]
      unfold wyN bi
      rw [if_neg q3]
      show i32 (if gsel k (goR RC) _ _ (W 0 - 1 - (x : Int)) (W 1 - 1 - (y : Int)) = true then 1 else 0) = (if gsel k (goR RC) _ _ (W 0 - 1 - (x : Int)) (W 1 - 1 - (y : Int)) = true then 1 else 0)
      split <;> rfl
  rw [show (0 : Int32) = i32 0 from rfl]
  refine ok_le ⟨by omega, by omega⟩ ⟨by omega, by omega⟩ (fun q => go (by omega)) (fun q => ?_)
  refine ok_le ⟨by omega, by omega⟩ ⟨by omega, by omega⟩ (fun q2 => go (by omega)) (fun q2 => ?_)
  refine ok_s ⟨?_, Ff.rf⟩
  rw [if_pos ⟨q, q2⟩]
  rfl
theorem ok_takesBy (b : B g ρ W S V m Tp RC s) (hW : TW W) {k o : Nat} (ho : GO ρ RC s k o) {wst : Bool} (hs : cI s 10 (g 0) = bi wst) {R : Nat → Nat → Int → Int} {x y : Nat} (hx : (x : Int) < W 0) (hy : (y : Int) < W 1) (hR : Nxt s g W R x y) {t lt : Int} (h0 : 0 ≤ t) (h1 : t ≤ 1900000000) (l0 : 0 ≤ lt) (l1 : lt ≤ 1900000000) : Ok (FX0_takesBy (g 0) o (i32 x) (i32 y) (i32 t) (i32 lt) s) fun p => p.1 = i32 (snN W k (goR RC) (scN wst) R x y t lt) ∧ Ff ρ s p.2 := by
  have w0 := hW.1
  have w1 := hW.2.1
  have a1 := wtN_b (w := false) (t := lt) hW hx hy
  have a2 := wtN_b (w := true) (t := lt) hW hx hy
  have e0 : FX0_waits s (g 0) (i32 x) (i32 y) 0 (i32 lt) = some (i32 (wtN W x y false lt)) := c_wts (way := false) b hW (by omega) (by omega) l0 l1
  have e1 : FX0_waits s (g 0) (i32 x) (i32 y) 1 (i32 lt) = some (i32 (wtN W x y true lt)) := c_wts (way := true) b hW (by omega) (by omega) l0 l1
  unfold FX0_takesBy
  refine ok_mz (ok_gd b.1 rfl ?_) (fun z hz => by rw [hz.2.2.2.2.2.2.1, hz.2.2.2.2.2.2.2.1]; exact ⟨Nat.le_refl _, Nat.le_refl _⟩)
  refine ok_be e0 (ok_be e1 (ok_2 (ok_wayOf b hW ho hs hx hy (fun _ => hR) h0 h1) fun v s' hv => ?_))
  obtain ⟨v1, v2⟩ := hv
  have v1 : v = _ := v1
  have b' := b.q v2.q
  have hN := hR.f b v2
  have hs' : cI s' 10 (g 0) = bi wst := by rw [v2.2.1]; exact hs
  have cb : ∀ w, FX0_by s' (g 0) (i32 x) (i32 y) (wy w) (i32 t) (i32 (wtN W x y w lt)) = some (i32 (byN W (scN wst) R x y w t (wtN W x y w lt))) := fun w => c_by b' hW hs' hx hy h0 h1 (wtN_b hW hx hy) (fun z => by
    have e := (cg_ev (wtN_cg (show ¬ wtN W x y w lt < 0 by omega))).1
    exact ⟨e, hN w e⟩)
  by_cases q : wtN W x y false lt < 0 ∧ wtN W x y true lt < 0
  · rw [if_pos q] at v1
    rw [v1, show (0 : Int32) = i32 0 from rfl]
    refine ok_le ⟨by omega, by omega⟩ ⟨by omega, by omega⟩ (fun z => by omega) (fun _ => ?_)
    refine ok_s ⟨?_, v2⟩
    unfold snN
    by_cases q3 : k = 3
    · rw [if_pos q3]
      have e : ∀ w, wtN W x y w lt < 0 → byN W (scN wst) R x y w t (wtN W x y w lt) = -1 := fun w z => by unfold byN; rw [if_pos z]
      rw [e false q.1, e true q.2]
      rfl
    · rw [if_neg q3, if_pos q]
      rfl
  · rw [if_neg q] at v1
    rw [v1]
    have es : snN W k (goR RC) (scN wst) R x y t lt = if wyN W k (goR RC) (scN wst) R x y t lt = true then byN W (scN wst) R x y true t (wtN W x y true lt) else byN W (scN wst) R x y false t (wtN W x y false lt) := by
      unfold snN wyN
      by_cases q3 : k = 3
      · rw [if_pos q3, if_pos q3]
      · rw [if_neg q3, if_neg q3, if_neg q]
    rw [es]
    cases wyN W k (goR RC) (scN wst) R x y t lt with
    | true =>
      rw [if_pos (show (0 : Int32) ≤ bi true by decide), if_neg (show ¬ bi true = (0 : Int32) by decide), if_pos rfl]
      exact ok_be (cb true) (ok_s ⟨rfl, v2⟩)
    | false =>
      rw [if_pos (show (0 : Int32) ≤ bi false by decide), if_pos (show bi false = (0 : Int32) by decide), if_neg (by decide)]
      exact ok_be (cb false) (ok_s ⟨rfl, v2⟩)
theorem anyN_lt {f : Nat → Int} {n i : Nat} (h : i < n) (k : f i < 0) : anyN f n = true := by
  induction n with
  | zero => omega
  | succ n ih =>
    show (anyN f n || decide (f n < 0)) = true
    by_cases q : i = n
    · subst q
      rw [decide_eq_true k, Bool.or_true]
    · rw [ih (by omega), Bool.true_or]
theorem hid_loop {nf : Nat} (hW : TW W) {k o : Nat} {wst : Bool} {R : Nat → Nat → Int → Int} {x y : Nat} (hx : (x : Int) < W 0) (hy : (y : Int) < W 1) {t : Int} (h0 : 0 ≤ t) (h1 : t ≤ 1900000000) {s0 : CS} (b0 : B g ρ W S V m Tp RC s0) (ho0 : GO ρ RC s0 k o) (hs0 : cI s0 10 (g 0) = bi wst) (hR0 : Nxt s0 g W R x y) {rd : Nat} (hr : 0 < rd ∧ rd ≤ 60) : ∀ d n i s, i + d = rd → d < n → anyN (fun j : Nat => snN W k (goR RC) (scN wst) R x y t j) i = false → Ff ρ s0 s → Ok (FX0_takesHidden_b20 nf n (g 0) o (i32 x) (i32 y) (i32 t) (i32 rd) (i64 (smN (fun j : Nat => snN W k (goR RC) (scN wst) R x y t j) i)) (i32 (mxN (fun j : Nat => snN W k (goR RC) (scN wst) R x y t j) i)) (i32 i) s) fun p => p.1 = i32 (hdN wst (fun j : Nat => snN W k (goR RC) (scN wst) R x y t j) rd) ∧ Ff ρ s0 p.2 := by
  obtain ⟨f, hf⟩ : ∃ f, f = fun j : Nat => snN W k (goR RC) (scN wst) R x y t j := ⟨_, rfl⟩
  rw [← hf]
  have hfb : ∀ i : Nat, -1 ≤ f i ∧ f i ≤ 1260000 := fun i => by
    have e : f i = snN W k (goR RC) (scN wst) R x y t (i : Int) := by rw [hf]
    rw [e]
    have hsc := scN_b wst
    have := snN_b (k := k) (rv := goR RC) (sc := scN wst) (R := R) (x := x) (y := y) (t := t) (lt := i) (B := 1170000) hW hx hy hsc (fun w hw t' => ((hR0 w (cg_ev hw).1).2 t').1) (by omega)
    constructor
    · exact this.1
    · have := this.2
      omega
  have hsum : ∀ i, i ≤ 60 → anyN f i = false → 0 ≤ smN f i ∧ smN f i ≤ 1260000 * (i : Int) ∧ 0 ≤ mxN f i ∧ mxN f i ≤ 1260000 := by
    intro i
    induction i with
    | zero => intro _ _; exact ⟨Int.le_refl 0, Int.le_refl 0, Int.le_refl 0, by show (0 : Int) ≤ 1260000; omega⟩
    | succ i ih =>
      intro hi ha
      have ha : (anyN f i || decide (f i < 0)) = false := ha
      have ha := Bool.or_eq_false_iff.mp ha
      obtain ⟨e1, e2, e3, e4⟩ := ih (by omega) ha.1
      have hfi := hfb i
      have hneg := of_decide_eq_false ha.2
      refine ⟨?_, ?_, ?_, ?_⟩
      · show 0 ≤ smN f i + f i
        omega
      · show smN f i + f i ≤ 1260000 * ((i + 1 : Nat) : Int)
        omega
      · show 0 ≤ (if mxN f i < f i then f i else mxN f i)
        split <;> omega
      · show (if mxN f i < f i then f i else mxN f i) ≤ 1260000
        split <;> omega
  intro d
  induction d with
  | zero =>
    intro n i s hd hn ha hs
    obtain ⟨n, rfl⟩ : ∃ q, n = q + 1 := ⟨n - 1, by omega⟩
    have ei : i = rd := by omega
    subst ei
    obtain ⟨e1, e2, e3, e4⟩ := hsum i (by omega) ha
    show Ok (FX0_takesHidden_b20_s nf (FX0_takesHidden_b20 nf n) _ _ _ _ _ _ _ _ _ s) _
    unfold FX0_takesHidden_b20_s
    refine ok_le ⟨by omega, by omega⟩ ⟨by omega, by omega⟩ (fun _ => ?_) (fun z => by omega)
    refine ok_gI (b0.q hs.q).1 rfl ?_
    rw [hs.2.1, hs0]
    cases wst with
    | true =>
      rw [if_neg (show ¬ bi true = (0 : Int32) by decide)]
      refine ok_s ⟨?_, hs⟩
      unfold hdN
      rw [ha, if_neg (by decide), if_pos rfl]
    | false =>
      have hq1 : 0 ≤ smN f i / (i : Int) := Int.ediv_nonneg e1 (by omega)
      have hq2 : smN f i / (i : Int) ≤ smN f i := Int.ediv_le_self _ e1
      rw [if_pos (show bi false = (0 : Int32) from rfl), i32_long ⟨by omega, by omega⟩, d64_n ⟨by omega, by omega⟩ (by omega), i64_div ⟨by omega, by omega⟩ ⟨by omega, by omega⟩ e1 (by omega), i64_int ⟨by omega, by omega⟩]
      refine ok_s ⟨?_, hs⟩
      unfold hdN
      rw [ha, if_neg (by decide), if_neg (by decide)]
  | succ d ih =>
    intro n i s hd hn ha hs
    obtain ⟨n, rfl⟩ : ∃ q, n = q + 1 := ⟨n - 1, by omega⟩
    obtain ⟨e1, e2, e3, e4⟩ := hsum i (by omega) ha
    show Ok (FX0_takesHidden_b20_s nf (FX0_takesHidden_b20 nf n) _ _ _ _ _ _ _ _ _ s) _
    unfold FX0_takesHidden_b20_s
    refine ok_le ⟨by omega, by omega⟩ ⟨by omega, by omega⟩ (fun z => by omega) (fun _ => ?_)
    refine ok_2 (ok_takesBy (b0.q hs.q) hW (ho0.q hs.q) (by rw [hs.2.1]; exact hs0) hx hy (hR0.f b0 hs) h0 h1 (by omega) (by omega)) fun v s' hv => ?_
    obtain ⟨v1, v2⟩ := hv
    have v1 : v = i32 (f i) := by rw [hf]; exact v1
    have hfi := hfb i
    rw [v1, show (0 : Int32) = i32 0 from rfl]
    refine ok_le ⟨by omega, by omega⟩ ⟨by omega, by omega⟩ (fun z => ?_) (fun z => ?_)
    · rw [i32_long ⟨by omega, by omega⟩, nm_eq, nm_eq, i64_add, mx_c (by omega) (by omega) (by omega) (by omega), show (1 : Int32) = i32 1 from rfl, i32_add]
      refine ih n (i + 1) s' (by omega) (by omega) ?_ (hs.tr v2)
      show (anyN f i || decide (f i < 0)) = false
      rw [ha, decide_eq_false (by omega)]
      rfl
    · refine ok_s ⟨?_, hs.tr v2⟩
      unfold hdN
      rw [anyN_lt (f := f) (i := i) (by omega) z, if_pos rfl]
      rfl
theorem ok_hidden {nf : Nat} (hn : 100 ≤ nf) (b : B g ρ W S V m Tp RC s) (hW : TW W) {k o : Nat} (ho : GO ρ RC s k o) {wst : Bool} (hs : cI s 10 (g 0) = bi wst) {R : Nat → Nat → Int → Int} {x y : Nat} (hx : (x : Int) < W 0) (hy : (y : Int) < W 1) (hR : Nxt s g W R x y) {t : Int} (h0 : 0 ≤ t) (h1 : t ≤ 1900000000) (hu : 0 < W (10 + 4 * (6 * y + x))) : Ok (FX0_takesHidden nf (g 0) o (i32 x) (i32 y) (i32 t) s) fun p => p.1 = i32 (hdN wst (fun j : Nat => snN W k (goR RC) (scN wst) R x y t j) (W (11 + 4 * (6 * y + x))).toNat) ∧ Ff ρ s p.2 := by
  have w0 := hW.1
  have w1 := hW.2.1
  have hr := ((hW.2.2.2.2.2.2.2.2.2.2.1 (6 * y + x) (by omega)).2 hu).1
  have hk := kw_b hW (c := 6 * y + x) (by omega)
  unfold FX0_takesHidden
  refine ok_mz (ok_gd b.1 rfl ?_) (fun z hz => by rw [hz.2.2.2.2.2.2.1, hz.2.2.2.2.2.2.2.1]; exact ⟨Nat.le_refl _, Nat.le_refl _⟩)
  refine ok_be (c_ltAt b (by omega) (by omega)) ?_
  rcases c_light0 b (c := 6 * y + x) (by omega) with ⟨z, -⟩ | ⟨-, l, hq, hl⟩
  · omega
  · rw [hq, nn_eq, (lf_cx hl hu hk.2).1]
    have := hid_loop (nf := nf) hW hx hy h0 h1 b ho hs hR (rd := (W (11 + 4 * (6 * y + x))).toNat) (by omega) (W (11 + 4 * (6 * y + x))).toNat nf 0 s (by omega) (by omega) rfl Ff.rf
    rw [Int.toNat_of_nonneg (by omega)] at this
    exact this
end TB
