/-! LAYER 2: a new town: the component -/
set_option maxRecDepth 100000
section TI
variable {s : CS} {st : Nat → Option Nat}
/-- a new list -/
theorem ok_newl {o : Nat} (hF : Fh s) (ho : s.1 o = some (true, 22, 0)) (h0 : cI s 2201 o = 0) {c : Nat} (hc : 1 ≤ c ∧ c ≤ 4) : Ok (FJ2_init o (i32 (c : Int)) s) fun s' => Fm [o] s s' ∧ Lsr s' o (cz s) [] ∧ cz s' = cz s + 1 ∧ cl s' = cl s + c := by
  have hlt := hF _ _ _ _ ho
  unfold FJ2_init FJ1_init FJ0_init
  refine mz_ok (ok_b (P := fun t => t = uI s 2600 o 0) (ok_w (ok_mz (Q := fun t => t = uI s 2600 o 0) (ok_be rfl (ok_pI ho rfl (ok_s rfl))) fun z hz => by rw [hz]; exact ⟨Nat.le_refl _, Nat.le_refl _⟩) fun z hz => hz) fun t ht => ?_)
  have tk : t.1 = s.1 := by rw [ht]; rfl
  have tz : cz t = cz s ∧ cl t = cl s := by rw [ht]; exact ⟨rfl, rfl⟩
  have tI : ∀ f a, ¬ a = o → cI t f a = cI s f a := fun f a q => by rw [ht]; exact rI_a q
  have tI2 : cI t 2201 o = 0 := by rw [ht, rI_n (by decide)]; exact h0
  have tR : cR t = cR s ∧ cA t = cA s ∧ cQ t = cQ s := by rw [ht]; exact ⟨rfl, rfl, rfl⟩
  clear ht
  rw [if_neg (show ¬ i32 (c : Int) ≤ 0 from fun z => by have := (i32_le (a := (c : Int)) (b := 0) ⟨by omega, by omega⟩ ⟨by omega, by omega⟩).mp z; omega)]
  unfold nwA
  rw [if_pos (i32_inb_t (by omega) (by omega) (by omega)), i32_clamp (by omega) ⟨by omega, by omega⟩, Int.toNat_natCast]
  have hx := fun a (ha : a < cz t) => rN (s := t) (c := 106) (n := c) (k := c) ha
  have hk : (uN t 106 c c).1 (cz t) = some (true, 106, c) := if_pos rfl
  have hz : cz (uN t 106 c c) = cz t + 1 := rfl
  have hl : cl (uN t 106 c c) = cl t + c := rfl
  have hFN : Fh (uN t 106 c c) := (hF.e tk tz.1).uN
  dsimp only
  generalize uN t 106 c c = t2 at *
  have ho2 : t2.1 o = some (true, 22, 0) := by rw [(hx o (by omega)).1, tk]; exact ho
  refine ok_pR ho2 rfl (ok_s ⟨⟨by show cz s ≤ cz t2; omega, by show cl s ≤ cl t2; omega⟩, ⟨fun a ha => ?_, hFN.e rfl rfl, by show cz s ≤ cz t2; omega, by show cl s ≤ cl t2; omega⟩, ⟨ho2, ?_, ⟨c, ?_, by simp, hc.1, by omega⟩, ?_, fun k hk => absurd hk (by simp), fun y hy => by cases hy⟩, by show cz t2 = _; omega, by show cl t2 = _; omega⟩)
  · obtain ⟨y1, y2, y3, y4, y5⟩ := hx a (by omega)
    refine ⟨y1.trans (by rw [tk]), fun q => ?_⟩
    have hne : ¬ a = o := fun z => q (by rw [z]; simp)
    exact ⟨fun f => (y2 f).trans (tI f a hne), fun f => by rw [rR_a hne]; exact (y3 f).trans (by rw [tR.1]), y4.trans (by rw [tR.2.1]), y5.trans (by rw [tR.2.2])⟩
  · rw [rR_t, tz.1]
  · show t2.1 (cz s) = _
    rw [← tz.1]
    exact hk
  · show cI t2 2201 o = i32 (([] : List Nat).length : Int)
    rw [(hx o (by omega)).2.1, tI2]
    rfl
/-- one goer more -/
theorem ok_goer {a b l : Nat} {GL : List Nat} (h : Lsr s a b GL) (hF : Fh s) (hl : GL.length ≤ 10) (h3 : ∃ p, st 3 = some p) (hx : isK s l [4, 5, 6, 16, 23] = true) {β : Type} {Q : β → Prop} {K : CS → Option β} (hk : ∀ s' b', Lsr s' a b' (GL ++ [l]) → Eab a b s s' → b' = b ∨ b' = cz s → Ok (K s') Q) : Ok (bd2 (FJ2_add st a l s) fun _ s' => K s') Q := by
  refine ok_2 (ok_add h hF hx hl h3) fun v s1 h1 => ?_
  obtain ⟨b', g1, g2, g3⟩ := h1
  exact hk s1 b' g1 g2 g3
/-- a new town's fields, lights, bars -/
theorem town_A (hF : Fh s) {β : Type} {Q : β → Prop} {K : CS → Option β} (hk : ∀ s', Ex (cz s) s s' → Fh s' → cz s' = cz s + 3 → cl s' = cl s + 121 → s'.1 (cz s) = some (true, 2, 0) → s'.1 (cz s + 1) = some (true, 104, 54) → s'.1 (cz s + 2) = some (true, 100, 54) → (cI s' 200 (cz s) = i32 1 ∧ cI s' 201 (cz s) = i32 1 ∧ cI s' 202 (cz s) = i32 (-1) ∧ cI s' 203 (cz s) = i32 (-1) ∧ cI s' 204 (cz s) = i32 (-1) ∧ cI s' 205 (cz s) = i32 (-1) ∧ cI s' 206 (cz s) = i32 1 ∧ cI s' 208 (cz s) = i32 0) → cR s' 209 (cz s) = some (cz s + 1) → cR s' 210 (cz s) = some (cz s + 2) → (∀ i, cQ s' (cz s + 1) i = none) → (∀ i, cA s' (cz s + 2) i = 0) → Ok (K s') Q) : Ok (pI (uN s 2 0 13) (cz s) [2] 200 1 fun s1 => pI s1 (cz s) [2] 201 1 fun s2 => pI s2 (cz s) [2] 202 (-1) fun s3 => pI s3 (cz s) [2] 203 (-1) fun s4 => pI s4 (cz s) [2] 204 (-1) fun s5 => pI s5 (cz s) [2] 205 (-1) fun s6 => pI s6 (cz s) [2] 206 1 fun s7 => nwA s7 104 54 fun o8 s9 => pR s9 (cz s) [2] 209 (some o8) fun s10 => nwA s10 100 54 fun o11 s12 => pR s12 (cz s) [2] 210 (some o11) fun s13 => K s13) Q := by
  have hk1 : (uN s 2 0 13).1 (cz s) = some (true, 2, 0) := if_pos rfl
  have hx1 : Ex (cz s) s (uN s 2 0 13) := Ex.uN (Nat.le_refl _)
  have hz1 : cz (uN s 2 0 13) = cz s + 1 := rfl
  have hl1 : cl (uN s 2 0 13) = cl s + 13 := rfl
  have hF1 : Fh (uN s 2 0 13) := hF.uN
  have h208 : cI (uN s 2 0 13) 208 (cz s) = i32 0 := if_pos rfl
  generalize uN s 2 0 13 = t at *
  refine ok_pI hk1 rfl (ok_pI (by exact hk1) rfl (ok_pI (by exact hk1) rfl (ok_pI (by exact hk1) rfl (ok_pI (by exact hk1) rfl (ok_pI (by exact hk1) rfl (ok_pI (by exact hk1) rfl ?_))))))
  have hx2 : Ex (cz s) s (uI (uI (uI (uI (uI (uI (uI t 200 (cz s) 1) 201 (cz s) 1) 202 (cz s) (-1)) 203 (cz s) (-1)) 204 (cz s) (-1)) 205 (cz s) (-1)) 206 (cz s) 1) := ((((((hx1.tr (Ex.uI (Nat.le_refl _))).tr (Ex.uI (Nat.le_refl _))).tr (Ex.uI (Nat.le_refl _))).tr (Ex.uI (Nat.le_refl _))).tr (Ex.uI (Nat.le_refl _))).tr (Ex.uI (Nat.le_refl _))).tr (Ex.uI (Nat.le_refl _))
  have hv : cI (uI (uI (uI (uI (uI (uI (uI t 200 (cz s) 1) 201 (cz s) 1) 202 (cz s) (-1)) 203 (cz s) (-1)) 204 (cz s) (-1)) 205 (cz s) (-1)) 206 (cz s) 1) 200 (cz s) = i32 1 ∧ cI (uI (uI (uI (uI (uI (uI (uI t 200 (cz s) 1) 201 (cz s) 1) 202 (cz s) (-1)) 203 (cz s) (-1)) 204 (cz s) (-1)) 205 (cz s) (-1)) 206 (cz s) 1) 201 (cz s) = i32 1 ∧ cI (uI (uI (uI (uI (uI (uI (uI t 200 (cz s) 1) 201 (cz s) 1) 202 (cz s) (-1)) 203 (cz s) (-1)) 204 (cz s) (-1)) 205 (cz s) (-1)) 206 (cz s) 1) 202 (cz s) = i32 (-1) ∧ cI (uI (uI (uI (uI (uI (uI (uI t 200 (cz s) 1) 201 (cz s) 1) 202 (cz s) (-1)) 203 (cz s) (-1)) 204 (cz s) (-1)) 205 (cz s) (-1)) 206 (cz s) 1) 203 (cz s) = i32 (-1) ∧ cI (uI (uI (uI (uI (uI (uI (uI t 200 (cz s) 1) 201 (cz s) 1) 202 (cz s) (-1)) 203 (cz s) (-1)) 204 (cz s) (-1)) 205 (cz s) (-1)) 206 (cz s) 1) 204 (cz s) = i32 (-1) ∧ cI (uI (uI (uI (uI (uI (uI (uI t 200 (cz s) 1) 201 (cz s) 1) 202 (cz s) (-1)) 203 (cz s) (-1)) 204 (cz s) (-1)) 205 (cz s) (-1)) 206 (cz s) 1) 205 (cz s) = i32 (-1) ∧ cI (uI (uI (uI (uI (uI (uI (uI t 200 (cz s) 1) 201 (cz s) 1) 202 (cz s) (-1)) 203 (cz s) (-1)) 204 (cz s) (-1)) 205 (cz s) (-1)) 206 (cz s) 1) 206 (cz s) = i32 1 ∧ cI (uI (uI (uI (uI (uI (uI (uI t 200 (cz s) 1) 201 (cz s) 1) 202 (cz s) (-1)) 203 (cz s) (-1)) 204 (cz s) (-1)) 205 (cz s) (-1)) 206 (cz s) 1) 208 (cz s) = i32 0 := by
    have rb : ∀ (u : CS) (f g a : Nat) (v : Int32), cI (uI u f a v) g a = if g = f then v else cI u g a := fun u f g a v => by
      by_cases q : g = f
      · rw [if_pos q, q, rI_t]
      · rw [if_neg q, rI_n q]
    simp only [rb]
    exact ⟨rfl, rfl, rfl, rfl, rfl, rfl, rfl, h208⟩
  have e1 : (uI (uI (uI (uI (uI (uI (uI t 200 (cz s) 1) 201 (cz s) 1) 202 (cz s) (-1)) 203 (cz s) (-1)) 204 (cz s) (-1)) 205 (cz s) (-1)) 206 (cz s) 1).1 = t.1 := rfl
  have e2 : cz (uI (uI (uI (uI (uI (uI (uI t 200 (cz s) 1) 201 (cz s) 1) 202 (cz s) (-1)) 203 (cz s) (-1)) 204 (cz s) (-1)) 205 (cz s) (-1)) 206 (cz s) 1) = cz t := rfl
  have e3 : cl (uI (uI (uI (uI (uI (uI (uI t 200 (cz s) 1) 201 (cz s) 1) 202 (cz s) (-1)) 203 (cz s) (-1)) 204 (cz s) (-1)) 205 (cz s) (-1)) 206 (cz s) 1) = cl t := rfl
  generalize uI (uI (uI (uI (uI (uI (uI t 200 (cz s) 1) 201 (cz s) 1) 202 (cz s) (-1)) 203 (cz s) (-1)) 204 (cz s) (-1)) 205 (cz s) (-1)) 206 (cz s) 1 = t7 at *
  have hF7 : Fh t7 := hF1.e e1 e2
  unfold nwA
  rw [show (54 : Int32) = i32 ((54 : Nat) : Int) from rfl, if_pos (i32_inb_t (by omega) (by omega) (by omega)), i32_clamp (by omega) ⟨by omega, by omega⟩, Int.toNat_natCast]
  have hy := fun a (ha : a < cz t7) => rN (s := t7) (c := 104) (n := 54) (k := 54) ha
  have hky : (uN t7 104 54 54).1 (cz t7) = some (true, 104, 54) := if_pos rfl
  have hqy : ∀ i, cQ (uN t7 104 54 54) (cz t7) i = none := fun i => by
    have : cQ (uN t7 104 54 54) (cz t7) = fun _ => none := if_pos rfl
    rw [this]
  have hzy : cz (uN t7 104 54 54) = cz t7 + 1 := rfl
  have hly : cl (uN t7 104 54 54) = cl t7 + 54 := rfl
  have hFy : Fh (uN t7 104 54 54) := hF7.uN
  have hxy : Ex (cz s) t7 (uN t7 104 54 54) := Ex.uN (by omega)
  dsimp only
  generalize uN t7 104 54 54 = t9 at *
  obtain ⟨y1, y2, y3, y4, y5⟩ := hy (cz s) (by omega)
  have hk9 : t9.1 (cz s) = some (true, 2, 0) := by rw [y1, e1]; exact hk1
  refine ok_pR hk9 rfl ?_
  rw [if_pos (i32_inb_t (by omega) (by omega) (by omega))]
  have hF10 : Fh (uR t9 209 (cz s) (some (cz t7))) := hFy.e rfl rfl
  have hw := fun a (ha : a < cz (uR t9 209 (cz s) (some (cz t7)))) => rN (s := uR t9 209 (cz s) (some (cz t7))) (c := 100) (n := 54) (k := 54) ha
  have hkw : (uN (uR t9 209 (cz s) (some (cz t7))) 100 54 54).1 (cz t9) = some (true, 100, 54) := if_pos rfl
  have haw : ∀ i, cA (uN (uR t9 209 (cz s) (some (cz t7))) 100 54 54) (cz t9) i = 0 := fun i => by
    have : cA (uN (uR t9 209 (cz s) (some (cz t7))) 100 54 54) (cz t9) = fun _ => 0 := if_pos rfl
    rw [this]
  have hzw : cz (uN (uR t9 209 (cz s) (some (cz t7))) 100 54 54) = cz t9 + 1 := rfl
  have hlw : cl (uN (uR t9 209 (cz s) (some (cz t7))) 100 54 54) = cl t9 + 54 := rfl
  have hFw : Fh (uN (uR t9 209 (cz s) (some (cz t7))) 100 54 54) := hF10.uN
  have hxw : Ex (cz s) t9 (uN (uR t9 209 (cz s) (some (cz t7))) 100 54 54) := (Ex.uR (Nat.le_refl _)).tr (Ex.uN (by show cz s ≤ cz t9; omega))
  have ecz : cz (uR t9 209 (cz s) (some (cz t7))) = cz t9 := rfl
  have er : cR (uR t9 209 (cz s) (some (cz t7))) 209 (cz s) = some (cz t7) := rR_t
  have ek : (uR t9 209 (cz s) (some (cz t7))).1 = t9.1 := rfl
  have eI : cI (uR t9 209 (cz s) (some (cz t7))) = cI t9 := rfl
  have eQ : cQ (uR t9 209 (cz s) (some (cz t7))) = cQ t9 := rfl
  rw [ecz] at hw ⊢
  generalize uR t9 209 (cz s) (some (cz t7)) = t10 at *
  generalize uN t10 100 54 54 = t12 at *
  obtain ⟨w1, w2, w3, w4, w5⟩ := hw (cz s) (by omega)
  have hk12 : t12.1 (cz s) = some (true, 2, 0) := by rw [w1, ek]; exact hk9
  refine ok_pR hk12 rfl (hk _ ((hx2.tr hxy).tr (hxw.tr (Ex.uR (Nat.le_refl _)))) (hFw.e rfl rfl) (by show cz t12 = _; omega) (by show cl t12 = _; omega) hk12 ?_ ?_ ?_ ?_ ?_ (fun i => ?_) (fun i => ?_))
  · show t12.1 (cz s + 1) = _
    rw [(hw _ (by omega)).1, ek, show cz s + 1 = cz t7 by omega]
    exact hky
  · show t12.1 (cz s + 2) = _
    rw [show cz s + 2 = cz t9 by omega]
    exact hkw
  · show cI t12 200 (cz s) = _ ∧ cI t12 201 (cz s) = _ ∧ cI t12 202 (cz s) = _ ∧ cI t12 203 (cz s) = _ ∧ cI t12 204 (cz s) = _ ∧ cI t12 205 (cz s) = _ ∧ cI t12 206 (cz s) = _ ∧ cI t12 208 (cz s) = _
    rw [w2, w2, w2, w2, w2, w2, w2, w2, eI, y2, y2, y2, y2, y2, y2, y2, y2]
    exact hv
  · rw [rR_n (by decide), w3, er, show cz t7 = cz s + 1 by omega]
  · rw [rR_t, show cz t9 = cz s + 2 by omega]
  · show cQ t12 (cz s + 1) i = _
    rw [(hw _ (by omega)).2.2.2.2, eQ, show cz s + 1 = cz t7 by omega]
    exact hqy i
  · show cA t12 (cz s + 2) i = _
    rw [show cz s + 2 = cz t9 by omega]
    exact haw i
/-- the roles of a new town's cells -/
def rhoT (ρ : Nat → Nat × Nat) (h : Nat → Nat) : Nat → Nat × Nat := fun a => if a = h 1 then (1, 0) else if a = h 8 then (8, 0) else if a = h 9 then (9, 0) else if a = h 10 then (10, 0) else if a = h 11 then (11, 0) else ρ a
/-- a new town but for its goers: z town, z + 1 lights, z + 2 bars, z + 3 names, z + 4 their array -/
def Ptt (z : Nat) (s : CS) : Prop := s.1 z = some (true, 2, 0) ∧ s.1 (z + 1) = some (true, 104, 54) ∧ s.1 (z + 2) = some (true, 100, 54) ∧ (cI s 200 z = i32 1 ∧ cI s 201 z = i32 1 ∧ cI s 202 z = i32 (-1) ∧ cI s 203 z = i32 (-1) ∧ cI s 204 z = i32 (-1) ∧ cI s 205 z = i32 (-1) ∧ cI s 206 z = i32 1 ∧ cI s 208 z = i32 0) ∧ (cR s 209 z = some (z + 1) ∧ cR s 210 z = some (z + 2) ∧ cR s 211 z = some (z + 3) ∧ cR s 212 z = some (z + 5)) ∧ (∀ i, cQ s (z + 1) i = none) ∧ (∀ i, cA s (z + 2) i = 0) ∧ Lsr s (z + 3) (z + 4) []
theorem Ptt.f {z : Nat} {s' : CS} (k : Ptt z s) (hF : Fh s) (h : ∀ a, z ≤ a → a < z + 5 → Fg s s' a) : Ptt z s' := by
  obtain ⟨k1, k2, k3, ⟨i1, i2, i3, i4, i5, i6, i7, i8⟩, ⟨r1, r2, r3, r4⟩, k6, k7, k8⟩ := k
  have f0 := h z (by omega) (by omega)
  have f1 := h (z + 1) (by omega) (by omega)
  have f2 := h (z + 2) (by omega) (by omega)
  have f3 := h (z + 3) (by omega) (by omega)
  have f4 := h (z + 4) (by omega) (by omega)
  obtain ⟨h1, h2, ⟨m, hm, m1⟩, h5, h6, h7⟩ := k8
  exact ⟨by rw [f0.1]; exact k1, by rw [f1.1]; exact k2, by rw [f2.1]; exact k3, ⟨by rw [f0.2.1 _ (by decide)]; exact i1, by rw [f0.2.1 _ (by decide)]; exact i2, by rw [f0.2.1 _ (by decide)]; exact i3, by rw [f0.2.1 _ (by decide)]; exact i4, by rw [f0.2.1 _ (by decide)]; exact i5, by rw [f0.2.1 _ (by decide)]; exact i6, by rw [f0.2.1 _ (by decide)]; exact i7, by rw [f0.2.1 _ (by decide)]; exact i8⟩, ⟨by rw [f0.2.2.1 _ (by decide)]; exact r1, by rw [f0.2.2.1 _ (by decide)]; exact r2, by rw [f0.2.2.1 _ (by decide)]; exact r3, by rw [f0.2.2.1 _ (by decide)]; exact r4⟩, fun i => by rw [f1.2.2.2.2]; exact k6 i, fun i => by rw [f2.2.2.2.1]; exact k7 i, by rw [f3.1]; exact h1, by rw [f3.2.2.1 _ (by decide)]; exact h2, ⟨m, by rw [f4.1]; exact hm, m1⟩, by rw [f3.2.1 _ (by decide)]; exact h5, fun j hj => absurd hj (by simp), fun y hy => by cases hy⟩
theorem Ex.g {z : Nat} {s' : CS} (h : Ex z s s') {a : Nat} (ha : a < z) : Fg s s' a := by
  obtain ⟨h1, h2, h3, h4, h5⟩ := h a ha
  exact ⟨h1, fun f _ => h2 f, fun f _ => h3 f, h4, h5⟩
/-- goers so far -/
def GII (s0 s : CS) (b : Nat) (GL : List Nat) : Prop := Ptt (cz s0) s ∧ Lsr s (cz s0 + 5) b GL ∧ cz s0 + 6 ≤ b ∧ (cz s0 + 7 ≤ cz s ∧ cz s ≤ cz s0 + 7 + 2 * GL.length) ∧ (cl s0 + 133 ≤ cl s ∧ cl s ≤ cl s0 + 133 + 17 * GL.length) ∧ Ex (cz s0) s0 s ∧ Fh s ∧ ∀ k, k < GL.length → Gob (fun _ => (0, 0)) [] s k (GL.getD k 0)
theorem gi_step {s0 S S1 : CS} {b q : Nat} {GL : List Nat} (h : GII s0 S b GL) (h3 : ∃ p, st 3 = some p) (hl : GL.length < 4) (hx : Ex (cz S) S S1) (hF1 : Fh S1) (hz1 : cz S1 = cz S + 1) (hl1 : cl S1 = cl S + q) (hq : q ≤ 1) (hk : isK S1 (cz S) [4, 5, 6, 16, 23] = true) (hg : Gob (fun _ => (0, 0)) [] S1 GL.length (cz S)) {β : Type} {Q : β → Prop} {K : CS → Option β} (hK : ∀ s' b', GII s0 s' b' (GL ++ [cz S]) → Ok (K s') Q) : Ok (bd2 (FJ2_add st (cz s0 + 5) (cz S) S1) fun _ s' => K s') Q := by
  obtain ⟨g1, g2, g3, g4, g5, g6, g7, g8⟩ := h
  have hF := g7
  have L1 : Lsr S1 (cz s0 + 5) b GL := g2.f hF (hx.g (g2.lt hF).1) (hx.g (g2.lt hF).2.1) fun a ha => (hx a ha).1
  have hlen : (GL ++ [cz S]).length = GL.length + 1 := by rw [List.length_append]; rfl
  refine ok_goer L1 hF1 (by omega) h3 hk fun s' b' e1 e2 e3 => hK s' b' ⟨?_, e1, ?_, ⟨?_, ?_⟩, ⟨?_, ?_⟩, ?_, e2.2.1, fun k hk2 => ?_⟩
  · refine (g1.f hF fun a a1 a2 => hx.g (by omega)).f hF1 fun a a1 a2 => e2.g (by omega) (by omega) (by omega)
  · rcases e3 with z | z <;> omega
  · have := e2.2.2.1; omega
  · have := e2.2.2.2.1; rw [hlen]; omega
  · have := e2.2.2.2.2.1; omega
  · have := e2.2.2.2.2.2; rw [hlen]; omega
  · refine g6.tr ((hx.le (by omega)).tr fun a ha => ?_)
    obtain ⟨x1, x2, x3, x4⟩ := e2.1 a (by omega)
    exact ⟨x1, (x2 (by omega)).1, (x2 (by omega)).2, x3, x4 (by omega)⟩
  · have hGF : ∀ k x, x < cz S1 → ¬ x = cz s0 + 5 → ¬ x = b → k < 4 → Gob (fun _ => (0, 0)) [] S1 k x → Gob (fun _ => (0, 0)) [] s' k x := fun k x q1 q2 q3 q4 ⟨y0, y1, y2, y3, y4⟩ => by
      obtain ⟨f1, f2, f3, -⟩ := e2.g q1 q2 q3
      exact ⟨fun e => ⟨by rw [f1]; exact (y0 e).1, by rw [f2 _ (by decide)]; exact (y0 e).2⟩, fun e => ⟨by rw [f1]; exact (y1 e).1, by rw [f2 _ (by decide)]; exact (y1 e).2⟩, fun e => by rw [f1]; exact y2 e, fun e => by rw [f1]; exact y3 e, fun e => by omega⟩
    rw [hlen] at hk2
    rw [List.getD_eq_getElem?_getD]
    by_cases q : k = GL.length
    · rw [q, List.getElem?_append_right (Nat.le_refl _), Nat.sub_self]
      exact hGF _ _ (by show cz S < cz S1; omega) (by show ¬ cz S = _; omega) (by show ¬ cz S = b; have := (g2.lt hF).2.1; omega) hl hg
    · rw [List.getElem?_append_left (by omega), ← List.getD_eq_getElem?_getD]
      have hm : GL.getD k 0 ∈ GL := by
        rw [List.getD_eq_getElem?_getD, List.getElem?_eq_getElem (by omega)]
        exact List.getElem_mem _
      have hlt := (g2.lt hF).2.2 _ hm
      have hkk := g2.2.2.2.2.2 _ hm
      have n1 : ¬ GL.getD k 0 = cz s0 + 5 := fun z => by
        rw [z] at hkk
        unfold isK at hkk
        rw [g2.1] at hkk
        exact absurd hkk (by decide)
      have n2 : ¬ GL.getD k 0 = b := fun z => by
        obtain ⟨m, hm2, -⟩ := g2.2.2.1
        rw [z] at hkk
        unfold isK at hkk
        rw [hm2] at hkk
        exact absurd hkk (by decide : ¬ ([4, 5, 6, 16, 23].contains 106 = true))
      refine hGF _ _ (by omega) n1 n2 (by omega) ?_
      obtain ⟨y0, y1, y2, y3, y4⟩ := g8 k (by omega)
      obtain ⟨f1, f2, f3, -⟩ := hx.g hlt
      exact ⟨fun e => ⟨by rw [f1]; exact (y0 e).1, by rw [f2 _ (by decide)]; exact (y0 e).2⟩, fun e => ⟨by rw [f1]; exact (y1 e).1, by rw [f2 _ (by decide)]; exact (y1 e).2⟩, fun e => by rw [f1]; exact y2 e, fun e => by rw [f1]; exact y3 e, fun e => by omega⟩
theorem gi_end {s0 S : CS} {b : Nat} {GL : List Nat} (h : GII s0 S b GL) (hl : GL.length = 4) {ρ : Nat → Nat × Nat} (hρ : ∀ a, cz s0 ≤ a → ρ a = (0, 0)) : Uwn (cz s0) (fun j => if j = 1 then cz s0 else if j = 8 then cz s0 + 1 else if j = 9 then cz s0 + 2 else if j = 10 then cz s0 + 3 else if j = 11 then cz s0 + 5 else b) (cz s0 + 4) (rhoT ρ (fun j => if j = 1 then cz s0 else if j = 8 then cz s0 + 1 else if j = 9 then cz s0 + 2 else if j = 10 then cz s0 + 3 else if j = 11 then cz s0 + 5 else b)) (W00 1 1, 0, [], []) S := by
  obtain ⟨⟨k1, k2, k3, ⟨i1, i2, i3, i4, i5, i6, i7, i8⟩, ⟨r1, r2, r3, r4⟩, k6, k7, k8⟩, g2, g3, g4, g5, g6, g7, g8⟩ := h
  have W0 : ∀ j, 10 ≤ j → W00 1 1 j = 0 := fun j z => by
    unfold W00
    rw [if_neg (by omega), if_neg (by omega), if_neg (by omega), if_neg (by omega), if_neg (by omega), if_neg (by omega)]
  refine ⟨⟨k1, ⟨isK_o k1 rfl, i1, i2, r1, r2, k2, k3, fun c hc => ?_, fun c hc => .inl ⟨?_, k6 c⟩⟩, ⟨i3, i4, i5, i6, i7, i8⟩⟩, ⟨[], k1, r3, k8, rfl, fun i hi => absurd hi (Nat.not_lt_zero i)⟩, ⟨r4, GL, g2, hl, fun k hk => ?_⟩, ⟨by show ¬ cz s0 + 3 = cz s0 + 5; omega, by show ¬ cz s0 + 4 = b; omega⟩, fun j q1 q2 => ?_, ⟨Nat.le_refl _, by omega⟩, ⟨if_pos rfl, ?_, ?_, ?_, ?_⟩, fun a ha => ?_⟩
  · show cA S (cz s0 + 2) c = i32 (W00 1 1 (226 + c))
    rw [k7 c, W0 _ (by omega)]
    rfl
  · show W00 1 1 (10 + 4 * c) = 0
    exact W0 _ (by omega)
  · obtain ⟨y0, y1, y2, y3, y4⟩ := g8 k hk
    exact ⟨y0, y1, y2, y3, fun z => by omega⟩
  · show cz s0 ≤ if j = 1 then cz s0 else if j = 8 then cz s0 + 1 else if j = 9 then cz s0 + 2 else if j = 10 then cz s0 + 3 else if j = 11 then cz s0 + 5 else b
    (repeat' split) <;> omega
  · show (if cz s0 + 1 = cz s0 then (1, 0) else if cz s0 + 1 = cz s0 + 1 then (8, 0) else _) = ((8, 0) : Nat × Nat)
    rw [if_neg (by omega), if_pos rfl]
  · show (if cz s0 + 2 = cz s0 then (1, 0) else if cz s0 + 2 = cz s0 + 1 then (8, 0) else if cz s0 + 2 = cz s0 + 2 then (9, 0) else _) = ((9, 0) : Nat × Nat)
    rw [if_neg (by omega), if_neg (by omega), if_pos rfl]
  · show (if cz s0 + 3 = cz s0 then (1, 0) else if cz s0 + 3 = cz s0 + 1 then (8, 0) else if cz s0 + 3 = cz s0 + 2 then (9, 0) else if cz s0 + 3 = cz s0 + 3 then (10, 0) else _) = ((10, 0) : Nat × Nat)
    rw [if_neg (by omega), if_neg (by omega), if_neg (by omega), if_pos rfl]
  · show (if cz s0 + 5 = cz s0 then (1, 0) else if cz s0 + 5 = cz s0 + 1 then (8, 0) else if cz s0 + 5 = cz s0 + 2 then (9, 0) else if cz s0 + 5 = cz s0 + 3 then (10, 0) else if cz s0 + 5 = cz s0 + 5 then (11, 0) else _) = ((11, 0) : Nat × Nat)
    rw [if_neg (by omega), if_neg (by omega), if_neg (by omega), if_neg (by omega), if_pos rfl]
  · show (if a = cz s0 then (1, 0) else if a = cz s0 + 1 then (8, 0) else if a = cz s0 + 2 then (9, 0) else if a = cz s0 + 3 then (10, 0) else if a = cz s0 + 5 then (11, 0) else ρ a) = ((0, 0) : Nat × Nat)
    rw [if_neg (by omega), if_neg (by omega), if_neg (by omega), if_neg (by omega), if_neg (by omega)]
    exact hρ a (by omega)
theorem ok_town0 (hF : Fh s) (h3 : ∃ p, st 3 = some p) : Ok (FX2_init st (cz s) (uN s 2 0 13)) fun s' => ∃ b GL, GII s s' b GL ∧ GL.length = 4 := by
  unfold FX2_init
  refine ok_mz ?_ fun z hz => ⟨?_, ?_⟩
  rotate_left
  · obtain ⟨b, GL, hz, -⟩ := hz
    have := hz.2.2.2.1.1
    show cz s + 1 ≤ cz z
    omega
  · obtain ⟨b, GL, hz, -⟩ := hz
    have := hz.2.2.2.2.1.1
    show cl s + 13 ≤ cl z
    omega
  refine town_A hF fun sA xA FA zA lA kA1 kA2 kA3 IA RA9 RA10 QA AA => ?_
  -- the names' list
  have hx1 : Ex (cz sA) sA (uN sA 22 0 3) := Ex.uN (Nat.le_refl _)
  have hk1 : (uN sA 22 0 3).1 (cz sA) = some (true, 22, 0) := if_pos rfl
  have h01 : cI (uN sA 22 0 3) 2201 (cz sA) = 0 := if_pos rfl
  have hz1 : cz (uN sA 22 0 3) = cz sA + 1 := rfl
  have hl1 : cl (uN sA 22 0 3) = cl sA + 3 := rfl
  have hF1 : Fh (uN sA 22 0 3) := FA.uN
  unfold nwO
  dsimp only
  generalize uN sA 22 0 3 = s15 at *
  refine ok_b (ok_newl (c := 2) hF1 hk1 h01 (by omega)) fun s16 h16 => ?_
  obtain ⟨f16, L16, z16, l16⟩ := h16
  have hF16 := f16.2.1
  have n3 : cz sA = cz s + 3 := zA
  have n4 : cz s15 = cz s + 4 := by omega
  rw [n4] at L16
  rw [n3] at L16 f16
  have G16 : ∀ a, a < cz s + 3 → Fg sA s16 a := fun a ha => by
    obtain ⟨x1, x2, x3, x4, x5⟩ := hx1.g (a := a) (by omega)
    obtain ⟨y1, y2, y3, y4, y5⟩ := f16.g (a := a) (by omega) (fun z => by have := List.mem_singleton.mp z; omega)
    exact ⟨y1.trans x1, fun f q => (y2 f q).trans (x2 f q), fun f q => (y3 f q).trans (x3 f q), y4.trans x4, y5.trans x5⟩
  have X16 : Ex (cz s) sA s16 := fun a ha => by
    obtain ⟨x1, x2, x3, x4, x5⟩ := hx1 a (by omega)
    obtain ⟨y1, y2⟩ := f16.1 a (by omega)
    obtain ⟨y3, y4, y5, y6⟩ := y2 (fun z => by have := List.mem_singleton.mp z; omega)
    exact ⟨y1.trans x1, fun f => (y3 f).trans (x2 f), fun f => (y4 f).trans (x3 f), y5.trans x4, y6.trans x5⟩
  have ko16 : s16.1 (cz s) = some (true, 2, 0) := by rw [(G16 _ (by omega)).1]; exact kA1
  rw [n3]
  refine ok_pR ko16 rfl ?_
  have e17 : (uR s16 211 (cz s) (some (cz s + 3))).1 = s16.1 ∧ cI (uR s16 211 (cz s) (some (cz s + 3))) = cI s16 ∧ cA (uR s16 211 (cz s) (some (cz s + 3))) = cA s16 ∧ cQ (uR s16 211 (cz s) (some (cz s + 3))) = cQ s16 ∧ cz (uR s16 211 (cz s) (some (cz s + 3))) = cz s16 ∧ cl (uR s16 211 (cz s) (some (cz s + 3))) = cl s16 := ⟨rfl, rfl, rfl, rfl, rfl, rfl⟩
  have r17 : cR (uR s16 211 (cz s) (some (cz s + 3))) 211 (cz s) = some (cz s + 3) := rR_t
  have r17' : ∀ f a, ¬ (f = 211 ∧ a = cz s) → cR (uR s16 211 (cz s) (some (cz s + 3))) f a = cR s16 f a := fun f a q => if_neg q
  have X17 : Ex (cz s) s16 (uR s16 211 (cz s) (some (cz s + 3))) := Ex.uR (Nat.le_refl _)
  generalize uR s16 211 (cz s) (some (cz s + 3)) = s17 at *
  obtain ⟨a1, a2, a3, a4, a5, a6⟩ := e17
  have hF17 : Fh s17 := hF16.e a1 a5
  have n5 : cz s17 = cz s + 5 := by omega
  -- the goers' list
  have hx2 : Ex (cz s17) s17 (uN s17 22 0 3) := Ex.uN (Nat.le_refl _)
  have hk2 : (uN s17 22 0 3).1 (cz s17) = some (true, 22, 0) := if_pos rfl
  have h02 : cI (uN s17 22 0 3) 2201 (cz s17) = 0 := if_pos rfl
  have hz2 : cz (uN s17 22 0 3) = cz s17 + 1 := rfl
  have hl2 : cl (uN s17 22 0 3) = cl s17 + 3 := rfl
  have hF2 : Fh (uN s17 22 0 3) := hF17.uN
  generalize uN s17 22 0 3 = s19 at *
  refine ok_b (ok_newl (c := 4) hF2 hk2 h02 (by omega)) fun s20 h20 => ?_
  obtain ⟨f20, L20, z20, l20⟩ := h20
  have hF20 := f20.2.1
  rw [show cz s19 = cz s + 6 by omega] at L20
  rw [n5] at L20 f20
  have G20 : ∀ a, a < cz s + 5 → Fg s17 s20 a := fun a ha => by
    obtain ⟨x1, x2, x3, x4, x5⟩ := hx2.g (a := a) (by omega)
    obtain ⟨y1, y2, y3, y4, y5⟩ := f20.g (a := a) (by omega) (fun z => by have := List.mem_singleton.mp z; omega)
    exact ⟨y1.trans x1, fun f q => (y2 f q).trans (x2 f q), fun f q => (y3 f q).trans (x3 f q), y4.trans x4, y5.trans x5⟩
  have X20 : Ex (cz s) s17 s20 := fun a ha => by
    obtain ⟨x1, x2, x3, x4, x5⟩ := hx2 a (by omega)
    obtain ⟨y1, y2⟩ := f20.1 a (by omega)
    obtain ⟨y3, y4, y5, y6⟩ := y2 (fun z => by have := List.mem_singleton.mp z; omega)
    exact ⟨y1.trans x1, fun f => (y3 f).trans (x2 f), fun f => (y4 f).trans (x3 f), y5.trans x4, y6.trans x5⟩
  have ko20 : s20.1 (cz s) = some (true, 2, 0) := by rw [(G20 _ (by omega)).1, a1]; exact ko16
  rw [n5]
  refine ok_pR ko20 rfl ?_
  have P21 : Ptt (cz s) (uR s20 212 (cz s) (some (cz s + 5))) := by
    have go := G20 (cz s) (by omega)
    have go16 := G16 (cz s) (by omega)
    have L17 : Lsr s17 (cz s + 3) (cz s + 4) [] := by
      obtain ⟨h1, h2, ⟨m, hm, m1⟩, h5, h6, h7⟩ := L16
      exact ⟨by rw [a1]; exact h1, by rw [r17' _ _ (fun z => by omega)]; exact h2, ⟨m, by rw [a1]; exact hm, m1⟩, by rw [a2]; exact h5, fun j hj => absurd hj (by simp), fun y hy => by cases hy⟩
    have L20' : Lsr s20 (cz s + 3) (cz s + 4) [] := by
      have g3 := G20 (cz s + 3) (by omega)
      have g4 := G20 (cz s + 4) (by omega)
      obtain ⟨h1, h2, ⟨m, hm, m1⟩, h5, h6, h7⟩ := L17
      exact ⟨by rw [g3.1]; exact h1, by rw [g3.2.2.1 _ (by decide)]; exact h2, ⟨m, by rw [g4.1]; exact hm, m1⟩, by rw [g3.2.1 _ (by decide)]; exact h5, fun j hj => absurd hj (by simp), fun y hy => by cases hy⟩
    have gI : ∀ f, ¬ (100 ≤ f ∧ f ≤ 107) → cI s20 f (cz s) = cI sA f (cz s) := fun f q => by rw [go.2.1 f q, a2, go16.2.1 f q]
    have gR : ∀ f, ¬ f = 100 → ¬ f = 211 → cR s20 f (cz s) = cR sA f (cz s) := fun f q q2 => by rw [go.2.2.1 f q, r17' _ _ (fun z => q2 z.1), go16.2.2.1 f q]
    obtain ⟨i1, i2, i3, i4, i5, i6, i7, i8⟩ := IA
    refine ⟨ko20, ?_, ?_, ⟨by show cI s20 _ _ = _; rw [gI _ (by decide)]; exact i1, by show cI s20 _ _ = _; rw [gI _ (by decide)]; exact i2, by show cI s20 _ _ = _; rw [gI _ (by decide)]; exact i3, by show cI s20 _ _ = _; rw [gI _ (by decide)]; exact i4, by show cI s20 _ _ = _; rw [gI _ (by decide)]; exact i5, by show cI s20 _ _ = _; rw [gI _ (by decide)]; exact i6, by show cI s20 _ _ = _; rw [gI _ (by decide)]; exact i7, by show cI s20 _ _ = _; rw [gI _ (by decide)]; exact i8⟩, ⟨by rw [rR_n (by decide), gR _ (by decide) (by decide)]; exact RA9, by rw [rR_n (by decide), gR _ (by decide) (by decide)]; exact RA10, by rw [rR_n (by decide), go.2.2.1 _ (by decide)]; exact r17, rR_t⟩, fun i => ?_, fun i => ?_, ?_⟩
    · show s20.1 (cz s + 1) = _
      rw [(G20 _ (by omega)).1, a1, (G16 _ (by omega)).1]; exact kA2
    · show s20.1 (cz s + 2) = _
      rw [(G20 _ (by omega)).1, a1, (G16 _ (by omega)).1]; exact kA3
    · show cQ s20 (cz s + 1) i = _
      rw [(G20 _ (by omega)).2.2.2.2, a4, (G16 _ (by omega)).2.2.2.2]; exact QA i
    · show cA s20 (cz s + 2) i = _
      rw [(G20 _ (by omega)).2.2.2.1, a3, (G16 _ (by omega)).2.2.2.1]; exact AA i
    · obtain ⟨h1, h2, h5⟩ := L20'
      exact ⟨h1, by rw [rR_a (by omega)]; exact h2, h5⟩
  have L21 : Lsr (uR s20 212 (cz s) (some (cz s + 5))) (cz s + 5) (cz s + 6) [] := by
    obtain ⟨h1, h2, h5⟩ := L20
    exact ⟨h1, by rw [rR_a (by omega)]; exact h2, h5⟩
  have I21 : GII s (uR s20 212 (cz s) (some (cz s + 5))) (cz s + 6) [] := ⟨P21, L21, Nat.le_refl _, ⟨by show cz s + 7 ≤ cz s20; omega, by show cz s20 ≤ cz s + 7 + 0; omega⟩, ⟨by show cl s + 133 ≤ cl s20; omega, by show cl s20 ≤ cl s + 133 + 0; omega⟩, xA.tr (X16.tr (X17.tr (X20.tr (Ex.uR (Nat.le_refl _))))), hF20.e rfl rfl, fun k hk => absurd hk (by simp)⟩
  clear P21 L21
  generalize uR s20 212 (cz s) (some (cz s + 5)) = S0 at *
  -- the four goers
  have FIRST : ∀ (S : CS) (b : Nat) (GL : List Nat) (v : Int) {β : Type} {Q : β → Prop} {K : CS → Option β}, GII s S b GL → GL.length < 2 → v = (GL.length : Int) → (∀ s' b', GII s s' b' (GL ++ [cz S]) → Ok (K s') Q) → Ok ((FX4_init (cz S) (i32 v) (uN S 4 0 1)).bind fun s25 => nn (some (cz s + 5)) fun p26 => bd2 (FJ2_add st p26 (cz S) s25) fun _ s' => K s') Q := fun S b GL v β Q K hI hlen hv hK => by
    have hx : Ex (cz S) S (uN S 4 0 1) := Ex.uN (Nat.le_refl _)
    have hk : (uN S 4 0 1).1 (cz S) = some (true, 4, 0) := if_pos rfl
    have hz : cz (uN S 4 0 1) = cz S + 1 := rfl
    have hl : cl (uN S 4 0 1) = cl S + 1 := rfl
    have hFN : Fh (uN S 4 0 1) := hI.2.2.2.2.2.2.1.uN
    generalize uN S 4 0 1 = S1 at *
    refine ok_b (P := fun t => t = uI S1 400 (cz S) (i32 v)) ?_ fun t ht => ?_
    · unfold FX4_init FX3_init
      exact ok_w (ok_mz (Q := fun t => t = uI S1 400 (cz S) (i32 v)) (ok_be rfl (ok_pI hk rfl (ok_s rfl))) fun z hz => by rw [hz]; exact ⟨Nat.le_refl _, Nat.le_refl _⟩) fun z hz => hz
    · subst ht
      rw [nn_eq]
      refine gi_step hI h3 (by omega) (hx.tr (Ex.uI (Nat.le_refl _))) (hFN.e rfl rfl) hz hl (Nat.le_refl _) (isK_o (s := uI S1 400 (cz S) (i32 v)) hk rfl) ⟨fun e => ⟨hk, by rw [rI_t, hv, e]; rfl⟩, fun e => ⟨hk, by rw [rI_t, hv, e]; rfl⟩, fun e => by omega, fun e => by omega, fun e => by omega⟩ hK
  have R212 : ∀ (S : CS) (b : Nat) (GL : List Nat) {β : Type} {Q : β → Prop} {K : Option Nat → Option β}, GII s S b GL → Ok (K (some (cz s + 5))) Q → Ok (gR S (cz s) [2] 212 K) Q := fun S b GL β Q K hI q => ok_gRs hI.1.1 rfl hI.1.2.2.2.2.1.2.2.2 q
  refine R212 _ _ _ I21 ?_
  refine FIRST S0 _ [] 0 I21 (by simp) rfl fun S1 b1 I1 => ?_
  refine R212 _ _ _ I1 ?_
  refine FIRST S1 _ _ 1 I1 (by simp) rfl fun S2 b2 I2 => ?_
  refine R212 _ _ _ I2 ?_
  unfold FX5_init FX6_init FX3_init
  rw [bd_eq, bd_eq, nn_eq]
  have hk5 : (uN S2 5 0 0).1 (cz S2) = some (true, 5, 0) := if_pos rfl
  refine gi_step (q := 0) I2 h3 (by simp) (Ex.uN (Nat.le_refl _)) I2.2.2.2.2.2.2.1.uN rfl rfl (by omega) (isK_o hk5 rfl) ⟨fun e => by simp at e, fun e => by simp at e, fun e => hk5, fun e => by simp at e, fun e => by simp at e⟩ fun S3 b3 I3 => ?_
  refine R212 _ _ _ I3 ?_
  rw [nn_eq]
  have hk6 : (uN S3 6 0 0).1 (cz S3) = some (true, 6, 0) := if_pos rfl
  refine gi_step (q := 0) I3 h3 (by simp) (Ex.uN (Nat.le_refl _)) I3.2.2.2.2.2.2.1.uN rfl rfl (by omega) (isK_o hk6 rfl) ⟨fun e => by simp at e, fun e => by simp at e, fun e => by simp at e, fun e => hk6, fun e => by simp at e⟩ fun S4 b4 I4 => ?_
  exact ok_s ⟨b4, _, I4, rfl⟩
end TI
