/-! LAYER 2: what holds between two calls; one call's step in the law's loop -/
set_option maxRecDepth 100000
theorem wl_f : ∀ i, i < 12 → (wL i).length = sLen.getD i 0 ∧ (∀ z ∈ wL i, 0 ≤ z ∧ z ≤ 126) ∧ (wL i).length ≤ 200 := by decide +kernel
theorem wl_g (i j : Nat) : i32 ((wL i).getD j 0) = (sByt.getD i []).getD j 0 := by
  unfold wL
  generalize sByt.getD i [] = l
  rw [List.getD_eq_getElem?_getD, List.getD_eq_getElem?_getD, List.getElem?_map]
  cases l[j]? with
  | none => rfl
  | some v => exact i32_of v
theorem kst_of {st : Nat → Option Nat} {s z0s : CS} {ρ : Nat → Nat × Nat} (h : sFx st z0s) (k : Kc z0s ρ s) : Kst st s := fun i hi => by
  obtain ⟨⟨adK, adV, hK⟩, -⟩ := h
  obtain ⟨h1, h2, h3, h4, h5, h6⟩ := hK i hi
  obtain ⟨w1, w2, w3⟩ := wl_f i hi
  obtain ⟨k1, k2, k3, k4, k5⟩ := k _ _ _ h2
  obtain ⟨v1, v2, v3, v4, v5⟩ := k _ _ _ h5
  refine ⟨adK i, h1, isK_o k1 rfl, by rw [k3 2301 rfl]; exact h4, ⟨adV i, false, by rw [k4]; exact h3, by rw [w1]; exact v1, fun j hj => ?_⟩, w2, w3⟩
  rw [v5, h6 j (by rw [← w1]; exact hj), wl_g]
section IV
variable {z0s : CS} {x d : Nat} {g : Nat → Nat} {ρ : Nat → Nat × Nat} {W : Nat → Int} {S : Nat → Nat → Int} {V m Tp : Nat → Int} {RC : Nat → List (Nat × Int)} {s : CS} {τ : TS} {T N : Int}
theorem B.ex (b : B g ρ W S V m Tp RC s) : ExA W RC := fun r hr => by
  obtain ⟨o, -, -, -, -, -, h⟩ := b.2.2.2.2.1.2.2.2.2 (4 + r) (by omega)
  obtain ⟨-, -, e, -, h⟩ := h (by omega)
  rw [Nat.add_sub_cancel_left] at h
  exact ⟨s, 550, e, h⟩
/-- behind d calls -/
def Iv (z0s : CS) (x d : Nat) (s : CS) (τ : TS) : Prop := ∃ (g : Nat → Nat) (ρ : Nat → Nat × Nat) (W : Nat → Int) (S : Nat → Nat → Int) (V m Tp : Nat → Int) (RC : Nat → List (Nat × Int)) (T : Int), g 0 = x ∧ B g ρ W S V m Tp RC s ∧ Hp z0s ρ s ∧ TB W S V m Tp RC τ ∧ GW W S V m Tp T ∧ Cv W (S 0) RC (4000 * (d : Int)) τ ∧ T ≤ 1000 * (d : Int)
/-- how the loop goes on behind call d -/
def Kk (z0s : CS) (x d : Nat) (s : CS) (k : CS → TS → Option Int32) : Prop := ∀ s' τ', Iv z0s x (d + 1) s' τ' → cz s' ≤ cz s + 17000 → cl s' ≤ cl s + 70000 → k s' τ' = some 1
/-- the script's numbers at hand -/
def Lx (xs : Nat → Int32) (L : Nat) (i : Int32) (a : Nat → Int) : Prop := (∀ (K : Int32 → Option Int32), lX xs L (i + 1) K = K (i32 (a 1))) ∧ (∀ (K : Int32 → Option Int32), lX xs L (i + 2) K = K (i32 (a 2))) ∧ (∀ (K : Int32 → Option Int32), lX xs L (i + 3) K = K (i32 (a 3))) ∧ (∀ (K : Int32 → Option Int32), lX xs L (i + 4) K = K (i32 (a 4))) ∧ (∀ (K : Int32 → Option Int32), lX xs L (i + 5) K = K (i32 (a 5))) ∧ (∀ (K : Int32 → Option Int32), lX xs L (i + 6) K = K (i32 (a 6))) ∧ ∀ j, ok32 (a j)
/-- a call of both that writes -/
theorem stp_w {z0 l0 : Nat} {k : CS → TS → Option Int32} {o1 : Option (Int32 × CS)} {o2 : Option (Int32 × TS)} {v : Int32} {W' : Nat → Int} {S' : Nat → Nat → Int} {V' m' Tp' : Nat → Int} {RC' : Nat → List (Nat × Int)} {T' : Int} (hk : Kk z0s x d s k) (hz : cz s + 17000 ≤ 1200128 + z0 ∧ cl s + 70000 ≤ 5501098 + l0) (h1 : Ok o1 fun p => p.1 = v ∧ (cz p.2 ≤ cz s + 17000 ∧ cl p.2 ≤ cl s + 70000) ∧ ∃ g' ρ', g' 0 = x ∧ B g' ρ' W' S' V' m' Tp' RC' p.2 ∧ Hp z0s ρ' p.2) (h2 : Ok o2 fun p => p.1 = v ∧ TB W' S' V' m' Tp' RC' p.2 ∧ Cv W' (S' 0) RC' (4000 * ((d + 1 : Nat) : Int)) p.2) (hG : GW W' S' V' m' Tp' T') (hT : T' ≤ 1000 * ((d + 1 : Nat) : Int)) : lcR z0 l0 o1 (fun a s' => bd2 o2 fun b τ' => if a = b then k s' τ' else some 0) = some 1 := by
  obtain ⟨⟨a, s'⟩, e1, q1, q2, g', ρ', q3, q4, q5⟩ := h1
  obtain ⟨⟨b, τ'⟩, e2, r1, r2, r3⟩ := h2
  have q1 : a = v := q1
  have r1 : b = v := r1
  have q2 : cz s' ≤ cz s + 17000 ∧ cl s' ≤ cl s + 70000 := q2
  rw [e1, e2]
  show (if cz s' ≤ 1200128 + z0 ∧ cl s' ≤ 5501098 + l0 then (if a = b then k s' τ' else some 0) else none) = some 1
  rw [if_pos (show cz s' ≤ 1200128 + z0 ∧ cl s' ≤ 5501098 + l0 by omega), if_pos (q1.trans r1.symm)]
  exact hk s' τ' ⟨g', ρ', W', S', V', m', Tp', RC', T', q3, q4, q5, r2, hG, r3, hT⟩ q2.1 q2.2
/-- a call of both that reads only -/
theorem stp_r {z0 l0 : Nat} {k : CS → TS → Option Int32} {o1 : Option (Int32 × CS)} {o2 : Option (Int32 × TS)} {v : Int32} (hk : Kk z0s (g 0) d s k) (hz : cz s + 17000 ≤ 1200128 + z0 ∧ cl s + 70000 ≤ 5501098 + l0) (b : B g ρ W S V m Tp RC s) (hp : Hp z0s ρ s) (tb : TB W S V m Tp RC τ) (hG : GW W S V m Tp T) (hT : T ≤ 1000 * (d : Int)) (h1 : Ok o1 fun p => p.1 = v ∧ Fq ρ s p.2) (h2 : Ok o2 fun p => p.1 = v ∧ Tq τ p.2 ∧ Cv W (S 0) RC (4000 * ((d + 1 : Nat) : Int)) p.2) : lcR z0 l0 o1 (fun a s' => bd2 o2 fun b τ' => if a = b then k s' τ' else some 0) = some 1 :=
  stp_w (W' := W) (S' := S) (V' := V) (m' := m) (Tp' := Tp) (RC' := RC) (T' := T) hk hz (ok_w h1 fun p h => ⟨h.1, by rw [h.2.2.2.2.2.2.1, h.2.2.2.2.2.2.2]; omega, g, ρ, rfl, b.q h.2, hp.q h.2⟩) (ok_w h2 fun p h => ⟨h.1, tb.q h.2.1, h.2.2⟩) hG (by omega)
theorem stp_l {z0 l0 : Nat} {k : CS → TS → Option Int32} {o1 : Option (Int64 × CS)} {o2 : Option (Int64 × TS)} {v : Int64} (hk : Kk z0s (g 0) d s k) (hz : cz s + 17000 ≤ 1200128 + z0 ∧ cl s + 70000 ≤ 5501098 + l0) (b : B g ρ W S V m Tp RC s) (hp : Hp z0s ρ s) (tb : TB W S V m Tp RC τ) (hG : GW W S V m Tp T) (hT : T ≤ 1000 * (d : Int)) (h1 : Ok o1 fun p => p.1 = v ∧ Fq ρ s p.2) (h2 : Ok o2 fun p => p.1 = v ∧ Tq τ p.2 ∧ Cv W (S 0) RC (4000 * ((d + 1 : Nat) : Int)) p.2) : lcL z0 l0 o1 (fun a s' => bd2 o2 fun b τ' => if a = b then k s' τ' else some 0) = some 1 := by
  obtain ⟨⟨a, s'⟩, e1, q1, q2⟩ := h1
  obtain ⟨⟨c, τ'⟩, e2, r1, r2, r3⟩ := h2
  have q1 : a = v := q1
  have r1 : c = v := r1
  have q2 : Fq ρ s s' := q2
  have e3 := q2.2.2.2.2.2.1
  have e4 := q2.2.2.2.2.2.2
  rw [e1, e2]
  show (if cz s' ≤ 1200128 + z0 ∧ cl s' ≤ 5501098 + l0 then (if a = c then k s' τ' else some 0) else none) = some 1
  rw [if_pos (show cz s' ≤ 1200128 + z0 ∧ cl s' ≤ 5501098 + l0 by omega), if_pos (q1.trans r1.symm)]
  exact hk s' τ' ⟨g, ρ, W, S, V, m, Tp, RC, T, rfl, b.q q2, hp.q q2, tb.q r2, hG, r3, by omega⟩ (by omega) (by omega)
/-- a call that leaves the component as it was -/
theorem stp_c {k : CS → TS → Option Int32} {o1 : Option Int32} {o2 : Option (Int32 × TS)} {v : Int32} (hk : Kk z0s (g 0) d s k) (b : B g ρ W S V m Tp RC s) (hp : Hp z0s ρ s) (tb : TB W S V m Tp RC τ) (hG : GW W S V m Tp T) (hT : T ≤ 1000 * (d : Int)) (h1 : o1 = some v) (h2 : Ok o2 fun p => p.1 = v ∧ Tq τ p.2 ∧ Cv W (S 0) RC (4000 * ((d + 1 : Nat) : Int)) p.2) : (o1.bind fun a => bd2 o2 fun b τ' => if a = b then k s τ' else some 0) = some 1 := by
  obtain ⟨⟨c, τ'⟩, e2, r1, r2, r3⟩ := h2
  have r1 : c = v := r1
  rw [h1, e2]
  show (if v = c then k s τ' else some 0) = some 1
  rw [if_pos r1.symm]
  exact hk s τ' ⟨g, ρ, W, S, V, m, Tp, RC, T, rfl, b, hp, tb.q r2, hG, r3, by omega⟩ (by omega) (by omega)
/-- the twin's answer that leaves all but the thrown flag -/
theorem tw_e {o2 : Option (Int32 × TS)} {v : Int32} (hc : Cv W (S 0) RC (4000 * (d : Int)) τ) (h : o2 = some (v, sI τ 0 0)) : Ok o2 fun p => p.1 = v ∧ Tq τ p.2 ∧ Cv W (S 0) RC (4000 * ((d + 1 : Nat) : Int)) p.2 := ok_e h ⟨rfl, (tk_z τ).1, (hc.k (tk_z τ)).le (by omega)⟩
theorem tw_k {α : Type} {o2 : Option (α × TS)} {v : α} (hc : Cv W (S 0) RC (4000 * (d : Int)) τ) (h : Ok o2 fun p => p.1 = v ∧ Tk τ p.2) : Ok o2 fun p => p.1 = v ∧ Tq τ p.2 ∧ Cv W (S 0) RC (4000 * ((d + 1 : Nat) : Int)) p.2 := ok_w h fun p hp => ⟨hp.1, hp.2.1, (hc.k hp.2).le (by omega)⟩
theorem tw_n {α : Type} {o2 : Option (α × TS)} {v : α} {M : Int} (hM : M ≤ 4000) (h : Ok o2 fun p => p.1 = v ∧ Tq τ p.2 ∧ Cv W (S 0) RC (4000 * (d : Int) + M) p.2) : Ok o2 fun p => p.1 = v ∧ Tq τ p.2 ∧ Cv W (S 0) RC (4000 * ((d + 1 : Nat) : Int)) p.2 := ok_w h fun p hp => ⟨hp.1, hp.2.1, hp.2.2.le (by omega)⟩
theorem tw_w {α : Type} {o2 : Option (α × TS)} {v : α} {W' : Nat → Int} {S' : Nat → Nat → Int} {V' m' Tp' : Nat → Int} {RC' : Nat → List (Nat × Int)} {M : Int} (hM : M ≤ 4000 * (d : Int) + 4000) (h : Ok o2 fun p => p.1 = v ∧ TB W' S' V' m' Tp' RC' p.2 ∧ Cv W' (S' 0) RC' M p.2) : Ok o2 fun p => p.1 = v ∧ TB W' S' V' m' Tp' RC' p.2 ∧ Cv W' (S' 0) RC' (4000 * ((d + 1 : Nat) : Int)) p.2 := ok_w h fun p hp => ⟨hp.1, hp.2.1, hp.2.2.le (by omega)⟩
theorem cm_w {α : Type} {o1 : Option (α × CS)} {v : α} {S' : Nat → Nat → Int} {m' : Nat → Int} (h : Ok o1 fun p => p.1 = v ∧ Cp z0s g W S' V m' Tp RC s p.2) : Ok o1 fun p => p.1 = v ∧ (cz p.2 ≤ cz s + 17000 ∧ cl p.2 ≤ cl s + 70000) ∧ ∃ g' ρ', g' 0 = g 0 ∧ B g' ρ' W S' V m' Tp RC p.2 ∧ Hp z0s ρ' p.2 := ok_w h fun p hp => by
  obtain ⟨h1, ρ', b', hp', z1, z2, z3, z4⟩ := hp
  exact ⟨h1, ⟨by omega, by omega⟩, g, ρ', rfl, b', hp'⟩
end IV
