/-! LAYER 2: town, walk: the twin -/
set_option maxRecDepth 100000
section TT
variable {W : Nat → Int} {S : Nat → Nat → Int} {V m Tp : Nat → Int} {RC : Nat → List (Nat × Int)} {τ τ' : TS} {N : Int} {n nf : Nat} {σ : Nat → Int}
/-- the caches as they were -/
theorem Cv.same (h : Cv W σ RC N τ) (hI : ∀ f ∈ [22, 25, 26, 27, 28, 29, 30, 33], tI τ' f = tI τ f) (hA : ∀ j ∈ [23, 24, 32], tA τ' j = tA τ j) : Cv W σ RC N τ' := by
  unfold Cv Kp
  rw [hI 22 (by simp), hI 25 (by simp), hI 26 (by simp), hI 27 (by simp), hI 28 (by simp), hI 29 (by simp), hI 30 (by simp), hI 33 (by simp), hA 23 (by simp), hA 24 (by simp), hA 32 (by simp)]
  exact h
theorem cdAt.e {p : Int} {L : List (Nat × Int)} (h : cdAt τ p L) (e : ∀ i, i < 1100 → tA τ' 11 i = tA τ 11 i ∧ tA τ' 12 i = tA τ 12 i) : cdAt τ' p L := by
  obtain ⟨h1, h2, h3, h4⟩ := h
  refine ⟨h1, h2, fun i c a hi => ?_, by rw [(e _ (by omega)).1]; exact h4⟩
  have hil : i < L.length := (List.getElem?_eq_some_iff.mp hi).1
  rw [(e _ (by omega)).1, (e _ (by omega)).2]
  exact h3 i c a hi
theorem t_townT (hnf : 2000 ≤ nf) (tb : TB W S V m Tp RC τ) (hm : m 0 = (n : Int)) (hT : TO Tp n) (hc : Cv W (S 0) RC N τ) (hN : N < 2000000000) : Ok (T_town nf τ) fun p => match twX Tp n with
    | .inl e => p.1 = i32 e ∧ TB W S V (upM m 0 0) Tp RC p.2 ∧ Cv W (S 0) RC N p.2
    | .inr (w, _) => p.1 = i32 0 ∧ TB w.1 (S00 S) (upW V 0 0) (fun _ => 0) Tp (fun r => w.2.2.2.getD r []) p.2 ∧ Cv w.1 (S00 S 0) (fun r => w.2.2.2.getD r []) (N + 1) p.2 := by
  obtain ⟨t1, t2, t3, ⟨t4, t5⟩, t6, t7, t8, t9⟩ := id tb
  refine ok_w (t_town hnf hT (by rw [t4, hm]) (fun i hi => t7 i (by omega)) t8) fun p hp => ?_
  obtain ⟨τc, h1, h2, h3, h4, h5⟩ := hp
  unfold Tnw at h1
  cases hx : twX Tp n with
  | inl e =>
    rw [hx] at h1
    obtain ⟨h0, hf⟩ := h1
    have eI : ∀ f, [0, 2, 3, 7, 8, 13, 15].contains f = false → tI p.2 f = tI τ f := fun f q => (hf.1 f (by simp at q ⊢; omega)).trans (h3 f q)
    have eA : ∀ j, [4, 5, 10, 11, 12, 16].contains j = false → tA p.2 j = tA τ j := fun j q => (hf.2.1 j q).trans (h4 j (by simp at q; omega) (by simp at q; omega))
    have eB : tB p.2 9 = tB τ 9 := (hf.2.2.2.2.2 9 (by decide) (by decide)).trans (h5 9 (by decide))
    refine ⟨h0, ⟨fun k hk => ?_, fun j k hj hk => ?_, fun k hk => ?_, ⟨?_, ?_⟩, fun j hj => ?_, fun k hk => ?_, fun k hk => by rw [eB]; exact t8 k hk, fun r hr => (t9 r hr).e fun i hi => ?_⟩, hc.same (fun f hf => eI f ?_) (fun j hj => eA j ?_)⟩
    · rw [hf.2.2.1 k hk, h4 10 (by decide) (by decide)]; exact t1 k hk
    · rw [eA 19 rfl]; exact t2 j k hj hk
    · rw [hf.2.2.2.2.1 k (by omega), h4 16 (by decide) (by decide)]; exact t3 k hk
    · rw [hf.1 2 rfl, h2]; rfl
    · rw [eI 20 rfl]; exact t5
    · rw [eA 21 rfl]
      rw [show upM m 0 0 (2 + j) = m (2 + j) from if_neg (by omega)]
      exact t6 j hj
    · have hk : (k : Int) < 0 := hk
      omega
    · have := hf.2.2.2.1 i hi
      rw [this.1, this.2, h4 11 (by decide) (by decide), h4 12 (by decide) (by decide)]
      exact ⟨rfl, rfl⟩
    · simp at hf ⊢
      omega
    · simp at hj ⊢
      omega
  | inr y =>
    obtain ⟨w, kk⟩ := y
    rw [hx] at h1
    obtain ⟨a0, a1, a2, a3, a4, a5, a6, a7, a8, a9, a10, a11, a12⟩ := h1
    have hI := twX_g hx
    have eA : ∀ j, [4, 5, 10, 11, 12, 16, 19, 21].contains j = false → tA p.2 j = tA τ j := fun j q => (a11 j q).trans (h4 j (by simp at q; omega) (by simp at q; omega))
    refine ⟨a0, ⟨a1, fun j k hj hk => ?_, fun k hk => ?_, ⟨?_, a7⟩, fun j hj => a9 j hj, fun k hk => ?_, fun k hk => ?_, fun r hr => a2 r ?_⟩, hc.vr (fun f hf => ?_) (fun j hj => eA j ?_) ?_ (Int.le_refl _) hN⟩
    · unfold S00
      by_cases q : j = 0
      · rw [if_pos q, q]
        exact a3 _ (by omega)
      · rw [if_neg q, a4 _ (by omega), h4 19 (by decide) (by decide)]
        exact t2 j k hj hk
    · by_cases q : k = 0
      · rw [q, upW_t]; exact a5
      · rw [upW_n q, a6 k (by omega) (by omega), h4 16 (by decide) (by decide)]
        exact t3 k hk
    · rw [a10 2 rfl, h2]
    · have hk : (k : Int) < 0 := hk
      omega
    · rw [a12 9 (by decide) (by decide), h5 9 (by decide)]
      exact t8 k hk
    · have := hI.2.2.2.1
      have := hI.2.2.2.2.1
      omega
    · rw [a10 f (by simp at hf ⊢; omega), h3 f (by simp at hf ⊢; omega)]
    · simp at hj ⊢
      omega
    · rw [a8, h3 22 rfl]
theorem t_walkT (hnf : 2000 ≤ nf) (tb : TB W S V m Tp RC τ) (hW : TW W) (hm : m 0 = (n : Int)) (hT : TO Tp n) (hc : Cv W (S 0) RC N τ) : Ok (T_walk nf τ) fun p => match wkX Tp n W with
    | .inl e => p.1 = i32 e ∧ TB W S V (upM m 0 0) Tp RC p.2 ∧ Cv W (S 0) RC N p.2
    | .inr (v, _) => p.1 = i32 0 ∧ TB W S (fun k => if k = 0 then (v.2.1 : Int) else if k ≤ 2 * v.2.1 then v.1 k else V k) (upM m 0 0) Tp RC p.2 ∧ Cv W (S 0) RC N p.2 := by
  obtain ⟨t1, t2, t3, ⟨t4, t5⟩, t6, t7, t8, t9⟩ := id tb
  refine ok_w (t_walk hnf hT hW t1 (by rw [t4, hm]) (fun i hi => t7 i (by omega)) t8) fun p hp => ?_
  obtain ⟨τc, h1, h2, h3, h4, h5⟩ := hp
  unfold Tnv at h1
  have F : (∀ f, ¬ f = 7 → ¬ f = 8 → tI p.2 f = tI τc f) → (∀ j, ¬ j = 16 → tA p.2 j = tA τc j) → tB p.2 = tB τc → ∀ V' : Nat → Int, (∀ k, k < 27 → tA p.2 16 k = i32 (V' k)) → TB W S V' (upM m 0 0) Tp RC p.2 ∧ Cv W (S 0) RC N p.2 := fun f1 f2 f3 V' hV => by
    refine ⟨⟨fun k hk => ?_, fun j k hj hk => ?_, hV, ⟨?_, ?_⟩, fun j hj => ?_, fun k hk => ?_, fun k hk => ?_, fun r hr => (t9 r hr).e fun i hi => ?_⟩, hc.same (fun f hf => ?_) (fun j hj => ?_)⟩
    · rw [f2 10 (by decide), h4 10 (by decide) (by decide)]; exact t1 k hk
    · rw [f2 19 (by decide), h4 19 (by decide) (by decide)]; exact t2 j k hj hk
    · rw [f1 2 (by decide) (by decide), h2]; rfl
    · rw [f1 20 (by decide) (by decide), h3 20 rfl]; exact t5
    · rw [f2 21 (by decide), h4 21 (by decide) (by decide), show upM m 0 0 (2 + j) = m (2 + j) from if_neg (by omega)]
      exact t6 j hj
    · have hk : (k : Int) < 0 := hk
      omega
    · rw [f3, h5 9 (by decide)]; exact t8 k hk
    · rw [f2 11 (by decide), f2 12 (by decide), h4 11 (by decide) (by decide), h4 12 (by decide) (by decide)]
      exact ⟨rfl, rfl⟩
    · have : ¬ f = 7 ∧ ¬ f = 8 ∧ [0, 2, 3, 7, 8].contains f = false := by simp at hf ⊢; omega
      exact (f1 f this.1 this.2.1).trans (h3 f this.2.2)
    · have : ¬ j = 16 ∧ ¬ j = 4 ∧ ¬ j = 5 := by simp at hj; omega
      exact (f2 j this.1).trans (h4 j this.2.1 this.2.2)
  cases hx : wkX Tp n W with
  | inl e =>
    rw [hx] at h1
    obtain ⟨h0, hf⟩ := h1
    exact ⟨h0, F hf.1 hf.2.1 hf.2.2.2 V fun k hk => by rw [hf.2.2.1 k (by omega), h4 16 (by decide) (by decide)]; exact t3 k hk⟩
  | inr y =>
    obtain ⟨v, kk⟩ := y
    rw [hx] at h1
    obtain ⟨h0, a1, a2, a3, a4, a5, a6⟩ := h1
    refine ⟨h0, F a4 a5 a6 _ fun k hk => ?_⟩
    by_cases q : k = 0
    · rw [if_pos q, q]; exact a1
    · rw [if_neg q]
      by_cases q2 : k ≤ 2 * v.2.1
      · rw [if_pos q2]; exact a2 k (by omega) q2
      · rw [if_neg q2, a3 k (by omega) (by omega), h4 16 (by decide) (by decide)]
        exact t3 k hk
end TT
