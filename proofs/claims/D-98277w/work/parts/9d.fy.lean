/-! LAYER 2: what reading leaves as it is -/
set_option maxRecDepth 100000
/-- cells that were there are as they were, but for the reader's fields -/
def Fyy (ρ ρ' : Nat → Nat × Nat) (s s' : CS) : Prop := ∀ a w c n, s.1 a = some (w, c, n) → s'.1 a = some (w, c, n) ∧ ρ' a = ρ a ∧ (∀ f, ¬ (100 ≤ f ∧ f ≤ 107) → cI s' f a = cI s f a) ∧ (∀ f, ¬ (f = 100 ∨ f = 107) → cR s' f a = cR s f a) ∧ cA s' a = cA s a ∧ cQ s' a = cQ s a
theorem oA.y {ρ ρ' : Nat → Nat × Nat} {s s' : CS} (h : Fyy ρ ρ' s s') {o f c n r : Nat} (hf : ¬ (f = 100 ∨ f = 107)) {w : Bool} {c0 n0 : Nat} (ho : s.1 o = some (w, c0, n0)) (k : oA ρ s o f c n r) : oA ρ' s' o f c n r ∧ av s' f o = av s f o := by
  have e1 := (h o w c0 n0 ho).2.2.2.1 f hf
  have e : av s' f o = av s f o := by unfold av; rw [e1]
  have k2 := h _ _ _ _ k.2.1
  refine ⟨?_, e⟩
  unfold oA
  rw [e, e1, k2.1, k2.2.1]
  exact ⟨k.1, rfl, k.2.2⟩
theorem exAt.y {ρ ρ' : Nat → Nat × Nat} {s s' : CS} (h : Fyy ρ ρ' s s') : ∀ d e L, exAt s d e L → exAt s' d e L := by
  intro d
  induction d with
  | zero => intro e L k; exact k
  | succ d ih =>
    intro e L k
    rcases k with ⟨n, k1, k2, k3⟩ | ⟨f, k1, k2, k3, k4⟩ | ⟨p, L1, k1, k2, k3, k4⟩ | ⟨a, c, La, Lb, w, k1, k2, k3, k4, k5, k6, k7, k8, k9⟩
    · have hh := h _ _ _ _ k1
      exact .inl ⟨n, hh.1, by rw [hh.2.2.1 _ (by decide)]; exact k2, k3⟩
    · have hh := h _ _ _ _ k1
      exact .inr (.inl ⟨f, hh.1, by rw [hh.2.2.1 _ (by decide)]; exact k2, k3, k4⟩)
    · have hh := h _ _ _ _ k1
      exact .inr (.inr (.inl ⟨p, L1, hh.1, by rw [hh.2.2.2.1 _ (by decide)]; exact k2, ih _ _ k3, k4⟩))
    · have hh := h _ _ _ _ k1
      exact .inr (.inr (.inr ⟨a, c, La, Lb, w, hh.1, by rw [hh.2.2.2.1 _ (by decide)]; exact k2, by rw [hh.2.2.2.1 _ (by decide)]; exact k3, k4, k5, by rw [hh.2.2.1 _ (by decide)]; exact k6, ih _ _ k7, ih _ _ k8, k9⟩))
theorem Ro.y {ρ ρ' : Nat → Nat × Nat} {s s' : CS} {W : Nat → Int} {ta la ba : Nat} {w : Bool} {n : Nat} (h : Fyy ρ ρ' s s') (ht : s.1 ta = some (w, 2, n)) (k : Ro s W ta la ba) : Ro s' W ta la ba := by
  obtain ⟨r0, r1, r2, r3, r4, r5, r6, r7, r8⟩ := k
  have h1 := h _ _ _ _ ht
  have h2 := h _ _ _ _ r5
  have h3 := h _ _ _ _ r6
  refine ⟨isK_o h1.1 rfl, by rw [h1.2.2.1 _ (by decide)]; exact r1, by rw [h1.2.2.1 _ (by decide)]; exact r2, by rw [h1.2.2.2.1 _ (by decide)]; exact r3, by rw [h1.2.2.2.1 _ (by decide)]; exact r4, h2.1, h3.1, fun c hc => ?_, fun c hc => ?_⟩
  · rw [h3.2.2.2.2.1]
    exact r7 c hc
  · rw [h2.2.2.2.2.2]
    rcases r8 c hc with z | ⟨z1, l, z2, ⟨w, n, z3⟩, z4, z5, z6⟩
    · exact .inl z
    · have h4 := h _ _ _ _ z3
      exact .inr ⟨z1, l, z2, ⟨w, n, h4.1⟩, by rw [h4.2.2.1 _ (by decide)]; exact z4, by rw [h4.2.2.1 _ (by decide)]; exact z5, by rw [h4.2.2.1 _ (by decide)]; exact z6⟩
theorem Rt.y {ρ ρ' : Nat → Nat × Nat} {s s' : CS} {W : Nat → Int} {ta : Nat} {w : Bool} {c n : Nat} (h : Fyy ρ ρ' s s') (ht : s.1 ta = some (w, c, n)) (k : Rt s W ta) : Rt s' W ta := by
  have h1 := (h _ _ _ _ ht).2.2.1
  unfold Rt
  simp only [h1 _ (show ¬ (100 ≤ 202 ∧ 202 ≤ 107) by decide), h1 _ (show ¬ (100 ≤ 203 ∧ 203 ≤ 107) by decide), h1 _ (show ¬ (100 ≤ 204 ∧ 204 ≤ 107) by decide), h1 _ (show ¬ (100 ≤ 205 ∧ 205 ≤ 107) by decide), h1 _ (show ¬ (100 ≤ 206 ∧ 206 ≤ 107) by decide), h1 _ (show ¬ (100 ≤ 208 ∧ 208 ≤ 107) by decide)]
  exact k
theorem Bg.y {g : Nat → Nat} {ρ ρ' : Nat → Nat × Nat} {s s' : CS} {W : Nat → Int} {RC : Nat → List (Nat × Int)} (h : Fyy ρ ρ' s s') {n1 n2 : Nat} {w1 w2 : Bool} {c1 c2 : Nat} (h11 : s.1 (g 11) = some (w1, c1, n1)) (h10 : s.1 (g 10) = some (w2, c2, n2)) (k : Bg g ρ W RC s) : Bg g ρ' W RC s' := by
  obtain ⟨r0, r1, r2, ⟨n, r3, r5⟩, r4⟩ := k
  have e1 := h _ _ _ _ h11
  have e2 := h _ _ _ _ h10
  have e3 := h _ _ _ _ r3
  refine ⟨by rw [e1.2.2.1 _ (by decide)]; exact r0, by rw [e2.2.2.1 _ (by decide)]; exact r1, by rw [e1.2.2.2.1 _ (by decide)]; exact r2, ⟨n, e3.1, r5⟩, fun k hk => ?_⟩
  obtain ⟨o, z0, z1, z2, z3, z4, z5⟩ := r4 k hk
  rw [e3.2.2.2.2.2]
  refine ⟨o, z0, fun e => ?_, fun e => ?_, fun e => ?_, fun e => ?_, fun e => ?_⟩
  · have := h _ _ _ _ (z1 e).1
    exact ⟨this.1, by rw [this.2.2.1 _ (by decide)]; exact (z1 e).2⟩
  · have := h _ _ _ _ (z2 e).1
    exact ⟨this.1, by rw [this.2.2.1 _ (by decide)]; exact (z2 e).2⟩
  · exact (h _ _ _ _ (z3 e)).1
  · exact (h _ _ _ _ (z4 e)).1
  · obtain ⟨y1, y2, ex, y3, y4⟩ := z5 e
    have := h _ _ _ _ y1
    exact ⟨this.1, (y2.y h (by decide) y1).1, ex, by rw [this.2.2.2.1 _ (by decide)]; exact y3, exAt.y h _ _ _ y4⟩
theorem bTab_r : ∀ q ∈ bTab, ¬ (q.1 = 100 ∨ q.1 = 107) := by decide
section RY
variable {g : Nat → Nat} {ρ ρ' : Nat → Nat × Nat} {W : Nat → Int} {S S' : Nat → Nat → Int} {V m m' Tp Tp' : Nat → Int} {RC : Nat → List (Nat × Int)} {s s' : CS}
/-- the relation behind reading -/
theorem B.y (b : B g ρ W S V m Tp RC s) (h : Fyy ρ ρ' s s') (h5 : cI s' 5 (g 0) = i32 (m' 0) ∧ cI s' 7 (g 0) = i32 (m' 1)) (ht : ∀ k : Nat, (k : Int) < m' 0 → cA s' (g 5) k = i32 (Tp' k)) (hs : Bs g ρ' S' m' s') : B g ρ' W S' V m' Tp' RC s' := by
  obtain ⟨b1, b2, b3, b4, b5, b6, b7, b8, b9⟩ := id b
  have k13 := h _ _ _ _ (b2 20 _ rfl).2.1
  have k14 := h _ _ _ _ (b2 21 _ rfl).2.1
  have k2 := h _ _ _ _ (b2 3 _ rfl).2.1
  refine ⟨(h _ _ _ _ b1).1, fun j q e => ?_, b3.y h (b2 2 _ rfl).2.1, b4.y h (b2 2 _ rfl).2.1, b5.y h (b2 19 _ rfl).2.1 (b2 18 _ rfl).2.1, ?_, h5, ht, hs⟩
  · obtain ⟨c, n, ho⟩ := b_ow b e
    have k := h _ _ _ _ (b2 j q e).2.1
    rw [(h _ _ _ _ ho).2.2.2.1 _ (bTab_r q (List.mem_of_getElem? e)), k.1, k.2.1]
    exact ⟨(b2 j q e).1, rfl, (b2 j q e).2.2⟩
  · rw [k2.2.2.1 _ (by decide), k13.2.2.2.2.1, k14.2.2.2.2.1]
    exact b6
end RY

/-- a parse: below z nothing but the reader's fields is another -/
def Fp (r z : Nat) (s s' : CS) : Prop := ∀ a, a < z → s'.1 a = s.1 a ∧ (∀ f, ¬ (a = r ∧ 100 ≤ f ∧ f ≤ 107) → cI s' f a = cI s f a) ∧ (∀ f, ¬ (a = r ∧ f = 100) → cR s' f a = cR s f a) ∧ cA s' a = cA s a ∧ cQ s' a = cQ s a
theorem Fp.rf {r z : Nat} {s : CS} : Fp r z s s := fun _ _ => ⟨rfl, fun _ _ => rfl, fun _ _ => rfl, rfl, rfl⟩
theorem Fp.tr {r z : Nat} {s s1 s2 : CS} (h : Fp r z s s1) (k : Fp r z s1 s2) : Fp r z s s2 := fun a ha => by
  obtain ⟨h1, h2, h3, h4, h5⟩ := h a ha
  obtain ⟨k1, k2, k3, k4, k5⟩ := k a ha
  exact ⟨k1.trans h1, fun f q => (k2 f q).trans (h2 f q), fun f q => (k3 f q).trans (h3 f q), k4.trans h4, k5.trans h5⟩
theorem Fp.x {r z : Nat} {s s' : CS} (h : Ex z s s') : Fp r z s s' := fun a ha => ⟨(h a ha).1, fun f _ => (h a ha).2.1 f, fun f _ => (h a ha).2.2.1 f, (h a ha).2.2.2.1, (h a ha).2.2.2.2⟩
theorem Fp.uI {r z f : Nat} {v : Int32} {s : CS} (hf : 100 ≤ f ∧ f ≤ 107) : Fp r z s (uI s f r v) := fun a ha => ⟨rfl, (fun f' q => if_neg (fun z => q ⟨z.2, by rw [z.1]; exact hf⟩)), fun _ _ => rfl, rfl, rfl⟩
theorem Fp.y {ρ ρ' : Nat → Nat × Nat} {r : Nat} {s s' : CS} (hF : Fh s) (h : Fp r (cz s) s s') (hρ : ∀ a, a < cz s → ρ' a = ρ a) : Fyy ρ ρ' s s' := fun a w c n e => by
  have ha := hF a w c n e
  obtain ⟨h1, h2, h3, h4, h5⟩ := h a ha
  exact ⟨by rw [h1]; exact e, hρ a ha, fun f q => h2 f (fun z => q z.2), fun f q => h3 f (fun z => q (.inl z.2)), h4, h5⟩
