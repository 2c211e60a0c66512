/-! LAYER 2: what the writing ops leave as it is -/
set_option maxRecDepth 100000
def wF (f : Nat) : Bool := scF f || decide (f = 5 ∨ f = 7 ∨ (800 ≤ f ∧ f ≤ 805))
def wA (p : Nat × Nat) : Bool := scA p || decide (p.1 = 5 ∨ (101 ≤ p.1 ∧ p.1 ≤ 106))
/-- cells that were there are as they were, but for the state's -/
def Fx (ρ ρ' : Nat → Nat × Nat) (s s' : CS) : Prop := ∀ a w c n, s.1 a = some (w, c, n) → s'.1 a = some (w, c, n) ∧ ρ' a = ρ a ∧ (∀ f, wF f = false → cI s' f a = cI s f a) ∧ (∀ f, cR s' f a = cR s f a) ∧ (wA (ρ a) = false → cA s' a = cA s a) ∧ (¬ c = 105 → cQ s' a = cQ s a)
theorem wF_s {f : Nat} (h : wF f = false) : scF f = false := by
  unfold wF at h
  cases e : scF f with
  | false => rfl
  | true => rw [e] at h; cases h
theorem wA_s {p : Nat × Nat} (h : wA p = false) : scA p = false := by
  unfold wA at h
  cases e : scA p with
  | false => rfl
  | true => rw [e] at h; cases h
theorem Fx.rf {ρ : Nat → Nat × Nat} {s : CS} : Fx ρ ρ s s := fun _ _ _ _ h => ⟨h, rfl, fun _ _ => rfl, fun _ => rfl, fun _ => rfl, fun _ => rfl⟩
theorem Fx.tr {ρ ρ1 ρ2 : Nat → Nat × Nat} {s s1 s2 : CS} (h : Fx ρ ρ1 s s1) (k : Fx ρ1 ρ2 s1 s2) : Fx ρ ρ2 s s2 := fun a w c n e => by
  obtain ⟨h1, h2, h3, h4, h5, h6⟩ := h a w c n e
  obtain ⟨k1, k2, k3, k4, k5, k6⟩ := k a w c n h1
  exact ⟨k1, k2.trans h2, fun f q => (k3 f q).trans (h3 f q), fun f => (k4 f).trans (h4 f), fun q => (k5 (by rw [h2]; exact q)).trans (h5 q), fun q => (k6 q).trans (h6 q)⟩
theorem Fx.q {ρ : Nat → Nat × Nat} {s s' : CS} (h : Fq ρ s s') : Fx ρ ρ s s' := fun a w c n e => ⟨by rw [h.1]; exact e, rfl, fun f q => h.2.1 f a (wF_s q), fun f => h.2.2.1 f a, fun q => h.2.2.2.1 a (wA_s q), fun _ => h.2.2.2.2.1 a⟩
theorem oA.w {ρ ρ' : Nat → Nat × Nat} {s s' : CS} (h : Fx ρ ρ' s s') {o f c n r : Nat} {w : Bool} {c0 n0 : Nat} (ho : s.1 o = some (w, c0, n0)) (k : oA ρ s o f c n r) : oA ρ' s' o f c n r ∧ av s' f o = av s f o := by
  have e1 := (h o w c0 n0 ho).2.2.2.1 f
  have e : av s' f o = av s f o := by unfold av; rw [e1]
  have k2 := h _ _ _ _ k.2.1
  refine ⟨?_, e⟩
  unfold oA
  rw [e, e1, k2.1, k2.2.1]
  exact ⟨k.1, rfl, k.2.2⟩
theorem exAt.w {ρ ρ' : Nat → Nat × Nat} {s s' : CS} (h : Fx ρ ρ' s s') : ∀ d e L, exAt s d e L → exAt s' d e L := by
  intro d
  induction d with
  | zero => intro e L k; exact k
  | succ d ih =>
    intro e L k
    rcases k with ⟨n, k1, k2, k3⟩ | ⟨f, k1, k2, k3, k4⟩ | ⟨p, L1, k1, k2, k3, k4⟩ | ⟨a, c, La, Lb, w, k1, k2, k3, k4, k5, k6, k7, k8, k9⟩
    · have hh := h _ _ _ _ k1
      exact .inl ⟨n, hh.1, by rw [hh.2.2.1 _ rfl]; exact k2, k3⟩
    · have hh := h _ _ _ _ k1
      exact .inr (.inl ⟨f, hh.1, by rw [hh.2.2.1 _ rfl]; exact k2, k3, k4⟩)
    · have hh := h _ _ _ _ k1
      exact .inr (.inr (.inl ⟨p, L1, hh.1, by rw [hh.2.2.2.1]; exact k2, ih _ _ k3, k4⟩))
    · have hh := h _ _ _ _ k1
      exact .inr (.inr (.inr ⟨a, c, La, Lb, w, hh.1, by rw [hh.2.2.2.1]; exact k2, by rw [hh.2.2.2.1]; exact k3, k4, k5, by rw [hh.2.2.1 _ rfl]; exact k6, ih _ _ k7, ih _ _ k8, k9⟩))
theorem Ro.w {ρ ρ' : Nat → Nat × Nat} {s s' : CS} {W : Nat → Int} {ta la ba : Nat} {w : Bool} {n : Nat} (h : Fx ρ ρ' s s') (ht : s.1 ta = some (w, 2, n)) (hb : wA (ρ ba) = false) (k : Ro s W ta la ba) : Ro s' W ta la ba := by
  obtain ⟨r0, r1, r2, r3, r4, r5, r6, r7, r8⟩ := k
  have h1 := h _ _ _ _ ht
  have h2 := h _ _ _ _ r5
  have h3 := h _ _ _ _ r6
  refine ⟨isK_o h1.1 rfl, by rw [h1.2.2.1 _ rfl]; exact r1, by rw [h1.2.2.1 _ rfl]; exact r2, by rw [h1.2.2.2.1]; exact r3, by rw [h1.2.2.2.1]; exact r4, h2.1, h3.1, fun c hc => ?_, fun c hc => ?_⟩
  · rw [h3.2.2.2.2.1 hb]
    exact r7 c hc
  · rw [h2.2.2.2.2.2 (by decide)]
    rcases r8 c hc with z | ⟨z1, l, z2, ⟨w, n, z3⟩, z4, z5, z6⟩
    · exact .inl z
    · have h4 := h _ _ _ _ z3
      exact .inr ⟨z1, l, z2, ⟨w, n, h4.1⟩, by rw [h4.2.2.1 _ rfl]; exact z4, by rw [h4.2.2.1 _ rfl]; exact z5, by rw [h4.2.2.1 _ rfl]; exact z6⟩
theorem Rt.w {ρ ρ' : Nat → Nat × Nat} {s s' : CS} {W : Nat → Int} {ta : Nat} {w : Bool} {c n : Nat} (h : Fx ρ ρ' s s') (ht : s.1 ta = some (w, c, n)) (k : Rt s W ta) : Rt s' W ta := by
  have h1 := (h _ _ _ _ ht).2.2.1
  unfold Rt
  simp only [h1 _ (show wF 202 = false from rfl), h1 _ (show wF 203 = false from rfl), h1 _ (show wF 204 = false from rfl), h1 _ (show wF 205 = false from rfl), h1 _ (show wF 206 = false from rfl), h1 _ (show wF 208 = false from rfl)]
  exact k
theorem Bg.w {g : Nat → Nat} {ρ ρ' : Nat → Nat × Nat} {s s' : CS} {W : Nat → Int} {RC : Nat → List (Nat × Int)} (h : Fx ρ ρ' s s') {n1 n2 : Nat} {w1 w2 : Bool} {c1 c2 : Nat} (h11 : s.1 (g 11) = some (w1, c1, n1)) (h10 : s.1 (g 10) = some (w2, c2, n2)) (k : Bg g ρ W RC s) : Bg g ρ' W RC s' := by
  obtain ⟨r0, r1, r2, ⟨n, r3, r5⟩, r4⟩ := k
  have e1 := h _ _ _ _ h11
  have e2 := h _ _ _ _ h10
  have e3 := h _ _ _ _ r3
  refine ⟨by rw [e1.2.2.1 _ rfl]; exact r0, by rw [e2.2.2.1 _ rfl]; exact r1, by rw [e1.2.2.2.1]; exact r2, ⟨n, e3.1, r5⟩, fun k hk => ?_⟩
  obtain ⟨o, z0, z1, z2, z3, z4, z5⟩ := r4 k hk
  rw [e3.2.2.2.2.2 (by decide)]
  refine ⟨o, z0, fun e => ?_, fun e => ?_, fun e => ?_, fun e => ?_, fun e => ?_⟩
  · have := h _ _ _ _ (z1 e).1
    exact ⟨this.1, by rw [this.2.2.1 _ rfl]; exact (z1 e).2⟩
  · have := h _ _ _ _ (z2 e).1
    exact ⟨this.1, by rw [this.2.2.1 _ rfl]; exact (z2 e).2⟩
  · exact (h _ _ _ _ (z3 e)).1
  · exact (h _ _ _ _ (z4 e)).1
  · obtain ⟨y1, y2, ex, y3, y4⟩ := z5 e
    have := h _ _ _ _ y1
    exact ⟨this.1, (y2.w h y1).1, ex, by rw [this.2.2.2.1]; exact y3, exAt.w h _ _ _ y4⟩
theorem bTab_o : ∀ q ∈ bTab, q.2.1 = 0 ∨ q.2.1 = 1 ∨ q.2.1 = 2 := by decide
section RW
variable {g : Nat → Nat} {ρ ρ' : Nat → Nat × Nat} {W : Nat → Int} {S S' : Nat → Nat → Int} {V m m' Tp Tp' : Nat → Int} {RC : Nat → List (Nat × Int)} {s s' : CS}
theorem b_ow (b : B g ρ W S V m Tp RC s) {j : Nat} {q : Nat × Nat × Nat × Nat × Nat} (e : bTab[j]? = some q) : ∃ c n, s.1 (g q.2.1) = some (true, c, n) := by
  rcases bTab_o q (List.mem_of_getElem? e) with z | z | z
  · rw [z]; exact ⟨_, _, b.1⟩
  · rw [z]; exact ⟨_, _, (b.2.1 2 _ rfl).2.1⟩
  · rw [z]; exact ⟨_, _, (b.2.1 3 _ rfl).2.1⟩
/-- the relation behind a write to the state -/
theorem B.w (b : B g ρ W S V m Tp RC s) (h : Fx ρ ρ' s s') (h5 : cI s' 5 (g 0) = i32 (m' 0) ∧ cI s' 7 (g 0) = i32 (m' 1)) (ht : ∀ k : Nat, (k : Int) < m' 0 → cA s' (g 5) k = i32 (Tp' k)) (hs : Bs g ρ' S' m' s') : B g ρ' W S' V m' Tp' RC s' := by
  obtain ⟨b1, b2, b3, b4, b5, b6, b7, b8, b9⟩ := id b
  have k13 := h _ _ _ _ (b2 20 _ rfl).2.1
  have k14 := h _ _ _ _ (b2 21 _ rfl).2.1
  have k2 := h _ _ _ _ (b2 3 _ rfl).2.1
  refine ⟨(h _ _ _ _ b1).1, fun j q e => ?_, b3.w h (b2 2 _ rfl).2.1 (by rw [(b2 17 _ rfl).2.2]; rfl), b4.w h (b2 2 _ rfl).2.1, b5.w h (b2 19 _ rfl).2.1 (b2 18 _ rfl).2.1, ?_, h5, ht, hs⟩
  · obtain ⟨c, n, ho⟩ := b_ow b e
    have k := h _ _ _ _ (b2 j q e).2.1
    rw [(h _ _ _ _ ho).2.2.2.1, k.1, k.2.1]
    exact ⟨(b2 j q e).1, rfl, (b2 j q e).2.2⟩
  · rw [k2.2.2.1 _ rfl, k13.2.2.2.2.1 (by rw [(b2 20 _ rfl).2.2]; rfl), k14.2.2.2.2.1 (by rw [(b2 21 _ rfl).2.2]; rfl)]
    exact b6
end RW
/-- nothing but a state object is another: fields up to fx, arrays up to role rx -/
def Fo (ρ : Nat → Nat × Nat) (o fx rx : Nat) (s s' : CS) : Prop := s'.1 = s.1 ∧ (∀ f a, ¬ (a = o ∧ 800 ≤ f ∧ f ≤ fx) → cI s' f a = cI s f a) ∧ (∀ f a, cR s' f a = cR s f a) ∧ (∀ a, ¬ ((ρ a).2 = o ∧ 101 ≤ (ρ a).1 ∧ (ρ a).1 ≤ rx) → cA s' a = cA s a) ∧ (∀ a, cQ s' a = cQ s a) ∧ cz s' = cz s ∧ cl s' = cl s
theorem Fo.rf {ρ : Nat → Nat × Nat} {o fx rx : Nat} {s : CS} : Fo ρ o fx rx s s := ⟨rfl, fun _ _ _ => rfl, fun _ _ => rfl, fun _ _ => rfl, fun _ => rfl, rfl, rfl⟩
theorem Fo.tr {ρ : Nat → Nat × Nat} {o fx rx : Nat} {s s1 s2 : CS} (h : Fo ρ o fx rx s s1) (k : Fo ρ o fx rx s1 s2) : Fo ρ o fx rx s s2 := ⟨k.1.trans h.1, fun f a q => (k.2.1 f a q).trans (h.2.1 f a q), fun f a => (k.2.2.1 f a).trans (h.2.2.1 f a), fun a q => (k.2.2.2.1 a q).trans (h.2.2.2.1 a q), fun a => (k.2.2.2.2.1 a).trans (h.2.2.2.2.1 a), k.2.2.2.2.2.1.trans h.2.2.2.2.2.1, k.2.2.2.2.2.2.trans h.2.2.2.2.2.2⟩
theorem Fo.le {ρ : Nat → Nat × Nat} {o fx rx fy ry : Nat} {s s' : CS} (h : Fo ρ o fx rx s s') (h1 : fx ≤ fy) (h2 : rx ≤ ry) : Fo ρ o fy ry s s' := ⟨h.1, fun f a q => h.2.1 f a (fun z => q ⟨z.1, z.2.1, by omega⟩), h.2.2.1, fun a q => h.2.2.2.1 a (fun z => q ⟨z.1, z.2.1, by omega⟩), h.2.2.2.2⟩
theorem Fo.uI {ρ : Nat → Nat × Nat} {o fx rx f : Nat} {s : CS} {v : Int32} (h : 800 ≤ f ∧ f ≤ fx) : Fo ρ o fx rx s (uI s f o v) := by
  refine ⟨rfl, fun f' a q => ?_, fun _ _ => rfl, fun _ _ => rfl, fun _ => rfl, rfl, rfl⟩
  show (if f' = f ∧ a = o then v else cI s f' a) = cI s f' a
  rw [if_neg]
  rintro ⟨rfl, rfl⟩
  exact q ⟨rfl, h⟩
theorem Fo.uA {ρ : Nat → Nat × Nat} {o fx rx a i r : Nat} {s : CS} {v : Int32} (h : ρ a = (r, o)) (hr : 101 ≤ r ∧ r ≤ rx) : Fo ρ o fx rx s (uA s a i v) := by
  refine ⟨rfl, fun _ _ _ => rfl, fun _ _ => rfl, fun a' q => ?_, fun _ => rfl, rfl, rfl⟩
  show (if a' = a then upd (cA s a) i v else cA s a') = cA s a'
  rw [if_neg]
  rintro rfl
  rw [h] at q
  exact q ⟨rfl, hr⟩
theorem Fo.w {ρ : Nat → Nat × Nat} {o fx rx : Nat} {s s' : CS} (h : Fo ρ o fx rx s s') (h1 : fx ≤ 805) (h2 : rx ≤ 106) : Fx ρ ρ s s' := fun a w c n e => by
  refine ⟨by rw [h.1]; exact e, rfl, fun f q => h.2.1 f a (fun z => ?_), fun f => h.2.2.1 f a, fun q => h.2.2.2.1 a (fun z => ?_), fun _ => h.2.2.2.2.1 a⟩
  · unfold wF at q
    rw [decide_eq_true (show f = 5 ∨ f = 7 ∨ (800 ≤ f ∧ f ≤ 805) by omega), Bool.or_true] at q
    cases q
  · unfold wA at q
    rw [decide_eq_true (show (ρ a).1 = 5 ∨ (101 ≤ (ρ a).1 ∧ (ρ a).1 ≤ 106) by omega), Bool.or_true] at q
    cases q
section SF
variable {ρ ρ' : Nat → Nat × Nat} {s s' : CS} {o o' : Nat} {σ : Nat → Int}
theorem av_e {f o : Nat} (h : ∀ f a, cR s' f a = cR s f a) : av s' f o = av s f o := by unfold av; rw [h]
theorem SO.ob {fx rx : Nat} (k : SO ρ s o') (h : Fo ρ o fx rx s s') : SO ρ s' o' := by
  have ha : ∀ {f c n r : Nat}, oA ρ s o' f c n r → oA ρ s' o' f c n r := fun q => by
    unfold oA
    rw [av_e h.2.2.1, h.2.2.1, h.1]
    exact q
  exact ⟨by rw [h.1]; exact k.1, ha k.2.1, ha k.2.2.1, ha k.2.2.2.1, ha k.2.2.2.2.1, ha k.2.2.2.2.2.1, ha k.2.2.2.2.2.2⟩
theorem SV.ob {fx rx : Nat} (k : SO ρ s o') (h : Fo ρ o fx rx s s') (hne : ¬ o' = o) (v : SV s o' σ) : SV s' o' σ := by
  unfold SV
  rw [av_e h.2.2.1, h.2.1 _ _ (fun z => hne z.1), h.2.1 _ _ (fun z => hne z.1), h.2.1 _ _ (fun z => hne z.1), h.2.1 _ _ (fun z => hne z.1), h.2.2.2.1 _ (fun z => hne (by rw [k.2.1.2.2] at z; exact z.1))]
  exact v
theorem SV2.ob {fx rx : Nat} (k : SO ρ s o') (h : Fo ρ o fx rx s s') (hne : ¬ o' = o) (v : SV2 s o' σ) : SV2 s' o' σ := by
  unfold SV2
  rw [av_e h.2.2.1, av_e h.2.2.1, av_e h.2.2.1, av_e h.2.2.1, av_e h.2.2.1, h.2.1 _ _ (fun z => hne z.1), h.2.1 _ _ (fun z => hne z.1), h.2.2.2.1 _ (fun z => hne (by rw [k.2.2.2.1.2.2] at z; exact z.1)), h.2.2.2.1 _ (fun z => hne (by rw [k.2.2.1.2.2] at z; exact z.1)), h.2.2.2.1 _ (fun z => hne (by rw [k.2.2.2.2.1.2.2] at z; exact z.1)), h.2.2.2.1 _ (fun z => hne (by rw [k.2.2.2.2.2.1.2.2] at z; exact z.1)), h.2.2.2.1 _ (fun z => hne (by rw [k.2.2.2.2.2.2.2.2] at z; exact z.1))]
  exact v
/-- only the first part of a state written: the rest is as it was -/
theorem SV2.gb (k : SO ρ s o') (h : Fo ρ o 803 101 s s') (v : SV2 s o' σ) : SV2 s' o' σ := by
  unfold SV2
  rw [av_e h.2.2.1, av_e h.2.2.1, av_e h.2.2.1, av_e h.2.2.1, av_e h.2.2.1, h.2.1 _ _ (fun z => by omega), h.2.1 _ _ (fun z => by omega), h.2.2.2.1 _ (fun z => by rw [k.2.2.2.1.2.2] at z; exact absurd z.2.2 (by show ¬ 103 ≤ 101; omega)), h.2.2.2.1 _ (fun z => by rw [k.2.2.1.2.2] at z; exact absurd z.2.2 (by show ¬ 102 ≤ 101; omega)), h.2.2.2.1 _ (fun z => by rw [k.2.2.2.2.1.2.2] at z; exact absurd z.2.2 (by show ¬ 104 ≤ 101; omega)), h.2.2.2.1 _ (fun z => by rw [k.2.2.2.2.2.1.2.2] at z; exact absurd z.2.2 (by show ¬ 105 ≤ 101; omega)), h.2.2.2.1 _ (fun z => by rw [k.2.2.2.2.2.2.2.2] at z; exact absurd z.2.2 (by show ¬ 106 ≤ 101; omega))]
  exact v
end SF
section SB
variable {g : Nat → Nat} {ρ : Nat → Nat × Nat} {S S' : Nat → Nat → Int} {m m' : Nat → Int} {s s' : CS}
/-- one state object written -/
theorem Bs.ob {o fx rx j0 : Nat} {σ : Nat → Int} (h : Bs g ρ S m s) (f : Fo ρ o fx rx s s') (hj : j0 < 21) (hsl : sl s g j0 = some o) (hv : SV s' o σ ∧ (j0 < 5 → SV2 s' o σ)) (hm : ∀ j, j < 21 → act m' j → j = j0 ∨ act m j) (hmk : ∀ j, 1 ≤ j → j < 5 → m' (1 + j) = 0 → m (1 + j) = 0) (hS : ∀ j, j < 21 → act m' j → S' j = if j = j0 then σ else S j) : Bs g ρ S' m' s' := by
  have esl : ∀ j, sl s' g j = sl s g j := fun j => by unfold sl; rw [f.2.2.2.2.1, f.2.2.2.2.1]
  refine ⟨fun j hj2 => ⟨fun ha => ?_, fun o2 ho2 => ⟨?_, fun ha => ?_⟩⟩, fun i j o2 => ?_, fun j a1 a2 a3 => ?_⟩
  · rw [esl]
    rcases hm j hj2 ha with e | e
    · rw [e]; exact ⟨o, hsl⟩
    · exact (h.1 j hj2).1 e
  · rw [esl] at ho2
    exact ((h.1 j hj2).2 o2 ho2).1.ob f
  · rw [esl] at ho2
    rw [hS j hj2 ha]
    by_cases e : j = j0
    · rw [if_pos e]
      rw [e, hsl] at ho2
      cases ho2
      rw [e]
      exact hv
    · rw [if_neg e]
      have ha2 : act m j := (hm j hj2 ha).resolve_left e
      have hne : ¬ o2 = o := fun z => by
        rw [z] at ho2
        exact e (h.2.1 j j0 o hj2 hj ho2 hsl)
      obtain ⟨k0, k1⟩ := (h.1 j hj2).2 o2 ho2
      exact ⟨(k1 ha2).1.ob k0 f hne, fun q => ((k1 ha2).2 q).ob k0 f hne⟩
  · rw [esl, esl]
    exact h.2.1 i j o2
  · rw [esl]
    exact h.2.2 j a1 a2 (hmk j a1 a2 a3)
end SB
