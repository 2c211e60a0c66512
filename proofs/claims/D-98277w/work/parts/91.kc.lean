/-! LAYER 2: keeps: the component -/
set_option maxRecDepth 100000
/-- what can't be written is as at the start -/
def Kc (z0 : CS) (ρ : Nat → Nat × Nat) (s : CS) : Prop := ∀ a c n, z0.1 a = some (false, c, n) → s.1 a = some (false, c, n) ∧ ρ a = (0, 0) ∧ (∀ f, wF f = false → cI s f a = cI z0 f a) ∧ (∀ f, cR s f a = cR z0 f a) ∧ cA s a = cA z0 a
theorem Kc.x {z0 : CS} {ρ ρ' : Nat → Nat × Nat} {s s' : CS} (h : Kc z0 ρ s) (f : Fx ρ ρ' s s') : Kc z0 ρ' s' := fun a c n e => by
  obtain ⟨h1, h2, h3, h4, h5⟩ := h a c n e
  obtain ⟨k1, k2, k3, k4, k5, -⟩ := f a _ _ _ h1
  exact ⟨k1, k2.trans h2, fun f q => (k3 f q).trans (h3 f q), fun f => (k4 f).trans (h4 f), (k5 (by rw [h2]; rfl)).trans h5⟩
/-- the heap is well -/
def Hp (z0 : CS) (ρ : Nat → Nat × Nat) (s : CS) : Prop := Fh s ∧ Hx ρ s ∧ (∀ a, cz s ≤ a → ρ a = (0, 0)) ∧ Kc z0 ρ s
theorem Hp.e {z0 : CS} {ρ : Nat → Nat × Nat} {s s' : CS} (h : Hp z0 ρ s) (f : Fx ρ ρ s s') (h1 : s'.1 = s.1) (h2 : cz s' = cz s) (h3 : ∀ a, (ρ a).1 = 102 → cA s' a = cA s a) : Hp z0 ρ s' := ⟨h.1.e h1 h2, h.2.1.o h3, fun a ha => h.2.2.1 a (by rw [← h2]; exact ha), h.2.2.2.x f⟩
theorem Hp.q {z0 : CS} {ρ : Nat → Nat × Nat} {s s' : CS} (h : Hp z0 ρ s) (f : Fq ρ s s') : Hp z0 ρ s' := h.e (Fx.q f) f.1 f.2.2.2.2.2.1 fun a ha => f.2.2.2.1 a (by unfold scA; rw [ha]; rfl)
theorem Hp.g {z0 : CS} {ρ : Nat → Nat × Nat} {s s' : CS} {o : Nat} (h : Hp z0 ρ s) (f : Fo ρ o 803 101 s s') : Hp z0 ρ s' := h.e (f.w (by omega) (by omega)) f.1 f.2.2.2.2.2.1 fun a ha => f.2.2.2.1 a (fun z => by omega)
theorem Hp.n {z0 : CS} {ρ : Nat → Nat × Nat} {s : CS} (h : Hp z0 ρ s) : Hp z0 (rhoS ρ (cz s)) (newS s) := ⟨newS_h h.1, newS_X h.2.1 h.2.2.1, fun a ha => (if_neg (show ¬ (cz s < a ∧ a < cz s + 7) by rw [(newS_z s).1] at ha; omega)).trans (h.2.2.1 a (by rw [(newS_z s).1] at ha; omega)), h.2.2.2.x ((newS_x s).x h.1 fun a ha => rhoS_o ha)⟩
/-- a state object is as it was -/
def Fvv (ρ ρ' : Nat → Nat × Nat) (s s' : CS) (o : Nat) : Prop := s'.1 o = s.1 o ∧ (∀ f, 800 ≤ f → f ≤ 805 → cI s' f o = cI s f o) ∧ (∀ f, cR s' f o = cR s f o) ∧ ∀ a w c n, s.1 a = some (w, c, n) → (ρ a).2 = o → 101 ≤ (ρ a).1 → (ρ a).1 ≤ 106 → s'.1 a = s.1 a ∧ ρ' a = ρ a ∧ cA s' a = cA s a
theorem SV_e {s : CS} {o : Nat} {σ σ' : Nat → Int} (h : ∀ k, k < 58 → σ' k = σ k) (v : SV s o σ) : SV s o σ' := by
  unfold SV
  rw [h 0 (by omega), h 1 (by omega), h 2 (by omega), h 3 (by omega)]
  exact ⟨v.1, v.2.1, v.2.2.1, v.2.2.2.1, fun c hc => by rw [h (4 + c) (by omega)]; exact v.2.2.2.2 c hc⟩
section FV
variable {ρ ρ' : Nat → Nat × Nat} {s s' : CS} {o : Nat} {σ : Nat → Int}
theorem oA.v {f c n r : Nat} (h : Fvv ρ ρ' s s' o) (k : oA ρ s o f c n r) (hr : 101 ≤ r ∧ r ≤ 106) : oA ρ' s' o f c n r ∧ av s' f o = av s f o ∧ cA s' (av s' f o) = cA s (av s f o) := by
  have e : av s' f o = av s f o := by unfold av; rw [h.2.2.1]
  have q := h.2.2.2 _ _ _ _ k.2.1 (by rw [k.2.2]) (by rw [k.2.2]; exact hr.1) (by rw [k.2.2]; exact hr.2)
  refine ⟨?_, e, by rw [e]; exact q.2.2⟩
  unfold oA
  rw [e, h.2.2.1, q.1, q.2.1]
  exact k
theorem SO.v (k : SO ρ s o) (h : Fvv ρ ρ' s s' o) : SO ρ' s' o := ⟨by rw [h.1]; exact k.1, (k.2.1.v h (by omega)).1, (k.2.2.1.v h (by omega)).1, (k.2.2.2.1.v h (by omega)).1, (k.2.2.2.2.1.v h (by omega)).1, (k.2.2.2.2.2.1.v h (by omega)).1, (k.2.2.2.2.2.2.v h (by omega)).1⟩
theorem SV.v (k : SO ρ s o) (h : Fvv ρ ρ' s s' o) (v : SV s o σ) : SV s' o σ := by
  unfold SV
  rw [h.2.1 800 (by omega) (by omega), h.2.1 801 (by omega) (by omega), h.2.1 802 (by omega) (by omega), h.2.1 803 (by omega) (by omega), (k.2.1.v h (by omega)).2.2]
  exact v
theorem SV2.v (k : SO ρ s o) (h : Fvv ρ ρ' s s' o) (v : SV2 s o σ) : SV2 s' o σ := by
  unfold SV2
  rw [h.2.1 804 (by omega) (by omega), h.2.1 805 (by omega) (by omega), (k.2.2.1.v h (by omega)).2.2, (k.2.2.2.1.v h (by omega)).2.2, (k.2.2.2.2.1.v h (by omega)).2.2, (k.2.2.2.2.2.1.v h (by omega)).2.2, (k.2.2.2.2.2.2.v h (by omega)).2.2]
  exact v
end FV
theorem Ex.fv {ρ ρ' : Nat → Nat × Nat} {s s' : CS} {o : Nat} (hF : Fh s) (h : Ex (cz s) s s') (hρ : ∀ a, a < cz s → ρ' a = ρ a) (ho : o < cz s) : Fvv ρ ρ' s s' o := ⟨(h o ho).1, fun f _ _ => (h o ho).2.1 f, (h o ho).2.2.1, fun a w c n e _ _ _ => by
  have ha := hF a w c n e
  exact ⟨(h a ha).1, hρ a ha, (h a ha).2.2.2.1⟩⟩
theorem Fvv.uQ {ρ : Nat → Nat × Nat} {s : CS} {a i o : Nat} {v : Option Nat} : Fvv ρ ρ s (uQ s a i v) o := ⟨rfl, fun _ _ _ => rfl, fun _ => rfl, fun _ _ _ _ _ _ _ _ => ⟨rfl, rfl, rfl⟩⟩
theorem Fvv.tr {ρ ρ1 ρ2 : Nat → Nat × Nat} {s s1 s2 : CS} {o : Nat} (h : Fvv ρ ρ1 s s1 o) (k : Fvv ρ1 ρ2 s1 s2 o) : Fvv ρ ρ2 s s2 o := ⟨k.1.trans h.1, fun f a b => (k.2.1 f a b).trans (h.2.1 f a b), fun f => (k.2.2.1 f).trans (h.2.2.1 f), fun a w c n e e1 e2 e3 => by
  obtain ⟨h1, h2, h3⟩ := h.2.2.2 a w c n e e1 e2 e3
  obtain ⟨k1, k2, k3⟩ := k.2.2.2 a w c n (by rw [h1]; exact e) (by rw [h2]; exact e1) (by rw [h2]; exact e2) (by rw [h2]; exact e3)
  exact ⟨k1.trans h1, k2.trans h2, k3.trans h3⟩⟩
theorem uQ_x {s : CS} {a i : Nat} {v : Option Nat} : (uQ s a i v).1 = s.1 ∧ cI (uQ s a i v) = cI s ∧ cR (uQ s a i v) = cR s ∧ cA (uQ s a i v) = cA s ∧ cz (uQ s a i v) = cz s ∧ cl (uQ s a i v) = cl s := ⟨rfl, rfl, rfl, rfl, rfl, rfl⟩
section SR
variable {g : Nat → Nat} {ρ ρ' : Nat → Nat × Nat} {S S' : Nat → Nat → Int} {m m' : Nat → Int} {s s' : CS}
/-- slots in another order, the objects as they were -/
theorem Bs.r (h : Bs g ρ S m s) (π : Nat → Nat) (hπ : ∀ j, j < 21 → π j < 21) (hi : ∀ i j, i < 21 → j < 21 → π i = π j → i = j) (h5 : ∀ j, j < 5 → π j = j) (hsl : ∀ j, j < 21 → sl s' g j = sl s g (π j)) (hfv : ∀ j o, j < 21 → sl s g j = some o → Fvv ρ ρ' s s' o) (ha : ∀ j, j < 21 → act m' j → act m (π j)) (hS : ∀ j k, j < 21 → act m' j → (k < 58 ∨ j < 5) → S' j k = S (π j) k) (hmk : ∀ j, 1 ≤ j → j < 5 → m' (1 + j) = 0 → m (1 + j) = 0) : Bs g ρ' S' m' s' := by
  refine ⟨fun j hj => ⟨fun a => ?_, fun o ho => ?_⟩, fun i j o hi2 hj e1 e2 => ?_, fun j a1 a2 a3 => ?_⟩
  · rw [hsl j hj]
    exact (h.1 (π j) (hπ j hj)).1 (ha j hj a)
  · rw [hsl j hj] at ho
    have fv := hfv _ o (hπ j hj) ho
    obtain ⟨k0, k1⟩ := (h.1 (π j) (hπ j hj)).2 o ho
    refine ⟨k0.v fv, fun a => ?_⟩
    obtain ⟨k2, k3⟩ := k1 (ha j hj a)
    refine ⟨(SV_e (fun k hk => hS j k hj a (.inl hk)) k2).v k0 fv, fun q => ?_⟩
    have e : S' j = S (π j) := funext fun k => hS j k hj a (.inr q)
    rw [e]
    exact (k3 (by rw [h5 j q]; exact q)).v k0 fv
  · rw [hsl i hi2] at e1
    rw [hsl j hj] at e2
    exact hi i j hi2 hj (h.2.1 _ _ o (hπ i hi2) (hπ j hj) e1 e2)
  · rw [hsl j (by omega), h5 j a2]
    exact h.2.2 j a1 a2 (hmk j a1 a2 a3)
/-- a new object in a slot that was empty -/
theorem Bs.nw (h : Bs g ρ S m s) {j0 o0 : Nat} (hj0 : 1 ≤ j0 ∧ j0 < 21) (hsl0 : sl s' g j0 = some o0) (hsl : ∀ j, j < 21 → ¬ j = j0 → sl s' g j = sl s g j) (hfv : ∀ j o, j < 21 → sl s g j = some o → Fvv ρ ρ' s s' o ∧ ¬ o = o0) (ho : SO ρ' s' o0) (hna : ¬ act m j0) (hmk : j0 < 5 → ¬ m (1 + j0) = 0) : Bs g ρ' S m s' := by
  refine ⟨fun j hj => ⟨fun a => ?_, fun o hoo => ?_⟩, fun i j o hi2 hj e1 e2 => ?_, fun j a1 a2 a3 => ?_⟩
  · by_cases e : j = j0
    · rw [e] at a
      exact absurd a hna
    · rw [hsl j hj e]
      exact (h.1 j hj).1 a
  · by_cases e : j = j0
    · rw [e, hsl0] at hoo
      cases hoo
      rw [e]
      exact ⟨ho, fun a => absurd a hna⟩
    · rw [hsl j hj e] at hoo
      have fv := (hfv j o hj hoo).1
      obtain ⟨k0, k1⟩ := (h.1 j hj).2 o hoo
      exact ⟨k0.v fv, fun a => ⟨(k1 a).1.v k0 fv, fun q => ((k1 a).2 q).v k0 fv⟩⟩
  · by_cases e : i = j0
    · by_cases e' : j = j0
      · rw [e, e']
      · rw [e, hsl0] at e1
        rw [hsl j hj e'] at e2
        cases e1
        exact absurd rfl (hfv j _ hj e2).2
    · rw [hsl i hi2 e] at e1
      by_cases e' : j = j0
      · rw [e', hsl0] at e2
        cases e2
        exact absurd rfl (hfv i _ hi2 e1).2
      · rw [hsl j hj e'] at e2
        exact h.2.1 i j o hi2 hj e1 e2
  · by_cases e : j = j0
    · rw [e] at a3
      exact absurd a3 (hmk (by omega))
    · rw [hsl j (by omega) e]
      exact h.2.2 j a1 a2 a3
end SR
/-- the rows of states and the numbers when one more is kept -/
def shS (S : Nat → Nat → Int) : Nat → Nat → Int := fun j k => if 5 ≤ j ∧ j < 20 ∧ k < 58 then S (j + 1) k else S j k
def cpS (S : Nat → Nat → Int) (a b n : Nat) : Nat → Nat → Int := fun j k => if j = b ∧ k < n then S a k else S j k
def upM (m : Nat → Int) (i : Nat) (v : Int) : Nat → Int := fun j => if j = i then v else m j
def kpS (S : Nat → Nat → Int) (m : Nat → Int) : Nat → Nat → Int := if m 1 = 16 then cpS (shS S) 0 20 58 else cpS S 0 (5 + (m 1).toNat) 58
def kpM (m : Nat → Int) : Nat → Int := upM m 1 (if m 1 = 16 then 16 else m 1 + 1)
theorem rd_uQ {s : CS} {a c i j : Nat} {v : Option Nat} : cQ (uQ s a i v) c j = if c = a ∧ j = i then v else cQ s c j := by
  show (if c = a then va_up (cQ s a) i v else cQ s c) j = _
  by_cases e : c = a
  · rw [if_pos e, e]
    show (if j = i then v else cQ s a j) = _
    by_cases e2 : j = i
    · rw [if_pos e2, if_pos ⟨rfl, e2⟩]
    · rw [if_neg e2, if_neg (fun z => e2 z.2)]
  · rw [if_neg e, if_neg (fun z => e z.1)]
theorem Fx.uI {ρ : Nat → Nat × Nat} {s : CS} {f o : Nat} {v : Int32} (h : wF f = true) : Fx ρ ρ s (uI s f o v) := fun a w c n e => ⟨e, rfl, fun f' q => rI_n (fun z => by rw [z, h] at q; exact Bool.noConfusion q), fun _ => rfl, fun _ => rfl, fun _ => rfl⟩
theorem Fx.uQ {ρ : Nat → Nat × Nat} {s : CS} {o i : Nat} {v : Option Nat} {w : Bool} {n : Nat} (h : s.1 o = some (w, 105, n)) : Fx ρ ρ s (uQ s o i v) := fun a w' c n' e => ⟨e, rfl, fun _ _ => rfl, fun _ => rfl, fun _ => rfl, fun q => funext fun j => by
  rw [rd_uQ, if_neg]
  rintro ⟨rfl, -⟩
  rw [h] at e
  cases e
  exact q rfl⟩
section KC
variable {g : Nat → Nat} {ρ : Nat → Nat × Nat} {W : Nat → Int} {S : Nat → Nat → Int} {V m Tp : Nat → Int} {RC : Nat → List (Nat × Int)} {s z0 : CS} {T : Int} {nf : Nat}
theorem b_Bs (b : B g ρ W S V m Tp RC s) : Bs g ρ S m s := b.2.2.2.2.2.2.2.2
theorem kc_92 (hn : 100 ≤ nf) (b : B g ρ W S V m Tp RC s) (hp : Hp z0 ρ s) (hS : SW W T (S 0)) {u : Nat} (hm : m 1 = (u : Int)) (hu : u < 16) {o : Nat} (ho : sl s g (5 + u) = some o) : Ok (FX0_keeps_b92 nf (g 0) s) fun s' => B g ρ W (cpS S 0 (5 + u) 58) V (upM m 1 ((u : Int) + 1)) Tp RC s' ∧ Hp z0 ρ s' ∧ cz s' = cz s ∧ cl s' = cl s := by
  have ho2 : cQ s (g 6) u = some o := by
    have e := ho
    unfold sl at e
    rw [if_neg (by omega), if_neg (by omega), show 5 + u - 5 = u by omega] at e
    exact e
  have bs := b_Bs b
  have so := ((bs.1 (5 + u) (by omega)).2 o ho).1
  obtain ⟨n1, n2, n3⟩ := b_now b
  have hne : ¬ g 3 = o := fun z => by
    have := bs.2.1 0 (5 + u) o (by omega) (by omega) (by rw [← z]; rfl) ho
    omega
  have hkn : ∀ c, c < 54 → S 0 (4 + c) = 0 ∨ S 0 (4 + c) = 1 := fun c hc => by
    have := hS.2.2.2.2 c hc
    omega
  unfold FX0_keeps_b92
  refine ok_gRs b.1 rfl (b.2.1 5 _ rfl).1 (ok_gI b.1 rfl (ok_pI b.1 rfl (ok_nn ?_)))
  rw [b.2.2.2.2.2.2.1.2, hm, show (1 : Int32) = i32 1 from rfl, i32_add]
  have f3 : Fx ρ ρ s (uI s 7 (g 0) (i32 ((u : Int) + 1))) := Fx.uI rfl
  have b6 : (uI s 7 (g 0) (i32 ((u : Int) + 1))).1 (g 6) = some (true, 105, 16) := (b.2.1 5 _ rfl).2.1
  refine ok_lR b6 (by omega) (by omega) (by omega) ?_
  rw [Int.toNat_natCast, show cQ (uI s 7 (g 0) (i32 ((u : Int) + 1))) (g 6) u = some o from ho2]
  refine ok_gRs (show (uI s 7 (g 0) (i32 ((u : Int) + 1))).1 (g 0) = some (true, 0, 0) from b.1) rfl (b.2.1 4 _ rfl).1 (ok_nn (ok_nn ?_))
  have ei7 : ∀ f a, 800 ≤ f → cI (uI s 7 (g 0) (i32 ((u : Int) + 1))) f a = cI s f a := fun f a h => rI_n (by omega)
  have e7 : cI (uI s 7 (g 0) (i32 ((u : Int) + 1))) 7 (g 0) = i32 ((u : Int) + 1) := rI_t
  have e5 : cI (uI s 7 (g 0) (i32 ((u : Int) + 1))) 5 (g 0) = i32 (m 0) := by rw [rI_n (by decide)]; exact b.2.2.2.2.2.2.1.1
  have h3 : Hp z0 ρ (uI s 7 (g 0) (i32 ((u : Int) + 1))) := hp.e f3 rfl rfl fun _ _ => rfl
  have fv3 : ∀ o, Fvv ρ ρ s (uI s 7 (g 0) (i32 ((u : Int) + 1))) o := fun o => ⟨rfl, fun f a1 _ => ei7 f o a1, fun _ => rfl, fun _ _ _ _ _ _ _ _ => ⟨rfl, rfl, rfl⟩⟩
  have bs3 : Bs g ρ S m (uI s 7 (g 0) (i32 ((u : Int) + 1))) := bs.r id (fun _ h => h) (fun _ _ _ _ h => h) (fun _ _ => rfl) (fun _ _ => rfl) (fun _ o _ _ => fv3 o) (fun _ _ h => h) (fun _ _ _ _ _ => rfl) (fun _ _ _ h => h)
  have so3 := so.v (fv3 o)
  have n13 := n1.v (fv3 (g 3))
  have n23 := n2.v n1 (fv3 (g 3))
  have ho3 : sl (uI s 7 (g 0) (i32 ((u : Int) + 1))) g (5 + u) = some o := ho
  have et : cA (uI s 7 (g 0) (i32 ((u : Int) + 1))) = cA s := rfl
  have ez : cz (uI s 7 (g 0) (i32 ((u : Int) + 1))) = cz s ∧ cl (uI s 7 (g 0) (i32 ((u : Int) + 1))) = cl s := ⟨rfl, rfl⟩
  generalize uI s 7 (g 0) (i32 ((u : Int) + 1)) = s3 at f3 e7 e5 h3 bs3 so3 n13 n23 ho3 et ez ⊢
  refine ok_b (ok_stgo (σ := S 0) hn so3 n13 hne n23 hkn) fun s9 h9 => ok_s ?_
  obtain ⟨f9, v9⟩ := h9
  have s5 : ρ (g 5) = (5, 0) := (b.2.1 0 _ rfl).2.2
  refine ⟨b.w (f3.tr (f9.w (by omega) (by omega))) ⟨?_, ?_⟩ (fun k hk => ?_) ?_, h3.g f9, by rw [f9.2.2.2.2.2.1, ez.1], by rw [f9.2.2.2.2.2.2, ez.2]⟩
  · rw [f9.2.1 _ _ (fun z => by omega), e5]
    rfl
  · rw [f9.2.1 _ _ (fun z => by omega), e7]
    rfl
  · rw [f9.2.2.2.1 _ (fun z => by rw [s5] at z; exact absurd z.2.1 (by show ¬ 101 ≤ 5; omega)), et]
    exact b.2.2.2.2.2.2.2.1 k hk
  · refine bs3.ob f9 (j0 := 5 + u) (σ := cpS S 0 (5 + u) 58 (5 + u)) (by omega) ho3 ⟨SV_e (fun k hk => ?_) v9, fun z => by omega⟩ (fun j hj ha => ?_) (fun j a1 a2 a3 => ?_) (fun j hj ha => ?_)
    · unfold cpS
      rw [if_pos ⟨rfl, hk⟩]
    · unfold act upM at ha
      unfold act
      rw [if_pos rfl] at ha
      rcases ha with z | z | z
      · exact .inr (.inl z)
      · rw [if_neg (by omega)] at z
        exact .inr (.inr (.inl z))
      · by_cases e : j = 5 + u
        · exact .inl e
        · exact .inr (.inr (.inr ⟨z.1, by omega⟩))
    · unfold upM at a3
      rw [if_neg (by omega)] at a3
      exact a3
    · by_cases e : j = 5 + u
      · rw [if_pos e, e]
      · rw [if_neg e]
        funext k
        unfold cpS
        rw [if_neg (fun z => e z.1)]
theorem kc_64 (hn : 100 ≤ nf) (b : B g ρ W S V m Tp RC s) (hp : Hp z0 ρ s) (hS : SW W T (S 0)) {u : Nat} (hm : m 1 = (u : Int)) (hu : u < 16) : Ok (FX0_keeps_b64 nf (g 0) s) fun s' => ∃ ρ', B g ρ' W (cpS S 0 (5 + u) 58) V (upM m 1 ((u : Int) + 1)) Tp RC s' ∧ Hp z0 ρ' s' ∧ cz s ≤ cz s' ∧ cz s' ≤ cz s + 7 ∧ cl s ≤ cl s' ∧ cl s' ≤ cl s + 112 := by
  have bs := b_Bs b
  have hsl5 : ∀ (s : CS), sl s g (5 + u) = cQ s (g 6) u := fun s => by
    unfold sl
    rw [if_neg (by omega), if_neg (by omega), show 5 + u - 5 = u by omega]
  unfold FX0_keeps_b64
  refine ok_gRs b.1 rfl (b.2.1 5 _ rfl).1 (ok_gI b.1 rfl (ok_nn ?_))
  rw [b.2.2.2.2.2.2.1.2, hm]
  refine ok_lR (show s.1 (g 6) = some (true, 105, 16) from (b.2.1 5 _ rfl).2.1) (by omega) (by omega) (by omega) ?_
  rw [Int.toNat_natCast]
  cases hq : cQ s (g 6) u with
  | some o =>
    rw [nul_eS]
    exact ok_w (kc_92 (nf := nf) hn b hp hS hm hu (o := o) (by rw [hsl5, hq])) fun s' h => ⟨ρ, h.1, h.2.1, by rw [h.2.2.1]; exact Nat.le_refl _, by rw [h.2.2.1]; exact Nat.le_add_right _ _, by rw [h.2.2.2]; exact Nat.le_refl _, by rw [h.2.2.2]; exact Nat.le_add_right _ _⟩
  | none =>
    rw [nul_eN]
    refine ok_gRs b.1 rfl (b.2.1 5 _ rfl).1 (ok_gI b.1 rfl ?_)
    rw [b.2.2.2.2.2.2.1.2, hm]
    refine ok_newS ?_
    refine ok_nn ?_
    have hx := newS_x s
    have so := newS_o ρ s
    have hp1 := hp.n
    have hz := newS_z s
    have hF := hp.1
    generalize newS s = s1 at hx so hp1 hz ⊢
    have hρ : ∀ a, a < cz s → rhoS ρ (cz s) a = ρ a := fun a ha => rhoS_o ha
    have f1 : Fx ρ (rhoS ρ (cz s)) s s1 := hx.x hF hρ
    have k6 : s.1 (g 6) = some (true, 105, 16) := (b.2.1 5 _ rfl).2.1
    have c6 := hF _ _ _ _ k6
    have k61 : s1.1 (g 6) = some (true, 105, 16) := by rw [(hx _ c6).1]; exact k6
    refine ok_gd so.1 rfl (ok_tR k61 (by omega) (by omega) (by omega) ?_)
    rw [Int.toNat_natCast]
    have f2 : Fx ρ (rhoS ρ (cz s)) s (uQ s1 (g 6) u (some (cz s))) := f1.tr (Fx.uQ k61)
    have hp2 : Hp z0 (rhoS ρ (cz s)) (uQ s1 (g 6) u (some (cz s))) := hp1.e (Fx.uQ k61) uQ_x.1 uQ_x.2.2.2.2.1 fun _ _ => by rw [uQ_x.2.2.2.1]
    have c0 := hF _ _ _ _ b.1
    have c5 := hF _ _ _ _ (b.2.1 0 _ rfl).2.1
    have c7 := hF _ _ _ _ (b.2.1 15 _ rfl).2.1
    have h67 : ¬ g 7 = g 6 := g_ne b (i := 15) (j := 5) rfl rfl (by decide)
    have hsl : ∀ j, j < 21 → ¬ j = 5 + u → sl (uQ s1 (g 6) u (some (cz s))) g j = sl s g j := fun j hj hne => by
      unfold sl
      by_cases q0 : j = 0
      · rw [if_pos q0, if_pos q0]
      · rw [if_neg q0, if_neg q0]
        by_cases q5 : j < 5
        · rw [if_pos q5, if_pos q5, rd_uQ, if_neg (fun z => h67 z.1), (hx _ c7).2.2.2.2]
        · rw [if_neg q5, if_neg q5, rd_uQ, if_neg (fun z => by omega), (hx _ c6).2.2.2.2]
    have hso : ∀ j o, j < 21 → sl s g j = some o → o < cz s := fun j o hj e => hF _ _ _ _ ((bs.1 j hj).2 o e).1.1
    have b2 : B g (rhoS ρ (cz s)) W S V m Tp RC (uQ s1 (g 6) u (some (cz s))) := by
      refine b.w f2 ⟨?_, ?_⟩ (fun k hk => ?_) ?_
      · rw [uQ_x.2.1, (hx _ c0).2.1]
        exact b.2.2.2.2.2.2.1.1
      · rw [uQ_x.2.1, (hx _ c0).2.1]
        exact b.2.2.2.2.2.2.1.2
      · rw [uQ_x.2.2.2.1, (hx _ c5).2.2.2.1]
        exact b.2.2.2.2.2.2.2.1 k hk
      · refine bs.nw (j0 := 5 + u) (o0 := cz s) (by omega) (by rw [hsl5, rd_uQ, if_pos ⟨rfl, rfl⟩]) hsl (fun j o hj e => ?_) ?_ ?_ (fun z => by omega)
        · have ho := hso j o hj e
          have fv := hx.fv (ρ := ρ) hF hρ ho
          exact ⟨fv.tr Fvv.uQ, by omega⟩
        · exact so.v Fvv.uQ
        · unfold act
          omega
    refine ok_w (kc_92 (nf := nf) hn b2 hp2 hS hm hu (o := cz s) (by rw [hsl5, rd_uQ, if_pos ⟨rfl, rfl⟩])) fun s' h => ⟨_, h.1, h.2.1, ?_, ?_, ?_, ?_⟩
    · rw [h.2.2.1, uQ_x.2.2.2.2.1]; omega
    · rw [h.2.2.1, uQ_x.2.2.2.2.1]; omega
    · rw [h.2.2.2, uQ_x.2.2.2.2.2]; omega
    · rw [h.2.2.2, uQ_x.2.2.2.2.2]; omega
end KC
