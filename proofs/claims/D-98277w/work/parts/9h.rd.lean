/-! LAYER 2: one parse and what it leaves; wrong, isSign, need, number: the component -/
set_option maxRecDepth 100000
/-- a parse makes new cells only -/
def Pb (r : Nat) (s s' : CS) : Prop := Fp r (cz s) s s' ∧ Fh s' ∧ cz s ≤ cz s' ∧ cl s ≤ cl s'
theorem Fp.le {r z y : Nat} {s s' : CS} (h : Fp r z s s') (k : y ≤ z) : Fp r y s s' := fun a ha => h a (by omega)
theorem Pb.tr {r : Nat} {s s1 s2 : CS} (h : Pb r s s1) (k : Pb r s1 s2) : Pb r s s2 := by
  obtain ⟨h1, h2, h3, h5⟩ := h
  obtain ⟨k1, k2, k3, k5⟩ := k
  exact ⟨h1.tr (k1.le h3), k2, by omega, by omega⟩
theorem Pb.rf {r : Nat} {s : CS} (h : Fh s) : Pb r s s := ⟨Fp.rf, h, Nat.le_refl _, Nat.le_refl _⟩
theorem Pb.n {r : Nat} {s s' : CS} (hF : Fh s) (h : Fn r s s') : Pb r s s' := by
  obtain ⟨h1, h2, h3, h4, h5, h6, h7⟩ := id h
  exact ⟨h.p, hF.e h1 h6, by omega, by omega⟩
theorem isK_lt {s : CS} {a : Nat} {cs : List Nat} (hF : Fh s) (h : isK s a cs = true) : a < cz s := by
  unfold isK at h
  cases e : s.1 a with
  | none => rw [e] at h; cases h
  | some p => exact hF a p.1 p.2.1 p.2.2 e
theorem Sc.b {r p : Nat} {L : List Int} {s s' : CS} (k : Sc s p L) (hF : Fh s) (h : Pb r s s') : Sc s' p L := by
  obtain ⟨h1, h2, ⟨v, w, h3, h4, h5⟩, h6⟩ := k
  have e1 := h.1 p (isK_lt hF h1)
  have e2 := h.1 v (hF _ _ _ _ h4)
  refine ⟨?_, by rw [e1.2.1 _ (fun z => by omega)]; exact h2, ⟨v, w, by rw [e1.2.2.1 _ (fun z => by omega)]; exact h3, by rw [e2.1]; exact h4, fun j hj => by rw [e2.2.2.2.1]; exact h5 j hj⟩, h6⟩
  unfold isK at h1 ⊢
  rw [e1.1]
  exact h1
theorem Kst.b {st : Nat → Option Nat} {r : Nat} {s s' : CS} (k : Kst st s) (hF : Fh s) (h : Pb r s s') : Kst st s' := fun i hi => by
  obtain ⟨p, h1, h2⟩ := k i hi
  exact ⟨p, h1, h2.b hF h⟩
/-- cells are paid for by the text read: from token k to token k', u cells to spare -/
def Pc (r : Nat) (t : Nat → Int) (n u : Nat) (s : CS) (k : Nat) (s' : CS) (k' : Nat) : Prop := Pb r s s' ∧ tP t n k ≤ tP t n k' ∧ cz s' + 16 * (n - tP t n k') + u ≤ cz s + 16 * (n - tP t n k) ∧ cl s' + 64 * (n - tP t n k') + 4 * u ≤ cl s + 64 * (n - tP t n k)
theorem Pc.tr {r n u v : Nat} {t : Nat → Int} {s s1 s2 : CS} {k k1 k2 : Nat} (h : Pc r t n u s k s1 k1) (g : Pc r t n v s1 k1 s2 k2) : Pc r t n (u + v) s k s2 k2 := by
  obtain ⟨h1, h2, h3, h4⟩ := h
  obtain ⟨g1, g2, g3, g4⟩ := g
  exact ⟨h1.tr g1, by omega, by omega, by omega⟩
theorem Pc.le {r n u v : Nat} {t : Nat → Int} {s s1 : CS} {k k1 : Nat} (h : Pc r t n u s k s1 k1) (g : v ≤ u) : Pc r t n v s k s1 k1 := ⟨h.1, h.2.1, by have := h.2.2.1; omega, by have := h.2.2.2; omega⟩
theorem Pc.rf {r n : Nat} {t : Nat → Int} {s : CS} {k : Nat} (h : Fh s) : Pc r t n 0 s k s k := ⟨Pb.rf h, Nat.le_refl _, Nat.le_refl _, Nat.le_refl _⟩
/-- c cells of at most 4 c slots are made -/
theorem Pc.al {r n u : Nat} {t : Nat → Int} {s s1 s2 : CS} {k k1 : Nat} (c : Nat) (h : Pc r t n (u + c) s k s1 k1) (g : Pb r s1 s2) (h1 : cz s2 ≤ cz s1 + c) (h2 : cl s2 ≤ cl s1 + 4 * c) : Pc r t n u s k s2 k1 := ⟨h.1.tr g, h.2.1, by have := h.2.2.1; omega, by have := h.2.2.2; omega⟩
/-- what a parse at hand has to do with the pure one -/
def Po {α β : Type} (R : α → β → CS → Prop) (r ta : Nat) (t : Nat → Int) (n u : Nat) (s : CS) (k : Nat) (o : Int ⊕ (β × Nat)) (p : (Nat ⊕ α) × CS) : Prop := Pb r s p.2 ∧ match o with
  | .inl e => (∃ q, p.1 = .inl q ∧ isK p.2 q [10] = true ∧ cI p.2 1000 q = i32 e) ∧ cz p.2 ≤ cz s + 16 * (n - tP t n k) + 1 ∧ cl p.2 ≤ cl s + 64 * (n - tP t n k) + 7
  | .inr (b, k') => (∃ a, p.1 = .inr a ∧ R a b p.2) ∧ Rf p.2 r ta t n (tP t n k') ∧ Pc r t n u s k p.2 k'
def bP {β γ : Type} (o : Int ⊕ (β × Nat)) (K : β → Nat → Int ⊕ (γ × Nat)) : Int ⊕ (γ × Nat) := match o with
  | .inl e => .inl e
  | .inr (b, k) => K b k
section RD
variable {r ta n : Nat} {t : Nat → Int} {st : Nat → Option Nat} {s : CS} {nf : Nat}
theorem Po.mz {α β : Type} {R : α → β → CS → Prop} {u k : Nat} {o : Option ((Nat ⊕ α) × CS)} {x : Int ⊕ (β × Nat)} (h : Ok o (Po R r ta t n u s k x)) : Ok (mz s (fun z => z.2) o) (Po R r ta t n u s k x) := ok_mz h fun z hz => ⟨hz.1.2.2.1, hz.1.2.2.2⟩
/-- behind a first parse -/
theorem Po.of {α β : Type} {R : α → β → CS → Prop} {u v k k1 : Nat} {s1 : CS} {x : Int ⊕ (β × Nat)} {p : (Nat ⊕ α) × CS} (h1 : Pc r t n u s k s1 k1) (h : Po R r ta t n v s1 k1 x p) : Po R r ta t n (u + v) s k x p := by
  refine ⟨h1.1.tr h.1, ?_⟩
  obtain ⟨h, g⟩ := h
  obtain ⟨f1, f2, f3, f4⟩ := id h1
  cases x with
  | inl e => exact ⟨g.1, by have := g.2.1; omega, by have := g.2.2; omega⟩
  | inr y => exact ⟨g.1, g.2.1, h1.tr g.2.2⟩
theorem Po.le {α β : Type} {R : α → β → CS → Prop} {u v k : Nat} {x : Int ⊕ (β × Nat)} {p : (Nat ⊕ α) × CS} (h : Po R r ta t n u s k x p) (g : v ≤ u) : Po R r ta t n v s k x p := by
  refine ⟨h.1, ?_⟩
  obtain ⟨h, f⟩ := h
  cases x with
  | inl e => exact f
  | inr y => exact ⟨f.1, f.2.1, f.2.2.le g⟩
theorem ok_thr {α β γ δ : Type} {R : α → β → CS → Prop} {R' : γ → δ → CS → Prop} {u v k : Nat} {o : Option ((Nat ⊕ α) × CS)} {x : Int ⊕ (β × Nat)} {K : α → CS → Option ((Nat ⊕ γ) × CS)} {f : β → Nat → Int ⊕ (δ × Nat)} (h : Ok o (Po R r ta t n u s k x)) (hk : ∀ a b k1 s1, x = .inr (b, k1) → Pc r t n u s k s1 k1 → R a b s1 → Rf s1 r ta t n (tP t n k1) → Ok (K a s1) (Po R' r ta t n v s k (f b k1))) : Ok (thr o K) (Po R' r ta t n v s k (bP x f)) := by
  obtain ⟨⟨w, s'⟩, h1, h2, h3⟩ := h
  subst h1
  cases x with
  | inl e =>
    obtain ⟨⟨q, e1, e2, e3⟩, e4⟩ := h3
    have e1 : w = .inl q := e1
    subst e1
    exact ok_s ⟨h2, ⟨q, rfl, e2, e3⟩, e4⟩
  | inr y =>
    obtain ⟨b, kk⟩ := y
    obtain ⟨⟨a, e1, e2⟩, e3, e4⟩ := h3
    have e1 : w = .inr a := e1
    subst e1
    exact hk a b kk s' rfl e4 e2 e3
theorem ok_w10 {o : Nat} {kd f : Int} (ho : s.1 o = some (true, 10, 0)) : Ok (FX10_init st o (i32 kd) (i32 f) s) fun s' => Ex o s s' ∧ s'.1 = s.1 ∧ cz s' = cz s ∧ cl s' = cl s ∧ cI s' 1000 o = i32 (kd + 16 * f) := by
  have M : ∀ {o' : Option CS} {Q : CS → Prop}, Ok o' (fun s' => cz s' = cz s ∧ cl s' = cl s ∧ Q s') → Ok (mz s (fun z => z) o') (fun s' => cz s' = cz s ∧ cl s' = cl s ∧ Q s') := fun h => ok_mz h fun z hz => ⟨by rw [hz.1]; exact Nat.le_refl _, by rw [hz.2.1]; exact Nat.le_refl _⟩
  have A : Ok (FJ11_init_2 st o none none 0 0 s) fun s' => cz s' = cz s ∧ cl s' = cl s ∧ Ex o s s' ∧ s'.1 = s.1 := by
    unfold FJ11_init_2
    refine M ?_
    refine ok_pR ho rfl (ok_pR (by exact ho) rfl (ok_pR (by exact ho) rfl ?_))
    rw [if_pos (show (0 : Int32) = 0 from rfl)]
    refine ok_pR (by exact ho) rfl ?_
    unfold FJ11_init_2_b41
    refine ok_pR (by exact ho) rfl (ok_pR (by exact ho) rfl ?_)
    rw [if_pos (show (0 : Int32) = 0 from rfl)]
    refine ok_pR (by exact ho) rfl (ok_s ⟨rfl, rfl, ?_, rfl⟩)
    have e := Nat.le_refl o
    exact ((((((Ex.uR e).tr (Ex.uR e)).tr (Ex.uR e)).tr (Ex.uR e)).tr (Ex.uR e)).tr (Ex.uR e)).tr (Ex.uR e)
  have B : Ok (FJ13_init st o none none 0 0 s) fun s' => cz s' = cz s ∧ cl s' = cl s ∧ Ex o s s' ∧ s'.1 = s.1 := by
    unfold FJ13_init FJ12_init
    exact M (ok_b (M (ok_b A fun z hz => ok_s hz)) fun z hz => ok_s hz)
  unfold FX10_init
  refine ok_w (M (Q := fun s' => Ex o s s' ∧ s'.1 = s.1 ∧ cI s' 1000 o = i32 (kd + 16 * f)) (ok_b B fun s1 hs => ?_)) fun p hp => ⟨hp.2.2.1, hp.2.2.2.1, hp.1, hp.2.1, hp.2.2.2.2⟩
  obtain ⟨g1, g2, g3, g4⟩ := hs
  refine ok_pI (by rw [g4]; exact ho) rfl (ok_s ⟨g1, g2, g3.tr (Ex.uI (Nat.le_refl _)), g4, ?_⟩)
  rw [rI_t, show (16 : Int32) = i32 16 from rfl, i32_mul, i32_add]
theorem ok_wrong (hr : s.1 r = some (true, 1, 0)) (hF : Fh s) {kd f : Int} (h4 : cI s 104 r = i32 f) : Ok (FX1_wrong st r (i32 kd) s) fun p => ∃ q, p.1 = some q ∧ isK p.2 q [10] = true ∧ cI p.2 1000 q = i32 (kd + 16 * f) ∧ Pb r s p.2 ∧ cz p.2 = cz s + 1 ∧ cl p.2 = cl s + 7 := by
  have hlt := hF _ _ _ _ hr
  have hk : (uN s 10 0 7).1 (cz s) = some (true, 10, 0) := if_pos rfl
  have hx : Ex (cz s) s (uN s 10 0 7) := Ex.uN (Nat.le_refl _)
  have hy := hx r hlt
  unfold FX1_wrong
  refine ok_mz ?_ fun z hz => ?_
  rotate_left
  · obtain ⟨q, _, _, _, hz⟩ := hz
    exact ⟨hz.1.2.2.1, hz.1.2.2.2⟩
  refine ok_gd hr rfl ?_
  unfold nwO
  refine ok_gI (by rw [hy.1]; exact hr) rfl ?_
  rw [hy.2.1, h4]
  refine ok_b (ok_w10 hk) fun s' hs => ?_
  obtain ⟨g1, g2, g3, g4, g5⟩ := hs
  refine ok_s ⟨cz s, rfl, isK_o (by rw [g2]; exact hk) rfl, g5, ⟨Fp.x (hx.tr g1), (hF.uN).e g2 g3, ?_, ?_⟩, g3, g4⟩
  · rw [g3]; show cz s ≤ cz s + 1; omega
  · rw [g4]; show cl s ≤ cl s + 7; omega
/-- a throw of a Wrong -/
theorem ok_tw {α β : Type} {R : α → β → CS → Prop} {u k : Nat} (hr : s.1 r = some (true, 1, 0)) (hF : Fh s) {kd f : Int} (h4 : cI s 104 r = i32 f) : Ok (bd2 (FX1_wrong st r (i32 kd) s) fun r4 s3 => nn r4 fun p5 => gd (isK s3 p5 [10]) (some ((.inl p5 : Nat ⊕ α), s3))) (Po R r ta t n u s k (.inl (kd + 16 * f) : Int ⊕ (β × Nat))) := by
  refine ok_2 (ok_wrong hr hF h4) fun a b h => ?_
  obtain ⟨q, h1, h2, h3, h5, h6, h7⟩ := h
  have h1 : a = some q := h1
  have h6 : cz b = cz s + 1 := h6
  have h7 : cl b = cl s + 7 := h7
  subst h1
  exact ok_nn (ok_g h2 (ok_s ⟨h5, ⟨q, rfl, h2, h3⟩, by show cz b ≤ _; omega, by show cl b ≤ _; omega⟩))
/-- a token taken pays 16 cells -/
theorem Pc.nx {s' : CS} {k : Nat} (hF : Fh s) (h : tP t n k < n) (hn : Fn r s s') : Pc r t n 16 s k s' (k + 1) := by
  have h1 : tP t n (k + 1) = run t n isB (tE t n (tP t n k)) := rfl
  have h2 := (tE_b (t := t) (n := n) (f := tP t n k)).1 h
  have h3 := run_le t n isB (tE t n (tP t n k))
  have h4 := h3.2 h2.2
  refine ⟨Pb.n hF hn, by omega, ?_, ?_⟩
  · rw [hn.2.2.2.2.2.1]; omega
  · rw [hn.2.2.2.2.2.2]; omega
/-- whether the token at f is the sign c -/
def isSg (t : Nat → Int) (n : Nat) (c : Int) (f : Nat) : Bool := decide (tS t n f = 3 ∧ t f = c)
theorem c_isSign (hT : TO t n) {f : Nat} (hf : f ≤ n) (hR : Rf s r ta t n f) {c : Int} (hc : 0 ≤ c ∧ c ≤ 126) : FX1_isSign s r (i32 c) = some (bi (isSg t n c f)) := by
  obtain ⟨⟨h1, h2, h3, h4, h5⟩, g2, g3, g4, g5⟩ := id hR
  have hn := hT.1
  have hs := (tS_b (t := t) (n := n) (f := f))
  have k1 : isK s r [1] = true := isK_o h1 rfl
  unfold FX1_isSign isSg
  rw [gd_t k1, gI_t k1, g3, show (3 : Int32) = i32 3 from rfl]
  by_cases q : tS t n f = 3
  · have hfn : f < n := by
      refine Decidable.byContradiction fun z => ?_
      have := hs.2.mpr (by omega)
      omega
    have ht := hT.2 f hfn
    rw [if_pos (by rw [q]; rfl), gR_t k1, h3, gI_t k1, g4, nn_eq, lI_i h2 (by omega) (by omega) (by omega), Int.toNat_natCast, h5 f hfn]
    by_cases e : t f = c
    · rw [if_pos (by rw [e]), decide_eq_true ⟨q, e⟩]
      rfl
    · rw [if_neg (fun z => e ((i32_eq (a := t f) (b := c) ⟨by omega, by omega⟩ ⟨by omega, by omega⟩).mp z)), decide_eq_false (fun z => e z.2)]
      rfl
  · rw [if_neg (show ¬ i32 (tS t n f : Int) = i32 3 from fun z => q (by have := (i32_eq (a := (tS t n f : Int)) (b := 3) ⟨by omega, by omega⟩ ⟨by omega, by omega⟩).mp z; omega)), decide_eq_false (fun z => q z.1)]
    rfl
theorem tS_lt {f : Nat} (h : ¬ tS t n f = 0) : f < n := by
  refine Decidable.byContradiction fun z => h ?_
  exact (tS_b (t := t) (n := n) (f := f)).2.mpr (by omega)
theorem isSg_lt {c : Int} {f : Nat} (h : isSg t n c f = true) : f < n := tS_lt (t := t) fun z => by
  have e : tS t n f = 3 ∧ t f = c := of_decide_eq_true h
  omega
theorem whV_lt {ws : List (List Int)} {f : Nat} (h : 0 ≤ whV ws t n f) : f < n := tS_lt (t := t) fun z => by
  have e : whV ws t n f = -1 := if_neg (fun y => by rw [z] at y; cases y)
  rw [e] at h
  exact absurd h (by decide)
/-- a token that must be there -/
def ndP (b : Bool) (f k : Nat) : Int ⊕ (Unit × Nat) := if b = true then .inr ((), k + 1) else .inl (1 + 16 * (f : Int))
/-- the reader's depth and town stay -/
def K6 (r : Nat) (s s' : CS) : Prop := cI s' 106 r = cI s 106 r ∧ ∀ f, cR s' f r = cR s f r
theorem K6.tr {r : Nat} {s s1 s2 : CS} (h : K6 r s s1) (k : K6 r s1 s2) : K6 r s s2 := ⟨k.1.trans h.1, fun f => (k.2 f).trans (h.2 f)⟩
theorem K6.fn {r : Nat} {s s' : CS} (h : Fn r s s') : K6 r s s' := ⟨h.2.1 _ _ (fun z => by omega), fun f => by rw [h.2.2.1]⟩
theorem Po.im {α β : Type} {R R' : α → β → CS → Prop} {u k : Nat} {x : Int ⊕ (β × Nat)} {p : (Nat ⊕ α) × CS} (g : ∀ a b s', R a b s' → R' a b s') (h : Po R r ta t n u s k x p) : Po R' r ta t n u s k x p := by
  refine ⟨h.1, ?_⟩
  obtain ⟨h, f⟩ := h
  cases x with
  | inl e => exact f
  | inr y =>
    obtain ⟨⟨a, f1, f2⟩, f3⟩ := f
    exact ⟨⟨a, f1, g _ _ _ f2⟩, f3⟩
theorem Po.wp {α β : Type} {R : α → β → CS → Prop} {u k : Nat} {x : Int ⊕ (β × Nat)} {p : (Nat ⊕ α) × CS} (h : Po R r ta t n u s k x p) : Po (fun a b s' => R a b s' ∧ Pb r s s') r ta t n u s k x p := by
  refine ⟨h.1, ?_⟩
  obtain ⟨h, f⟩ := h
  cases x with
  | inl e => exact f
  | inr y =>
    obtain ⟨⟨a, f1, f2⟩, f3⟩ := f
    exact ⟨⟨a, f1, f2, h⟩, f3⟩
def RU {α : Type} (r : Nat) (s : CS) (_ : Unit) (_ : α) (s' : CS) : Prop := K6 r s s'
theorem ok_need_2 (hn : 2000 ≤ nf) (hT : TO t n) (hK : Kst st s) (hF : Fh s) {k : Nat} (hR : Rf s r ta t n (tP t n k)) {c : Int} (hc : 0 ≤ c ∧ c ≤ 126) : Ok (FX1_need_2 st nf r (i32 c) s) (Po (RU r s) r ta t n 16 s k (ndP (isSg t n c (tP t n k)) (tP t n k) k)) := by
  have hb := (tP_b (t := t) (n := n) k).1
  unfold FX1_need_2
  refine Po.mz (ok_gd hR.1.1 rfl (ok_be (c_isSign hT hb hR hc) ?_))
  unfold ndP
  cases hsg : isSg t n c (tP t n k) with
  | false =>
    rw [if_pos (show bi false = (0 : Int32) from rfl), if_neg (show ¬ (false = true) by decide)]
    exact ok_tw (kd := 1) hR.1.1 hF hR.2.2.2.1
  | true =>
    rw [if_neg (show ¬ bi true = (0 : Int32) by decide), if_pos rfl]
    have hlt := isSg_lt hsg
    exact ok_b (ok_nextk hn hT hK hR) fun s' hs => ok_s ⟨Pb.n hF hs.1, ⟨(), rfl, K6.fn hs.1⟩, hs.2, Pc.nx hF hlt hs.1⟩
theorem ok_need (hn : 2000 ≤ nf) (hT : TO t n) (hK : Kst st s) (hF : Fh s) {k : Nat} (hR : Rf s r ta t n (tP t n k)) {p : Nat} {ws : List (List Int)} (hS : Sc s p (joinW ws)) (hw : ∀ x ∈ ws, ∀ z ∈ x, ¬ z = 32) (hl : ws.length < 100) : Ok (FX1_need st nf r p s) (Po (RU r s) r ta t n 16 s k (ndP (decide (0 ≤ whV ws t n (tP t n k))) (tP t n k) k)) := by
  have hb := whV_b ws t n (tP t n k)
  unfold FX1_need
  refine Po.mz (ok_gd hR.1.1 rfl (ok_be (c_which (by omega) hT hR hS hw hl) ?_))
  unfold ndP
  rw [show (0 : Int32) = i32 0 from rfl]
  refine ok_le ⟨by omega, by omega⟩ ⟨by omega, by omega⟩ (fun q => ?_) (fun q => ?_)
  · rw [decide_eq_true q, if_pos rfl]
    have hlt := whV_lt q
    exact ok_b (ok_nextk hn hT hK hR) fun s' hs => ok_s ⟨Pb.n hF hs.1, ⟨(), rfl, K6.fn hs.1⟩, hs.2, Pc.nx hF hlt hs.1⟩
  · rw [decide_eq_false (show ¬ 0 ≤ whV ws t n (tP t n k) by omega), if_neg (show ¬ (false = true) by decide)]
    exact ok_tw (kd := 1) hR.1.1 hF hR.2.2.2.1
/-- a number in its bounds -/
def nmP (t : Nat → Int) (n : Nat) (lo hi : Int) (f k : Nat) : Int ⊕ (Int × Nat) := if tS t n f = 2 then if nV t n f < lo then .inl (4 + 16 * (f : Int)) else if nV t n f ≤ hi then .inr (nV t n f, k + 1) else .inl (4 + 16 * (f : Int)) else .inl (1 + 16 * (f : Int))
def RN (r : Nat) (s : CS) (a : Int32) (b : Int) (s' : CS) : Prop := a = i32 b ∧ K6 r s s'
theorem tS_2 {f : Nat} (h : tS t n f = 2) : f < n ∧ isL (t f) = false ∧ isD (t f) = true := by
  have q : ¬ n ≤ f := fun z => by rw [(tS_b.2).mpr z] at h; cases h
  unfold tS at h
  rw [if_neg q] at h
  cases hl : isL (t f) with
  | true =>
    rw [hl, if_pos rfl] at h
    split at h <;> omega
  | false =>
    rw [hl, if_neg (by decide)] at h
    cases hd : isD (t f) with
    | true => exact ⟨by omega, rfl, rfl⟩
    | false =>
      rw [hd, if_neg (by decide)] at h
      split at h <;> omega
theorem ok_number_2 (hn : 2000 ≤ nf) (hT : TO t n) (hK : Kst st s) (hF : Fh s) {k : Nat} (hR : Rf s r ta t n (tP t n k)) {lo hi : Int} (hlo : ok32 lo) (hhi : ok32 hi) : Ok (FX1_number_2 st nf r (i32 lo) (i32 hi) s) (Po (RN r s) r ta t n 16 s k (nmP t n lo hi (tP t n k) k)) := by
  have hs := (tS_b (t := t) (n := n) (f := tP t n k)).1
  obtain ⟨⟨h1, h2, h3, h4, h5⟩, g2, g3, g4, g5⟩ := id hR
  unfold FX1_number_2
  refine Po.mz (ok_gd h1 rfl (ok_gI h1 rfl ?_))
  rw [g3, show (2 : Int32) = i32 2 from rfl]
  unfold nmP
  refine ok_q ⟨by omega, by omega⟩ ⟨by omega, by omega⟩ (fun q => ?_) (fun q => ?_)
  · have q : tS t n (tP t n k) = 2 := by omega
    have hlt := (tS_2 q).1
    have hv := nV_b (tS_2 q).1 (tS_2 q).2.2 (tS_2 q).2.1
    rw [if_pos q]
    refine ok_gI h1 rfl ?_
    rw [g5 q]
    refine ok_lt ⟨by omega, by omega⟩ hlo (fun q1 => ?_) (fun q1 => ?_)
    · rw [if_pos q1]
      exact ok_tw (kd := 4) h1 hF g4
    · rw [if_neg (show ¬ nV t n (tP t n k) < lo by omega)]
      refine ok_gI h1 rfl ?_
      rw [g5 q]
      refine ok_le ⟨by omega, by omega⟩ hhi (fun q2 => ?_) (fun q2 => ?_)
      · rw [if_pos q2]
        refine ok_gI h1 rfl ?_
        rw [g5 q]
        exact ok_b (ok_nextk hn hT hK hR) fun s' hs => ok_s ⟨Pb.n hF hs.1, ⟨_, rfl, rfl, K6.fn hs.1⟩, hs.2, Pc.nx hF hlt hs.1⟩
      · rw [if_neg (show ¬ nV t n (tP t n k) ≤ hi by omega)]
        exact ok_tw (kd := 4) h1 hF g4
  · rw [if_neg (show ¬ tS t n (tP t n k) = 2 by omega)]
    exact ok_tw (kd := 1) h1 hF g4
theorem ok_number (hn : 2000 ≤ nf) (hT : TO t n) (hK : Kst st s) (hF : Fh s) {k : Nat} (hR : Rf s r ta t n (tP t n k)) {p : Nat} {ws : List (List Int)} (hS : Sc s p (joinW ws)) (hw : ∀ x ∈ ws, ∀ z ∈ x, ¬ z = 32) (hl : ws.length < 100) {lo hi : Int} (hlo : ok32 lo) (hhi : ok32 hi) : Ok (FX1_number st nf r p (i32 lo) (i32 hi) s) (Po (RN r s) r ta t n 32 s k (bP (ndP (decide (0 ≤ whV ws t n (tP t n k))) (tP t n k) k) fun _ k1 => nmP t n lo hi (tP t n k1) k1)) := by
  unfold FX1_number
  refine Po.mz (ok_gd hR.1.1 rfl ?_)
  refine ok_thr (ok_need hn hT hK hF hR hS hw hl) fun a b k1 s1 hx hc hu hR1 => ?_
  obtain ⟨⟨u, s2⟩, e1, e2⟩ := ok_number_2 hn hT (hK.b hF hc.1) hc.1.2.1 hR1 hlo hhi
  rw [e1]
  cases u with
  | inl q => exact ok_s (Po.im (fun a b s' z => ⟨z.1, hu.tr z.2⟩) (Po.of hc e2))
  | inr v => exact ok_s (Po.im (fun a b s' z => ⟨z.1, hu.tr z.2⟩) (Po.of hc e2))
end RD
