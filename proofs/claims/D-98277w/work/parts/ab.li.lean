/-! LAYER 2: a line of a light: the component -/
set_option maxRecDepth 100000
section LI
variable {r ta n z0 o : Nat} {t : Nat → Int} {st : Nat → Option Nat} {s s' : CS} {nf : Nat} {ρ0 : Nat → Nat × Nat} {w w' : TV} {k k' : Nat}
/-- a light set -/
theorem Uwx.li (hW : TW w.1) (h : Ust st r ta t n z0 o ρ0 w s k) {c l la : Nat} {kd rd ov le : Int} (hc : c < 54) (hla : cR s 209 o = some la) (hk : ∀ a, a < cz s → s'.1 a = s.1 a) (hz : cz s ≤ cz s') (hg : ∀ a, a < cz s → ¬ a = o → ¬ a = la → Fg s s' a ∧ cI s' 106 a = cI s 106 a) (ho : (∀ f, ¬ f = 206 → ¬ f = 207 → cI s' f o = cI s f o) ∧ cI s' 206 o = i32 (if kd < 2 then lcI (w.1 9) rd else w.1 9) ∧ ∀ f, cR s' f o = cR s f o) (hq : ∀ i, cQ s' la i = if i = c then some l else cQ s la i) (hkd : 0 ≤ kd ∧ kd ≤ 3) (hl : (∃ wr m, s'.1 l = some (wr, 12 + kd.toNat, m)) ∧ cI s' 1100 l = i32 rd ∧ cI s' 1101 l = i32 ov ∧ cI s' 1102 l = i32 le) : Uwx z0 r o ρ0 (liS w c kd rd ov le) s' := by
  obtain ⟨h1, h2, h3, h4, ⟨h5, h6, hh, nb, ρ, h9, rfl, h10⟩, h7, h8⟩ := h
  obtain ⟨⟨q1, q2, q3⟩, -⟩ := id h9
  obtain ⟨r0, r1, r2, r3, r4, r5, r6, r7, r8⟩ := q2
  rw [r3] at hla
  cases hla
  have hro : ¬ r = hh 1 := fun e => by have := h9.2.2.2.2.2.1.1; omega
  have hrl : ¬ r = hh 8 := fun e => by have := h9.2.2.2.2.1 8 (by omega) (by omega); omega
  have hlo := h1 _ _ _ _ q1
  have hll := h1 _ _ _ _ r5
  have hlb := h1 _ _ _ _ r6
  have gr := hg r (by omega) hro hrl
  have gb := hg (hh 9) hlb (fun e => by rw [e, q1] at r6; cases r6) (fun e => by rw [e, r5] at r6; cases r6)
  have R := liS_r (w := w) (c := c) (kd := kd) (rd := rd) (ov := ov) (le := le)
  have R0 : ∀ j, ¬ j = 7 → ¬ j = 9 → ¬ (10 + 4 * c ≤ j ∧ j ≤ 13 + 4 * c) → (liS w c kd rd ov le).1 j = w.1 j := fun j z1 z2 z3 => by
    rw [R, if_neg z1, if_neg (by omega), if_neg (by omega), if_neg (by omega), if_neg (by omega), if_neg z2]
  have R10 : (liS w c kd rd ov le).1 (10 + 4 * c) = 1 + kd := by rw [R, if_neg (by omega), if_neg (by omega), if_neg (by omega), if_neg (by omega), if_pos rfl]
  have R11 : (liS w c kd rd ov le).1 (11 + 4 * c) = rd := by rw [R, if_neg (by omega), if_neg (by omega), if_neg (by omega), if_pos rfl]
  have R12 : (liS w c kd rd ov le).1 (12 + 4 * c) = ov := by rw [R, if_neg (by omega), if_neg (by omega), if_pos rfl]
  have R13 : (liS w c kd rd ov le).1 (13 + 4 * c) = le := by rw [R, if_neg (by omega), if_pos rfl]
  have R9 : (liS w c kd rd ov le).1 9 = if kd < 2 then lcI (w.1 9) rd else w.1 9 := by rw [R, if_neg (by omega), if_neg (by omega), if_neg (by omega), if_neg (by omega), if_neg (by omega), if_pos rfl]
  refine ⟨by rw [gr.1.2.2.1 _ (by decide)]; exact h5, by rw [gr.2]; exact h6, hh, nb, ρ, ?_, rfl, h10⟩
  refine h9.g h1 hk hz ⟨ho.2.2 _, ho.2.2 _⟩ (fun a cc m wr e q => (hg a (h1 _ _ _ _ e) (fun z => ?_) (fun z => ?_)).1) ?_ ?_ rfl
  · rw [z, q1] at e
    cases e
    omega
  · rw [z, r5] at e
    cases e
    omega
  · refine ⟨isK_e (hk _ hlo) r0, by rw [ho.1 _ (by decide) (by decide), R0 0 (by omega) (by omega) (by omega)]; exact r1, by rw [ho.1 _ (by decide) (by decide), R0 1 (by omega) (by omega) (by omega)]; exact r2, by rw [ho.2.2]; exact r3, by rw [ho.2.2]; exact r4, by rw [hk _ hll]; exact r5, by rw [hk _ hlb]; exact r6, fun i hi => by rw [gb.1.2.2.2.1, R0 _ (by omega) (by omega) (by omega)]; exact r7 i hi, fun i hi => ?_⟩
    rw [hq]
    by_cases z : i = c
    · rw [if_pos z, z, R10]
      obtain ⟨⟨wr, m, l1⟩, l2, l3, l4⟩ := hl
      refine .inr ⟨by omega, l, rfl, ⟨wr, m, ?_⟩, by rw [R11]; exact l2, by rw [R12]; exact l3, by rw [R13]; exact l4⟩
      rw [l1, R10]
      congr 3
      omega
    · rw [if_neg z, R0 _ (by omega) (by omega) (by omega)]
      rcases r8 i hi with y | ⟨z1, l', z2, ⟨⟨lw, ln, y1⟩, y2, y3, y4⟩⟩
      · exact .inl y
      · have hl' := h1 _ _ _ _ y1
        have gl := (hg l' hl' (fun e => by
          rw [e, q1] at y1
          have := congrArg (fun x => x.2.1) (Option.some.inj y1)
          have : 2 = 11 + (w.1 (10 + 4 * i)).toNat := this
          omega) (fun e => by
          rw [e, r5] at y1
          have h2 := congrArg (fun x => x.2.1) (Option.some.inj y1)
          have h2 : 104 = 11 + (w.1 (10 + 4 * i)).toNat := h2
          have := (hW.2.2.2.2.2.2.2.2.2.2.1 i hi).1
          omega)).1
        exact .inr ⟨z1, l', z2, ⟨lw, ln, by rw [gl.1, R0 _ (by omega) (by omega) (by omega)]; exact y1⟩, by rw [gl.2.1 _ (by decide), R0 _ (by omega) (by omega) (by omega)]; exact y2, by rw [gl.2.1 _ (by decide), R0 _ (by omega) (by omega) (by omega)]; exact y3, by rw [gl.2.1 _ (by decide), R0 _ (by omega) (by omega) (by omega)]; exact y4⟩
  · obtain ⟨t1, t2, t3, t4, t5, t6⟩ := q3
    show Rt2 s' (liS w c kd rd ov le).1 w.2.1 (hh 1)
    unfold Rt2
    rw [R9, R0 2 (by omega) (by omega) (by omega), R0 3 (by omega) (by omega) (by omega), R0 4 (by omega) (by omega) (by omega), R0 5 (by omega) (by omega) (by omega), R0 6 (by omega) (by omega) (by omega), ho.1 202 (by decide) (by decide), ho.1 203 (by decide) (by decide), ho.1 204 (by decide) (by decide), ho.1 205 (by decide) (by decide), ho.1 208 (by decide) (by decide)]
    exact ⟨t1, t2, t3, t4, ho.2.1, t6⟩
theorem li_11 {l : Nat} {a b c : Int32} {cc : Nat} (hc : cc = 12 ∨ cc = 13 ∨ cc = 14 ∨ cc = 15) (hl : s.1 l = some (true, cc, 0)) : FX11_init l a b c s = some (uI (uI (uI s 1100 l a) 1101 l b) 1102 l c) := by
  have hk : [12, 13, 14, 15].contains cc = true := by
    rcases hc with rfl | rfl | rfl | rfl <;> rfl
  unfold FX11_init pI
  rw [if_pos (isW_o hl hk)]
  dsimp only
  rw [if_pos (isW_o (s := uI s 1100 l a) hl hk)]
  rw [if_pos (isW_o (s := uI (uI s 1100 l a) 1101 l b) hl hk)]
  exact mz_s ⟨Nat.le_refl _, Nat.le_refl _⟩
/-- the light object made and set -/
theorem li_230 (hT : TO t n) (hW : TW w.1) {s0 : CS} {k0 u : Nat} (h0 : Pcz r t n z0 (u + 1) s0 k0 s k) {c x y : Nat} {kd rd ov le : Int} (h : Ust st r ta t n z0 o ρ0 w s k) {la : Nat} {all : Int} (hla : cR s 209 o = some la) (hlz : z0 ≤ la ∧ s.1 la = some (true, 104, 54)) (hc : c = 6 * y + x ∧ c < 54) (hkd : 0 ≤ kd ∧ kd ≤ 3) (hs : (∀ a, a < cz s → s'.1 a = s.1 a) ∧ (∀ f a, ¬ (a = o ∧ (f = 206 ∨ f = 207)) → cI s' f a = cI s f a) ∧ cR s' = cR s ∧ cA s' = cA s ∧ cQ s' = cQ s ∧ cz s' = cz s ∧ cl s' = cl s ∧ s'.1 = s.1) (h206 : cI s' 206 o = i32 (if kd < 2 then lcI (w.1 9) rd else w.1 9)) : Ok (FX1_light_b230 st nf r (i32 (x : Int)) (i32 (y : Int)) (i32 kd) (i32 rd) (i32 ov) (i32 le) s') (Poz (RLN z0 r o ρ0) r ta t n z0 u s0 k0 (.inr (liS w c kd rd ov le, k))) := by
  obtain ⟨hc, hc54⟩ := hc
  obtain ⟨e1, e2, e3, e4, e5, e6, e7, e8⟩ := hs
  obtain ⟨o1, o2, o3, o4, o5, o6⟩ := h.ob
  have hF := h.1
  have hF' : Fh s' := hF.e e8 e6
  have hr := h.2.2.1.1.1
  have hrz := h.2.2.2.2.2.1
  have hz := h.2.2.2.1
  have hr' : s'.1 r = some (true, 1, 0) := by rw [e8]; exact hr
  have ho' : s'.1 o = some (true, 2, 0) := by rw [e8]; exact o2
  unfold FX1_light_b230
  refine ok_gRs hr' rfl (by rw [e3]; exact o1) ?_
  rw [nn_eq]
  refine ok_gRs ho' rfl (by rw [e3]; exact hla) ?_
  -- the four kinds alike
  have G : ∀ (cc : Nat) (init : Nat → Int32 → Int32 → Int32 → CS → Option CS), cc = 12 + kd.toNat → (∀ l a b d S, S.1 l = some (true, cc, 0) → init l a b d S = some (uI (uI (uI S 1100 l a) 1101 l b) 1102 l d)) → Ok (nwO s' cc 3 fun o19 s20 => (init o19 (i32 rd) (i32 ov) (i32 le) s20).bind fun s21 => nn (some la) fun p22 => gd (isK s21 o19 [12, 13, 14, 15]) (tR_ s21 p22 104 ((i32 (y : Int) * 6) + i32 (x : Int)) (some o19) fun s23 => some ((.inr () : Nat ⊕ Unit), s23))) (Poz (RLN z0 r o ρ0) r ta t n z0 u s0 k0 (.inr (liS w c kd rd ov le, k))) := fun cc init hcc hin => by
    unfold nwO
    have hk1 : (uN s' cc 0 3).1 (cz s') = some (true, cc, 0) := if_pos rfl
    have hx := fun a (ha : a < cz s') => rN (s := s') (c := cc) (n := 0) (k := 3) ha
    have hFN : Fh (uN s' cc 0 3) := hF'.uN
    have hzN : cz (uN s' cc 0 3) = cz s' + 1 := rfl
    have hlN : cl (uN s' cc 0 3) = cl s' + 3 := rfl
    dsimp only
    rw [hin _ _ _ _ _ hk1, bd_eq, nn_eq]
    generalize uN s' cc 0 3 = s4 at *
    have hkk : [12, 13, 14, 15].contains cc = true := by
      rcases (show kd = 0 ∨ kd = 1 ∨ kd = 2 ∨ kd = 3 by omega) with z | z | z | z <;> rw [hcc, z] <;> rfl
    refine ok_gd (s := uI (uI (uI s4 1100 (cz s') (i32 rd)) 1101 (cz s') (i32 ov)) 1102 (cz s') (i32 le)) hk1 hkk ?_
    have hla4 : s4.1 la = some (true, 104, 54) := by rw [(hx la (by have := hF _ _ _ _ hlz.2; omega)).1, e8]; exact hlz.2
    rw [c_ix, ← hc]
    refine ok_tR (s := uI (uI (uI s4 1100 (cz s') (i32 rd)) 1101 (cz s') (i32 ov)) 1102 (cz s') (i32 le)) hla4 (by omega) (by omega) (by omega) ?_
    rw [Int.toNat_natCast]
    have F : ∀ a, a < cz s → ¬ a = o → ¬ a = la → (uQ (uI (uI (uI s4 1100 (cz s') (i32 rd)) 1101 (cz s') (i32 ov)) 1102 (cz s') (i32 le)) la c (some (cz s'))).1 a = s.1 a ∧ (∀ f, cI (uQ (uI (uI (uI s4 1100 (cz s') (i32 rd)) 1101 (cz s') (i32 ov)) 1102 (cz s') (i32 le)) la c (some (cz s'))) f a = cI s f a) ∧ (∀ f, cR (uQ (uI (uI (uI s4 1100 (cz s') (i32 rd)) 1101 (cz s') (i32 ov)) 1102 (cz s') (i32 le)) la c (some (cz s'))) f a = cR s f a) ∧ cA (uQ (uI (uI (uI s4 1100 (cz s') (i32 rd)) 1101 (cz s') (i32 ov)) 1102 (cz s') (i32 le)) la c (some (cz s'))) a = cA s a ∧ cQ (uQ (uI (uI (uI s4 1100 (cz s') (i32 rd)) 1101 (cz s') (i32 ov)) 1102 (cz s') (i32 le)) la c (some (cz s'))) a = cQ s a := fun a ha q1 q2 => by
      obtain ⟨x1, x2, x3, x4, x5⟩ := hx a (by omega)
      have hn1 : ¬ a = cz s' := by omega
      refine ⟨?_, fun f => ?_, fun f => ?_, ?_, ?_⟩
      · show s4.1 a = _
        rw [x1, e8]
      · show cI (uI (uI (uI s4 1100 (cz s') (i32 rd)) 1101 (cz s') (i32 ov)) 1102 (cz s') (i32 le)) f a = _
        rw [rI_a hn1, rI_a hn1, rI_a hn1, x2, e2 f a (fun z => q1 z.1)]
      · show cR s4 f a = _
        rw [x3, e3]
      · show cA s4 a = _
        rw [x4, e4]
      · have : cQ (uQ (uI (uI (uI s4 1100 (cz s') (i32 rd)) 1101 (cz s') (i32 ov)) 1102 (cz s') (i32 le)) la c (some (cz s'))) a = cQ s4 a := if_neg q2
        rw [this, x5, e5]
    have hK : ∀ a, a < cz s → (uQ (uI (uI (uI s4 1100 (cz s') (i32 rd)) 1101 (cz s') (i32 ov)) 1102 (cz s') (i32 le)) la c (some (cz s'))).1 a = s.1 a := fun a ha => by
      show s4.1 a = _
      rw [(hx a (by omega)).1, e8]
    have hU : Uwx z0 r o ρ0 (liS w c kd rd ov le) (uQ (uI (uI (uI s4 1100 (cz s') (i32 rd)) 1101 (cz s') (i32 ov)) 1102 (cz s') (i32 le)) la c (some (cz s'))) := by
      refine Uwx.li (l := cz s') hW h hc54 hla hK (by show cz s ≤ cz s4; omega) (fun a ha q1 q2 => ?_) ⟨fun f q1 q2 => ?_, ?_, fun f => ?_⟩ (fun i => ?_) hkd ⟨⟨true, 0, by show s4.1 (cz s') = _; rw [hk1, hcc]⟩, ?_, ?_, ?_⟩
      · obtain ⟨f1, f2, f3, f4, f5⟩ := F a ha q1 q2
        exact ⟨⟨f1, fun f _ => f2 f, fun f _ => f3 f, f4, f5⟩, f2 106⟩
      · show cI (uI (uI (uI s4 1100 (cz s') (i32 rd)) 1101 (cz s') (i32 ov)) 1102 (cz s') (i32 le)) f o = _
        have hn1 : ¬ o = cz s' := by omega
        rw [rI_a hn1, rI_a hn1, rI_a hn1, (hx o (by omega)).2.1, e2 f o (fun z => by omega)]
      · show cI (uI (uI (uI s4 1100 (cz s') (i32 rd)) 1101 (cz s') (i32 ov)) 1102 (cz s') (i32 le)) 206 o = _
        have hn1 : ¬ o = cz s' := by omega
        rw [rI_a hn1, rI_a hn1, rI_a hn1, (hx o (by omega)).2.1]
        exact h206
      · show cR s4 f o = _
        rw [(hx o (by omega)).2.2.1, e3]
      · rw [rd_uQ]
        by_cases z : i = c
        · rw [if_pos ⟨rfl, z⟩, if_pos z]
        · rw [if_neg (fun y => z y.2), if_neg z]
          show cQ s4 la i = _
          rw [(hx la (by have := hF _ _ _ _ hlz.2; omega)).2.2.2.2, e5]
      · show cI (uI (uI (uI s4 1100 (cz s') (i32 rd)) 1101 (cz s') (i32 ov)) 1102 (cz s') (i32 le)) 1100 (cz s') = _
        rw [rI_n (by decide), rI_n (by decide), rI_t]
      · show cI (uI (uI (uI s4 1100 (cz s') (i32 rd)) 1101 (cz s') (i32 ov)) 1102 (cz s') (i32 le)) 1101 (cz s') = _
        rw [rI_n (by decide), rI_t]
      · show cI (uI (uI (uI s4 1100 (cz s') (i32 rd)) 1101 (cz s') (i32 ov)) 1102 (cz s') (i32 le)) 1102 (cz s') = _
        rw [rI_t]
    have fm : Fm [o, la] s (uQ (uI (uI (uI s4 1100 (cz s') (i32 rd)) 1101 (cz s') (i32 ov)) 1102 (cz s') (i32 le)) la c (some (cz s'))) := ⟨fun a ha => ⟨hK a ha, fun q => (F a ha (fun z => q (by rw [z]; simp)) (fun z => q (by rw [z]; simp))).2⟩, hFN.e rfl rfl, by show cz s ≤ cz s4; omega, by show cl s ≤ cl s4; omega⟩
    have hlall : ∀ a ∈ [o, la], z0 ≤ a := fun a ha => by
      simp at ha
      rcases ha with rfl | rfl
      · exact o3
      · exact hlz.1
    have p3 := h0.al 1 (fm.z (r := r) (z0 := z0) hlall hz) (by show cz s4 ≤ _; omega) (by show cl s4 ≤ _; omega)
    exact ok_s ⟨p3.1, ⟨(), rfl, hU⟩, (h.m fm hlall hU).2.2.1, p3⟩
  have e12 : ∀ l a b d S, S.1 l = some (true, 12, 0) → FX12_init l a b d S = some (uI (uI (uI S 1100 l a) 1101 l b) 1102 l d) := fun l a b d S hS => by
    unfold FX12_init
    rw [li_11 (.inl rfl) hS, bd_eq]
    exact mz_s ⟨Nat.le_refl _, Nat.le_refl _⟩
  have e13 : ∀ l a b d S, S.1 l = some (true, 13, 0) → FX13_init l a b d S = some (uI (uI (uI S 1100 l a) 1101 l b) 1102 l d) := fun l a b d S hS => by
    unfold FX13_init FX12_init
    rw [li_11 (.inr (.inl rfl)) hS, bd_eq, mz_s (p := fun z => z) (s := S) (z := uI (uI (uI S 1100 l a) 1101 l b) 1102 l d) ⟨Nat.le_refl _, Nat.le_refl _⟩, bd_eq]
    exact mz_s ⟨Nat.le_refl _, Nat.le_refl _⟩
  have e14 : ∀ l a b d S, S.1 l = some (true, 14, 0) → FX14_init l a b d S = some (uI (uI (uI S 1100 l a) 1101 l b) 1102 l d) := fun l a b d S hS => by
    unfold FX14_init
    rw [li_11 (.inr (.inr (.inl rfl))) hS, bd_eq]
    exact mz_s ⟨Nat.le_refl _, Nat.le_refl _⟩
  have e15 : ∀ l a b d S, S.1 l = some (true, 15, 0) → FX15_init l a b d S = some (uI (uI (uI S 1100 l a) 1101 l b) 1102 l d) := fun l a b d S hS => by
    unfold FX15_init
    rw [li_11 (.inr (.inr (.inr rfl))) hS, bd_eq]
    exact mz_s ⟨Nat.le_refl _, Nat.le_refl _⟩
  rcases (show kd = 0 ∨ kd = 1 ∨ kd = 2 ∨ kd = 3 by omega) with z | z | z | z
  · subst z
    rw [if_pos (show i32 0 = 0 from rfl)]
    exact G 12 FX12_init rfl e12
  · subst z
    rw [if_neg (show ¬ i32 1 = 0 by decide), if_pos (show i32 1 = 1 from rfl)]
    exact G 13 FX13_init rfl e13
  · subst z
    rw [if_neg (show ¬ i32 2 = 0 by decide), if_neg (show ¬ i32 2 = 1 by decide), if_pos (show i32 2 = 2 from rfl)]
    exact G 14 FX14_init rfl e14
  · subst z
    rw [if_neg (show ¬ i32 3 = 0 by decide), if_neg (show ¬ i32 3 = 1 by decide), if_neg (show ¬ i32 3 = 2 by decide)]
    exact G 15 FX15_init rfl e15
theorem Ust.la (h : Ust st r ta t n z0 o ρ0 w s k) : ∃ la, cR s 209 o = some la ∧ (z0 ≤ la ∧ s.1 la = some (true, 104, 54)) ∧ cI s 206 o = i32 (w.1 9) ∧ ∀ c, c < 54 → (w.1 (10 + 4 * c) = 0 ∧ cQ s la c = none) ∨ (0 < w.1 (10 + 4 * c) ∧ ∃ l, cQ s la c = some l) := by
  obtain ⟨h1, h2, h3, h4, ⟨h5, h6, hh, nb, ρ, h9, rfl, h10⟩, h7, h8⟩ := h
  obtain ⟨⟨q1, q2, q3⟩, -⟩ := id h9
  obtain ⟨r0, r1, r2, r3, r4, r5, r6, r7, r8⟩ := q2
  refine ⟨hh 8, r3, ⟨h9.2.2.2.2.1 8 (by omega) (by omega), r5⟩, q3.2.2.2.2.1, fun c hc => ?_⟩
  rcases r8 c hc with y | ⟨z1, l', z2, z3⟩
  · exact .inl y
  · exact .inr ⟨z1, l', z2⟩
theorem c_isLit (hnf : 100 ≤ nf) (hT : TO t n) (h : Ust st r ta t n z0 o ρ0 w s k) (hW : TW w.1) {x : Nat} (hx : (x : Int) < w.1 0) (h2 : tS t n (tP t n k) = 2) : FX1_isLit nf s r (i32 (x : Int)) = some (bi (decide ((0 ≤ nV t n (tP t n k) ∧ nV t n (tP t n k) ≤ w.1 1 - 1) ∧ 0 < w.1 (10 + 4 * (6 * (nV t n (tP t n k)).toNat + x))))) := by
  have w0 := hW.1
  have w1 := hW.2.1
  obtain ⟨o1, o2, o3, o4, o5, o6⟩ := h.ob
  obtain ⟨la, l1, l2, l3, l4⟩ := h.la
  have hR := h.2.2.1
  have k1 : isK s r [1] = true := isK_o hR.1.1 rfl
  have ko : isK s o [2] = true := isK_o o2 rfl
  have hv := nV_b (tS_2 h2).1 (tS_2 h2).2.2 (tS_2 h2).2.1
  have L := c_value hnf hT hR h2
  unfold FX1_isLit
  rw [gd_t k1, L, bd_eq, gR_t k1, o1, nn_eq, gI_t ko, o6, show (0 : Int32) = i32 0 from rfl, show (1 : Int32) = i32 1 from rfl, i32_sub, c_in (by omega) (by omega) (by omega) (by omega) (by omega) (by omega), bd_eq]
  by_cases q : 0 ≤ nV t n (tP t n k) ∧ nV t n (tP t n k) ≤ w.1 1 - 1
  · obtain ⟨v, ev⟩ : ∃ v : Nat, nV t n (tP t n k) = v := ⟨_, (Int.toNat_of_nonneg hv.1).symm⟩
    rw [ev] at q ⊢
    have hc : 6 * v + x < 54 := by omega
    rw [decide_eq_true q, if_neg (show ¬ bi true = i32 0 by decide), gR_t k1, o1, nn_eq, gR_t ko, l1, bd_eq, nn_eq, c_ix, lR_n l2.2 hc (by omega), Int.toNat_natCast]
    rcases l4 _ hc with ⟨z1, z2⟩ | ⟨z1, l, z2⟩
    · rw [z2, decide_eq_false (fun z => by omega)]
      rfl
    · rw [z2, decide_eq_true ⟨q, z1⟩]
      rfl
  · rw [decide_eq_false q, if_pos (show bi false = i32 0 from rfl), decide_eq_false (fun z => q z.1)]
    rfl
/-- behind the round's word: numbers, then the light -/
theorem li_144 (hn : 2000 ≤ nf) (hT : TO t n) (hW : TW w.1) {s0 : CS} {k0 u : Nat} (h0 : Pcz r t n z0 u s0 k0 s k) (h : Ust st r ta t n z0 o ρ0 w s k) {x y : Nat} {kd : Int} (hc : 6 * y + x < 54) (hkd : 0 ≤ kd ∧ kd ≤ 3) : Ok (FX1_light_b144 st nf r (i32 (x : Int)) (i32 (y : Int)) (i32 kd) s) (Poz (RLN z0 r o ρ0) r ta t n z0 u s0 k0 (bP (nmP t n 1 60 (tP t n k) k) fun rd k4 => bP (nwP t n ovW 0 (rd - 1) k4) fun ov k6 => bP (nwP t n foW 0 rd k6) fun le k8 => .inr (liS w (6 * y + x) kd rd ov le, k8))) := by
  have a9 := hW.2.2.2.2.2.2.2.2.2.1
  have hR := h.2.2.1
  unfold FX1_light_b144
  rw [show (0 : Int32) = i32 0 from rfl, show (1 : Int32) = i32 1 from rfl, show (60 : Int32) = i32 60 from rfl]
  refine ok_thz h0 h.2.2.2.1 (ok_number_2 hn hT h.2.1.k h.1 hR ⟨by omega, by omega⟩ ⟨by omega, by omega⟩) fun a rd k1 s1 hx1 g1 p1 hN hR1 => ?_
  obtain ⟨x1, x2, x3, x4, rfl⟩ := nmP_v hx1
  obtain ⟨hN, hK6⟩ := hN
  subst hN
  have h1 := h.b g1 hR1 hK6.1
  obtain ⟨po, q1, q2⟩ := h1.2.1.k 5 (by omega)
  rw [wL_s.2.2.2.2.1] at q2
  rw [show st 15 = some po from q1, nn_eq, i32_sub]
  refine ok_thz p1 h1.2.2.2.1 (x := nwP t n ovW 0 (rd - 1) (k + 1)) (ok_number hn hT h1.2.1.k h1.1 hR1 q2 wW_n.2.2.2.2.1 (by decide) ⟨by omega, by omega⟩ ⟨by omega, by omega⟩) fun b ov k2 s2 hx2 g2 p2 hN hR2 => ?_
  obtain ⟨y1, y2, rfl, y3, y4⟩ := nwP_i hx2
  obtain ⟨hN, hK6⟩ := hN
  subst hN
  have h2 := h1.b g2 hR2 hK6.1
  obtain ⟨pf, q1, q2⟩ := h2.2.1.k 6 (by omega)
  rw [wL_s.2.2.2.2.2.1] at q2
  rw [show st 16 = some pf from q1, nn_eq]
  refine ok_thz p2 h2.2.2.2.1 (x := nwP t n foW 0 rd (k + 1 + 2)) (ok_number hn hT h2.2.1.k h2.1 hR2 q2 wW_n.2.2.2.2.2.1 (by decide) ⟨by omega, by omega⟩ ⟨by omega, by omega⟩) fun d le k3 s3 hx3 g3 p3 hN hR3 => ?_
  obtain ⟨z1, z2, rfl, z3, z4⟩ := nwP_i hx3
  obtain ⟨hN, hK6⟩ := hN
  subst hN
  have h3 := h2.b g3 hR3 hK6.1
  obtain ⟨la, l1, l2, l3, l4⟩ := h3.la
  obtain ⟨o1, o2, o3, o4, o5, o6⟩ := h3.ob
  have p3' := p3.le (show u + 1 ≤ u + 16 + 32 + 32 by omega)
  -- with the common round written or not
  have B : ∀ s', (∀ a, a < cz s3 → s'.1 a = s3.1 a) → (∀ f a, ¬ (a = o ∧ f = 206) → cI s' f a = cI s3 f a) → cR s' = cR s3 → cA s' = cA s3 → cQ s' = cQ s3 → cz s' = cz s3 → cl s' = cl s3 → s'.1 = s3.1 → cI s' 206 o = i32 (if kd < 2 then lcI (w.1 9) rd else w.1 9) → Ok (FX1_light_b212 st nf r (i32 (x : Int)) (i32 (y : Int)) (i32 kd) (i32 rd) (i32 ov) (i32 le) s') (Poz (RLN z0 r o ρ0) r ta t n z0 u s0 k0 (.inr (liS w (6 * y + x) kd rd ov le, k + 1 + 2 + 2))) := fun s' e1 e2 e3 e4 e5 e6 e7 e8 e9 => by
    unfold FX1_light_b212
    have hr' : s'.1 r = some (true, 1, 0) := by rw [e8]; exact hR3.1.1
    have ho' : s'.1 o = some (true, 2, 0) := by rw [e8]; exact o2
    refine ok_if (fun _ => ?_) (fun _ => ?_)
    · refine ok_gRs hr' rfl (by rw [e3]; exact o1) ?_
      rw [nn_eq]
      refine ok_gI ho' rfl (ok_pI ho' rfl ?_)
      refine li_230 hT hW p3' h3 (all := 0) l1 l2 ⟨rfl, hc⟩ hkd ⟨e1, fun f a q => ?_, e3, e4, e5, e6, e7, e8⟩ ?_
      · by_cases z : f = 207 ∧ a = o
        · exact absurd ⟨z.2, .inr z.1⟩ q
        · rw [show cI (uI s' 207 o (cI s' 207 o + 1)) f a = cI s' f a from if_neg z]
          exact e2 f a (fun y => q ⟨y.1, .inl y.2⟩)
      · rw [rI_n (by decide)]
        exact e9
    · exact li_230 hT hW p3' h3 (all := 0) l1 l2 ⟨rfl, hc⟩ hkd ⟨e1, fun f a q => e2 f a (fun y => q ⟨y.1, .inl y.2⟩), e3, e4, e5, e6, e7, e8⟩ e9
  rw [show (2 : Int32) = i32 2 from rfl]
  refine ok_le ⟨by omega, by omega⟩ ⟨by omega, by omega⟩ (fun q => ?_) (fun q => ?_)
  · exact B s3 (fun _ _ => rfl) (fun _ _ _ => rfl) rfl rfl rfl rfl rfl rfl (by rw [if_neg (show ¬ kd < 2 by omega)]; exact l3)
  · refine ok_gRs hR3.1.1 rfl o1 (ok_gRs hR3.1.1 rfl o1 ?_)
    rw [nn_eq]
    refine ok_gI o2 rfl (ok_gRs hR3.1.1 rfl o1 ?_)
    rw [nn_eq]
    refine ok_gI o2 rfl ?_
    rw [l3]
    obtain ⟨cm, ecm⟩ : ∃ q : Nat, w.1 9 = q := ⟨(w.1 9).toNat, by omega⟩
    obtain ⟨rn, ern⟩ : ∃ q : Nat, rd = q := ⟨rd.toNat, by omega⟩
    have hgp : 0 < Nat.gcd cm rn := Nat.gcd_pos_of_pos_left rn (by omega)
    have hgl : Nat.gcd cm rn ≤ cm := Nat.le_of_dvd (by omega) (Nat.gcd_dvd_left cm rn)
    have EQ : FX0_gcd s3 50 (i32 (w.1 9)) (i32 rd) = some (i32 ((Nat.gcd cm rn : Nat) : Int)) := by
      rw [ecm, ern]
      exact c_gcdI (by omega) (by omega)
    have EQ2 : i32 (w.1 9) / i32 ((Nat.gcd cm rn : Nat) : Int) * i32 rd = i32 (lcI (w.1 9) rd) := by
      have elc : lcI (w.1 9) rd = ((cm / Nat.gcd cm rn * rn : Nat) : Int) := by
        unfold lcI
        rw [ecm, ern, Int.toNat_natCast, Int.toNat_natCast]
      rw [elc, ecm, ern, div_c (by omega) (by omega) (by omega) (by omega), i32_mul, Int.natCast_mul, Int.natCast_ediv]
    rw [EQ, bd_eq]
    refine ok_d32 (by omega) (by omega) ?_
    rw [nn_eq]
    refine ok_pI o2 rfl ?_
    rw [EQ2]
    exact B (uI s3 206 o (i32 (lcI (w.1 9) rd))) (fun _ _ => rfl) (fun f a q => if_neg (fun z => q ⟨z.2, z.1⟩)) rfl rfl rfl rfl rfl rfl (by rw [rI_t, if_pos q])
end LI
