/-! LAYER 2: nights -/
set_option maxRecDepth 100000
def lcg (G : Int) : Int := (G * 1103515245 + 12345) % 2147483648
def gN (W σ : Nat → Int) (G : Int) : Nat → Int
  | 0 => G
  | c + 1 => if unA W σ c = true then lcg (gN W σ G c) else gN W σ G c
def shN (W σ : Nat → Int) (G : Int) (c : Nat) : Int := if unA W σ c = true then (lcg (gN W σ G c) / 65536) % W (11 + 4 * c) else 0
def niN (W σ : Nat → Int) (RC : Nat → List (Nat × Int)) (k : Nat) (G : Int) : Nat → Nat → Nat → Int → Int
  | 0, _, _, t => t
  | d + 1, x, y, t => niN W σ RC k G d (nx (wyN W k (goR RC) 1000 (vG W σ RC k false) x y t (t + shN W σ G (6 * y + x))) x) (ny (wyN W k (goR RC) 1000 (vG W σ RC k false) x y t (t + shN W σ G (6 * y + x))) y) (t + wtA W x y (wyN W k (goR RC) 1000 (vG W σ RC k false) x y t (t + shN W σ G (6 * y + x))) (t + shN W σ G (6 * y + x)) + W 2)
def ngG (W σ : Nat → Int) (seed : Int) : Nat → Int
  | 0 => seed
  | j + 1 => gN W σ (ngG W σ seed j) 54
def ngT (W σ : Nat → Int) (RC : Nat → List (Nat × Int)) (k : Nat) (seed : Int) (j : Nat) : Int := niN W σ RC k (ngG W σ seed j) (dsA W 0 0) 0 0 0
def nsV (W σ : Nat → Int) (RC : Nat → List (Nat × Int)) (seed many k what : Int) : Int := if (0 ≤ seed ∧ seed ≤ 9999) ∧ (1 ≤ many ∧ many ≤ 30) ∧ (0 ≤ what ∧ what ≤ 1) ∧ 0 ≤ mnV W σ RC false k 0 0 0 then (if what = 0 then smN (ngT W σ RC k.toNat seed) many.toNat else mxN (ngT W σ RC k.toNat seed) many.toNat) else -1
section NI
variable {g : Nat → Nat} {ρ : Nat → Nat × Nat} {W : Nat → Int} {S : Nat → Nat → Int} {V m Tp : Nat → Int} {RC : Nat → List (Nat × Int)} {s : CS} {τ : TS} {T N : Int} {nf : Nat} {σ : Nat → Int} {k o : Nat} {G : Int}
theorem lcg_b (G : Int) : 0 ≤ lcg G ∧ lcg G < 2147483648 := ⟨Int.emod_nonneg _ (by omega), Int.emod_lt_of_pos _ (by omega)⟩
theorem gN_b (h : 0 ≤ G ∧ G < 2147483648) : ∀ c, 0 ≤ gN W σ G c ∧ gN W σ G c < 2147483648 := by
  intro c
  induction c with
  | zero => exact h
  | succ c ih =>
    unfold gN
    split
    · exact lcg_b _
    · exact ih
theorem shN_b (hW : TW W) {c : Nat} (hc : c < 54) : 0 ≤ shN W σ G c ∧ shN W σ G c < 60 := by
  unfold shN
  by_cases hu : unA W σ c = true
  · have hr := un_rd hW hc hu
    rw [if_pos hu]
    have h1 := Int.emod_nonneg (lcg (gN W σ G c) / 65536) (show W (11 + 4 * c) ≠ 0 by omega)
    have h2 := Int.emod_lt_of_pos (lcg (gN W σ G c) / 65536) (show 0 < W (11 + 4 * c) by omega)
    omega
  · rw [if_neg hu]
    omega
/-- one draw -/
theorem lcg64 (h : 0 ≤ G ∧ G < 2147483648) : rem64 ((i64 G * 1103515245) + 12345) 2147483648 = i64 (lcg G) := by
  rw [show (1103515245 : Int64) = i64 1103515245 from rfl, show (12345 : Int64) = i64 12345 from rfl, show (2147483648 : Int64) = i64 2147483648 from rfl, i64_mul, i64_add, i64_rem ⟨by omega, by omega⟩ ⟨by omega, by omega⟩ (by omega) (by omega)]
  rfl
theorem dr64 {rd : Int} (hr : 1 ≤ rd ∧ rd ≤ 60) : (rem64 (i64 (lcg G) / 65536) (i32 rd).toInt64).toInt32 = i32 ((lcg G / 65536) % rd) := by
  have h := lcg_b G
  have h1 : 0 ≤ lcg G / 65536 := Int.ediv_nonneg h.1 (by omega)
  have h2 : lcg G / 65536 ≤ lcg G := Int.ediv_le_self _ h.1
  have h3 := Int.emod_nonneg (lcg G / 65536) (show rd ≠ 0 by omega)
  have h4 := Int.emod_lt_of_pos (lcg G / 65536) (show 0 < rd by omega)
  rw [show (65536 : Int64) = i64 65536 from rfl, i64_div ⟨by omega, by omega⟩ ⟨by omega, by omega⟩ h.1 (by omega), i32_long ⟨by omega, by omega⟩, i64_rem ⟨by omega, by omega⟩ ⟨by omega, by omega⟩ h1 (by omega), i64_int ⟨by omega, by omega⟩]
/-- a light's wait is by its own round -/
theorem wt_own (hW : TW W) {x y : Nat} {w : Bool} {t : Int} (hx : x < 6) (hy : y < 9) : wtN W x y w (t % W (11 + 4 * (6 * y + x))) = wtN W x y w t := by
  have e : ltA W x y 1 = W (11 + 4 * (6 * y + x)) := by unfold ltA; rw [show 10 + 4 * (6 * y + x) + 1 = 11 + 4 * (6 * y + x) by omega]
  have ep : phA W x y (t % W (11 + 4 * (6 * y + x))) = phA W x y t := by
    unfold phA
    rw [e, Int.emod_sub_emod]
  unfold wtN wtA grA
  rw [ep]
/-- whatever the draws, what takes something goes on -/
theorem ni_sn (hW : TW W) {x y : Nat} {t : Int} (hx : (x : Int) < W 0) (hy : (y : Int) < W 1) (hh : hmA W x y = false) (h : 0 ≤ vG W σ RC k false x y (t % W 9)) : 0 ≤ snN W k (goR RC) 1000 (vG W σ RC k false) x y t (t + shN W σ G (6 * y + x)) := by
  have w0 := hW.1
  have w1 := hW.2.1
  obtain ⟨o1, o2⟩ := od_sn hW hx hy hh h
  cases hu : unA W σ (6 * y + x) with
  | false =>
    have e : shN W σ G (6 * y + x) = 0 := by unfold shN; rw [hu, if_neg (by decide)]
    rw [e, Int.add_zero]
    exact o2 hu
  | true =>
    have hr := un_rd hW (c := 6 * y + x) (by omega) hu
    have h3 := Int.emod_nonneg (t + shN W σ G (6 * y + x)) (show W (11 + 4 * (6 * y + x)) ≠ 0 by omega)
    have h4 := Int.emod_lt_of_pos (t + shN W σ G (6 * y + x)) (show 0 < W (11 + 4 * (6 * y + x)) by omega)
    have := o1 hu ((t + shN W σ G (6 * y + x)) % W (11 + 4 * (6 * y + x))).toNat (by omega)
    rw [Int.toNat_of_nonneg h3] at this
    unfold snN at this ⊢
    rwa [wt_own hW (by omega) (by omega), wt_own hW (by omega) (by omega)] at this
theorem niN_b (hW : TW W) : ∀ (d x y : Nat) (t : Int), (x : Int) < W 0 → (y : Int) < W 1 → dsA W x y = d → 0 ≤ t → 0 ≤ vG W σ RC k false x y (t % W 9) → t ≤ niN W σ RC k G d x y t ∧ niN W σ RC k G d x y t ≤ t + 89 * d := by
  have w0 := hW.1
  have w1 := hW.2.1
  have w2 := hW.2.2.1
  intro d
  induction d with
  | zero => intro x y t hx hy hd h0 hv; unfold niN; omega
  | succ d ih =>
    intro x y t hx hy hd h0 hv
    have hh : hmA W x y = false := by unfold hmA; unfold dsA at hd; exact decide_eq_false (by omega)
    obtain ⟨p1, p2, p3, p4, p5, p6, p7⟩ := od_step hW hx hy (ni_sn (G := G) hW hx hy hh hv) rfl
    have := ih _ _ (t + wtA W x y (wyN W k (goR RC) 1000 (vG W σ RC k false) x y t (t + shN W σ G (6 * y + x))) (t + shN W σ G (6 * y + x)) + W 2) p2 p3 (by omega) (by omega) (by rw [Int.add_assoc]; exact p7)
    unfold niN
    omega
/-- the component's frame of a night -/
def Fy (ρ : Nat → Nat × Nat) (a0 : Nat) (s s' : CS) : Prop := s'.1 = s.1 ∧ (∀ f a, cI s' f a = cI s f a) ∧ (∀ f a, cR s' f a = cR s f a) ∧ (∀ a, ¬ (ρ a).1 = 29 → ¬ a = a0 → cA s' a = cA s a) ∧ (∀ a, cQ s' a = cQ s a) ∧ cz s' = cz s ∧ cl s' = cl s
theorem Fy.rf {a0 : Nat} : Fy ρ a0 s s := ⟨rfl, fun _ _ => rfl, fun _ _ => rfl, fun _ _ _ => rfl, fun _ => rfl, rfl, rfl⟩
theorem Fy.tr {a0 : Nat} {s1 s2 : CS} (h : Fy ρ a0 s s1) (k : Fy ρ a0 s1 s2) : Fy ρ a0 s s2 := ⟨k.1.trans h.1, fun f a => (k.2.1 f a).trans (h.2.1 f a), fun f a => (k.2.2.1 f a).trans (h.2.2.1 f a), fun a q r => (k.2.2.2.1 a q r).trans (h.2.2.2.1 a q r), fun a => (k.2.2.2.2.1 a).trans (h.2.2.2.2.1 a), k.2.2.2.2.2.1.trans h.2.2.2.2.2.1, k.2.2.2.2.2.2.trans h.2.2.2.2.2.2⟩
theorem Ff.y {a0 : Nat} {s' : CS} (h : Ff ρ s s') : Fy ρ a0 s s' := ⟨h.1, h.2.1, h.2.2.1, fun a q _ => h.2.2.2.1 a q, h.2.2.2.2.1, h.2.2.2.2.2.1, h.2.2.2.2.2.2.1⟩
theorem Fy.uA {a0 i : Nat} {v : Int32} : Fy ρ a0 s (uA s a0 i v) := by
  refine ⟨rfl, fun _ _ => rfl, fun _ _ => rfl, fun a' _ q => ?_, fun _ => rfl, rfl, rfl⟩
  show (if a' = a0 then upd (cA s a0) i v else cA s a') = cA s a'
  rw [if_neg q]
theorem Fy.uJ {a0 f a : Nat} {v : Int64} : Fy ρ a0 s (uJ s f a v) := ⟨rfl, fun _ _ => rfl, fun _ _ => rfl, fun _ _ _ => rfl, fun _ => rfl, rfl, rfl⟩
theorem Fy.q {a0 : Nat} {s' : CS} (h : Fy ρ a0 s s') (h20 : scA (ρ a0) = true) : Fq ρ s s' := by
  refine ⟨h.1, fun f a _ => h.2.1 f a, h.2.2.1, fun a q => h.2.2.2.1 a ?_ ?_, h.2.2.2.2.1, h.2.2.2.2.2.1, h.2.2.2.2.2.2⟩
  · intro e
    have q := of_decide_eq_false q
    omega
  · rintro rfl
    rw [h20] at q
    cases q
theorem b_28 (b : B g ρ W S V m Tp RC s) : ρ (g 28) = (28, 0) := (b.2.1 14 _ rfl).2.2
theorem OC.y {s' : CS} (h : OC g ρ W S V m Tp RC k o s) (q : Fy ρ (g 28) s s') : OC g ρ W S V m Tp RC k o s' := by
  obtain ⟨h1, h2, h3, h4⟩ := h
  have qq := q.q (by rw [b_28 h1]; rfl)
  refine ⟨h1.q qq, h2.q qq, by rw [q.2.1]; exact h3, fun x y hp hx hy => ?_⟩
  have := h4 x y hp hx hy
  unfold Tab at this ⊢
  rw [q.2.2.2.1 (g 20) (by rw [b_20 h1]; decide) (fun e => by
    have e1 := b_20 h1
    rw [e, b_28 h1] at e1
    cases e1)]
  exact this
theorem ok_draws (b : B g ρ W S V m Tp RC s) (hG : 0 ≤ G ∧ G < 2147483648) (hJ : cJ s 25 (g 0) = i64 G) {rd : Int} (hr : 1 ≤ rd ∧ rd ≤ 60) : Ok (FX0_draws (g 0) (i32 rd) s) fun p => p.1 = i32 ((lcg G / 65536) % rd) ∧ p.2 = uJ s 25 (g 0) (i64 (lcg G)) := by
  unfold FX0_draws
  refine ok_mz (ok_gd b.1 rfl ?_) (fun z hz => by rw [hz.2]; exact ⟨Nat.le_refl _, Nat.le_refl _⟩)
  refine ok_gJ b.1 rfl ?_
  rw [hJ, lcg64 hG]
  refine ok_pJ b.1 rfl ?_
  refine ok_gJ (s := uJ s 25 (g 0) (i64 (lcg G))) b.1 rfl ?_
  have e : cJ (uJ s 25 (g 0) (i64 (lcg G))) 25 (g 0) = i64 (lcg G) := by simp [cJ, uJ, up2]
  rw [e, dr64 hr, i32_long ⟨by omega, by omega⟩, d64_n ⟨by omega, by omega⟩ (by omega)]
  exact ok_s ⟨rfl, rfl⟩
theorem ln_loop (hW : TW W) (hn0 : 100 ≤ nf) {s0 : CS} (hc0 : OC g ρ W S V m Tp RC k o s0) (hsh : ∀ c, c < 54 → cA s0 (g 28) c = i32 (shN W (S 0) G c)) : ∀ (d n x y : Nat) (t : Int) (s : CS), (x : Int) < W 0 → (y : Int) < W 1 → dsA W x y = d → d < n → 0 ≤ t → t + 89 * d ≤ 1000000 → 0 ≤ vG W (S 0) RC k false x y (t % W 9) → Ff ρ s0 s → Ok (FX0_lives_b55 nf n (g 0) o (i32 x) (i32 y) (i32 t) s) fun p => p.1 = i32 (niN W (S 0) RC k G d x y t) ∧ Ff ρ s0 p.2 := by
  have w0 := hW.1
  have w1 := hW.2.1
  have w2 := hW.2.2.1
  have hV : VS W (S 0) k (goR RC) false false (-1) 0 (vG W (S 0) RC k false) := vT_VS
  intro d
  induction d with
  | zero =>
    intro n x y t s hx hy hd hn h0 h1 hv hf
    obtain ⟨n, rfl⟩ : ∃ q, n = q + 1 := ⟨n - 1, by omega⟩
    have hh : hmA W x y = true := by unfold hmA; unfold dsA at hd; exact decide_eq_true (by omega)
    have b := (hc0.y hf.y).1
    rw [show FX0_lives_b55 nf (n + 1) = FX0_lives_b55_s nf (FX0_lives_b55 nf n) from rfl]
    unfold FX0_lives_b55_s
    refine ok_be (c_isHome b hW (by omega) (by omega)) ?_
    rw [hh, if_neg (show ¬ bi true = (0 : Int32) by decide)]
    exact ok_s ⟨rfl, hf⟩
  | succ d ih =>
    intro n x y t s hx hy hd hn h0 h1 hv hf
    obtain ⟨n, rfl⟩ : ∃ q, n = q + 1 := ⟨n - 1, by omega⟩
    have hh : hmA W x y = false := by unfold hmA; unfold dsA at hd; exact decide_eq_false (by omega)
    obtain ⟨b, ho, h10, hD⟩ := hc0.y hf.y
    have hN := hD.nx (VS_Rb hW hV) hx hy
    have hb0 := shN_b (σ := S 0) (G := G) hW (c := 6 * y + x) (by omega)
    have hs := ni_sn (G := G) hW hx hy hh hv
    obtain ⟨w, hw⟩ : ∃ w, w = wyN W k (goR RC) 1000 (vG W (S 0) RC k false) x y t (t + shN W (S 0) G (6 * y + x)) := ⟨_, rfl⟩
    obtain ⟨p1, p2, p3, p4, p5, p6, p7⟩ := od_step hW hx hy hs hw
    obtain ⟨-, -, q4, -⟩ := sn_way hs
    have hni : niN W (S 0) RC k G (d + 1) x y t = niN W (S 0) RC k G d (nx w x) (ny w y) (t + wtA W x y w (t + shN W (S 0) G (6 * y + x)) + W 2) := by rw [hw]; rfl
    obtain ⟨lt, hlt⟩ : ∃ lt, lt = t + shN W (S 0) G (6 * y + x) := ⟨_, rfl⟩
    rw [← hlt] at hs hw p5 p6 p7 q4 hni
    have e0 : FX0_waits s (g 0) (i32 x) (i32 y) 0 (i32 lt) = some (i32 (wtN W x y false lt)) := c_wts (way := false) b hW (by omega) (by omega) (by omega) (by omega)
    have e1 : FX0_waits s (g 0) (i32 x) (i32 y) 1 (i32 lt) = some (i32 (wtN W x y true lt)) := c_wts (way := true) b hW (by omega) (by omega) (by omega) (by omega)
    have esh : cA s (g 28) (((y : Int) * 6) + (x : Int)).toNat = i32 (shN W (S 0) G (6 * y + x)) := by
      rw [hf.2.2.2.1 (g 28) (by rw [b_28 b]; decide), show (((y : Int) * 6) + (x : Int)).toNat = 6 * y + x by omega]
      exact hsh _ (by omega)
    rw [show FX0_lives_b55 nf (n + 1) = FX0_lives_b55_s nf (FX0_lives_b55 nf n) from rfl]
    unfold FX0_lives_b55_s
    refine ok_be (c_isHome b hW (by omega) (by omega)) ?_
    rw [hh, if_pos (show bi false = (0 : Int32) from rfl)]
    refine ok_gRs b.1 rfl (b.2.1 14 _ rfl).1 (ok_nn ?_)
    rw [show (6 : Int32) = i32 6 from rfl, i32_mul, i32_add]
    refine ok_lI (b.2.1 14 _ rfl).2.1 (by omega) (by show _ < ((54 : Nat) : Int); omega) (by decide) ?_
    rw [esh, nm_eq, i32_add, ← hlt]
    refine ok_be e0 (ok_be e1 (ok_2 (ok_wayOf (wst := false) b hW ho h10 hx hy (fun _ => hN) h0 (by omega)) fun v s1 hv1 => ?_))
    obtain ⟨v1, f1⟩ := hv1
    have v1 : v = bi w := by
      rw [if_neg q4] at v1
      rw [hw]
      exact v1
    have hf1 := hf.tr f1
    have b1 := (hc0.y hf1.y).1
    have L := ih n (nx w x) (ny w y) (t + wtA W x y w lt + W 2) s1 p2 p3 (by omega) (by omega) (by omega) (by omega) (by rw [Int.add_assoc]; exact p7) hf1
    rw [← hni] at L
    have go : ∀ u, u = i32 (wtN W x y w lt) → Ok (FX0_lives_b131 nf (FX0_lives_b55 nf n) (g 0) o (i32 x) (i32 y) (bi w) u (i32 t) s1) fun p => p.1 = i32 (niN W (S 0) RC k G (d + 1) x y t) ∧ Ff ρ s0 p.2 := fun u hu => by
      unfold FX0_lives_b131
      refine ok_gRs b1.1 rfl (b1.2.1 2 _ rfl).1 (ok_nn (ok_be (c_walk b1 hW) ?_))
      rw [hu, p5, nm_eq, i32_add, i32_add, show (1 : Int32) = i32 1 from rfl, i32_add, i32_add, ← Int.add_assoc]
      cases w with
      | true =>
        rw [if_neg (show ¬ bi true = (0 : Int32) by decide)]
        exact L
      | false =>
        rw [if_pos (show bi false = (0 : Int32) from rfl)]
        exact L
    rw [v1]
    cases w with
    | true =>
      rw [if_neg (show ¬ bi true = (0 : Int32) by decide)]
      exact go _ rfl
    | false =>
      rw [if_pos (show bi false = (0 : Int32) from rfl)]
      exact go _ rfl
theorem ld_loop (hW : TW W) (hS : SW W T (S 0)) (hn0 : 100 ≤ nf) (hG : 0 ≤ G ∧ G < 2147483648) (hv : 0 ≤ vG W (S 0) RC k false 0 0 (0 % W 9)) {s0 : CS} (hc0 : OC g ρ W S V m Tp RC k o s0) : ∀ (d n c : Nat) (s : CS), c + d = 54 → d < n → Fy ρ (g 28) s0 s → cJ s 25 (g 0) = i64 (gN W (S 0) G c) → (∀ q, q < c → cA s (g 28) q = i32 (shN W (S 0) G q)) → Ok (FX0_lives_b2 nf n (g 0) o (i32 (c : Int)) s) fun p => p.1 = i32 (niN W (S 0) RC k G (dsA W 0 0) 0 0 0) ∧ Fy ρ (g 28) s0 p.2 ∧ cJ p.2 25 (g 0) = i64 (gN W (S 0) G 54) := by
  have w0 := hW.1
  have w1 := hW.2.1
  intro d
  induction d with
  | zero =>
    intro n c s hd hn hf hJ hq
    obtain ⟨n, rfl⟩ : ∃ q, n = q + 1 := ⟨n - 1, by omega⟩
    have ec : c = 54 := by omega
    subst ec
    have hc := hc0.y hf
    have hd13 := ds_b (x := 0) (y := 0) hW
    rw [show FX0_lives_b2 nf (n + 1) = FX0_lives_b2_s nf (FX0_lives_b2 nf n) from rfl]
    unfold FX0_lives_b2_s
    rw [show (54 : Int32) = i32 54 from rfl]
    refine ok_le ⟨by omega, by omega⟩ ⟨by omega, by omega⟩ (fun _ => ?_) (fun z => by omega)
    have L : Ok (FX0_lives_b55 nf nf (g 0) o 0 0 0 s) fun p => p.1 = i32 (niN W (S 0) RC k G (dsA W 0 0) 0 0 0) ∧ Ff ρ s p.2 := ln_loop (nf := nf) hW hn0 hc hq (dsA W 0 0) nf 0 0 0 s (by omega) (by omega) rfl (by omega) (by omega) (by omega) hv Ff.rf
    refine ok_w L fun p hp => ⟨hp.1, hf.tr hp.2.y, ?_⟩
    rw [hp.2.2.2.2.2.2.2.2.1]
    exact hJ
  | succ d ih =>
    intro n c s hd hn hf hJ hq
    obtain ⟨n, rfl⟩ : ∃ q, n = q + 1 := ⟨n - 1, by omega⟩
    have hc := hc0.y hf
    have b := hc.1
    have hst : gN W (S 0) G (c + 1) = if unA W (S 0) c = true then lcg (gN W (S 0) G c) else gN W (S 0) G c := rfl
    rw [show FX0_lives_b2 nf (n + 1) = FX0_lives_b2_s nf (FX0_lives_b2 nf n) from rfl]
    unfold FX0_lives_b2_s
    rw [show (54 : Int32) = i32 54 from rfl]
    refine ok_le ⟨by omega, by omega⟩ ⟨by omega, by omega⟩ (fun z => by omega) (fun _ => ?_)
    refine ok_gRs b.1 rfl (b.2.1 14 _ rfl).1 ?_
    refine ok_be (c_isUnknown b hW hS (c := c) (by omega)) ?_
    have upq : ∀ (s1 : CS) (v : Int32), cA s1 (g 28) = cA s (g 28) → v = i32 (shN W (S 0) G c) → ∀ q, q < c + 1 → cA (uA s1 (g 28) c v) (g 28) q = i32 (shN W (S 0) G q) := fun s1 v e1 e2 q hq1 => by
      show (if g 28 = g 28 then upd (cA s1 (g 28)) c v else cA s1 (g 28)) q = _
      rw [if_pos rfl, e1]
      by_cases e : q = c
      · rw [e, upd_e, e2]
      · rw [upd_n _ _ e]
        exact hq q (by omega)
    cases hu : unA W (S 0) c with
    | false =>
      rw [if_pos (show bi false = (0 : Int32) from rfl), show (0 : Int32) = i32 0 from rfl]
      rw [hu, if_neg (by decide)] at hst
      refine ok_nn (ok_tI (b.2.1 14 _ rfl).2.1 (by omega) (by show _ < ((54 : Nat) : Int); omega) (by decide) ?_)
      rw [show (1 : Int32) = i32 1 from rfl, i32_add, Int.toNat_natCast]
      refine ih n (c + 1) _ (by omega) (by omega) (hf.tr Fy.uA) (by rw [hst]; exact hJ) (upq s _ rfl ?_)
      unfold shN
      rw [hu, if_neg (by decide)]
    | true =>
      have hr := un_rd hW (c := c) (by omega) hu
      have hkk := kw_b hW (c := c) (by omega)
      have hu2 := of_decide_eq_true hu
      rw [hu, if_pos rfl] at hst
      rw [if_neg (show ¬ bi true = (0 : Int32) by decide)]
      refine ok_gRs b.1 rfl (b.2.1 2 _ rfl).1 (ok_nn (ok_gRs (b.2.1 2 _ rfl).2.1 rfl (b.2.1 16 _ rfl).1 (ok_nn ?_)))
      refine ok_lR (b.2.1 16 _ rfl).2.1 (by omega) (by show _ < ((54 : Nat) : Int); omega) (by decide) ?_
      rw [Int.toNat_natCast]
      rcases c_light0 b (c := c) (by omega) with ⟨z, -⟩ | ⟨-, l, hql, hl⟩
      · omega
      · rw [hql, nn_eq, (lf_cx hl (by omega) hkk.2).1]
        refine ok_2 (ok_draws b (gN_b hG c) hJ hr) fun v s1 hv1 => ?_
        obtain ⟨v1, e1⟩ := hv1
        have v1 : v = _ := v1
        have e1 : s1 = _ := e1
        have b1 : B g ρ W S V m Tp RC s1 := by rw [e1]; exact b.q Fq.uJ
        refine ok_nn (ok_tI (b1.2.1 14 _ rfl).2.1 (by omega) (by show _ < ((54 : Nat) : Int); omega) (by decide) ?_)
        rw [show (1 : Int32) = i32 1 from rfl, i32_add, Int.toNat_natCast]
        refine ih n (c + 1) _ (by omega) (by omega) ((hf.tr (by rw [e1]; exact Fy.uJ)).tr Fy.uA) ?_ (upq s1 v (by rw [e1]; rfl) ?_)
        · show cJ s1 25 (g 0) = _
          rw [e1, hst]
          simp [cJ, uJ, up2]
        · rw [v1]
          unfold shN
          rw [hu, if_pos rfl]
theorem ngG_b {seed : Int} (h : 0 ≤ seed ∧ seed ≤ 9999) : ∀ j, 0 ≤ ngG W σ seed j ∧ ngG W σ seed j < 2147483648 := by
  intro j
  induction j with
  | zero => unfold ngG; omega
  | succ j ih => exact gN_b ih 54
theorem ngT_b (hW : TW W) {seed : Int} (hv : 0 ≤ vG W σ RC k false 0 0 (0 % W 9)) (j : Nat) : 0 ≤ ngT W σ RC k seed j ∧ ngT W σ RC k seed j ≤ 1157 := by
  have w0 := hW.1
  have w1 := hW.2.1
  have hd13 := ds_b (x := 0) (y := 0) hW
  have := niN_b (σ := σ) (RC := RC) (k := k) (G := ngG W σ seed j) hW (dsA W 0 0) 0 0 0 (by omega) (by omega) rfl (by omega) hv
  unfold ngT
  omega
theorem mxN_b {f : Nat → Int} {B : Int} {n : Nat} (hB : 0 ≤ B) (h : ∀ i, i < n → 0 ≤ f i ∧ f i ≤ B) : 0 ≤ mxN f n ∧ mxN f n ≤ B := by
  induction n with
  | zero => exact ⟨Int.le_refl 0, hB⟩
  | succ n ih =>
    have e := ih fun i hi => h i (by omega)
    have e2 := h n (by omega)
    show 0 ≤ (if mxN f n < f n then f n else mxN f n) ∧ (if mxN f n < f n then f n else mxN f n) ≤ B
    split <;> omega
theorem ns_loop (hW : TW W) (hS : SW W T (S 0)) (hn0 : 2000 ≤ nf) {seed : Int} (hse : 0 ≤ seed ∧ seed ≤ 9999) (hv : 0 ≤ vG W (S 0) RC k false 0 0 (0 % W 9)) {s0 : CS} (hc0 : OC g ρ W S V m Tp RC k o s0) (hg : FJ2_get s0 (g 11) (i32 (k : Int)) = some (some o) ∧ isK s0 o [4, 5, 6, 16] = true) {many : Nat} (hm : many ≤ 30) {what : Int} (hw : 0 ≤ what ∧ what ≤ 1) : ∀ (d n j : Nat) (s : CS), j + d = many → d < n → Fy ρ (g 28) s0 s → cJ s 25 (g 0) = i64 (ngG W (S 0) seed j) → Ok (FX0_nights_b59 nf n (g 0) (i32 (many : Int)) (i32 (k : Int)) (i32 what) (i32 (smN (ngT W (S 0) RC k seed) j)) (i32 (mxN (ngT W (S 0) RC k seed) j)) (i32 (j : Int)) s) fun p => p.1 = i32 (if what = 0 then smN (ngT W (S 0) RC k seed) many else mxN (ngT W (S 0) RC k seed) many) ∧ Fy ρ (g 28) s0 p.2 := by
  have w0 := hW.1
  have w1 := hW.2.1
  have hTb := fun j => ngT_b (σ := S 0) (RC := RC) (k := k) (seed := seed) hW hv j
  intro d
  induction d with
  | zero =>
    intro n j s hd hn hf hJ
    obtain ⟨n, rfl⟩ : ∃ q, n = q + 1 := ⟨n - 1, by omega⟩
    have ej : j = many := by omega
    subst ej
    rw [show FX0_nights_b59 nf (n + 1) = FX0_nights_b59_s nf (FX0_nights_b59 nf n) from rfl]
    unfold FX0_nights_b59_s
    refine ok_le ⟨by omega, by omega⟩ ⟨by omega, by omega⟩ (fun _ => ?_) (fun z => by omega)
    rw [show (0 : Int32) = i32 0 from rfl]
    refine ok_q ⟨by omega, by omega⟩ ⟨by omega, by omega⟩ (fun q => ?_) (fun q => ?_)
    · rw [if_pos q]
      exact ok_s ⟨rfl, hf⟩
    · rw [if_neg q]
      exact ok_s ⟨rfl, hf⟩
  | succ d ih =>
    intro n j s hd hn hf hJ
    obtain ⟨n, rfl⟩ : ∃ q, n = q + 1 := ⟨n - 1, by omega⟩
    have hc := hc0.y hf
    have b := hc.1
    have fq := hf.q (by rw [b_28 hc0.1]; rfl)
    have hsb := smN_b (f := ngT W (S 0) RC k seed) (B := 1157) (n := j) fun i _ => hTb i
    have hmb := mxN_b (f := ngT W (S 0) RC k seed) (B := 1157) (n := j) (by omega) fun i _ => hTb i
    have htj := hTb j
    rw [show FX0_nights_b59 nf (n + 1) = FX0_nights_b59_s nf (FX0_nights_b59 nf n) from rfl]
    unfold FX0_nights_b59_s
    refine ok_le ⟨by omega, by omega⟩ ⟨by omega, by omega⟩ (fun z => by omega) (fun _ => ?_)
    refine ok_gRs b.1 rfl (b.2.1 2 _ rfl).1 (ok_nn (ok_gRs (b.2.1 2 _ rfl).2.1 rfl (b.2.1 19 _ rfl).1 (ok_nn ?_)))
    refine ok_be (get_q fq hg.1) (ok_nn (ok_g (by rw [← hg.2]; unfold isK; rw [hf.1]) ?_))
    have L : Ok (FX0_lives nf (g 0) o s) fun p => p.1 = i32 (ngT W (S 0) RC k seed j) ∧ Fy ρ (g 28) s p.2 ∧ cJ p.2 25 (g 0) = i64 (ngG W (S 0) seed (j + 1)) := by
      unfold FX0_lives
      refine ok_mz (ok_gd b.1 rfl ?_) (fun z hz => by rw [hz.2.1.2.2.2.2.2.1, hz.2.1.2.2.2.2.2.2]; exact ⟨Nat.le_refl _, Nat.le_refl _⟩)
      exact ld_loop (nf := nf) hW hS (by omega) (ngG_b hse j) hv hc 54 nf 0 s (by omega) (by omega) Fy.rf hJ (fun q z => by omega)
    refine ok_2 L fun v s1 hv1 => ?_
    have v1 : v = _ := hv1.1
    rw [v1, nm_eq, nm_eq, i32_add, mx_c (by omega) (by omega) (by omega) (by omega), show (1 : Int32) = i32 1 from rfl, i32_add]
    exact ih n (j + 1) s1 (by omega) (by omega) (hf.tr hv1.2.1) hv1.2.2
theorem ok_nights (hn0 : 2000 ≤ nf) (b : B g ρ W S V m Tp RC s) (hW : TW W) (hS : SW W T (S 0)) {seed many kk what : Int} (h1 : ok32 seed) (h2 : ok32 many) (h3 : ok32 kk) (h4 : ok32 what) : Ok (FX0_nights nf (g 0) (i32 seed) (i32 many) (i32 kk) (i32 what) s) fun p => p.1 = i32 (nsV W (S 0) RC seed many kk what) ∧ Fq ρ s p.2 := by
  have w0 := hW.1
  have w1 := hW.2.1
  have hmb := mnV_b (RC := RC) (wst := false) (σ := S 0) (k := kk) (x := 0) (y := 0) (t := 0) hW
  unfold FX0_nights nsV
  refine ok_mq (ρ := ρ) (ok_gd b.1 rfl ?_) (fun z hz => hz.2)
  rw [show (9999 : Int32) = i32 9999 from rfl, show (30 : Int32) = i32 30 from rfl, show (0 : Int32) = i32 0 from rfl, show (1 : Int32) = i32 1 from rfl]
  refine ok_be (c_i3 h1 0 9999 (by omega)) ?_
  by_cases q1 : 0 ≤ seed ∧ seed ≤ 9999
  · rw [decide_eq_true q1, if_neg (show ¬ bi true = (i32 0 : Int32) by decide)]
    refine ok_be (c_i3 h2 1 30 (by omega)) ?_
    by_cases q2 : 1 ≤ many ∧ many ≤ 30
    · rw [decide_eq_true q2, if_neg (show ¬ bi true = (i32 0 : Int32) by decide)]
      refine ok_be (c_i3 h4 0 1 (by omega)) ?_
      by_cases q3 : 0 ≤ what ∧ what ≤ 1
      · rw [decide_eq_true q3, if_neg (show ¬ bi true = (i32 0 : Int32) by decide)]
        refine ok_2 (ok_mn (x := 0) (y := 0) (t := 0) hn0 b hW hS h3 ⟨by omega, by omega⟩ ⟨by omega, by omega⟩ ⟨by omega, by omega⟩) fun v s1 hv => ?_
        obtain ⟨v1, f1, t1⟩ := hv
        have v1 : v = _ := v1
        rw [v1]
        refine ok_le ⟨by omega, by omega⟩ ⟨by omega, by omega⟩ (fun q => ?_) (fun q => ?_)
        · rw [if_pos ⟨q1, q2, q3, q⟩]
          have hcond : (0 ≤ kk ∧ kk ≤ 3 + W 8) ∧ (((0 : Int) ≤ 0 ∧ 0 < W 0) ∧ (0 : Int) ≤ 0 ∧ 0 < W 1) ∧ (0 : Int) ≤ 0 ∧ (0 : Int) ≤ 1000000 := by
            by_cases z : (0 ≤ kk ∧ kk ≤ 3 + W 8) ∧ (((0 : Int) ≤ 0 ∧ 0 < W 0) ∧ (0 : Int) ≤ 0 ∧ 0 < W 1) ∧ (0 : Int) ≤ 0 ∧ (0 : Int) ≤ 1000000
            · exact z
            · unfold mnV at q
              rw [if_neg z] at q
              omega
          obtain ⟨⟨o, g1, g2, hc⟩, hD⟩ := t1 hcond
          have hvv : 0 ≤ vG W (S 0) RC kk.toNat false 0 0 (0 % W 9) := by
            unfold mnV at q
            rw [if_pos hcond] at q
            exact q
          have b1 := b.q f1
          have f2 : Fq ρ s1 (uJ s1 25 (g 0) (i32 seed).toInt64) := Fq.uJ
          have hoc : OC g ρ W S V m Tp RC kk.toNat o (uJ s1 25 (g 0) (i32 seed).toInt64) := ⟨b1.q f2, hc.2.2.2.1.q f2, hc.2.2.2.2.1, hD⟩
          refine ok_pJ b1.1 rfl ?_
          have hj0 : cJ (uJ s1 25 (g 0) (i32 seed).toInt64) 25 (g 0) = i64 seed := by
            rw [← i32_long ⟨by omega, by omega⟩]
            simp [cJ, uJ, up2]
          have L := ns_loop (nf := nf) hW hS hn0 q1 hvv hoc ⟨get_q f2 g1, g2⟩ (many := many.toNat) (by omega) q3 many.toNat nf 0 _ (by omega) (by omega) Fy.rf hj0
          rw [Int.toNat_of_nonneg hcond.1.1, Int.toNat_of_nonneg (show 0 ≤ many by omega)] at L
          exact ok_w L fun p hp => ⟨hp.1, (f1.tr f2).tr (hp.2.q (by rw [b_28 hoc.1]; rfl))⟩
        · rw [if_neg (fun z => by omega)]
          exact ok_s ⟨rfl, f1⟩
      · rw [decide_eq_false q3, if_pos (show bi false = (i32 0 : Int32) from rfl), if_neg (fun z => q3 z.2.2.1)]
        exact ok_s ⟨rfl, Fq.rf⟩
    · rw [decide_eq_false q2, if_pos (show bi false = (i32 0 : Int32) from rfl), if_neg (fun z => q2 z.2.1)]
      exact ok_s ⟨rfl, Fq.rf⟩
  · rw [decide_eq_false q1, if_pos (show bi false = (i32 0 : Int32) from rfl), if_neg (fun z => q1 z.1)]
    exact ok_s ⟨rfl, Fq.rf⟩
end NI
