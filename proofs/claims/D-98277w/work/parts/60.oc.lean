/-! LAYER 2: odds, the component -/
set_option maxRecDepth 100000
/-- nothing but one array and rules' facts is another -/
def Fz (ρ : Nat → Nat × Nat) (a0 : Nat) (s s' : CS) : Prop := s'.1 = s.1 ∧ (∀ f a, cI s' f a = cI s f a) ∧ (∀ f a, cR s' f a = cR s f a) ∧ (∀ a, ¬ (ρ a).1 = 29 → ¬ a = a0 → cA s' a = cA s a) ∧ (∀ a, cQ s' a = cQ s a) ∧ cz s' = cz s ∧ cl s' = cl s ∧ (∀ f a, cJ s' f a = cJ s f a) ∧ ∀ a, cB s' a = cB s a
theorem Fz.rf {ρ : Nat → Nat × Nat} {a0 : Nat} {s : CS} : Fz ρ a0 s s := ⟨rfl, fun _ _ => rfl, fun _ _ => rfl, fun _ _ _ => rfl, fun _ => rfl, rfl, rfl, fun _ _ => rfl, fun _ => rfl⟩
theorem Fz.tr {ρ : Nat → Nat × Nat} {a0 : Nat} {s s1 s2 : CS} (h : Fz ρ a0 s s1) (k : Fz ρ a0 s1 s2) : Fz ρ a0 s s2 := ⟨k.1.trans h.1, fun f a => (k.2.1 f a).trans (h.2.1 f a), fun f a => (k.2.2.1 f a).trans (h.2.2.1 f a), fun a q r => (k.2.2.2.1 a q r).trans (h.2.2.2.1 a q r), fun a => (k.2.2.2.2.1 a).trans (h.2.2.2.2.1 a), k.2.2.2.2.2.1.trans h.2.2.2.2.2.1, k.2.2.2.2.2.2.1.trans h.2.2.2.2.2.2.1, fun f a => (k.2.2.2.2.2.2.2.1 f a).trans (h.2.2.2.2.2.2.2.1 f a), fun a => (k.2.2.2.2.2.2.2.2 a).trans (h.2.2.2.2.2.2.2.2 a)⟩
theorem Ff.z {ρ : Nat → Nat × Nat} {a0 : Nat} {s s' : CS} (h : Ff ρ s s') : Fz ρ a0 s s' := ⟨h.1, h.2.1, h.2.2.1, fun a q _ => h.2.2.2.1 a q, h.2.2.2.2.1, h.2.2.2.2.2.1, h.2.2.2.2.2.2.1, h.2.2.2.2.2.2.2.1, h.2.2.2.2.2.2.2.2⟩
theorem Fz.uA {ρ : Nat → Nat × Nat} {a0 : Nat} {s : CS} {i : Nat} {v : Int32} : Fz ρ a0 s (uA s a0 i v) := by
  refine ⟨rfl, fun _ _ => rfl, fun _ _ => rfl, fun a' _ q => ?_, fun _ => rfl, rfl, rfl, fun _ _ => rfl, fun _ => rfl⟩
  show (if a' = a0 then upd (cA s a0) i v else cA s a') = cA s a'
  rw [if_neg q]
theorem Fz.q {ρ : Nat → Nat × Nat} {a0 : Nat} {s s' : CS} (h : Fz ρ a0 s s') (h20 : scA (ρ a0) = true) : Fq ρ s s' := by
  refine ⟨h.1, fun f a _ => h.2.1 f a, h.2.2.1, fun a q => h.2.2.2.1 a ?_ ?_, h.2.2.2.2.1, h.2.2.2.2.2.1, h.2.2.2.2.2.2.1⟩
  · intro e
    have q := of_decide_eq_false q
    omega
  · rintro rfl
    rw [h20] at q
    cases q
section OC_
variable {g : Nat → Nat} {ρ : Nat → Nat × Nat} {W : Nat → Int} {S : Nat → Nat → Int} {V m Tp : Nat → Int} {RC : Nat → List (Nat × Int)} {s : CS} {τ : TS} {T N : Int} {nf : Nat} {σ : Nat → Int} {k o : Nat} {sec due : Int}
theorem b_22 (b : B g ρ W S V m Tp RC s) : ρ (g 22) = (22, 0) := (b.2.1 8 _ rfl).2.2
/-- what odds are worked by -/
def OC (g : Nat → Nat) (ρ : Nat → Nat × Nat) (W : Nat → Int) (S : Nat → Nat → Int) (V m Tp : Nat → Int) (RC : Nat → List (Nat × Int)) (k o : Nat) (s : CS) : Prop := B g ρ W S V m Tp RC s ∧ GO ρ RC s k o ∧ cI s 10 (g 0) = bi false ∧ Dn s g W (vG W (S 0) RC k false) (fun _ _ => True)
theorem OC.z {a0 : Nat} {s' : CS} (h : OC g ρ W S V m Tp RC k o s) (q : Fz ρ a0 s s') (h0 : scA (ρ a0) = true) (hn : ¬ g 20 = a0) : OC g ρ W S V m Tp RC k o s' := by
  obtain ⟨h1, h2, h3, h4⟩ := h
  have qq := q.q h0
  refine ⟨h1.q qq, h2.q qq, by rw [q.2.1]; exact h3, fun x y hp hx hy => ?_⟩
  have := h4 x y hp hx hy
  unfold Tab at this ⊢
  rw [q.2.2.2.1 (g 20) (by rw [b_20 h1]; decide) hn]
  exact this
theorem OC.od {s' : CS} (h : OC g ρ W S V m Tp RC k o s) (q : Fz ρ (g 22) s s') : OC g ρ W S V m Tp RC k o s' := h.z q (by rw [b_22 h.1]; rfl) (fun e => by
  have e1 := b_20 h.1
  rw [e, b_22 h.1] at e1
  cases e1)
/-- a kept odds' place -/
def oIx (x y : Nat) (i : Int) : Nat := ((((y : Int) * 6) + (x : Int)) * 1171 + i).toNat
theorem oIx_i {x y x' y' : Nat} {t t' : Int} (hx : x < 6) (hx' : x' < 6) (h0 : 0 ≤ t) (h1 : t < 1171) (h0' : 0 ≤ t') (h1' : t' < 1171) (e : oIx x y t = oIx x' y' t') : x = x' ∧ y = y' ∧ t = t' := by
  unfold oIx at e
  omega
def Mo (g : Nat → Nat) (W σ : Nat → Int) (RC : Nat → List (Nat × Int)) (k : Nat) (sec due : Int) (s : CS) : Prop := ∀ (x y : Nat) (i : Int), (x : Int) < W 0 → (y : Int) < W 1 → 0 ≤ i → i < 1171 → cA s (g 22) (oIx x y i) = i32 (-1) ∨ (0 ≤ vG W σ RC k false x y ((sec + i) % W 9) ∧ cA s (g 22) (oIx x y i) = i32 (prV W σ RC k sec due x y i))
theorem Mo.f {s' : CS} (b : B g ρ W S V m Tp RC s) (h : Mo g W σ RC k sec due s) (q : Ff ρ s s') : Mo g W σ RC k sec due s' := by
  unfold Mo
  rw [q.2.2.2.1 (g 22) (by rw [b_22 b]; decide)]
  exact h
theorem Mo.put (hW : TW W) {x y : Nat} {i : Int} (h : Mo g W σ RC k sec due s) (hx : (x : Int) < W 0) (hi : 0 ≤ i ∧ i < 1171) (hv : 0 ≤ vG W σ RC k false x y ((sec + i) % W 9)) : Mo g W σ RC k sec due (uA s (g 22) (oIx x y i) (i32 (prV W σ RC k sec due x y i))) := by
  have w0 := hW.1
  intro x' y' i' hx' hy' h0' h1'
  have e : cA (uA s (g 22) (oIx x y i) (i32 (prV W σ RC k sec due x y i))) (g 22) = upd (cA s (g 22)) (oIx x y i) (i32 (prV W σ RC k sec due x y i)) := if_pos rfl
  rw [e]
  by_cases q : oIx x' y' i' = oIx x y i
  · obtain ⟨rfl, rfl, rfl⟩ := oIx_i (by omega) (by omega) h0' h1' hi.1 hi.2 q
    rw [upd_e]
    exact .inr ⟨hv, rfl⟩
  · rw [upd_n _ _ q]
    exact h x' y' i' hx' hy' h0' h1'
/-- what odds on from a corner are -/
def RcP (g : Nat → Nat) (ρ : Nat → Nat × Nat) (W : Nat → Int) (S : Nat → Nat → Int) (V m Tp : Nat → Int) (RC : Nat → List (Nat × Int)) (k o : Nat) (sec due : Int) (rc : Nat → Nat → Int32 → Int32 → Int32 → Int32 → Int32 → CS → Option (Int32 × CS)) (d : Nat) : Prop := ∀ (x y : Nat) (i : Int) (s : CS), (x : Int) < W 0 → (y : Int) < W 1 → dsA W x y = d → 0 ≤ i → i + 89 * d ≤ 1170 → 0 ≤ vG W (S 0) RC k false x y ((sec + i) % W 9) → OC g ρ W S V m Tp RC k o s → Mo g W (S 0) RC k sec due s → Ok (rc (g 0) o (i32 x) (i32 y) (i32 i) (i32 sec) (i32 due) s) fun p => p.1 = i32 (prV W (S 0) RC k sec due x y i) ∧ Fz ρ (g 22) s p.2 ∧ Mo g W (S 0) RC k sec due p.2
theorem ok_oddsBy (hW : TW W) (hsec : 0 ≤ sec ∧ sec ≤ 1000000) {rc : Nat → Nat → Int32 → Int32 → Int32 → Int32 → Int32 → CS → Option (Int32 × CS)} {d : Nat} (hrc : RcP g ρ W S V m Tp RC k o sec due rc d) {x y : Nat} {i lt : Int} (hx : (x : Int) < W 0) (hy : (y : Int) < W 1) (hd : dsA W x y = d + 1) (h0 : 0 ≤ i) (h1 : i + 89 * (d + 1 : Nat) ≤ 1170) (l0 : 0 ≤ lt) (l1 : lt ≤ 1100000) (hs : 0 ≤ snN W k (goR RC) 1000 (vG W (S 0) RC k false) x y (sec + i) lt) (hc : OC g ρ W S V m Tp RC k o s) (hm : Mo g W (S 0) RC k sec due s) {w : Bool} (hw : w = wyN W k (goR RC) 1000 (vG W (S 0) RC k false) x y (sec + i) lt) : Ok (FX0_oddsBy rc (g 0) o (i32 x) (i32 y) (i32 i) (i32 sec) (i32 due) (i32 lt) s) fun p => p.1 = i32 (prN W (S 0) RC k sec due d (nx w x) (ny w y) (i + wtA W x y w lt + W 2)) ∧ Fz ρ (g 22) s p.2 ∧ Mo g W (S 0) RC k sec due p.2 := by
  have w0 := hW.1
  have w1 := hW.2.1
  have w2 := hW.2.2.1
  obtain ⟨b, ho, h10, hD⟩ := id hc
  have hV : VS W (S 0) k (goR RC) false false (-1) 0 (vG W (S 0) RC k false) := vT_VS
  have hN := hD.nx (VS_Rb hW hV) hx hy
  obtain ⟨p1, p2, p3, p4, p5, p6, p7⟩ := od_step hW hx hy hs hw
  obtain ⟨-, -, q4, -⟩ := sn_way hs
  have e0 : FX0_waits s (g 0) (i32 x) (i32 y) 0 (i32 lt) = some (i32 (wtN W x y false lt)) := c_wts (way := false) b hW (by omega) (by omega) l0 (by omega)
  have e1 : FX0_waits s (g 0) (i32 x) (i32 y) 1 (i32 lt) = some (i32 (wtN W x y true lt)) := c_wts (way := true) b hW (by omega) (by omega) l0 (by omega)
  unfold FX0_oddsBy
  refine ok_mz (ok_gd b.1 rfl ?_) (fun z hz => by rw [hz.2.1.2.2.2.2.2.1, hz.2.1.2.2.2.2.2.2.1]; exact ⟨Nat.le_refl _, Nat.le_refl _⟩)
  refine ok_be e0 (ok_be e1 ?_)
  rw [i32_add]
  refine ok_2 (ok_wayOf (wst := false) b hW ho h10 hx hy (fun _ => hN) (t := sec + i) (by omega) (by omega)) fun v s1 hv => ?_
  obtain ⟨v1, f1⟩ := hv
  have v1 : v = bi w := by
    rw [if_neg q4] at v1
    rw [hw]
    exact v1
  have hc1 := hc.od (f1.z (a0 := g 22))
  have hm1 := hm.f b f1
  have b1 := hc1.1
  have L := hrc (nx w x) (ny w y) (i + wtA W x y w lt + W 2) s1 p2 p3 (by omega) (by omega) (by omega) (by rw [show sec + (i + wtA W x y w lt + W 2) = sec + i + (wtA W x y w lt + W 2) by omega]; exact p7) hc1 hm1
  have go : ∀ u, u = i32 (wtN W x y w lt) → Ok (FX0_oddsBy_b54 rc (g 0) o (i32 x) (i32 y) (i32 sec) (i32 due) (bi w) u (i32 i) s1) fun p => p.1 = i32 (prN W (S 0) RC k sec due d (nx w x) (ny w y) (i + wtA W x y w lt + W 2)) ∧ Fz ρ (g 22) s p.2 ∧ Mo g W (S 0) RC k sec due p.2 := fun u hu => by
    unfold FX0_oddsBy_b54 FX0_oddsBy_b79 FX0_oddsBy_b91
    refine ok_gRs b1.1 rfl (b1.2.1 2 _ rfl).1 (ok_nn (ok_be (c_walk b1 hW) ?_))
    rw [hu, p5, nm_eq, i32_add, i32_add, show (1 : Int32) = i32 1 from rfl, i32_add, i32_add]
    have L2 := ok_w L fun p hp => (⟨by rw [hp.1]; unfold prV; rw [show dsA W (nx w x) (ny w y) = d by omega], (f1.z).tr hp.2.1, hp.2.2⟩ : p.1 = i32 (prN W (S 0) RC k sec due d (nx w x) (ny w y) (i + wtA W x y w lt + W 2)) ∧ Fz ρ (g 22) s p.2 ∧ Mo g W (S 0) RC k sec due p.2)
    cases w with
    | true =>
      rw [if_neg (show ¬ bi true = (0 : Int32) by decide), if_neg (show ¬ bi true = (0 : Int32) by decide)]
      exact ok_2 L2 fun v s2 hv => ok_s hv
    | false =>
      rw [if_pos (show bi false = (0 : Int32) from rfl), if_pos (show bi false = (0 : Int32) from rfl)]
      exact ok_2 L2 fun v s2 hv => ok_s hv
  rw [v1]
  cases w with
  | true =>
    rw [if_neg (show ¬ bi true = (0 : Int32) by decide)]
    exact go _ rfl
  | false =>
    rw [if_pos (show bi false = (0 : Int32) from rfl)]
    exact go _ rfl
theorem oh_loop (hW : TW W) (hsec : 0 ≤ sec ∧ sec ≤ 1000000) {rc : Nat → Nat → Int32 → Int32 → Int32 → Int32 → Int32 → CS → Option (Int32 × CS)} {d0 : Nat} (hrc : RcP g ρ W S V m Tp RC k o sec due rc d0) {x y : Nat} {i : Int} (hx : (x : Int) < W 0) (hy : (y : Int) < W 1) (hd0 : dsA W x y = d0 + 1) (h0 : 0 ≤ i) (h1 : i + 89 * (d0 + 1 : Nat) ≤ 1170) (hu : unA W (S 0) (6 * y + x) = true) (hv : 0 ≤ vG W (S 0) RC k false x y ((sec + i) % W 9)) {F : Nat → Int} (hF : F = fun s : Nat => prN W (S 0) RC k sec due d0 (nx (wyN W k (goR RC) 1000 (vG W (S 0) RC k false) x y (sec + i) s) x) (ny (wyN W k (goR RC) 1000 (vG W (S 0) RC k false) x y (sec + i) s) y) (i + wtA W x y (wyN W k (goR RC) 1000 (vG W (S 0) RC k false) x y (sec + i) s) s + W 2)) {rd : Nat} (erd : W (11 + 4 * (6 * y + x)) = rd) {s0 : CS} (hc0 : OC g ρ W S V m Tp RC k o s0) : ∀ (d n j : Nat) (s : CS), j + d = rd → d < n → Fz ρ (g 22) s0 s → Mo g W (S 0) RC k sec due s → Ok (FX0_oddsAt_b76 nf rc n (g 0) o (i32 x) (i32 y) (i32 i) (i32 sec) (i32 due) (i32 ((((y : Int) * 6) + (x : Int)) * 1171 + i)) (i64 (smN F j)) (i32 (j : Int)) s) fun p => p.1 = i32 (prV W (S 0) RC k sec due x y i) ∧ Fz ρ (g 22) s0 p.2 ∧ Mo g W (S 0) RC k sec due p.2 := by
  have w0 := hW.1
  have w1 := hW.2.1
  have w2 := hW.2.2.1
  have hr := un_rd hW (c := 6 * y + x) (by omega) hu
  have hkk := kw_b hW (c := 6 * y + x) (by omega)
  have hu2 := of_decide_eq_true hu
  have hh : hmA W x y = false := by unfold hmA; unfold dsA at hd0; exact decide_eq_false (by omega)
  obtain ⟨o1, -⟩ := od_sn hW hx hy hh hv
  have hFb : ∀ j : Nat, j < rd → 0 ≤ F j ∧ F j ≤ 1000000 := fun j hj => by
    obtain ⟨-, p2, p3, p4, -, p6, p7⟩ := od_step hW hx hy (o1 hu j (by omega)) rfl
    rw [show sec + i + (wtA W x y (wyN W k (goR RC) 1000 (vG W (S 0) RC k false) x y (sec + i) j) j + W 2) = sec + (i + wtA W x y (wyN W k (goR RC) 1000 (vG W (S 0) RC k false) x y (sec + i) j) j + W 2) by omega] at p7
    have := prN_b (σ := S 0) (RC := RC) (k := k) (sec := sec) (due := due) hW d0 _ _ (i + wtA W x y (wyN W k (goR RC) 1000 (vG W (S 0) RC k false) x y (sec + i) j) j + W 2) p2 p3 (by omega) (by omega) p7
    rw [hF]
    exact ⟨this.1, this.2.1⟩
  have hpr : prV W (S 0) RC k sec due x y i = smN F rd / (rd : Int) := by
    unfold prV
    rw [hd0]
    unfold prN
    rw [hu, if_pos rfl, ← hF, erd]
    rfl
  have hsb : ∀ j, j ≤ rd → 0 ≤ smN F j ∧ smN F j ≤ 1000000 * (j : Int) := fun j hj => smN_b fun q hq => hFb q (by omega)
  intro d
  induction d with
  | zero =>
    intro n j s hd hn hf hm
    obtain ⟨n, rfl⟩ : ∃ q, n = q + 1 := ⟨n - 1, by omega⟩
    have ej : j = rd := by omega
    subst ej
    have hc := hc0.od hf
    have b := hc.1
    have e := hsb j (by omega)
    rw [show FX0_oddsAt_b76 nf rc (n + 1) = FX0_oddsAt_b76_s nf rc (FX0_oddsAt_b76 nf rc n) from rfl]
    unfold FX0_oddsAt_b76_s
    refine ok_be (c_ltAt b (by omega) (by omega)) ?_
    rcases c_light0 b (c := 6 * y + x) (by omega) with ⟨z, -⟩ | ⟨-, l, hq, hl⟩
    · omega
    · rw [hq, nn_eq, (lf_cx hl (by omega) hkk.2).1, erd]
      refine ok_le ⟨by omega, by omega⟩ ⟨by omega, by omega⟩ (fun _ => ?_) (fun z => by omega)
      refine ok_gRs b.1 rfl (b.2.1 8 _ rfl).1 ?_
      refine ok_be (c_ltAt b (by omega) (by omega)) ?_
      have hq1 : 0 ≤ smN F j / (j : Int) := Int.ediv_nonneg e.1 (by omega)
      have hq2 : smN F j / (j : Int) ≤ smN F j := Int.ediv_le_self _ e.1
      rw [hq, nn_eq, (lf_cx hl (by omega) hkk.2).1, erd, i32_long ⟨by omega, by omega⟩, d64_n ⟨by omega, by omega⟩ (by omega), nn_eq, i64_div ⟨by omega, by omega⟩ ⟨by omega, by omega⟩ e.1 (by omega), i64_int ⟨by omega, by omega⟩, ← hpr]
      refine ok_tI (b.2.1 8 _ rfl).2.1 (by omega) (by show _ < ((63234 : Nat) : Int); omega) (by decide) ?_
      have b2 := b.q (Fz.q (a0 := g 22) Fz.uA (by rw [b_22 b]; rfl) : Fq ρ s (uA s (g 22) ((((y : Int) * 6) + (x : Int)) * 1171 + i).toNat (i32 (prV W (S 0) RC k sec due x y i))))
      refine ok_gRs b2.1 rfl (b2.2.1 8 _ rfl).1 (ok_nn ?_)
      refine ok_lI (b2.2.1 8 _ rfl).2.1 (by omega) (by show _ < ((63234 : Nat) : Int); omega) (by decide) ?_
      refine ok_s ⟨?_, hf.tr Fz.uA, hm.put hW hx ⟨h0, by omega⟩ hv⟩
      show (if g 22 = g 22 then upd (cA s (g 22)) _ _ else cA s (g 22)) _ = _
      rw [if_pos rfl, upd_e]
  | succ d ih =>
    intro n j s hd hn hf hm
    obtain ⟨n, rfl⟩ : ∃ q, n = q + 1 := ⟨n - 1, by omega⟩
    have hc := hc0.od hf
    have b := hc.1
    have e := hsb j (by omega)
    have hfj := hFb j (by omega)
    rw [show FX0_oddsAt_b76 nf rc (n + 1) = FX0_oddsAt_b76_s nf rc (FX0_oddsAt_b76 nf rc n) from rfl]
    unfold FX0_oddsAt_b76_s
    refine ok_be (c_ltAt b (by omega) (by omega)) ?_
    rcases c_light0 b (c := 6 * y + x) (by omega) with ⟨z, -⟩ | ⟨-, l, hq, hl⟩
    · omega
    · rw [hq, nn_eq, (lf_cx hl (by omega) hkk.2).1, erd]
      refine ok_le ⟨by omega, by omega⟩ ⟨by omega, by omega⟩ (fun z => by omega) (fun _ => ?_)
      refine ok_2 (ok_oddsBy hW hsec hrc hx hy hd0 h0 h1 (lt := (j : Int)) (by omega) (by omega) (o1 hu j (by omega)) hc hm rfl) fun v s1 hv => ?_
      have v1 : v = i32 (F j) := by rw [hF]; exact hv.1
      rw [v1, i32_long ⟨by omega, by omega⟩, nm_eq, i64_add, show (1 : Int32) = i32 1 from rfl, i32_add]
      exact ih n (j + 1) s1 (by omega) (by omega) (hf.tr hv.2.1) hv.2.2
theorem ok_oddsAt (hn : 2000 ≤ nf) (hW : TW W) (hS : SW W T (S 0)) (hsec : 0 ≤ sec ∧ sec ≤ 1000000) (hdue : 0 ≤ due ∧ due ≤ 1000000) : ∀ (d dp : Nat), d < dp → RcP g ρ W S V m Tp RC k o sec due (FX0_oddsAt nf dp) d := by
  have w0 := hW.1
  have w1 := hW.2.1
  have w2 := hW.2.2.1
  intro d
  induction d with
  | zero =>
    intro dp hdp x y i s hx hy hd h0 h1 hv hc hm
    obtain ⟨dp, rfl⟩ : ∃ q, dp = q + 1 := ⟨dp - 1, by omega⟩
    have hh : hmA W x y = true := by unfold hmA; unfold dsA at hd; exact decide_eq_true (by omega)
    have b := hc.1
    show Ok (FX0_oddsAt_s nf (FX0_oddsAt nf dp) _ _ _ _ _ _ _ s) _
    unfold FX0_oddsAt_s
    refine ok_mz (ok_gd b.1 rfl ?_) (fun z hz => by rw [hz.2.1.2.2.2.2.2.1, hz.2.1.2.2.2.2.2.2.1]; exact ⟨Nat.le_refl _, Nat.le_refl _⟩)
    unfold prV
    rw [hd, i32_add]
    unfold prN
    refine ok_le ⟨by omega, by omega⟩ ⟨by omega, by omega⟩ (fun q => ?_) (fun q => ?_)
    · refine ok_be (c_isHome b hW (by omega) (by omega)) ?_
      rw [hh, if_neg (show ¬ bi true = (0 : Int32) by decide), if_pos q]
      exact ok_s ⟨rfl, Fz.rf, hm⟩
    · rw [if_neg (by omega)]
      exact ok_s ⟨rfl, Fz.rf, hm⟩
  | succ d ih =>
    intro dp hdp x y i s hx hy hd h0 h1 hv hc hm
    obtain ⟨dp, rfl⟩ : ∃ q, dp = q + 1 := ⟨dp - 1, by omega⟩
    have hh : hmA W x y = false := by unfold hmA; unfold dsA at hd; exact decide_eq_false (by omega)
    have hrc := ih dp (by omega)
    have b := hc.1
    have hpb := prN_b (σ := S 0) (RC := RC) (k := k) (sec := sec) (due := due) hW (d + 1) x y i hx hy hd (by omega) hv
    have epr : prV W (S 0) RC k sec due x y i = prN W (S 0) RC k sec due (d + 1) x y i := by unfold prV; rw [hd]
    obtain ⟨o1, o2⟩ := od_sn hW hx hy hh hv
    show Ok (FX0_oddsAt_s nf (FX0_oddsAt nf dp) _ _ _ _ _ _ _ s) _
    unfold FX0_oddsAt_s
    refine ok_mz (ok_gd b.1 rfl ?_) (fun z hz => by rw [hz.2.1.2.2.2.2.2.1, hz.2.1.2.2.2.2.2.2.1]; exact ⟨Nat.le_refl _, Nat.le_refl _⟩)
    rw [i32_add]
    refine ok_le ⟨by omega, by omega⟩ ⟨by omega, by omega⟩ (fun q => ?_) (fun q => ?_)
    · refine ok_be (c_isHome b hW (by omega) (by omega)) ?_
      rw [hh, if_pos (show bi false = (0 : Int32) from rfl), nm_eq, nm_eq, show (6 : Int32) = i32 6 from rfl, show (1171 : Int32) = i32 1171 from rfl, i32_mul, i32_add, i32_mul, i32_add]
      refine ok_gRs b.1 rfl (b.2.1 8 _ rfl).1 (ok_nn ?_)
      refine ok_lI (b.2.1 8 _ rfl).2.1 (by omega) (by show _ < ((63234 : Nat) : Int); omega) (by decide) ?_
      have hix : ((((y : Int) * 6) + (x : Int)) * 1171 + i).toNat = oIx x y i := rfl
      rw [hix]
      rcases hm x y i hx hy h0 (by omega) with e | ⟨-, e⟩
      · rw [e, if_pos (show (i32 (-1) : Int32) < 0 by decide)]
        have eu := c_isUnknown b hW hS (c := 6 * y + x) (by omega)
        rw [show ((6 * y + x : Nat) : Int) = (y : Int) * 6 + (x : Int) by omega] at eu
        refine ok_be eu ?_
        cases hu : unA W (S 0) (6 * y + x) with
        | false =>
          rw [if_pos (show bi false = (0 : Int32) from rfl)]
          refine ok_gRs b.1 rfl (b.2.1 8 _ rfl).1 ?_
          refine ok_2 (ok_oddsBy hW hsec hrc hx hy hd h0 h1 (lt := sec + i) (by omega) (by omega) (o2 hu) hc hm rfl) fun v s1 hv1 => ?_
          obtain ⟨v1, f1, m1⟩ := hv1
          have v1 : v = i32 (prV W (S 0) RC k sec due x y i) := by
            rw [epr]
            unfold prN
            rw [hu, if_neg (by decide)]
            exact v1
          have b1 := (hc.od f1).1
          rw [v1]
          refine ok_nn (ok_tI (b1.2.1 8 _ rfl).2.1 (by omega) (by show _ < ((63234 : Nat) : Int); omega) (by decide) ?_)
          have b2 := b1.q (Fz.q (a0 := g 22) Fz.uA (by rw [b_22 b1]; rfl) : Fq ρ s1 (uA s1 (g 22) ((((y : Int) * 6) + (x : Int)) * 1171 + i).toNat (i32 (prV W (S 0) RC k sec due x y i))))
          refine ok_gRs b2.1 rfl (b2.2.1 8 _ rfl).1 (ok_nn ?_)
          refine ok_lI (b2.2.1 8 _ rfl).2.1 (by omega) (by show _ < ((63234 : Nat) : Int); omega) (by decide) ?_
          refine ok_s ⟨?_, f1.tr Fz.uA, m1.put hW hx ⟨h0, by omega⟩ hv⟩
          show (if g 22 = g 22 then upd (cA s1 (g 22)) _ _ else cA s1 (g 22)) _ = _
          rw [if_pos rfl, upd_e]
        | true =>
          rw [if_neg (show ¬ bi true = (0 : Int32) by decide)]
          have hr := un_rd hW (c := 6 * y + x) (by omega) hu
          exact oh_loop (nf := nf) hW hsec hrc hx hy hd h0 h1 hu hv rfl (rd := (W (11 + 4 * (6 * y + x))).toNat) (by omega) hc (W (11 + 4 * (6 * y + x))).toNat nf 0 s (by omega) (by omega) Fz.rf hm
      · rw [e, epr, if_neg (show ¬ (i32 (prN W (S 0) RC k sec due (d + 1) x y i) : Int32) < 0 from fun z => by
          have := (i32_lt (b := 0) ⟨by omega, by omega⟩ ⟨by omega, by omega⟩).mp z
          omega)]
        refine ok_gRs b.1 rfl (b.2.1 8 _ rfl).1 (ok_nn ?_)
        refine ok_lI (b.2.1 8 _ rfl).2.1 (by omega) (by show _ < ((63234 : Nat) : Int); omega) (by decide) ?_
        rw [hix, e]
        exact ok_s ⟨by rw [epr], Fz.rf, hm⟩
    · rw [epr, hpb.2.2 q]
      exact ok_s ⟨rfl, Fz.rf, hm⟩
def odV (W σ : Nat → Int) (RC : Nat → List (Nat × Int)) (k sec due : Int) : Int := if 0 ≤ due ∧ due ≤ 1000000 then (if mnV W σ RC false k 0 0 sec < 0 then -1 else prV W σ RC k.toNat sec due 0 0 0) else -1
theorem of_loop (hn : 70000 ≤ nf) (hW : TW W) (hS : SW W T (S 0)) (hsec : 0 ≤ sec ∧ sec ≤ 1000000) (hdue : 0 ≤ due ∧ due ≤ 1000000) (hv : 0 ≤ vG W (S 0) RC k false 0 0 (sec % W 9)) {s0 : CS} (hc0 : OC g ρ W S V m Tp RC k o s0) (hg : FJ2_get s0 (g 11) (i32 (k : Int)) = some (some o) ∧ isK s0 o [4, 5, 6, 16] = true) : ∀ (d n j : Nat) (s : CS), j + d = 63234 → d < n → Fz ρ (g 22) s0 s → (∀ q, q < j → cA s (g 22) q = i32 (-1)) → Ok (FX0_odds_b23 nf n (g 0) (i32 (k : Int)) (i32 sec) (i32 due) (i32 (j : Int)) s) fun p => p.1 = i32 (prV W (S 0) RC k sec due 0 0 0) ∧ Fz ρ (g 22) s0 p.2 := by
  have w0 := hW.1
  have w1 := hW.2.1
  intro d
  induction d with
  | zero =>
    intro n j s hd hn2 hf hj
    obtain ⟨n, rfl⟩ : ∃ q, n = q + 1 := ⟨n - 1, by omega⟩
    have hc := hc0.od hf
    have b := hc.1
    have ej : j = 63234 := by omega
    have hal : ∀ {α : Type} (K : Int32 → Option α), aLn s (g 22) K = K (i32 63234) := fun K => by
      unfold aLn
      rw [(b.2.1 8 _ rfl).2.1]
      rfl
    rw [show FX0_odds_b23 nf (n + 1) = FX0_odds_b23_s nf (FX0_odds_b23 nf n) from rfl]
    unfold FX0_odds_b23_s
    refine ok_gRs b.1 rfl (b.2.1 8 _ rfl).1 (ok_nn ?_)
    rw [hal]
    refine ok_le ⟨by omega, by omega⟩ ⟨by omega, by omega⟩ (fun _ => ?_) (fun z => by omega)
    refine ok_gRs b.1 rfl (b.2.1 2 _ rfl).1 (ok_nn (ok_gRs (b.2.1 2 _ rfl).2.1 rfl (b.2.1 19 _ rfl).1 (ok_nn ?_)))
    have fq := hf.q (by rw [b_22 hc0.1]; rfl)
    refine ok_be (get_q fq hg.1) (ok_nn (ok_g (by rw [← hg.2]; unfold isK; rw [hf.1]) ?_))
    have hd13 := ds_b (x := 0) (y := 0) hW
    have L : Ok (FX0_oddsAt nf 20 (g 0) o 0 0 0 (i32 sec) (i32 due) s) fun p => p.1 = i32 (prV W (S 0) RC k sec due 0 0 0) ∧ Fz ρ (g 22) s p.2 ∧ Mo g W (S 0) RC k sec due p.2 := ok_oddsAt (nf := nf) (g := g) (ρ := ρ) (S := S) (V := V) (m := m) (Tp := Tp) (RC := RC) (k := k) (o := o) (by omega) hW hS hsec hdue (dsA W 0 0) 20 (by omega) 0 0 0 s (by omega) (by omega) rfl (by omega) (by omega) (by rw [Int.add_zero]; exact hv) hc (fun x y i hx hy h0 h1 => .inl (hj _ (by unfold oIx; omega)))
    refine ok_2 L fun v s1 hv1 => ?_
    exact ok_s ⟨hv1.1, hf.tr hv1.2.1⟩
  | succ d ih =>
    intro n j s hd hn2 hf hj
    obtain ⟨n, rfl⟩ : ∃ q, n = q + 1 := ⟨n - 1, by omega⟩
    have hc := hc0.od hf
    have b := hc.1
    have hal : ∀ {α : Type} (K : Int32 → Option α), aLn s (g 22) K = K (i32 63234) := fun K => by
      unfold aLn
      rw [(b.2.1 8 _ rfl).2.1]
      rfl
    rw [show FX0_odds_b23 nf (n + 1) = FX0_odds_b23_s nf (FX0_odds_b23 nf n) from rfl]
    unfold FX0_odds_b23_s
    refine ok_gRs b.1 rfl (b.2.1 8 _ rfl).1 (ok_nn ?_)
    rw [hal]
    refine ok_le ⟨by omega, by omega⟩ ⟨by omega, by omega⟩ (fun z => by omega) (fun _ => ?_)
    refine ok_gRs b.1 rfl (b.2.1 8 _ rfl).1 (ok_nn ?_)
    refine ok_tI (b.2.1 8 _ rfl).2.1 (by omega) (by show _ < ((63234 : Nat) : Int); omega) (by decide) ?_
    rw [show (1 : Int32) = i32 1 from rfl, i32_add, Int.toNat_natCast]
    refine ih n (j + 1) _ (by omega) (by omega) (hf.tr Fz.uA) fun q hq => ?_
    show (if g 22 = g 22 then upd (cA s (g 22)) j (-1) else cA s (g 22)) q = _
    rw [if_pos rfl]
    by_cases e : q = j
    · rw [e, upd_e]
      rfl
    · rw [upd_n _ _ e]
      exact hj q (by omega)
theorem ok_odds (hn : 70000 ≤ nf) (b : B g ρ W S V m Tp RC s) (hW : TW W) (hS : SW W T (S 0)) {kk sec due : Int} (hk : ok32 kk) (hsec : ok32 sec) (hdue : ok32 due) : Ok (FX0_odds nf (g 0) (i32 kk) (i32 sec) (i32 due) s) fun p => p.1 = i32 (odV W (S 0) RC kk sec due) ∧ Fq ρ s p.2 := by
  have w0 := hW.1
  have w1 := hW.2.1
  have hmb := mnV_b (RC := RC) (wst := false) (σ := S 0) (k := kk) (x := 0) (y := 0) (t := sec) hW
  unfold FX0_odds odV
  refine ok_mq (ρ := ρ) (ok_gd b.1 rfl ?_) (fun z hz => hz.2)
  refine ok_be (c_isSecond hdue) ?_
  by_cases q1 : 0 ≤ due ∧ due ≤ 1000000
  · rw [decide_eq_true q1, if_neg (show ¬ bi true = (0 : Int32) by decide), if_pos q1, show (0 : Int32) = i32 0 from rfl]
    refine ok_2 (ok_mn (x := 0) (y := 0) (by omega) b hW hS hk ⟨by omega, by omega⟩ ⟨by omega, by omega⟩ hsec) fun v s1 hv => ?_
    obtain ⟨v1, f1, t1⟩ := hv
    have v1 : v = _ := v1
    rw [v1]
    refine ok_le ⟨by omega, by omega⟩ ⟨by omega, by omega⟩ (fun q => ?_) (fun q => ?_)
    · rw [if_neg (show ¬ mnV W (S 0) RC false kk 0 0 sec < 0 by omega)]
      have hcond : (0 ≤ kk ∧ kk ≤ 3 + W 8) ∧ (((0 : Int) ≤ 0 ∧ 0 < W 0) ∧ (0 : Int) ≤ 0 ∧ 0 < W 1) ∧ 0 ≤ sec ∧ sec ≤ 1000000 := by
        by_cases z : (0 ≤ kk ∧ kk ≤ 3 + W 8) ∧ (((0 : Int) ≤ 0 ∧ 0 < W 0) ∧ (0 : Int) ≤ 0 ∧ 0 < W 1) ∧ 0 ≤ sec ∧ sec ≤ 1000000
        · exact z
        · unfold mnV at q
          rw [if_neg z] at q
          omega
      obtain ⟨⟨o, g1, g2, hc⟩, hD⟩ := t1 hcond
      have hvv : 0 ≤ vG W (S 0) RC kk.toNat false 0 0 (sec % W 9) := by
        unfold mnV at q
        rw [if_pos hcond] at q
        exact q
      have hoc : OC g ρ W S V m Tp RC kk.toNat o s1 := ⟨b.q f1, hc.2.2.2.1, hc.2.2.2.2.1, hD⟩
      have L := of_loop hn hW hS hcond.2.2 q1 hvv hoc ⟨g1, g2⟩ 63234 nf 0 s1 (by omega) (by omega) Fz.rf (fun q z => by omega)
      rw [Int.toNat_of_nonneg hcond.1.1] at L
      exact ok_w L fun p hp => ⟨hp.1, f1.tr (hp.2.q (by rw [b_22 (b.q f1)]; rfl))⟩
    · rw [if_pos q]
      exact ok_s ⟨rfl, f1⟩
  · rw [decide_eq_false q1, if_pos (show bi false = (0 : Int32) from rfl), if_neg q1]
    exact ok_s ⟨rfl, Fq.rf⟩
end OC_
