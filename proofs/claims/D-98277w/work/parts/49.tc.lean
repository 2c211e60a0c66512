/-! LAYER 2: the component's tables, worked from home back -/
set_option maxRecDepth 100000
/-- nothing but the table of takes and rules' facts is another -/
def Fw (ρ : Nat → Nat × Nat) (g : Nat → Nat) (s s' : CS) : Prop := s'.1 = s.1 ∧ (∀ f a, cI s' f a = cI s f a) ∧ (∀ f a, cR s' f a = cR s f a) ∧ (∀ a, ¬ (ρ a).1 = 29 → ¬ a = g 20 → cA s' a = cA s a) ∧ (∀ a, cQ s' a = cQ s a) ∧ cz s' = cz s ∧ cl s' = cl s ∧ (∀ f a, cJ s' f a = cJ s f a) ∧ ∀ a, cB s' a = cB s a
theorem Fw.rf {ρ : Nat → Nat × Nat} {g : Nat → Nat} {s : CS} : Fw ρ g s s := ⟨rfl, fun _ _ => rfl, fun _ _ => rfl, fun _ _ _ => rfl, fun _ => rfl, rfl, rfl, fun _ _ => rfl, fun _ => rfl⟩
theorem Fw.tr {ρ : Nat → Nat × Nat} {g : Nat → Nat} {s s1 s2 : CS} (h : Fw ρ g s s1) (k : Fw ρ g s1 s2) : Fw ρ g s s2 := ⟨k.1.trans h.1, fun f a => (k.2.1 f a).trans (h.2.1 f a), fun f a => (k.2.2.1 f a).trans (h.2.2.1 f a), fun a q r => (k.2.2.2.1 a q r).trans (h.2.2.2.1 a q r), fun a => (k.2.2.2.2.1 a).trans (h.2.2.2.2.1 a), k.2.2.2.2.2.1.trans h.2.2.2.2.2.1, k.2.2.2.2.2.2.1.trans h.2.2.2.2.2.2.1, fun f a => (k.2.2.2.2.2.2.2.1 f a).trans (h.2.2.2.2.2.2.2.1 f a), fun a => (k.2.2.2.2.2.2.2.2 a).trans (h.2.2.2.2.2.2.2.2 a)⟩
theorem Ff.w {ρ : Nat → Nat × Nat} {g : Nat → Nat} {s s' : CS} (h : Ff ρ s s') : Fw ρ g s s' := ⟨h.1, h.2.1, h.2.2.1, fun a q _ => h.2.2.2.1 a q, h.2.2.2.2.1, h.2.2.2.2.2.1, h.2.2.2.2.2.2.1, h.2.2.2.2.2.2.2.1, h.2.2.2.2.2.2.2.2⟩
theorem Fw.uA {ρ : Nat → Nat × Nat} {g : Nat → Nat} {s : CS} {i : Nat} {v : Int32} : Fw ρ g s (uA s (g 20) i v) := by
  refine ⟨rfl, fun _ _ => rfl, fun _ _ => rfl, fun a' _ q => ?_, fun _ => rfl, rfl, rfl, fun _ _ => rfl, fun _ => rfl⟩
  show (if a' = g 20 then upd (cA s (g 20)) i v else cA s a') = cA s a'
  rw [if_neg q]
theorem Fw.q {ρ : Nat → Nat × Nat} {g : Nat → Nat} {s s' : CS} (h : Fw ρ g s s') (h20 : ρ (g 20) = (20, 0)) : Fq ρ s s' := by
  refine ⟨h.1, fun f a _ => h.2.1 f a, h.2.2.1, fun a q => h.2.2.2.1 a ?_ ?_, h.2.2.2.2.1, h.2.2.2.2.2.1, h.2.2.2.2.2.2.1⟩
  · intro e
    have q := of_decide_eq_false q
    omega
  · rintro rfl
    rw [h20] at q
    cases q
section TC
variable {g : Nat → Nat} {ρ : Nat → Nat × Nat} {W : Nat → Int} {S : Nat → Nat → Int} {V m Tp : Nat → Int} {RC : Nat → List (Nat × Int)} {s0 s : CS} {T : Int}
/-- rows that are worked -/
def Dn (s : CS) (g : Nat → Nat) (W : Nat → Int) (R : Nat → Nat → Int → Int) (P : Nat → Nat → Prop) : Prop := ∀ x y : Nat, P x y → (x : Int) < W 0 → (y : Int) < W 1 → Tab s g W R x y
theorem Dn.f {s' : CS} {R : Nat → Nat → Int → Int} {P : Nat → Nat → Prop} (b : B g ρ W S V m Tp RC s) (h : Dn s g W R P) (k : Ff ρ s s') : Dn s' g W R P := fun x y hp hx hy => (h x y hp hx hy).f b k
theorem tb_ix {x y x' y' : Nat} {t t' : Int} (hx : x < 6) (hx' : x' < 6) (h0 : 0 ≤ t) (h1 : t < 1200) (h0' : 0 ≤ t') (h1' : t' < 1200) (e : ((((y : Int) * 6) + (x : Int)) * 1200 + t).toNat = ((((y' : Int) * 6) + (x' : Int)) * 1200 + t').toNat) : x = x' ∧ y = y' ∧ t = t' := by omega
theorem Tab.o {R : Nat → Nat → Int → Int} {x y x' y' : Nat} {t : Int} {v : Int32} (hW : TW W) (h : Tab s g W R x' y') (hx : (x : Int) < W 0) (hx' : (x' : Int) < W 0) (h0 : 0 ≤ t) (h1 : t < W 9) (hn : ¬ (x = x' ∧ y = y')) : Tab (uA s (g 20) ((((y : Int) * 6) + (x : Int)) * 1200 + t).toNat v) g W R x' y' := by
  have w0 := hW.1
  have w9 := hW.2.2.2.2.2.2.2.2.2.1
  intro t' h0' h1'
  show (if g 20 = g 20 then upd (cA s (g 20)) _ v else cA s (g 20)) _ = _
  rw [if_pos rfl, upd_n, h t' h0' h1']
  intro e
  have := tb_ix (by omega) (by omega) h0' (by omega) h0 (by omega) e
  omega
theorem Dn.o {R : Nat → Nat → Int → Int} {P : Nat → Nat → Prop} {x y : Nat} {t : Int} {v : Int32} (hW : TW W) (h : Dn s g W R P) (hx : (x : Int) < W 0) (h0 : 0 ≤ t) (h1 : t < W 9) (hn : ¬ P x y) : Dn (uA s (g 20) ((((y : Int) * 6) + (x : Int)) * 1200 + t).toNat v) g W R P := fun x' y' hp hx' hy' => (h x' y' hp hx' hy').o hW hx hx' h0 h1 (by rintro ⟨rfl, rfl⟩; exact hn hp)
/-- what the tables are worked by -/
def Tcx (g : Nat → Nat) (ρ : Nat → Nat × Nat) (W : Nat → Int) (S : Nat → Nat → Int) (V m Tp : Nat → Int) (RC : Nat → List (Nat × Int)) (T : Int) (k o : Nat) (wst told : Bool) (wat sh : Int) (s0 : CS) : Prop := B g ρ W S V m Tp RC s0 ∧ TW W ∧ SW W T (S 0) ∧ GO ρ RC s0 k o ∧ cI s0 10 (g 0) = bi wst ∧ cI s0 9 (g 0) = bi told ∧ cI s0 11 (g 0) = i32 wat ∧ (0 ≤ wat → cI s0 12 (g 0) = i32 sh) ∧ (-1 ≤ wat ∧ wat < 54) ∧ 0 ≤ sh ∧ sh ≤ 1000000
theorem Tcx.w {k o : Nat} {wst told : Bool} {wat sh : Int} (h : Tcx g ρ W S V m Tp RC T k o wst told wat sh s0) (q : Fw ρ g s0 s) : Tcx g ρ W S V m Tp RC T k o wst told wat sh s := by
  obtain ⟨h1, h2, h3, h4, h5, h6, h7, h8, h9⟩ := h
  have qq := q.q (b_20 h1)
  exact ⟨h1.q qq, h2, h3, h4.q qq, by rw [q.2.1]; exact h5, by rw [q.2.1]; exact h6, by rw [q.2.1]; exact h7, by rw [q.2.1]; exact h8, h9⟩
theorem tb_t {nf : Nat} {k o : Nat} {wst told : Bool} {wat sh : Int} {R : Nat → Nat → Int → Int} (hnf : 100 ≤ nf) (hV : VS W (S 0) k (goR RC) wst told wat sh R) {P : Nat → Nat → Prop} {x y : Nat} (hx : (x : Int) < W 0) (hy : (y : Int) < W 1) (hP : ¬ P x y) (hP2 : ∀ w, thA W x y w = true → P (nx w x) (ny w y)) {k3 : Nat → Nat → Int32 → Int32 → CS → Option CS} {k11 : Nat → Nat → Int32 → Int32 → Int32 → CS → Option CS} {x2 : Int32} {Q : CS → Prop} {s0 : CS} (hc0 : Tcx g ρ W S V m Tp RC T k o wst told wat sh s0) (K : ∀ s', Fw ρ g s0 s' → Dn s' g W R P → Tab s' g W R x y → Ok (k11 (g 0) o x2 (i32 y) (i32 ((x : Int) - 1)) s') Q) : ∀ (d : Nat) (n : Nat) (t : Int) (s : CS), 0 ≤ t → t + d = W 9 → d < n → Fw ρ g s0 s → Dn s g W R P → (∀ t', 0 ≤ t' → t' < t → cA s (g 20) ((((y : Int) * 6) + (x : Int)) * 1200 + t').toNat = i32 (R x y t')) → Ok (FX0_tables_2_b29 nf k3 k11 n (g 0) o x2 (i32 y) (i32 x) (i32 ((y : Int) * 6 + (x : Int))) (i32 t) s) Q := by
  intro d
  have hW := hc0.2.1
  have w0 := hW.1
  have w1 := hW.2.1
  have w9 := hW.2.2.2.2.2.2.2.2.2.1
  induction d with
  | zero =>
    intro n t s h0 hd hn hf hD hT
    obtain ⟨n, rfl⟩ : ∃ q, n = q + 1 := ⟨n - 1, by omega⟩
    have b := (hc0.w hf).1
    show Ok (FX0_tables_2_b29_s nf k3 k11 (FX0_tables_2_b29 nf k3 k11 n) _ _ _ _ _ _ _ s) Q
    unfold FX0_tables_2_b29_s
    refine ok_gRs b.1 rfl (b.2.1 2 _ rfl).1 (ok_nn (ok_gI (b.2.1 2 _ rfl).2.1 rfl ?_))
    rw [b_206 b]
    refine ok_le ⟨by omega, by omega⟩ ⟨by omega, by omega⟩ (fun _ => ?_) (fun z => by omega)
    rw [show (-1 : Int32) = i32 (-1) from rfl, i32_add]
    exact K s hf hD (fun t' h0' h1' => hT t' h0' (by omega))
  | succ d ih =>
    intro n t s h0 hd hn hf hD hT
    obtain ⟨n, rfl⟩ : ∃ q, n = q + 1 := ⟨n - 1, by omega⟩
    have hc := hc0.w hf
    obtain ⟨b, -, hS, ho, h10, h9, h11, h12, hwa, hsh⟩ := id hc
    have hN : Nxt s g W R x y := fun w hw => by
      have := th_in hw hx hy
      exact ⟨hD _ _ (hP2 w hw) this.1 this.2.1, fun t' => by
        have := VS_b13 hW hV this.1 this.2.1 (wtN_ev hW).1 (wtN_ev hW).2 (t := t' % W 9)
        omega⟩
    have store : ∀ v s1, Ff ρ s s1 → v = i32 (R x y t) → Ok (FX0_tables_2_b129 nf k3 k11 (FX0_tables_2_b29 nf k3 k11 n) (g 0) o x2 (i32 y) (i32 x) (i32 ((y : Int) * 6 + (x : Int))) (i32 t) v s1) Q := fun v s1 hs1 hv => by
      have b1 := b.q hs1.q
      unfold FX0_tables_2_b129
      refine ok_gRs b1.1 rfl (b1.2.1 6 _ rfl).1 (ok_nn ?_)
      rw [show (1200 : Int32) = i32 1200 from rfl, i32_mul, i32_add]
      refine ok_tI (b1.2.1 6 _ rfl).2.1 (by omega) (by show _ < ((64800 : Nat) : Int); omega) (by decide) ?_
      rw [show (1 : Int32) = i32 1 from rfl, i32_add]
      have h1 : t < W 9 := by omega
      refine ih n (t + 1) _ (by omega) (by omega) (by omega) ((hf.tr hs1.w).tr Fw.uA) ((hD.f b hs1).o hW hx h0 h1 hP) (fun t' h0' h1' => ?_)
      show (if g 20 = g 20 then upd (cA s1 (g 20)) _ v else cA s1 (g 20)) _ = _
      rw [if_pos rfl]
      by_cases e : t' = t
      · subst e
        rw [upd_e, hv]
      · rw [upd_n]
        · rw [hs1.2.2.2.1 _ (by rw [b_20 b]; decide)]
          exact hT t' h0' (by omega)
        · intro e2
          have := tb_ix (by omega) (by omega) h0' (by omega) h0 (by omega) e2
          omega
    have hVt := hV x y t hx hy h0 (by omega)
    show Ok (FX0_tables_2_b29_s nf k3 k11 (FX0_tables_2_b29 nf k3 k11 n) _ _ _ _ _ _ _ s) Q
    unfold FX0_tables_2_b29_s
    refine ok_gRs b.1 rfl (b.2.1 2 _ rfl).1 (ok_nn (ok_gI (b.2.1 2 _ rfl).2.1 rfl ?_))
    rw [b_206 b]
    refine ok_le ⟨by omega, by omega⟩ ⟨by omega, by omega⟩ (fun z => by omega) (fun _ => ?_)
    refine ok_be (c_isHome b hW (by omega) (by omega)) ?_
    by_cases qh : hmA W x y = true
    · rw [if_pos qh] at hVt
      rw [qh, if_neg (show ¬ bi true = (0 : Int32) by decide)]
      exact store _ s Ff.rf (by rw [hVt]; rfl)
    · rw [if_neg qh] at hVt
      rw [Bool.eq_false_iff.mpr qh, if_pos (show bi false = (0 : Int32) from rfl)]
      refine ok_gI b.1 rfl ?_
      rw [h11]
      refine ok_q ⟨by omega, by omega⟩ ⟨by omega, by omega⟩ (fun qw => ?_) (fun qw => ?_)
      · refine ok_gI b.1 rfl ?_
        rw [h12 (by omega), i32_add]
        refine ok_2 (ok_takesBy b hW ho h10 hx hy hN h0 (by omega) (by omega) (by omega)) fun v s1 hv => ?_
        refine store _ _ hv.2 ?_
        rw [hVt]
        unfold stN
        rw [if_pos (by omega)]
        exact hv.1
      · have plain : (told = true ∨ unA W (S 0) (6 * y + x) = false) → Ok (FX0_tables_2_b116 nf k3 k11 (FX0_tables_2_b29 nf k3 k11 n) (g 0) o x2 (i32 y) (i32 x) (i32 ((y : Int) * 6 + (x : Int))) (i32 t) s) Q := fun hu => by
          unfold FX0_tables_2_b116
          refine ok_2 (ok_takesBy b hW ho h10 hx hy hN h0 (by omega) (by omega) (by omega)) fun v s1 hv => ?_
          refine store _ _ hv.2 ?_
          rw [hVt]
          unfold stN
          rw [if_neg (by omega), if_neg]
          · exact hv.1
          · rintro ⟨z1, z2⟩
            rcases hu with z | z
            · rw [z] at z1; cases z1
            · rw [z] at z2; cases z2
        refine ok_gI b.1 rfl ?_
        rw [h9]
        cases told with
        | true =>
          rw [if_neg (show ¬ bi true = (0 : Int32) by decide)]
          exact plain (.inl rfl)
        | false =>
          rw [if_pos (show bi false = (0 : Int32) from rfl)]
          have eu := c_isUnknown b hW hS (c := 6 * y + x) (by omega)
          rw [show ((6 * y + x : Nat) : Int) = (y : Int) * 6 + (x : Int) by omega] at eu
          refine ok_be eu ?_
          cases qu : unA W (S 0) (6 * y + x) with
          | false =>
            rw [if_pos (show bi false = (0 : Int32) from rfl)]
            exact plain (.inr qu)
          | true =>
            rw [if_neg (show ¬ bi true = (0 : Int32) by decide)]
            have hu2 := of_decide_eq_true qu
            refine ok_2 (ok_hidden hnf b hW ho h10 hx hy hN h0 (by omega) (by omega)) fun v s1 hv => ?_
            refine store _ _ hv.2 ?_
            rw [hVt]
            unfold stN
            rw [if_neg (by omega), if_pos ⟨rfl, qu⟩]
            exact hv.1
/-- rows from a corner on, within a rectangle -/
def Pd (ox oy y d : Nat) (x' y' : Nat) : Prop := ¬ (x' ≤ ox ∧ y' ≤ oy) ∨ y < y' ∨ (y' = y ∧ d ≤ x')
theorem Dn.le {R : Nat → Nat → Int → Int} {P P' : Nat → Nat → Prop} (h : Dn s g W R P) (k : ∀ x y, P' x y → P x y) : Dn s g W R P' := fun x y hp => h x y (k x y hp)
theorem nx_c {x y : Nat} {w : Bool} : (nx w x = x + 1 ∧ ny w y = y) ∨ (nx w x = x ∧ ny w y = y + 1) := by cases w <;> simp [nx, ny]
theorem tb_x {nf : Nat} {k o : Nat} {wst told : Bool} {wat sh : Int} {R : Nat → Nat → Int → Int} (hnf : 2000 ≤ nf) (hV : VS W (S 0) k (goR RC) wst told wat sh R) {ox oy y : Nat} (hox : (ox : Int) < W 0) (hyo : y ≤ oy) (hy : (y : Int) < W 1) {k3 : Nat → Nat → Int32 → Int32 → CS → Option CS} {Q : CS → Prop} {s0 : CS} (hc0 : Tcx g ρ W S V m Tp RC T k o wst told wat sh s0) (K : ∀ s', Fw ρ g s0 s' → Dn s' g W R (Pd ox oy y 0) → Ok (k3 (g 0) o (i32 ox) (i32 ((y : Int) - 1)) s') Q) : ∀ (d n : Nat) (s : CS), d ≤ ox + 1 → d < n → Fw ρ g s0 s → Dn s g W R (Pd ox oy y d) → Ok (FX0_tables_2_b11 nf k3 n (g 0) o (i32 ox) (i32 y) (i32 ((d : Int) - 1)) s) Q := by
  have hW := hc0.2.1
  have w0 := hW.1
  have w1 := hW.2.1
  have w9 := hW.2.2.2.2.2.2.2.2.2.1
  intro d
  induction d with
  | zero =>
    intro n s hd hn hf hD
    obtain ⟨n, rfl⟩ : ∃ q, n = q + 1 := ⟨n - 1, by omega⟩
    rw [show FX0_tables_2_b11 nf k3 (n + 1) = FX0_tables_2_b11_s nf k3 (FX0_tables_2_b11 nf k3 n) from rfl]
    unfold FX0_tables_2_b11_s
    rw [show (0 : Int32) = i32 0 from rfl]
    refine ok_lt ⟨by omega, by omega⟩ ⟨by omega, by omega⟩ (fun _ => ?_) (fun z => by omega)
    rw [show (-1 : Int32) = i32 (-1) from rfl, i32_add]
    exact K s hf hD
  | succ d ih =>
    intro n s hd hn hf hD
    obtain ⟨n, rfl⟩ : ∃ q, n = q + 1 := ⟨n - 1, by omega⟩
    rw [show FX0_tables_2_b11 nf k3 (n + 1) = FX0_tables_2_b11_s nf k3 (FX0_tables_2_b11 nf k3 n) from rfl]
    unfold FX0_tables_2_b11_s
    rw [show (0 : Int32) = i32 0 from rfl]
    refine ok_lt ⟨by omega, by omega⟩ ⟨by omega, by omega⟩ (fun z => by omega) (fun _ => ?_)
    rw [nm_eq, show (6 : Int32) = i32 6 from rfl, i32_mul, i32_add, show (((d + 1 : Nat) : Int) - 1) = (d : Int) by omega]
    refine tb_t (P := Pd ox oy y (d + 1)) (by omega) hV (by omega) hy (by unfold Pd; omega) (fun w hw => ?_) (hc0.w hf) (fun s' h1 h2 h3 => ?_) (W 9).toNat nf 0 s (by omega) (by omega) (by omega) Fw.rf hD (fun t' a1 a2 => by omega)
    · unfold Pd
      rcases nx_c (x := d) (y := y) (w := w) with ⟨e1, e2⟩ | ⟨e1, e2⟩ <;> rw [e1, e2] <;> omega
    · refine ih n s' (by omega) (by omega) (hf.tr h1) (fun x' y' hp hx' hy' => ?_)
      by_cases e : x' = d ∧ y' = y
      · rw [e.1, e.2]
        exact h3
      · refine h2 x' y' ?_ hx' hy'
        unfold Pd at hp ⊢
        omega
theorem tb_y {nf : Nat} {k o : Nat} {wst told : Bool} {wat sh : Int} {R : Nat → Nat → Int → Int} (hnf : 2000 ≤ nf) (hV : VS W (S 0) k (goR RC) wst told wat sh R) {ox oy : Nat} (hox : (ox : Int) < W 0) (hoy : (oy : Int) < W 1) {s0 : CS} (hc0 : Tcx g ρ W S V m Tp RC T k o wst told wat sh s0) : ∀ (e n : Nat) (s : CS), e ≤ oy + 1 → e < n → Fw ρ g s0 s → Dn s g W R (fun x' y' => ¬ (x' ≤ ox ∧ y' ≤ oy) ∨ e ≤ y') → Ok (FX0_tables_2_b3 nf n (g 0) o (i32 ox) (i32 ((e : Int) - 1)) s) fun s' => Fw ρ g s0 s' ∧ Dn s' g W R (fun _ _ => True) := by
  have hW := hc0.2.1
  have w0 := hW.1
  have w1 := hW.2.1
  intro e
  induction e with
  | zero =>
    intro n s hd hn hf hD
    obtain ⟨n, rfl⟩ : ∃ q, n = q + 1 := ⟨n - 1, by omega⟩
    rw [show FX0_tables_2_b3 nf (n + 1) = FX0_tables_2_b3_s nf (FX0_tables_2_b3 nf n) from rfl]
    unfold FX0_tables_2_b3_s
    rw [show (0 : Int32) = i32 0 from rfl]
    refine ok_lt ⟨by omega, by omega⟩ ⟨by omega, by omega⟩ (fun _ => ?_) (fun z => by omega)
    exact ok_s ⟨hf, hD.le fun _ _ _ => .inr (by omega)⟩
  | succ e ih =>
    intro n s hd hn hf hD
    obtain ⟨n, rfl⟩ : ∃ q, n = q + 1 := ⟨n - 1, by omega⟩
    rw [show FX0_tables_2_b3 nf (n + 1) = FX0_tables_2_b3_s nf (FX0_tables_2_b3 nf n) from rfl]
    unfold FX0_tables_2_b3_s
    rw [show (0 : Int32) = i32 0 from rfl]
    refine ok_lt ⟨by omega, by omega⟩ ⟨by omega, by omega⟩ (fun z => by omega) (fun _ => ?_)
    rw [show (((e + 1 : Nat) : Int) - 1) = (e : Int) by omega]
    have := tb_x (nf := nf) (ox := ox) (oy := oy) (y := e) (k3 := FX0_tables_2_b3 nf n) (Q := fun s' => Fw ρ g s0 s' ∧ Dn s' g W R (fun _ _ => True)) hnf hV hox (by omega) (by omega) (hc0.w hf) (fun s' h1 h2 => ?_) (ox + 1) nf s (by omega) (by omega) Fw.rf (hD.le fun x' y' hp => by unfold Pd at hp; omega)
    · rw [show (((ox + 1 : Nat) : Int) - 1) = (ox : Int) by omega] at this
      exact this
    · refine ih n s' (by omega) (by omega) (hf.tr h1) (h2.le fun x' y' hp => ?_)
      unfold Pd
      omega
theorem ok_tab2 {nf : Nat} {k o : Nat} {wst told : Bool} {wat sh : Int} {R : Nat → Nat → Int → Int} (hnf : 2000 ≤ nf) (hV : VS W (S 0) k (goR RC) wst told wat sh R) {ox oy : Nat} (hox : (ox : Int) < W 0) (hoy : (oy : Int) < W 1) (hc : Tcx g ρ W S V m Tp RC T k o wst told wat sh s) (hD : Dn s g W R (fun x' y' => ¬ (x' ≤ ox ∧ y' ≤ oy))) : Ok (FX0_tables_2 nf (g 0) o (i32 ox) (i32 oy) s) fun s' => Fw ρ g s s' ∧ Dn s' g W R (fun _ _ => True) := by
  have hW := hc.2.1
  have w1 := hW.2.1
  unfold FX0_tables_2
  refine ok_mz (ok_gd hc.1.1 rfl ?_) (fun z hz => by rw [hz.1.2.2.2.2.2.1, hz.1.2.2.2.2.2.2.1]; exact ⟨Nat.le_refl _, Nat.le_refl _⟩)
  have := tb_y (nf := nf) hnf hV hox hoy hc (oy + 1) nf s (by omega) (by omega) Fw.rf (hD.le fun x' y' hp => by omega)
  rw [show (((oy + 1 : Nat) : Int) - 1) = (oy : Int) by omega] at this
  exact this
theorem VS_sh {k : Nat} {rv : Nat → Int → Int → Int → Int → Bool} {wst told : Bool} {wat sh sh' : Int} {σ : Nat → Int} {R : Nat → Nat → Int → Int} (hV : VS W σ k rv wst told wat sh R) (h : wat < 0) : VS W σ k rv wst told wat sh' R := by
  intro x y t hx hy h0 h1
  rw [hV x y t hx hy h0 h1]
  unfold stN
  rw [if_neg (show ¬ ((6 * y + x : Nat) : Int) = wat by omega), if_neg (show ¬ ((6 * y + x : Nat) : Int) = wat by omega)]
end TC
