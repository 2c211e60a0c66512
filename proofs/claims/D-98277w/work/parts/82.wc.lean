/-! LAYER 2: wave: the ask, the component -/
set_option maxRecDepth 100000
/-- a light of the wave is as the first -/
abbrev wvK (W : Nat → Int) (x y k : Nat) : Prop := tmA W x (y + k) = true ∧ ltA W x (y + k) 1 = ltA W x y 1
def wvR (W : Nat → Int) (x y : Nat) : Nat := (ltA W x y 1).toNat
def wvG (W : Nat → Int) (x y : Nat) (k b : Nat) : Nat := bN (grS (wvR W x y) (ltA W x (y + k) 1 - ltA W x (y + k) 3).toNat ((b : Int) - (k : Int) * W 2)) (wvR W x y)
def wvH (W : Nat → Int) (x y M : Nat) (k b : Nat) : Nat := bN (grS (wvR W x y) (ltA W x (y + k) 1 - ltA W x (y + k) 3).toNat ((b : Int) - (((M : Int) - 1) - (k : Int)) * W 2)) (wvR W x y)
def wvF (W : Nat → Int) (x y : Nat) : Nat := ((ltA W x y 2 + ltA W x y 3) % ltA W x y 1).toNat
def wvQ (W : Nat → Int) (x y M : Nat) (bo : Bool) : Int × (Nat → Int) := wvN (wvR W x y) (wvG W x y) (wvH W x y M) bo (M - 1) 1 (fun _ => 0) (wvG W x y 0 (wvF W x y)) (wvH W x y M 0 (wvF W x y)) (-1, fun _ => 0)
def wvA (W : Nat → Int) (x y M : Nat) (bo : Bool) (what : Int) : Int := if ∀ k, k < M → wvK W x y k then (if what = 0 then (wvQ W x y M bo).1 else (wvQ W x y M bo).2 what.toNat) else -1
def wvV (W : Nat → Int) (x y many : Int) (v : Int32) (what : Int) : Int := if ((0 ≤ x ∧ x < W 0) ∧ 0 ≤ y ∧ y < W 1) ∧ (2 ≤ many ∧ many ≤ 4) ∧ y + many ≤ W 1 ∧ 0 ≤ what ∧ what ≤ many - 1 then wvA W x.toNat y.toNat many.toNat (!decide (v = 0)) what else -1
theorem wvL_mono {α : Type} {f : Nat → Int × α → Int × α} (hf : ∀ b q, q.1 ≤ (f b q).1 ∧ 0 ≤ (f b q).1) : ∀ n b q, q.1 ≤ (wvL f n b q).1 ∧ (0 < n → 0 ≤ (wvL f n b q).1) := by
  intro n
  induction n with
  | zero => intro b q; exact ⟨Int.le_refl _, fun z => absurd z (by omega)⟩
  | succ n ih =>
    intro b q
    have h1 := hf b q
    have h2 := ih (b + 1) (f b q)
    show q.1 ≤ (wvL f n (b + 1) (f b q)).1 ∧ (0 < n + 1 → 0 ≤ (wvL f n (b + 1) (f b q)).1)
    exact ⟨by omega, fun _ => by omega⟩
theorem wvN_mono {R : Nat} {G H : Nat → Nat → Nat} {bo : Bool} (hR : 1 ≤ R) : ∀ d a bg x y q, q.1 ≤ (wvN R G H bo d a bg x y q).1 ∧ 0 ≤ (wvN R G H bo d a bg x y q).1 := by
  intro d
  induction d with
  | zero =>
    intro a bg x y q
    unfold wvN
    have o1 := onL_b x
    have o2 := onL_b y
    have o3 : 0 ≤ (if bo = true then ((onL 60 y : Nat) : Int) else 0) := by split <;> omega
    generalize (if bo = true then ((onL 60 y : Nat) : Int) else 0) = z at o3 ⊢
    split
    · rename_i h
      exact ⟨by show q.1 ≤ _ + z; omega, by show 0 ≤ _ + z; omega⟩
    · rename_i h
      exact ⟨Int.le_refl _, by omega⟩
  | succ d ih =>
    intro a bg x y q
    unfold wvN
    have L := wvL_mono (f := fun b q => wvN R G H bo d (a + 1) (upN bg a b) (x &&& G a b) (y &&& H a b) q) (fun b q => ih (a + 1) (upN bg a b) (x &&& G a b) (y &&& H a b) q) R 0 q
    exact ⟨L.1, L.2 hR⟩
theorem wv_kw {k : Nat} {w : Int} (hk : k ≤ 3) (hw : 1 ≤ w ∧ w ≤ 30) : 0 ≤ (k : Int) * w ∧ (k : Int) * w ≤ 90 := by
  rcases (show k = 0 ∨ k = 1 ∨ k = 2 ∨ k = 3 by omega) with rfl | rfl | rfl | rfl <;> omega
/-- the tables, so far -/
def Wz (s : CS) (g : Nat → Nat) (R M : Nat) (G H : Nat → Nat → Nat) (k b : Nat) : Prop := ∀ j c, j < M → c < R → (j < k ∨ (j = k ∧ c < b)) → cB s (g 24) (60 * j + c) = i64 ((G j c : Nat) : Int) ∧ cB s (g 25) (60 * j + c) = i64 ((H j c : Nat) : Int)
section WC
variable {g : Nat → Nat} {ρ : Nat → Nat × Nat} {W : Nat → Int} {S : Nat → Nat → Int} {V m Tp : Nat → Int} {RC : Nat → List (Nat × Int)} {s : CS} {τ : TS} {T : Int} {nf : Nat}
theorem rd_uB {s : CS} {a c i j : Nat} {v : Int64} : cB (uB s a i v) c j = if c = a ∧ j = i then v else cB s c j := by
  show (if c = a then vp_updL (cB s a) i v else cB s c) j = _
  by_cases e : c = a
  · rw [if_pos e, e]
    show (if j = i then v else cB s a j) = _
    by_cases e2 : j = i
    · rw [if_pos e2, if_pos ⟨rfl, e2⟩]
    · rw [if_neg e2, if_neg (fun z => e2 z.2)]
  · rw [if_neg e, if_neg (fun z => e z.1)]
theorem c_rl (b : B g ρ W S V m Tp RC s) {c l : Nat} (hc : c < 54) (e : cQ s (g 8) c = some l) : 0 < W (10 + 4 * c) ∧ Rl s W c l := by
  rcases c_light0 b hc with ⟨h0, hq⟩ | ⟨h0, l2, hq, hl⟩
  · rw [e] at hq
    cases hq
  · rw [e] at hq
    cases hq
    exact ⟨h0, hl⟩
theorem wv_l (hW : TW W) {x y : Nat} (hx : x < 6) (hy : y < 9) (ht : tmA W x y = true) : (1 ≤ ltA W x y 1 ∧ ltA W x y 1 ≤ 60) ∧ (0 ≤ ltA W x y 2 ∧ ltA W x y 2 < ltA W x y 1) ∧ 0 ≤ ltA W x y 3 ∧ ltA W x y 3 ≤ ltA W x y 1 := by
  have hk := of_decide_eq_true ht
  have h := ltA_b hW hx hy (by omega)
  exact ⟨h.1, h.2.1, h.2.2.1⟩
theorem cw_110 (hn : 100 ≤ nf) (hW : TW W) {x y k M : Nat} {v : Int32} {what : Int} {p l : Nat} (hx : (x : Int) < W 0) (hy : ((y + k : Nat) : Int) < W 1) (hM : 2 ≤ M ∧ M ≤ 4) (hk : k < M) (hwk : wvK W x y k) {k62 : Nat → Int32 → Int32 → Int32 → Int32 → Int32 → (Option Nat) → Int32 → CS → Option (Int32 × CS)} {s0 : CS} (hl : cQ s0 (g 8) (6 * (y + k) + x) = some l) {Q : Int32 × CS → Prop} (hk62 : ∀ s', Fq ρ s0 s' → B g ρ W S V m Tp RC s' → Wz s' g (wvR W x y) M (wvG W x y) (wvH W x y M) (k + 1) 0 → Ok (k62 (g 0) (i32 (x : Int)) (i32 (y : Int)) (i32 (M : Int)) v (i32 what) (some p) (i32 ((k + 1 : Nat) : Int)) s') Q) : ∀ (d n b : Nat) (s : CS), b + d = wvR W x y → d < n → Fq ρ s0 s → B g ρ W S V m Tp RC s → Wz s g (wvR W x y) M (wvG W x y) (wvH W x y M) k b → Ok (FX0_wave_b110 nf k62 n (g 0) (i32 (x : Int)) (i32 (y : Int)) (i32 (M : Int)) v (i32 what) p (i32 (k : Int)) l (i32 (b : Int)) s) Q := by
  have w0 := hW.1
  have w1 := hW.2.1
  have w2 := hW.2.2.1
  have hlt := wv_l hW (x := x) (y := y + k) (by omega) (by omega) hwk.1
  have e1 : W (11 + 4 * (6 * (y + k) + x)) = ltA W x (y + k) 1 := by
    unfold ltA
    rw [show 10 + 4 * (6 * (y + k) + x) + 1 = 11 + 4 * (6 * (y + k) + x) by omega]
  have e3 : W (13 + 4 * (6 * (y + k) + x)) = ltA W x (y + k) 3 := by
    unfold ltA
    rw [show 10 + 4 * (6 * (y + k) + x) + 3 = 13 + 4 * (6 * (y + k) + x) by omega]
  have eR : ((wvR W x y : Nat) : Int) = ltA W x (y + k) 1 := by
    unfold wvR
    rw [hwk.2]
    have := hlt.1
    rw [hwk.2] at this
    omega
  have hm1 := wv_kw (k := k) (by omega) w2
  have hm2 := wv_kw (k := M - 1 - k) (by omega) w2
  rw [show ((M - 1 - k : Nat) : Int) = (M : Int) - 1 - (k : Int) by omega] at hm2
  intro d
  induction d with
  | zero =>
    intro n b s g1 g2 hf hb hz
    obtain ⟨n, rfl⟩ : ∃ q, n = q + 1 := ⟨n - 1, by omega⟩
    have hl1 : cQ s (g 8) (6 * (y + k) + x) = some l := by rw [hf.2.2.2.2.1]; exact hl
    obtain ⟨h0, hrl⟩ := c_rl hb (by omega) hl1
    have hk4 := kw_b hW (c := 6 * (y + k) + x) (by omega)
    have hxx := lf_cx hrl h0 hk4.2
    rw [show FX0_wave_b110 nf k62 (n + 1) = FX0_wave_b110_s nf k62 (FX0_wave_b110 nf k62 n) from rfl]
    unfold FX0_wave_b110_s
    rw [hxx.1, e1, ← eR, show (1 : Int32) = i32 1 from rfl, i32_add]
    refine ok_le ⟨by omega, by omega⟩ ⟨by omega, by omega⟩ (fun _ => ?_) (fun z => by omega)
    exact hk62 s hf hb fun j c a1 a2 a3 => hz j c a1 a2 (by omega)
  | succ d ih =>
    intro n b s g1 g2 hf hb hz
    obtain ⟨n, rfl⟩ : ∃ q, n = q + 1 := ⟨n - 1, by omega⟩
    have hl1 : cQ s (g 8) (6 * (y + k) + x) = some l := by rw [hf.2.2.2.2.1]; exact hl
    obtain ⟨h0, hrl⟩ := c_rl hb (by omega) hl1
    have hk4 := kw_b hW (c := 6 * (y + k) + x) (by omega)
    have hxx := lf_cx hrl h0 hk4.2
    have hne : ¬ g 24 = g 25 := g_ne hb (i := 10) (j := 11) rfl rfl (by decide)
    rw [show FX0_wave_b110 nf k62 (n + 1) = FX0_wave_b110_s nf k62 (FX0_wave_b110 nf k62 n) from rfl]
    unfold FX0_wave_b110_s
    rw [hxx.1, e1, ← eR]
    refine ok_le ⟨by omega, by omega⟩ ⟨by omega, by omega⟩ (fun z => by omega) (fun _ => ?_)
    refine ok_gRs hb.1 rfl (hb.2.1 10 _ rfl).1 (ok_gRs hb.1 rfl (hb.2.1 2 _ rfl).1 (ok_nn (ok_be (c_walk hb hW) ?_)))
    rw [i32_mul]
    refine ok_be (c_greenFrom (R := wvR W x y) (G := (ltA W x (y + k) 1 - ltA W x (y + k) 3).toNat) hn hrl h0 hk4.2 (by rw [e1, eR]) (by rw [e1, e3]; omega) (by omega) (by omega) (by omega) (by omega)) (ok_nn ?_)
    have hz1 : ((k : Int) * 60 + (b : Int)) = ((60 * k + b : Nat) : Int) := by omega
    rw [show (60 : Int32) = i32 60 from rfl, i32_mul, i32_add, hz1]
    refine ok_tJ (hb.2.1 10 _ rfl).2.1 (by omega) (by show _ < ((240 : Nat) : Int); omega) (by decide) ?_
    rw [Int.toNat_natCast]
    generalize hs8 : uB s (g 24) (60 * k + b) (i64 ((bN (grS (wvR W x y) (ltA W x (y + k) 1 - ltA W x (y + k) 3).toNat ((b : Int) - (k : Int) * W 2)) (wvR W x y) : Nat) : Int)) = s8
    have f8 : Fq ρ s s8 := by rw [← hs8]; exact Fq.uB
    have b8 := hb.q f8
    obtain ⟨-, hrl8⟩ := c_rl b8 (c := 6 * (y + k) + x) (l := l) (by omega) (by rw [f8.2.2.2.2.1]; exact hl1)
    refine ok_gRs b8.1 rfl (b8.2.1 11 _ rfl).1 (ok_gRs b8.1 rfl (b8.2.1 2 _ rfl).1 (ok_nn (ok_be (c_walk b8 hW) ?_)))
    rw [show (1 : Int32) = i32 1 from rfl, i32_sub, i32_sub, i32_mul]
    refine ok_be (c_greenFrom (R := wvR W x y) (G := (ltA W x (y + k) 1 - ltA W x (y + k) 3).toNat) hn hrl8 h0 hk4.2 (by rw [e1, eR]) (by rw [e1, e3]; omega) (by omega) (by omega) (by omega) (by omega)) (ok_nn ?_)
    refine ok_tJ (b8.2.1 11 _ rfl).2.1 (by omega) (by show _ < ((240 : Nat) : Int); omega) (by decide) ?_
    rw [Int.toNat_natCast, i32_add]
    refine ih n (b + 1) _ (by omega) (by omega) ((hf.tr f8).tr Fq.uB) (b8.q Fq.uB) fun j c a1 a2 a3 => ?_
    rw [rd_uB, rd_uB, ← hs8, rd_uB, rd_uB]
    by_cases e : j = k ∧ c = b
    · rw [if_neg (fun z => hne z.1), if_pos ⟨rfl, by rw [e.1, e.2]⟩, if_pos ⟨rfl, by rw [e.1, e.2]⟩, e.1, e.2]
      exact ⟨rfl, rfl⟩
    · have e2 : ¬ 60 * j + c = 60 * k + b := by omega
      rw [if_neg (fun z => e2 z.2), if_neg (fun z => e2 z.2), if_neg (fun z => e2 z.2), if_neg (fun z => e2 z.2)]
      exact hz j c a1 a2 (by omega)
/-- the last step -/
theorem cw_fin (hn : 100 ≤ nf) (hW : TW W) (b : B g ρ W S V m Tp RC s) {x y M : Nat} {v : Int32} {what : Int} {p : Nat} (hx : (x : Int) < W 0) (hy : (y : Int) < W 1) (hM : 2 ≤ M ∧ M ≤ 4) (hwh : 0 ≤ what ∧ what ≤ (M : Int) - 1) (hk0 : wvK W x y 0) (hp : cQ s (g 8) (6 * y + x) = some p) (hz : Wz s g (wvR W x y) M (wvG W x y) (wvH W x y M) M 0) {k62 : Nat → Int32 → Int32 → Int32 → Int32 → Int32 → (Option Nat) → Int32 → CS → Option (Int32 × CS)} : Ok (FX0_wave_b62_s nf k62 (g 0) (i32 (x : Int)) (i32 (y : Int)) (i32 (M : Int)) v (i32 what) (some p) (i32 (M : Int)) s) fun z => z.1 = i32 (if what = 0 then (wvQ W x y M (!decide (v = 0))).1 else (wvQ W x y M (!decide (v = 0))).2 what.toNat) ∧ Fq ρ s z.2 := by
  have w0 := hW.1
  have w1 := hW.2.1
  have hlt := wv_l hW (x := x) (y := y) (by omega) (by omega) hk0.1
  obtain ⟨h0, hrl⟩ := c_rl b (by omega) hp
  have hk4 := kw_b hW (c := 6 * y + x) (by omega)
  have hxx := lf_cx hrl h0 hk4.2
  have e1 : W (11 + 4 * (6 * y + x)) = ltA W x y 1 := by
    unfold ltA
    rw [show 10 + 4 * (6 * y + x) + 1 = 11 + 4 * (6 * y + x) by omega]
  have e2 : W (12 + 4 * (6 * y + x)) = ltA W x y 2 := by
    unfold ltA
    rw [show 10 + 4 * (6 * y + x) + 2 = 12 + 4 * (6 * y + x) by omega]
  have e3 : W (13 + 4 * (6 * y + x)) = ltA W x y 3 := by
    unfold ltA
    rw [show 10 + 4 * (6 * y + x) + 3 = 13 + 4 * (6 * y + x) by omega]
  have eR : ((wvR W x y : Nat) : Int) = ltA W x y 1 := by
    unfold wvR
    omega
  have q0 : 0 ≤ (ltA W x y 2 + ltA W x y 3) % ltA W x y 1 := Int.emod_nonneg _ (by omega)
  have q1 : (ltA W x y 2 + ltA W x y 3) % ltA W x y 1 < ltA W x y 1 := Int.emod_lt_of_pos _ (by omega)
  have eF : (ltA W x y 2 + ltA W x y 3) % ltA W x y 1 = ((60 * 0 + wvF W x y : Nat) : Int) := by
    unfold wvF
    omega
  unfold FX0_wave_b62_s
  rw [if_pos ((i32_le ⟨by omega, by omega⟩ ⟨by omega, by omega⟩).mpr (Int.le_refl _))]
  refine ok_nn ?_
  rw [hxx.2.1, hxx.2.2, hxx.1, e1, e2, e3]
  refine ok_d32 (by omega) (by omega) (ok_n ?_)
  rw [i32_add, rem_c (by omega) (by omega) (by omega) (by omega), eF, show (-1 : Int32) = i32 (-1) from rfl]
  refine ok_pI b.1 rfl ?_
  have f6 : Fq ρ s (uI s 20 (g 0) (i32 (-1))) := Fq.uI rfl
  have b6 := b.q f6
  obtain ⟨-, hrl6⟩ := c_rl b6 (c := 6 * y + x) (l := p) (by omega) hp
  have hxx6 := lf_cx hrl6 h0 hk4.2
  refine ok_gRs b6.1 rfl (b6.2.1 10 _ rfl).1 (ok_nn (ok_lJ (b6.2.1 10 _ rfl).2.1 (by omega) (by show _ < ((240 : Nat) : Int); omega) (by decide) ?_))
  refine ok_gRs b6.1 rfl (b6.2.1 11 _ rfl).1 (ok_nn (ok_lJ (b6.2.1 11 _ rfl).2.1 (by omega) (by show _ < ((240 : Nat) : Int); omega) (by decide) ?_))
  have t0 := hz 0 (wvF W x y) (by omega) (by omega) (.inl (by omega))
  have t1 : cB (uI s 20 (g 0) (i32 (-1))) (g 24) (60 * 0 + wvF W x y) = _ := t0.1
  have t2 : cB (uI s 20 (g 0) (i32 (-1))) (g 25) (60 * 0 + wvF W x y) = _ := t0.2
  rw [Int.toNat_natCast, t1, t2, hxx6.1, e1, ← eR, show (1 : Int32) = i32 ((1 : Nat) : Int) from rfl]
  have hgx : wvG W x y 0 (wvF W x y) < 2 ^ 60 := Nat.lt_of_lt_of_le (bN_lt _ _) (Nat.pow_le_pow_right (by omega) (by omega))
  have hhx : wvH W x y M 0 (wvF W x y) < 2 ^ 60 := Nat.lt_of_lt_of_le (bN_lt _ _) (Nat.pow_le_pow_right (by omega) (by omega))
  have hW0 : Wq (uI s 20 (g 0) (i32 (-1))) g M (-1, fun _ => 0) := by
    refine ⟨?_, fun z => ?_, ?_, ?_⟩
    · show (if 20 = 20 ∧ g 0 = g 0 then i32 (-1) else cI s 20 (g 0)) = _
      rw [if_pos ⟨rfl, rfl⟩]
    · have z : (0 : Int) ≤ -1 := z
      omega
    · exact Int.le_refl _
    · show (-1 : Int) ≤ 120
      omega
  have L := c_waves (nf := nf) (g := g) (ρ := ρ) (v := v) (R := wvR W x y) (M := M) (G := wvG W x y) (H := wvH W x y M) hn hM.2 (by omega) (M - 1) 1 10 (fun _ => 0) _ _ (-1, fun _ => 0) (uI s 20 (g 0) (i32 (-1))) (by omega) (by omega) (Nat.le_refl _) b6 (fun k c a1 a2 => hz k c a1 a2 (.inl a1)) (fun k a1 a2 => by omega) hW0 hgx hhx
  refine ok_b L fun s14 hs14 => ?_
  obtain ⟨f14, -, -, p1, p2, -⟩ := hs14
  have b14 := b6.q f14
  have hge : 0 ≤ (wvQ W x y M (!decide (v = 0))).1 := (wvN_mono (by omega) _ _ _ _ _ _).2
  rw [show (0 : Int32) = i32 0 from rfl]
  refine ok_q ⟨by omega, by omega⟩ ⟨by omega, by omega⟩ (fun z => ?_) (fun z => ?_)
  · rw [if_pos z]
    refine ok_gI b14.1 rfl (ok_s ⟨p1, f6.tr f14⟩)
  · rw [if_neg z]
    refine ok_gRs b14.1 rfl (b14.2.1 13 _ rfl).1 (ok_nn (ok_lI (b14.2.1 13 _ rfl).2.1 (by omega) (by show _ < ((4 : Nat) : Int); omega) (by decide) (ok_s ⟨?_, f6.tr f14⟩)))
    exact p2 hge what.toNat (by omega) (by omega)
theorem wvK_k (hW : TW W) {x y k : Nat} (hx : x < 6) (hy : y + k < 9) : (tmA W x (y + k) = true) ↔ (0 < W (10 + 4 * (6 * (y + k) + x)) ∧ W (10 + 4 * (6 * (y + k) + x)) ≤ 2) := by
  unfold tmA kdA
  rw [decide_eq_true_eq]
  omega
theorem cw_62 (hn : 100 ≤ nf) (hW : TW W) {x y M : Nat} {v : Int32} {what : Int} (hx : (x : Int) < W 0) (hM : 2 ≤ M ∧ M ≤ 4) (hy : (y : Int) + M ≤ W 1) (hwh : 0 ≤ what ∧ what ≤ (M : Int) - 1) {s0 : CS} {r : Option Nat} (hr : cQ s0 (g 8) (6 * y + x) = r) : ∀ (d n k : Nat) (s : CS), k + d = M → d < n → (∀ j, j < k → wvK W x y j) → Fq ρ s0 s → B g ρ W S V m Tp RC s → Wz s g (wvR W x y) M (wvG W x y) (wvH W x y M) k 0 → Ok (FX0_wave_b62 nf n (g 0) (i32 (x : Int)) (i32 (y : Int)) (i32 (M : Int)) v (i32 what) r (i32 (k : Int)) s) fun z => z.1 = i32 (wvA W x y M (!decide (v = 0)) what) ∧ Fq ρ s0 z.2 := by
  have w0 := hW.1
  have w1 := hW.2.1
  intro d
  induction d with
  | zero =>
    intro n k s g1 g2 hk hf hb hz
    obtain ⟨n, rfl⟩ : ∃ q, n = q + 1 := ⟨n - 1, by omega⟩
    have ek : k = M := by omega
    subst ek
    have hr1 : cQ s (g 8) (6 * y + x) = r := by rw [hf.2.2.2.2.1]; exact hr
    have h00 := hk 0 (by omega)
    have h01 := (wvK_k hW (x := x) (y := y) (k := 0) (by omega) (by omega)).mp h00.1
    rw [Nat.add_zero] at h01
    rcases c_light0 hb (c := 6 * y + x) (by omega) with ⟨h0, hq⟩ | ⟨h0, p, hq, hl⟩
    · omega
    · rw [hr1] at hq
      subst hq
      rw [show FX0_wave_b62 nf (n + 1) = FX0_wave_b62_s nf (FX0_wave_b62 nf n) from rfl]
      unfold wvA
      rw [if_pos hk]
      exact ok_w (cw_fin hn hW hb hx (by omega) hM hwh h00 hr1 hz) fun z hz => ⟨hz.1, hf.tr hz.2⟩
  | succ d ih =>
    intro n k s g1 g2 hk hf hb hz
    obtain ⟨n, rfl⟩ : ∃ q, n = q + 1 := ⟨n - 1, by omega⟩
    have hr1 : cQ s (g 8) (6 * y + x) = r := by rw [hf.2.2.2.2.1]; exact hr
    have hkk := wvK_k hW (x := x) (y := y) (k := k) (by omega) (by omega)
    have hk4 := kw_b hW (c := 6 * (y + k) + x) (by omega)
    have hno : ¬ wvK W x y k → Ok (some ((-1 : Int32), s)) fun z => z.1 = i32 (wvA W x y M (!decide (v = 0)) what) ∧ Fq ρ s0 z.2 := fun h => by
      unfold wvA
      rw [if_neg (fun z => h (z k (by omega)))]
      exact ok_s ⟨rfl, hf⟩
    rw [show FX0_wave_b62 nf (n + 1) = FX0_wave_b62_s nf (FX0_wave_b62 nf n) from rfl]
    unfold FX0_wave_b62_s
    refine ok_le ⟨by omega, by omega⟩ ⟨by omega, by omega⟩ (fun z => by omega) (fun _ => ?_)
    rw [i32_add, show (y : Int) + (k : Int) = ((y + k : Nat) : Int) by omega]
    refine ok_be (c_ltAt hb (by omega) (by omega)) ?_
    rcases c_light0 hb (c := 6 * (y + k) + x) (by omega) with ⟨h0, hq⟩ | ⟨h0, l, hq, hl⟩
    · rw [hq]
      exact hno fun z => by have := hkk.mp z.1; omega
    · rw [hq]
      have hxx := lf_cx hl h0 hk4.2
      show Ok ((V11_isClock s l).bind _) _
      refine ok_be (c_vClock hl h0 hk4.2) ?_
      by_cases q1 : W (10 + 4 * (6 * (y + k) + x)) ≤ 2
      · rw [decide_eq_true q1, if_neg (show ¬ bi true = (0 : Int32) by decide), hxx.1]
        have htk : tmA W x (y + k) = true := hkk.mpr ⟨h0, q1⟩
        have e1 : W (11 + 4 * (6 * (y + k) + x)) = ltA W x (y + k) 1 := by
          unfold ltA
          rw [show 10 + 4 * (6 * (y + k) + x) + 1 = 11 + 4 * (6 * (y + k) + x) by omega]
        have e0 : W (11 + 4 * (6 * y + x)) = ltA W x y 1 := by
          unfold ltA
          rw [show 10 + 4 * (6 * y + x) + 1 = 11 + 4 * (6 * y + x) by omega]
        have hlt := wv_l hW (x := x) (y := y + k) (by omega) (by omega) htk
        have hpk : 0 < W (10 + 4 * (6 * y + x)) := by
          by_cases ek : k = 0
          · rw [ek, Nat.add_zero] at h0
            exact h0
          · have h01 := (wvK_k hW (x := x) (y := y) (k := 0) (by omega) (by omega)).mp (hk 0 (by omega)).1
            rw [Nat.add_zero] at h01
            exact h01.1
        rcases c_light0 hb (c := 6 * y + x) (by omega) with ⟨h2, hq2⟩ | ⟨h2, p, hq2, hl2⟩
        · omega
        · rw [hr1] at hq2
          subst hq2
          have hk42 := kw_b hW (c := 6 * y + x) (by omega)
          have hxx2 := lf_cx hl2 h2 hk42.2
          have hb2 := (hW.2.2.2.2.2.2.2.2.2.2.1 (6 * y + x) (by omega)).2 h2
          refine ok_nn ?_
          rw [hxx2.1, e1, e0]
          refine ok_q ⟨by omega, by omega⟩ ⟨by omega, by omega⟩ (fun q2 => ?_) (fun q2 => hno fun z => q2 z.2)
          exact cw_110 (nf := nf) hn hW hx (by omega) hM (by omega) ⟨htk, q2⟩ (s0 := s) hq (fun s' f' b' z' => ih n (k + 1) s' (by omega) (by omega) (fun j hj => by
            by_cases ej : j = k
            · rw [ej]; exact ⟨htk, q2⟩
            · exact hk j (by omega)) (hf.tr f') b' z') (wvR W x y) nf 0 s (by omega) (by unfold wvR; omega) Fq.rf hb hz
      · rw [decide_eq_false q1]
        exact hno fun z => by have := hkk.mp z.1; omega
theorem ok_wave (hn : 100 ≤ nf) (b : B g ρ W S V m Tp RC s) (hW : TW W) {x y many what : Int} {v : Int32} (hx : ok32 x) (hy : ok32 y) (hm : ok32 many) (hw : ok32 what) : Ok (FX0_wave nf (g 0) (i32 x) (i32 y) (i32 many) v (i32 what) s) fun p => p.1 = i32 (wvV W x y many v what) ∧ Fq ρ s p.2 := by
  have w0 := hW.1
  have w1 := hW.2.1
  unfold FX0_wave wvV
  refine ok_mq (ρ := ρ) ?_ (fun z hz => hz.2)
  refine ok_gd b.1 rfl (ok_gRs b.1 rfl (b.2.1 2 _ rfl).1 (ok_nn (ok_be (c_isCorner b hW hx hy) ?_)))
  by_cases q1 : (0 ≤ x ∧ x < W 0) ∧ 0 ≤ y ∧ y < W 1
  · rw [decide_eq_true q1, if_neg (show ¬ bi true = (0 : Int32) by decide)]
    refine ok_be (c_i3 hm 2 4 (by omega)) ?_
    by_cases q2 : 2 ≤ many ∧ many ≤ 4
    · rw [decide_eq_true q2, if_neg (show ¬ bi true = (0 : Int32) by decide), show (1 : Int32) = i32 1 from rfl, i32_add, i32_sub, i32_sub]
      refine ok_gRs b.1 rfl (b.2.1 2 _ rfl).1 (ok_nn (ok_be (c_isCorner b hW hx (y := y + many - 1) ⟨by omega, by omega⟩) ?_))
      by_cases q3 : y + many ≤ W 1
      · rw [decide_eq_true (show (0 ≤ x ∧ x < W 0) ∧ 0 ≤ y + many - 1 ∧ y + many - 1 < W 1 by omega), if_neg (show ¬ bi true = (0 : Int32) by decide)]
        refine ok_be (c_i3 hw 0 (many - 1) (by omega)) ?_
        by_cases q4 : 0 ≤ what ∧ what ≤ many - 1
        · rw [decide_eq_true q4, if_neg (show ¬ bi true = (0 : Int32) by decide), if_pos ⟨q1, q2, q3, q4⟩, toI q1.1.1, toI q1.2.1, toI (show 0 ≤ many by omega)]
          refine ok_be (c_ltAt b (by omega) (by omega)) ?_
          have L := cw_62 (nf := nf) (g := g) (ρ := ρ) (v := v) (M := many.toNat) hn hW (x := x.toNat) (y := y.toNat) (by omega) (by omega) (by omega) (what := what) (by omega) (s0 := s) rfl many.toNat nf 0 s (by omega) (by omega) (fun j hj => by omega) Fq.rf b (fun j c a1 a2 a3 => by omega)
          exact L
        · rw [decide_eq_false q4, if_pos (show bi false = (0 : Int32) from rfl), if_neg (fun z => q4 z.2.2.2)]
          exact ok_s ⟨rfl, Fq.rf⟩
      · rw [decide_eq_false (show ¬ ((0 ≤ x ∧ x < W 0) ∧ 0 ≤ y + many - 1 ∧ y + many - 1 < W 1) by omega), if_pos (show bi false = (0 : Int32) from rfl), if_neg (fun z => q3 z.2.2.1)]
        exact ok_s ⟨rfl, Fq.rf⟩
    · rw [decide_eq_false q2, if_pos (show bi false = (0 : Int32) from rfl), if_neg (fun z => q2 z.2.1)]
      exact ok_s ⟨rfl, Fq.rf⟩
  · rw [decide_eq_false q1, if_pos (show bi false = (0 : Int32) from rfl), if_neg (fun z => q1 z.1)]
    exact ok_s ⟨rfl, Fq.rf⟩
end WC
