/-! LAYER 2: a state object copied whole, a new one -/
set_option maxRecDepth 100000
section SN
variable {ρ : Nat → Nat × Nat} {s : CS} {σ : Nat → Int} {nf : Nat} {dst src : Nat}
/-- what the loops of a copy keep -/
def Pe (ρ : Nat → Nat × Nat) (dst : Nat) (s s1 : CS) : Prop := Fo ρ dst 805 106 s s1 ∧ cI s1 = cI s ∧ (∀ a, (ρ a).1 = 101 → cA s1 a = cA s a) ∧ Hx ρ s1
theorem Pe.up {s1 : CS} {a i r : Nat} {v : Int32} (h : Pe ρ dst s s1) (e : ρ a = (r, dst)) (hr : 102 ≤ r ∧ r ≤ 106) (hv : r = 102 → isb v = true) : Pe ρ dst s (uA s1 a i v) := by
  refine ⟨h.1.tr (Fo.uA e (by omega)), h.2.1, fun b hb => ?_, fun b hb k => ?_⟩
  · rw [← h.2.2.1 b hb]
    funext j
    rw [rd_uA, if_neg (fun z => by rw [z.1, e] at hb; have hb : r = 101 := hb; omega)]
  · rw [rd_uA]
    by_cases z : b = a ∧ k = i
    · rw [if_pos z]
      refine hv ?_
      rw [z.1, e] at hb
      exact hb
    · rw [if_neg z]
      exact h.2.2.2 b hb k
/-- an array is copied so far -/
def cpy (s s1 : CS) (f dst src c : Nat) : Prop := ∀ k, k < c → cA s1 (av s f dst) k = cA s (av s f src) k
theorem cpy.up {s1 : CS} {f c : Nat} (h : cpy s s1 f dst src c) : cpy s (uA s1 (av s f dst) c (cA s (av s f src) c)) f dst src (c + 1) := fun k hk => by
  rw [rd_uA]
  by_cases e : k = c
  · rw [if_pos ⟨rfl, e⟩, e]
  · rw [if_neg (fun z => e z.2)]
    exact h k (by omega)
theorem cpy.n {s1 : CS} {f c a i : Nat} {v : Int32} (h : cpy s s1 f dst src c) (hne : ¬ av s f dst = a) : cpy s (uA s1 a i v) f dst src c := fun k hk => by
  rw [rd_uA, if_neg (fun z => hne z.1)]
  exact h k hk
theorem oA_ne {f f' o c c' n n' r r' : Nat} (h : oA ρ s o f c n r) (h' : oA ρ s o f' c' n' r') (e : ¬ r = r') : ¬ av s f o = av s f' o := fun z => by
  have h1 := h.2.2
  rw [z, h'.2.2] at h1
  exact e (congrArg Prod.fst h1).symm
/-- reading and writing an array of both -/
theorem se_st {f c n r : Nat} {s1 : CS} {K : CS → Option CS} {Q : CS → Prop} {i : Nat} (hd : SO ρ s dst) (hs : SO ρ s src) (hne : ¬ src = dst) (h : Pe ρ dst s s1) (od : oA ρ s dst f c n r) (os : oA ρ s src f c n r) (hi : i < n) (hn : n ≤ 100) (q : Ok (K (uA s1 (av s f dst) i (cA s (av s f src) i))) Q) : Ok (gR s1 dst [8] f fun r1 => gR s1 src [8] f fun r2 => nn r2 fun p3 => lI s1 p3 c (i32 (i : Int)) fun v4 => nn r1 fun p5 => tI_ s1 p5 c (i32 (i : Int)) v4 K) Q := by
  have kd : s1.1 dst = some (true, 8, 0) := by rw [h.1.1]; exact hd.1
  have ks : s1.1 src = some (true, 8, 0) := by rw [h.1.1]; exact hs.1
  have rd : cR s1 f dst = some (av s f dst) := by rw [h.1.2.2.1]; exact od.1
  have rs : cR s1 f src = some (av s f src) := by rw [h.1.2.2.1]; exact os.1
  have ad : s1.1 (av s f dst) = some (true, c, n) := by rw [h.1.1]; exact od.2.1
  have as : s1.1 (av s f src) = some (true, c, n) := by rw [h.1.1]; exact os.2.1
  have es : cA s1 (av s f src) = cA s (av s f src) := h.1.2.2.2.1 _ (fun z => hne (by rw [os.2.2] at z; exact z.1))
  refine ok_gRs kd rfl rd (ok_gRs ks rfl rs (ok_nn (ok_lI as (by omega) (by omega) (by omega) (ok_nn (ok_tI ad (by omega) (by omega) (by omega) ?_)))))
  rw [Int.toNat_natCast, es]
  exact q
theorem se_sb {f c n r : Nat} {s1 : CS} {K : CS → Option CS} {Q : CS → Prop} {i : Nat} (hd : SO ρ s dst) (hs : SO ρ s src) (hne : ¬ src = dst) (h : Pe ρ dst s s1) (od : oA ρ s dst f c n r) (os : oA ρ s src f c n r) (hi : i < n) (hn : n ≤ 100) (hb : isb (cA s (av s f src) i) = true) (q : Ok (K (uA s1 (av s f dst) i (cA s (av s f src) i))) Q) : Ok (gR s1 dst [8] f fun r1 => gR s1 src [8] f fun r2 => nn r2 fun p3 => lI s1 p3 c (i32 (i : Int)) fun v4 => nn r1 fun p5 => gd (isb v4) (tI_ s1 p5 c (i32 (i : Int)) v4 K)) Q := by
  have kd : s1.1 dst = some (true, 8, 0) := by rw [h.1.1]; exact hd.1
  have ks : s1.1 src = some (true, 8, 0) := by rw [h.1.1]; exact hs.1
  have rd : cR s1 f dst = some (av s f dst) := by rw [h.1.2.2.1]; exact od.1
  have rs : cR s1 f src = some (av s f src) := by rw [h.1.2.2.1]; exact os.1
  have ad : s1.1 (av s f dst) = some (true, c, n) := by rw [h.1.1]; exact od.2.1
  have as : s1.1 (av s f src) = some (true, c, n) := by rw [h.1.1]; exact os.2.1
  have es : cA s1 (av s f src) = cA s (av s f src) := h.1.2.2.2.1 _ (fun z => hne (by rw [os.2.2] at z; exact z.1))
  refine ok_gRs kd rfl rd (ok_gRs ks rfl rs (ok_nn (ok_lI as (by omega) (by omega) (by omega) (ok_nn ?_))))
  rw [Int.toNat_natCast, es]
  refine ok_g hb (ok_tI ad (by omega) (by omega) (by omega) ?_)
  rw [Int.toNat_natCast]
  exact q
theorem se_73 (hd : SO ρ s dst) (hs : SO ρ s src) (hne : ¬ src = dst) : ∀ (d n c : Nat) (s1 : CS), c + d = 8 → d < n → Pe ρ dst s s1 → cpy s s1 807 dst src 10 → cpy s s1 808 dst src 10 → cpy s s1 809 dst src 10 → cpy s s1 810 dst src c → cpy s s1 811 dst src c → Ok (FX8_be_b73 nf n dst src (i32 (c : Int)) s1) fun s' => Pe ρ dst s s' ∧ cpy s s' 807 dst src 10 ∧ cpy s s' 808 dst src 10 ∧ cpy s s' 809 dst src 10 ∧ cpy s s' 810 dst src 8 ∧ cpy s s' 811 dst src 8 := by
  intro d
  induction d with
  | zero =>
    intro n c s1 h1 h2 p c1 c2 c3 c4 c5
    obtain ⟨n, rfl⟩ : ∃ q, n = q + 1 := ⟨n - 1, by omega⟩
    have e : c = 8 := by omega
    subst e
    rw [show FX8_be_b73 nf (n + 1) = FX8_be_b73_s nf (FX8_be_b73 nf n) from rfl]
    unfold FX8_be_b73_s
    rw [if_pos (show (8 : Int32) ≤ i32 ((8 : Nat) : Int) by decide)]
    exact ok_s ⟨p, c1, c2, c3, c4, c5⟩
  | succ d ih =>
    intro n c s1 h1 h2 p c1 c2 c3 c4 c5
    obtain ⟨n, rfl⟩ : ∃ q, n = q + 1 := ⟨n - 1, by omega⟩
    have o7 := hd.2.2.1
    have o8 := hd.2.2.2.1
    have o9 := hd.2.2.2.2.1
    have o10 := hd.2.2.2.2.2.1
    have o11 := hd.2.2.2.2.2.2
    rw [show FX8_be_b73 nf (n + 1) = FX8_be_b73_s nf (FX8_be_b73 nf n) from rfl]
    unfold FX8_be_b73_s
    rw [if_neg (show ¬ (8 : Int32) ≤ i32 (c : Int) from fun z => by have := (i32_le (a := 8) ⟨by omega, by omega⟩ ⟨by omega, by omega⟩).mp z; omega)]
    refine se_st hd hs hne p o10 hs.2.2.2.2.2.1 (by omega) (by omega) ?_
    have p1 := p.up (i := c) (v := cA s (av s 810 src) c) o10.2.2 (by omega) (fun z => by omega)
    refine se_st hd hs hne p1 o11 hs.2.2.2.2.2.2 (by omega) (by omega) ?_
    have p2 := p1.up (i := c) (v := cA s (av s 811 src) c) o11.2.2 (by omega) (fun z => by omega)
    rw [show (1 : Int32) = i32 1 from rfl, i32_add]
    exact ih n (c + 1) _ (by omega) (by omega) p2 ((c1.n (oA_ne o7 o10 (by decide))).n (oA_ne o7 o11 (by decide))) ((c2.n (oA_ne o8 o10 (by decide))).n (oA_ne o8 o11 (by decide))) ((c3.n (oA_ne o9 o10 (by decide))).n (oA_ne o9 o11 (by decide))) (c4.up.n (oA_ne o10 o11 (by decide))) ((c5.n (oA_ne o11 o10 (by decide))).up)
theorem se_23 (hn : 100 ≤ nf) (hd : SO ρ s dst) (hs : SO ρ s src) (hne : ¬ src = dst) (hX : Hx ρ s) : ∀ (d n c : Nat) (s1 : CS), c + d = 10 → d < n → Pe ρ dst s s1 → cpy s s1 807 dst src c → cpy s s1 808 dst src c → cpy s s1 809 dst src c → Ok (FX8_be_b23 nf n dst src (i32 (c : Int)) s1) fun s' => Pe ρ dst s s' ∧ cpy s s' 807 dst src 10 ∧ cpy s s' 808 dst src 10 ∧ cpy s s' 809 dst src 10 ∧ cpy s s' 810 dst src 8 ∧ cpy s s' 811 dst src 8 := by
  intro d
  induction d with
  | zero =>
    intro n c s1 h1 h2 p c1 c2 c3
    obtain ⟨n, rfl⟩ : ∃ q, n = q + 1 := ⟨n - 1, by omega⟩
    have e : c = 10 := by omega
    subst e
    rw [show FX8_be_b23 nf (n + 1) = FX8_be_b23_s nf (FX8_be_b23 nf n) from rfl]
    unfold FX8_be_b23_s
    rw [if_pos (show (10 : Int32) ≤ i32 ((10 : Nat) : Int) by decide)]
    exact se_73 (nf := nf) hd hs hne 8 nf 0 s1 (by omega) (by omega) p c1 c2 c3 (fun k hk => by omega) (fun k hk => by omega)
  | succ d ih =>
    intro n c s1 h1 h2 p c1 c2 c3
    obtain ⟨n, rfl⟩ : ∃ q, n = q + 1 := ⟨n - 1, by omega⟩
    have o7 := hd.2.2.1
    have o8 := hd.2.2.2.1
    have o9 := hd.2.2.2.2.1
    have hb : isb (cA s (av s 807 src) c) = true := hX _ (by rw [hs.2.2.1.2.2]) c
    rw [show FX8_be_b23 nf (n + 1) = FX8_be_b23_s nf (FX8_be_b23 nf n) from rfl]
    unfold FX8_be_b23_s
    rw [if_neg (show ¬ (10 : Int32) ≤ i32 (c : Int) from fun z => by have := (i32_le (a := 10) ⟨by omega, by omega⟩ ⟨by omega, by omega⟩).mp z; omega)]
    refine se_sb hd hs hne p o7 hs.2.2.1 (by omega) (by omega) hb ?_
    have p1 := p.up (i := c) (v := cA s (av s 807 src) c) o7.2.2 (by omega) (fun _ => hb)
    refine se_st hd hs hne p1 o8 hs.2.2.2.1 (by omega) (by omega) ?_
    have p2 := p1.up (i := c) (v := cA s (av s 808 src) c) o8.2.2 (by omega) (fun z => by omega)
    refine se_st hd hs hne p2 o9 hs.2.2.2.2.1 (by omega) (by omega) ?_
    have p3 := p2.up (i := c) (v := cA s (av s 809 src) c) o9.2.2 (by omega) (fun z => by omega)
    rw [show (1 : Int32) = i32 1 from rfl, i32_add]
    exact ih n (c + 1) _ (by omega) (by omega) p3 ((c1.up.n (oA_ne o7 o8 (by decide))).n (oA_ne o7 o9 (by decide))) ((c2.n (oA_ne o8 o7 (by decide))).up.n (oA_ne o8 o9 (by decide))) ((c3.n (oA_ne o9 o7 (by decide))).n (oA_ne o9 o8 (by decide))).up
theorem Hx.o {s1 : CS} (h : Hx ρ s) (f : ∀ a, (ρ a).1 = 102 → cA s1 a = cA s a) : Hx ρ s1 := fun a ha k => by
  rw [f a ha]
  exact h a ha k
theorem ok_stbe (hn : 100 ≤ nf) (hd : SO ρ s dst) (hs : SO ρ s src) (hne : ¬ src = dst) (v : SV s src σ) (v2 : SV2 s src σ) (hk : ∀ c, c < 54 → σ (4 + c) = 0 ∨ σ (4 + c) = 1) (hb : σ 58 ≤ 10 ∧ σ 59 ≤ 8) (hX : Hx ρ s) : Ok (FX8_be nf dst src s) fun s' => Fo ρ dst 805 106 s s' ∧ SV s' dst σ ∧ SV2 s' dst σ ∧ Hx ρ s' := by
  unfold FX8_be
  refine ok_mo (ρ := ρ) (d := dst) (fx := 805) (rx := 106) ?_ (fun z hz => hz.1)
  refine ok_gd hd.1 rfl (ok_b (ok_stgo hn hd hs hne v hk) fun s1 h1 => ?_)
  obtain ⟨f1, w1⟩ := h1
  have hs1 := hs.ob f1
  have hd1 := hd.ob f1
  have x1 : SV2 s1 src σ := v2.ob hs f1 hne
  have X1 : Hx ρ s1 := hX.o fun a ha => f1.2.2.2.1 a (fun z => by omega)
  refine ok_gI hs1.1 rfl (ok_pI hd1.1 rfl ?_)
  have f3 : Fo ρ dst 805 106 s1 (uI s1 804 dst (cI s1 804 src)) := Fo.uI (by omega)
  refine ok_gI (hs1.ob f3).1 rfl (ok_pI (hd1.ob f3).1 rfl ?_)
  have f5 : Fo ρ dst 805 106 s1 (uI (uI s1 804 dst (cI s1 804 src)) 805 dst (cI (uI s1 804 dst (cI s1 804 src)) 805 src)) := f3.tr (Fo.uI (by omega))
  have e804 : cI (uI (uI s1 804 dst (cI s1 804 src)) 805 dst (cI (uI s1 804 dst (cI s1 804 src)) 805 src)) 804 dst = i32 (σ 58) := by
    rw [rI_n (by decide), rI_t]
    exact x1.1
  have e805 : cI (uI (uI s1 804 dst (cI s1 804 src)) 805 dst (cI (uI s1 804 dst (cI s1 804 src)) 805 src)) 805 dst = i32 (σ 59) := by
    rw [rI_t, rI_n (by decide)]
    exact x1.2.1
  have ei : ∀ f, ¬ f = 804 → ¬ f = 805 → cI (uI (uI s1 804 dst (cI s1 804 src)) 805 dst (cI (uI s1 804 dst (cI s1 804 src)) 805 src)) f dst = cI s1 f dst := fun f q1 q2 => by rw [rI_n q2, rI_n q1]
  have eA : cA (uI (uI s1 804 dst (cI s1 804 src)) 805 dst (cI (uI s1 804 dst (cI s1 804 src)) 805 src)) = cA s1 := rfl
  generalize uI (uI s1 804 dst (cI s1 804 src)) 805 dst (cI (uI s1 804 dst (cI s1 804 src)) 805 src) = s5 at f5 e804 e805 ei eA ⊢
  have hs5 := hs1.ob f5
  have hd5 := hd1.ob f5
  have X5 : Hx ρ s5 := X1.o fun a _ => by rw [eA]
  refine ok_w (se_23 (nf := nf) hn hd5 hs5 hne X5 10 nf 0 s5 (by omega) (by omega) ⟨Fo.rf, rfl, fun _ _ => rfl, X5⟩ (fun k hk => by omega) (fun k hk => by omega) (fun k hk => by omega)) fun s' h' => ?_
  obtain ⟨⟨p1, p2, p3, p4⟩, c7, c8, c9, c10, c11⟩ := h'
  have eav : ∀ f o, av s' f o = av s5 f o := fun f o => av_e p1.2.2.1
  have eav5 : ∀ f o, av s5 f o = av s1 f o := fun f o => av_e f5.2.2.1
  refine ⟨(f1.le (by omega) (by omega)).tr (f5.tr p1), ?_, ?_, p4⟩
  · unfold SV
    rw [p2, ei _ (by decide) (by decide), ei _ (by decide) (by decide), ei _ (by decide) (by decide), ei _ (by decide) (by decide), eav, p3 _ (by rw [hd5.2.1.2.2]), eav5, eA]
    exact w1
  · unfold SV2
    rw [p2, e804, e805]
    refine ⟨rfl, rfl, fun k hk => ?_, fun k hk => ?_⟩
    · have y := x1.2.2.1 k hk
      rw [eav, eav, eav, c7 k (by omega), c8 k (by omega), c9 k (by omega), eav5, eav5, eav5, eA]
      exact y
    · have y := x1.2.2.2 k hk
      rw [eav, eav, c10 k (by omega), c11 k (by omega), eav5, eav5, eA]
      exact y
end SN
