/-! LAYER 2: waves: all beginnings tried, both sides -/
set_option maxRecDepth 100000
def wvL {α : Type} (f : Nat → α → α) : Nat → Nat → α → α
  | 0, _, q => q
  | n + 1, b, q => wvL f n (b + 1) (f b q)
def upN (f : Nat → Int) (k : Nat) (v : Int) : Nat → Int := fun j => if j = k then v else f j
/-- the best of all beginnings: how many seconds, the beginnings -/
def wvN (R : Nat) (G H : Nat → Nat → Nat) (bo : Bool) : Nat → Nat → (Nat → Int) → Nat → Nat → Int × (Nat → Int) → Int × (Nat → Int)
  | 0, _, bg, x, y, q => if q.1 < (onL 60 x : Int) + (if bo = true then (onL 60 y : Int) else 0) then ((onL 60 x : Int) + (if bo = true then (onL 60 y : Int) else 0), bg) else q
  | d + 1, a, bg, x, y, q => wvL (fun b q => wvN R G H bo d (a + 1) (upN bg a b) (x &&& G a b) (y &&& H a b) q) R 0 q
def qB (q : Int × (Nat → Int)) : Prop := -1 ≤ q.1 ∧ q.1 ≤ 120
theorem onL_b (a : Nat) : 0 ≤ ((onL 60 a : Nat) : Int) ∧ ((onL 60 a : Nat) : Int) ≤ 60 := by
  have := onL_le 60 a
  omega
theorem and_b {x y : Nat} (h : x < 2 ^ 60) : x &&& y < 2 ^ 60 := Nat.lt_of_le_of_lt Nat.and_le_left h
def Wq (s : CS) (g : Nat → Nat) (M : Nat) (q : Int × (Nat → Int)) : Prop := cI s 20 (g 0) = i32 q.1 ∧ (0 ≤ q.1 → ∀ k, 1 ≤ k → k < M → cA s (g 27) k = i32 (q.2 k)) ∧ qB q
def Wb (s : CS) (g : Nat → Nat) (a : Nat) (bg : Nat → Int) : Prop := ∀ k, 1 ≤ k → k < a → cA s (g 26) k = i32 (bg k)
def Wtb (s : CS) (g : Nat → Nat) (R M : Nat) (G H : Nat → Nat → Nat) : Prop := ∀ k b, k < M → b < R → cB s (g 24) (60 * k + b) = i64 ((G k b : Nat) : Int) ∧ cB s (g 25) (60 * k + b) = i64 ((H k b : Nat) : Int)
section WA
variable {g : Nat → Nat} {ρ : Nat → Nat × Nat} {W : Nat → Int} {S : Nat → Nat → Int} {V m Tp : Nat → Int} {RC : Nat → List (Nat × Int)} {s : CS} {τ : TS} {T : Int} {nf : Nat} {R M : Nat} {G H : Nat → Nat → Nat}
theorem g_ne (b : B g ρ W S V m Tp RC s) {i j : Nat} {q1 q2 : Nat × Nat × Nat × Nat × Nat} (h1 : bTab[i]? = some q1) (h2 : bTab[j]? = some q2) (h : ¬ q1.2.2.1 = q2.2.2.1) : ¬ g q1.2.2.1 = g q2.2.2.1 := fun e => by
  have k1 := (b.2.1 i q1 h1).2.2
  have k2 := (b.2.1 j q2 h2).2.2
  rw [e, k2] at k1
  exact h (congrArg Prod.fst k1).symm
theorem rd_uA {s : CS} {a c i j : Nat} {v : Int32} : cA (uA s a i v) c j = if c = a ∧ j = i then v else cA s c j := by
  show (if c = a then upd (cA s a) i v else cA s c) j = _
  by_cases e : c = a
  · rw [if_pos e, e]
    show (if j = i then v else cA s a j) = _
    by_cases e2 : j = i
    · rw [if_pos e2, if_pos ⟨rfl, e2⟩]
    · rw [if_neg e2, if_neg (fun z => e2 z.2)]
  · rw [if_neg e, if_neg (fun z => e z.1)]
theorem cw_45 (b : B g ρ W S V m Tp RC s) (hM : M ≤ 4) {bg : Nat → Int} {rc : Nat → Int32 → Int32 → Int64 → Int64 → Int32 → Int32 → CS → Option CS} : ∀ (d n k : Nat) (s1 : CS), k + d = M → d < n → Fq ρ s s1 → cB s1 = cB s → cI s1 = cI s → (∀ j, cA s1 (g 26) j = cA s (g 26) j) → (∀ j, 1 ≤ j → j < k → cA s1 (g 27) j = cA s (g 26) j) → Ok (FX0_waves_b45 nf rc n (g 0) (i32 (M : Int)) (i32 (k : Int)) s1) fun s' => Fq ρ s s' ∧ cB s' = cB s ∧ cI s' = cI s ∧ (∀ j, cA s' (g 26) j = cA s (g 26) j) ∧ ∀ j, 1 ≤ j → j < M → cA s' (g 27) j = cA s (g 26) j := by
  have hne : ¬ g 26 = g 27 := g_ne b (i := 12) (j := 13) rfl rfl (by decide)
  intro d
  induction d with
  | zero =>
    intro n k s1 h1 h2 f1 f2 f3 f4 f5
    obtain ⟨n, rfl⟩ : ∃ q, n = q + 1 := ⟨n - 1, by omega⟩
    rw [show FX0_waves_b45 nf rc (n + 1) = FX0_waves_b45_s nf rc (FX0_waves_b45 nf rc n) from rfl]
    unfold FX0_waves_b45_s
    refine ok_le ⟨by omega, by omega⟩ ⟨by omega, by omega⟩ (fun _ => ?_) (fun z => by omega)
    exact ok_s ⟨f1, f2, f3, f4, fun j a1 a2 => f5 j a1 (by omega)⟩
  | succ d ih =>
    intro n k s1 h1 h2 f1 f2 f3 f4 f5
    obtain ⟨n, rfl⟩ : ∃ q, n = q + 1 := ⟨n - 1, by omega⟩
    have b1 := b.q f1
    rw [show FX0_waves_b45 nf rc (n + 1) = FX0_waves_b45_s nf rc (FX0_waves_b45 nf rc n) from rfl]
    unfold FX0_waves_b45_s
    refine ok_le ⟨by omega, by omega⟩ ⟨by omega, by omega⟩ (fun z => by omega) (fun _ => ?_)
    refine ok_gRs b1.1 rfl (b1.2.1 13 _ rfl).1 (ok_gRs b1.1 rfl (b1.2.1 12 _ rfl).1 (ok_nn (ok_lI (b1.2.1 12 _ rfl).2.1 (by omega) (by show _ < ((4 : Nat) : Int); omega) (by decide) (ok_nn (ok_tI (b1.2.1 13 _ rfl).2.1 (by omega) (by show _ < ((4 : Nat) : Int); omega) (by decide) ?_)))))
    rw [Int.toNat_natCast, show (1 : Int32) = i32 1 from rfl, i32_add]
    have hq : Fq ρ s1 (uA s1 (g 27) k (cA s1 (g 26) k)) := Fq.uA (by rw [(b1.2.1 13 _ rfl).2.2]; rfl)
    refine ih n (k + 1) _ (by omega) (by omega) (f1.tr hq) f2 f3 (fun j => ?_) (fun j a1 a2 => ?_)
    · rw [rd_uA, if_neg (fun z => hne z.1)]
      exact f4 j
    · rw [rd_uA]
      by_cases e : j = k
      · rw [if_pos ⟨rfl, e⟩, e, f4]
      · rw [if_neg (fun z => e z.2)]
        exact f5 j a1 (by omega)
theorem cw_23 (hn : 100 ≤ nf) (b : B g ρ W S V m Tp RC s) (hM : M ≤ 4) {bg : Nat → Int} {q : Int × (Nat → Int)} {rc : Nat → Int32 → Int32 → Int64 → Int64 → Int32 → Int32 → CS → Option CS} (hb : Wb s g M bg) (hq : Wq s g M q) {v w : Int} (hv : 0 ≤ v ∧ v ≤ 60) (hw : 0 ≤ w ∧ w ≤ 60) : Ok (FX0_waves_b23 nf rc (g 0) (i32 (M : Int)) (i32 w) (i32 v) s) fun s' => Fq ρ s s' ∧ cB s' = cB s ∧ (∀ j, cA s' (g 26) j = cA s (g 26) j) ∧ Wq s' g M (if q.1 < v + w then (v + w, bg) else q) := by
  obtain ⟨q1, q2, q3, q4⟩ := hq
  unfold FX0_waves_b23
  refine ok_n (ok_gI b.1 rfl ?_)
  rw [q1, i32_add]
  refine ok_lt ⟨by omega, by omega⟩ ⟨by omega, by omega⟩ (fun z => ?_) (fun z => ?_)
  · rw [if_pos z]
    refine ok_pI b.1 rfl ?_
    have f1 : Fq ρ s (uI s 20 (g 0) (i32 (v + w))) := Fq.uI rfl
    have L := cw_45 (nf := nf) (rc := rc) (M := M) (bg := bg) (b.q f1) hM M nf 0 _ (by omega) (by omega) Fq.rf rfl rfl (fun _ => rfl) (fun j a1 a2 => by omega)
    refine ok_w L fun s' hs' => ⟨f1.tr hs'.1, hs'.2.1, hs'.2.2.2.1, ?_, fun _ k a1 a2 => ?_, by show -1 ≤ v + w; omega, by show v + w ≤ 120; omega⟩
    · rw [hs'.2.2.1]
      show (if 20 = 20 ∧ g 0 = g 0 then i32 (v + w) else cI s 20 (g 0)) = _
      rw [if_pos ⟨rfl, rfl⟩]
    · rw [hs'.2.2.2.2 k a1 a2]
      exact hb k a1 a2
  · rw [if_neg (by omega)]
    exact ok_s ⟨Fq.rf, rfl, fun _ => rfl, q1, q2, q3, q4⟩
theorem c_waves (hn : 100 ≤ nf) (hM : M ≤ 4) (hR : 1 ≤ R ∧ R ≤ 60) {v : Int32} : ∀ (d a n : Nat) (bg : Nat → Int) (x y : Nat) (q : Int × (Nat → Int)) (s : CS), a + d = M → d < n → 1 ≤ a → B g ρ W S V m Tp RC s → Wtb s g R M G H → Wb s g a bg → Wq s g M q → x < 2 ^ 60 → y < 2 ^ 60 → Ok (FX0_waves nf n (g 0) (i32 (a : Int)) (i32 (M : Int)) (i64 ((x : Nat) : Int)) (i64 ((y : Nat) : Int)) v (i32 (R : Int)) s) fun s' => Fq ρ s s' ∧ cB s' = cB s ∧ (∀ j, j < a → cA s' (g 26) j = cA s (g 26) j) ∧ Wq s' g M (wvN R G H (!decide (v = 0)) d a bg x y q) := by
  intro d
  induction d with
  | zero =>
    intro a n bg x y q s h1 h2 h3 b ht hb hq hx hy
    obtain ⟨n, rfl⟩ : ∃ p, n = p + 1 := ⟨n - 1, by omega⟩
    have ea : a = M := by omega
    subst ea
    rw [show FX0_waves nf (n + 1) = FX0_waves_s nf (FX0_waves nf n) from rfl]
    unfold FX0_waves_s wvN
    refine ok_mq (ρ := ρ) ?_ (fun z hz => hz.1)
    refine ok_gd b.1 rfl ?_
    rw [if_pos rfl]
    refine ok_be (c_bitCount hx) ?_
    have o1 := onL_b x
    have o2 := onL_b y
    by_cases e : v = 0
    · rw [if_pos e, e, show (!decide ((0 : Int32) = 0)) = false from rfl]
      have L := cw_23 (nf := nf) (rc := FX0_waves nf n) hn b hM hb hq o1 (w := 0) ⟨by omega, by omega⟩
      simp only [Bool.false_eq_true, if_false]
      exact ok_w L fun s' h => ⟨h.1, h.2.1, fun j _ => h.2.2.1 j, h.2.2.2⟩
    · rw [if_neg e, decide_eq_false e]
      refine ok_be (c_bitCount hy) ?_
      have L := cw_23 (nf := nf) (rc := FX0_waves nf n) hn b hM hb hq o1 o2
      simp only [Bool.not_false, if_true]
      exact ok_w L fun s' h => ⟨h.1, h.2.1, fun j _ => h.2.2.1 j, h.2.2.2⟩
  | succ d ihd =>
    intro a n bg x y q s h1 h2 h3 b ht hb hq hx hy
    obtain ⟨n, rfl⟩ : ∃ p, n = p + 1 := ⟨n - 1, by omega⟩
    have hne : ¬ g 27 = g 26 := g_ne b (i := 13) (j := 12) rfl rfl (by decide)
    have loop : ∀ (e n2 c : Nat) (q1 : Int × (Nat → Int)) (s1 : CS), c + e = R → e < n2 → Fq ρ s s1 → cB s1 = cB s → (∀ j, j < a → cA s1 (g 26) j = cA s (g 26) j) → Wq s1 g M q1 → Ok (FX0_waves_b75 nf (FX0_waves nf n) n2 (g 0) (i32 (a : Int)) (i32 (M : Int)) (i64 ((x : Nat) : Int)) (i64 ((y : Nat) : Int)) v (i32 (R : Int)) (i32 (c : Int)) s1) fun s' => Fq ρ s s' ∧ cB s' = cB s ∧ (∀ j, j < a → cA s' (g 26) j = cA s (g 26) j) ∧ Wq s' g M (wvL (fun b q => wvN R G H (!decide (v = 0)) d (a + 1) (upN bg a b) (x &&& G a b) (y &&& H a b) q) e c q1) := by
      intro e
      induction e with
      | zero =>
        intro n2 c q1 s1 g1 g2 f1 f2 f3 f4
        obtain ⟨n2, rfl⟩ : ∃ p, n2 = p + 1 := ⟨n2 - 1, by omega⟩
        rw [show FX0_waves_b75 nf (FX0_waves nf n) (n2 + 1) = FX0_waves_b75_s nf (FX0_waves nf n) (FX0_waves_b75 nf (FX0_waves nf n) n2) from rfl]
        unfold FX0_waves_b75_s
        refine ok_le ⟨by omega, by omega⟩ ⟨by omega, by omega⟩ (fun _ => ?_) (fun z => by omega)
        exact ok_s ⟨f1, f2, f3, f4⟩
      | succ e ihe =>
        intro n2 c q1 s1 g1 g2 f1 f2 f3 f4
        obtain ⟨n2, rfl⟩ : ∃ p, n2 = p + 1 := ⟨n2 - 1, by omega⟩
        have b1 := b.q f1
        rw [show FX0_waves_b75 nf (FX0_waves nf n) (n2 + 1) = FX0_waves_b75_s nf (FX0_waves nf n) (FX0_waves_b75 nf (FX0_waves nf n) n2) from rfl]
        unfold FX0_waves_b75_s
        refine ok_le ⟨by omega, by omega⟩ ⟨by omega, by omega⟩ (fun z => by omega) (fun _ => ?_)
        refine ok_gRs b1.1 rfl (b1.2.1 12 _ rfl).1 (ok_nn (ok_tI (b1.2.1 12 _ rfl).2.1 (by omega) (by show _ < ((4 : Nat) : Int); omega) (by decide) ?_))
        rw [Int.toNat_natCast]
        have hq2 : Fq ρ s1 (uA s1 (g 26) a (i32 (c : Int))) := Fq.uA (by rw [(b1.2.1 12 _ rfl).2.2]; rfl)
        have b2 := b1.q hq2
        have hz : ((a : Int) * 60 + (c : Int)) = ((60 * a + c : Nat) : Int) := by omega
        rw [show (60 : Int32) = i32 60 from rfl, show (1 : Int32) = i32 1 from rfl, i32_mul, i32_add, i32_add, i32_add, hz]
        refine ok_gRs b2.1 rfl (b2.2.1 10 _ rfl).1 (ok_nn (ok_lJ (b2.2.1 10 _ rfl).2.1 (by omega) (by show _ < ((240 : Nat) : Int); omega) (by decide) ?_))
        refine ok_gRs b2.1 rfl (b2.2.1 11 _ rfl).1 (ok_nn (ok_lJ (b2.2.1 11 _ rfl).2.1 (by omega) (by show _ < ((240 : Nat) : Int); omega) (by decide) ?_))
        rw [Int.toNat_natCast]
        have ht2 : Wtb (uA s1 (g 26) a (i32 (c : Int))) g R M G H := fun k b a1 a2 => by
          show cB s1 (g 24) (60 * k + b) = _ ∧ cB s1 (g 25) (60 * k + b) = _
          rw [f2]
          exact ht k b a1 a2
        have t0 := ht2 a c (by omega) (by omega)
        rw [t0.1, t0.2, i64_and, i64_and]
        have hb2 : Wb (uA s1 (g 26) a (i32 (c : Int))) g (a + 1) (upN bg a c) := fun k a1 a2 => by
          rw [rd_uA]
          unfold upN
          by_cases ek : k = a
          · rw [if_pos ⟨rfl, ek⟩, if_pos ek]
          · rw [if_neg (fun z => ek z.2), if_neg ek, f3 k (by omega)]
            exact hb k a1 (by omega)
        have hq3 : Wq (uA s1 (g 26) a (i32 (c : Int))) g M q1 := ⟨f4.1, fun z k a1 a2 => by
          rw [rd_uA, if_neg (fun z => hne z.1)]
          exact f4.2.1 z k a1 a2, f4.2.2⟩
        have L := ihd (a + 1) n (upN bg a c) (x &&& G a c) (y &&& H a c) q1 _ (by omega) (by omega) (by omega) b2 ht2 hb2 hq3 (and_b hx) (and_b hy)
        refine ok_b L fun s3 h3 => ?_
        refine ihe n2 (c + 1) _ s3 (by omega) (by omega) ((f1.tr hq2).tr h3.1) (h3.2.1.trans f2) (fun j hj => ?_) h3.2.2.2
        rw [h3.2.2.1 j (by omega), rd_uA, if_neg (fun z => by omega)]
        exact f3 j hj
    rw [show FX0_waves nf (n + 1) = FX0_waves_s nf (FX0_waves nf n) from rfl]
    unfold FX0_waves_s
    refine ok_mq (ρ := ρ) ?_ (fun z hz => hz.1)
    refine ok_gd b.1 rfl (ok_q ⟨by omega, by omega⟩ ⟨by omega, by omega⟩ (fun z => by omega) (fun _ => ?_))
    exact loop R nf 0 q s (by omega) (by omega) Fq.rf rfl (fun _ _ => rfl) hq
end WA
