/-! LAYER 2: feed: both sides -/
set_option maxRecDepth 100000
def bY (v : Int64) (p : Nat) : Int32 := ((shr64 v (i32 ((p : Nat) : Int))).toInt32) &&& 255
def fdB (q : Nat × (Nat → Int)) (c : Int32) : Nat × (Nat → Int) := if (c = 10 ∨ (¬ c < 32 ∧ ¬ 126 < c)) ∧ q.1 < 1000 then (q.1 + 1, upF q.2 q.1 c.toInt) else q
def fdV (v : Int64) : Nat → Nat × (Nat → Int) → Nat × (Nat → Int)
  | 0, q => q
  | d + 1, q => fdV v d (fdB q (bY v (8 * d)))
theorem fd_c {c : Int32} (h : c = 10 ∨ (¬ c < 32 ∧ ¬ 126 < c)) : c.toInt = 10 ∨ (32 ≤ c.toInt ∧ c.toInt ≤ 126) := by
  obtain ⟨z, hz, rfl⟩ := of32 c
  rw [i32_toInt hz]
  rcases h with h | h
  · left
    exact (i32_eq (b := 10) hz ⟨by omega, by omega⟩).mp h
  · right
    constructor
    · exact Int.not_lt.mp fun q => h.1 ((i32_lt (b := 32) hz ⟨by omega, by omega⟩).mpr q)
    · exact Int.not_lt.mp fun q => h.2 ((i32_lt (a := 126) ⟨by omega, by omega⟩ hz).mpr q)
theorem fd_b : ∀ z : Nat, z < 127 → i2b (i32 ((z : Nat) : Int)) = i32 ((z : Nat) : Int) ∧ isy (i2b (i32 ((z : Nat) : Int))) = true := by decide +kernel
theorem fd_y {c : Int32} (h : c = 10 ∨ (¬ c < 32 ∧ ¬ 126 < c)) : i2b c = c ∧ isy (i2b c) = true := by
  have hc := fd_c h
  have e : c = i32 ((c.toInt.toNat : Nat) : Int) := by
    rw [Int.toNat_of_nonneg (by omega), i32_of]
  have := fd_b c.toInt.toNat (by omega)
  rw [← e] at this
  exact this
def fdQ (q : Nat × (Nat → Int)) : Prop := q.1 ≤ 1000 ∧ ∀ k, k < q.1 → q.2 k = 10 ∨ (32 ≤ q.2 k ∧ q.2 k ≤ 126)
theorem fdB_q {q : Nat × (Nat → Int)} {c : Int32} (h : fdQ q) : fdQ (fdB q c) := by
  unfold fdB
  by_cases p : (c = 10 ∨ (¬ c < 32 ∧ ¬ 126 < c)) ∧ q.1 < 1000
  · rw [if_pos p]
    refine ⟨by show q.1 + 1 ≤ 1000; omega, fun k hk => ?_⟩
    have hk : k < q.1 + 1 := hk
    show upF q.2 q.1 c.toInt k = 10 ∨ _ ≤ upF q.2 q.1 c.toInt k ∧ upF q.2 q.1 c.toInt k ≤ _
    unfold upF
    by_cases e : k = q.1
    · rw [if_pos e]
      exact fd_c p.1
    · rw [if_neg e]
      exact h.2 k (by omega)
  · rw [if_neg p]
    exact h
theorem fdV_q {v : Int64} : ∀ d q, fdQ q → fdQ (fdV v d q) := by
  intro d
  induction d with
  | zero => intro q h; exact h
  | succ d ih => intro q h; exact ih _ (fdB_q h)
def fdA (a b c : Int64) (m Tp : Nat → Int) : Nat × (Nat → Int) := fdV c 8 (fdV b 8 (fdV a 8 ((m 0).toNat, Tp)))
section FE
variable {g : Nat → Nat} {ρ : Nat → Nat × Nat} {W : Nat → Int} {S S' : Nat → Nat → Int} {V m m' Tp : Nat → Int} {RC : Nat → List (Nat × Int)} {s s' z0 : CS} {T : Int} {nf : Nat} {τ : TS}
/-- the component with so much on its tape -/
def Pf (z0 : CS) (g : Nat → Nat) (ρ : Nat → Nat × Nat) (W : Nat → Int) (S : Nat → Nat → Int) (V m : Nat → Int) (RC : Nat → List (Nat × Int)) (s0 : CS) (q : Nat × (Nat → Int)) (s : CS) : Prop := B g ρ W S V (upM m 0 (q.1 : Int)) q.2 RC s ∧ Hp z0 ρ s ∧ cz s = cz s0 ∧ cl s = cl s0
theorem Pf.up {s0 : CS} {q : Nat × (Nat → Int)} {z : Int} (h : Pf z0 g ρ W S V m RC s0 q s) (hq : q.1 < 1000) : Pf z0 g ρ W S V m RC s0 (q.1 + 1, upF q.2 q.1 z) (uA (uI s 5 (g 0) (i32 ((q.1 : Int) + 1))) (g 5) q.1 (i32 z)) := by
  obtain ⟨b, hp, h1, h2⟩ := h
  have r5 : ρ (g 5) = (5, 0) := (b.2.1 0 _ rfl).2.2
  have f1 : Fx ρ ρ s (uI s 5 (g 0) (i32 ((q.1 : Int) + 1))) := Fx.uI rfl
  have f2 : Fx ρ ρ (uI s 5 (g 0) (i32 ((q.1 : Int) + 1))) (uA (uI s 5 (g 0) (i32 ((q.1 : Int) + 1))) (g 5) q.1 (i32 z)) := fun a w c n e => ⟨e, rfl, fun _ _ => rfl, fun _ => rfl, (fun p => funext fun j => by
    rw [rd_uA, if_neg]
    rintro ⟨rfl, -⟩
    rw [r5] at p
    cases p), fun _ => rfl⟩
  have hA : ∀ c j, cA (uA (uI s 5 (g 0) (i32 ((q.1 : Int) + 1))) (g 5) q.1 (i32 z)) c j = if c = g 5 ∧ j = q.1 then i32 z else cA s c j := fun c j => by rw [rd_uA, uI_x.2.2.1]
  have hI : ∀ f a, cI (uA (uI s 5 (g 0) (i32 ((q.1 : Int) + 1))) (g 5) q.1 (i32 z)) f a = if f = 5 ∧ a = g 0 then i32 ((q.1 : Int) + 1) else cI s f a := fun f a => rfl
  have e1 : (uA (uI s 5 (g 0) (i32 ((q.1 : Int) + 1))) (g 5) q.1 (i32 z)).1 = s.1 := rfl
  have e2 : cR (uA (uI s 5 (g 0) (i32 ((q.1 : Int) + 1))) (g 5) q.1 (i32 z)) = cR s := rfl
  have e3 : cQ (uA (uI s 5 (g 0) (i32 ((q.1 : Int) + 1))) (g 5) q.1 (i32 z)) = cQ s := rfl
  have e4 : cz (uA (uI s 5 (g 0) (i32 ((q.1 : Int) + 1))) (g 5) q.1 (i32 z)) = cz s ∧ cl (uA (uI s 5 (g 0) (i32 ((q.1 : Int) + 1))) (g 5) q.1 (i32 z)) = cl s := ⟨rfl, rfl⟩
  have f := f1.tr f2
  generalize uA (uI s 5 (g 0) (i32 ((q.1 : Int) + 1))) (g 5) q.1 (i32 z) = s2 at f hA hI e1 e2 e3 e4 ⊢
  have hne : ∀ a, ¬ (ρ a).1 = 5 → cA s2 a = cA s a := fun a ha => by
    funext j
    rw [hA, if_neg]
    rintro ⟨rfl, -⟩
    rw [r5] at ha
    exact ha rfl
  refine ⟨b.w f ⟨?_, ?_⟩ (fun k hk => ?_) ((b_Bs b).r id (fun _ h => h) (fun _ _ _ _ h => h) (fun _ _ => rfl) (fun j _ => ?_) (fun j o hj ho => ?_) (fun j hj ha => ?_) (fun _ _ _ _ _ => rfl) (fun j a1 a2 a3 => ?_)), hp.e f e1 e4.1 (fun a ha => hne a (by rw [ha]; decide)), e4.1.trans h1, e4.2.trans h2⟩
  · rw [hI, if_pos ⟨rfl, rfl⟩]
    rfl
  · rw [hI, if_neg (fun z => absurd z.1 (by decide))]
    exact b.2.2.2.2.2.2.1.2
  · have hk : (k : Int) < ((q.1 + 1 : Nat) : Int) := hk
    rw [hA]
    show _ = i32 (upF q.2 q.1 z k)
    unfold upF
    by_cases e : k = q.1
    · rw [if_pos ⟨rfl, e⟩, if_pos e]
    · rw [if_neg (fun z => e z.2), if_neg e]
      exact b.2.2.2.2.2.2.2.1 k (by show (k : Int) < (q.1 : Int); omega)
  · unfold sl
    rw [e3]
    rfl
  · exact ⟨by rw [e1], fun f a1 _ => by rw [hI, if_neg (fun z => by omega)], fun f => by rw [e2], fun a w c n e h1 h2 h3 => ⟨by rw [e1], rfl, hne a (by omega)⟩⟩
  · have ha : j = 0 ∨ (1 ≤ j ∧ j < 5 ∧ (if 1 + j = 0 then ((q.1 + 1 : Nat) : Int) else m (1 + j)) = 1) ∨ (5 ≤ j ∧ (j : Int) - 5 < m 1) := ha
    show j = 0 ∨ (1 ≤ j ∧ j < 5 ∧ (if 1 + j = 0 then ((q.1 : Nat) : Int) else m (1 + j)) = 1) ∨ (5 ≤ j ∧ (j : Int) - 5 < m 1)
    rw [if_neg (by omega)] at ha
    rw [if_neg (by omega)]
    exact ha
  · have a3 : (if 1 + j = 0 then ((q.1 + 1 : Nat) : Int) else m (1 + j)) = 0 := a3
    show (if 1 + j = 0 then ((q.1 : Nat) : Int) else m (1 + j)) = 0
    rw [if_neg (by omega)] at a3
    rw [if_neg (by omega)]
    exact a3
/-- one byte -/
theorem fc_34 {s0 : CS} {q : Nat × (Nat → Int)} {k3 : Nat → Int64 → Int64 → Int64 → Int32 → CS → Option (Int32 × CS)} {a b c v : Int64} {k : Nat} (hk : k < 24) (h : Pf z0 g ρ W S V m RC s0 q s) (hq : fdQ q) {Q : Int32 × CS → Prop} (hk3 : ∀ s', Pf z0 g ρ W S V m RC s0 (fdB q (bY v (56 - 8 * (k % 8)))) s' → Ok (k3 (g 0) a b c (i32 ((k + 1 : Nat) : Int)) s') Q) : Ok (FX0_feed_b34 nf k3 (g 0) a b c (i32 (k : Int)) v s) Q := by
  obtain ⟨bb, hp, h1, h2⟩ := id h
  have ek : (56 : Int32) - (8 * (rem32 (i32 (k : Int)) 8)) = i32 ((56 - 8 * (k % 8) : Nat) : Int) := by
    rw [show (8 : Int32) = i32 8 from rfl, show (56 : Int32) = i32 56 from rfl, rem_c (by omega) (by omega) (by omega) (by omega), i32_mul, i32_sub]
    congr 1
    omega
  have ek1 : i32 (k : Int) + 1 = i32 ((k + 1 : Nat) : Int) := i32_add k 1
  have L74 : (bY v (56 - 8 * (k % 8)) = 10 ∨ (¬ bY v (56 - 8 * (k % 8)) < 32 ∧ ¬ 126 < bY v (56 - 8 * (k % 8)))) → Ok (FX0_feed_b74 nf k3 (g 0) a b c (i32 (k : Int)) (bY v (56 - 8 * (k % 8))) s) Q := fun hc => by
    have e5 : cI s 5 (g 0) = i32 (q.1 : Int) := bb.2.2.2.2.2.2.1.1
    unfold FX0_feed_b74
    refine ok_gI bb.1 rfl ?_
    rw [e5, show (1000 : Int32) = i32 1000 from rfl, ek1]
    refine ok_le ⟨by omega, by omega⟩ ⟨by have := hq.1; omega, by have := hq.1; omega⟩ (fun z => ?_) (fun z => ?_)
    · refine hk3 s ?_
      have : fdB q (bY v (56 - 8 * (k % 8))) = q := if_neg (fun z => by omega)
      rw [this]
      exact h
    · have e : fdB q (bY v (56 - 8 * (k % 8))) = (q.1 + 1, upF q.2 q.1 (bY v (56 - 8 * (k % 8))).toInt) := if_pos ⟨hc, by omega⟩
      refine ok_gRs bb.1 rfl (bb.2.1 0 _ rfl).1 (ok_gI bb.1 rfl (ok_pI bb.1 rfl (ok_nn ?_)))
      rw [e5, show (1 : Int32) = i32 1 from rfl, i32_add]
      refine ok_g (fd_y hc).2 ?_
      rw [(fd_y hc).1]
      have k5 : (uI s 5 (g 0) (i32 ((q.1 : Int) + 1))).1 (g 5) = some (true, 103, 1000) := (bb.2.1 0 _ rfl).2.1
      refine ok_tI k5 (by omega) (by omega) (by omega) ?_
      rw [Int.toNat_natCast]
      have P := h.up (z := (bY v (56 - 8 * (k % 8))).toInt) (by omega)
      rw [i32_of] at P
      refine hk3 _ ?_
      rw [e]
      exact P
  have Lno : ¬ (bY v (56 - 8 * (k % 8)) = 10 ∨ (¬ bY v (56 - 8 * (k % 8)) < 32 ∧ ¬ 126 < bY v (56 - 8 * (k % 8)))) → Ok (k3 (g 0) a b c (i32 (k : Int) + 1) s) Q := fun hc => by
    rw [ek1]
    refine hk3 s ?_
    have : fdB q (bY v (56 - 8 * (k % 8))) = q := if_neg (fun z => hc z.1)
    rw [this]
    exact h
  unfold FX0_feed_b34
  rw [nm_eq, ek, show ((shr64 v (i32 ((56 - 8 * (k % 8) : Nat) : Int))).toInt32 &&& 255) = bY v (56 - 8 * (k % 8)) from rfl]
  generalize bY v (56 - 8 * (k % 8)) = x at L74 Lno ⊢
  refine ok_if (fun c1 => L74 (.inl c1)) (fun c1 => ok_if (fun c2 => Lno fun z => ?_) (fun c2 => ok_if (fun c3 => Lno fun z => ?_) (fun c3 => L74 (.inr ⟨c2, c3⟩))))
  · rcases z with z | z
    · exact c1 z
    · exact z.1 c2
  · rcases z with z | z
    · exact c1 z
    · exact z.2 c3
theorem fc_3 {s0 : CS} {a b c : Int64} : ∀ (d n k : Nat) (q : Nat × (Nat → Int)) (s : CS), k + d = 24 → d < n → fdQ q → Pf z0 g ρ W S V m RC s0 q s → Ok (FX0_feed_b3 nf n (g 0) a b c (i32 (k : Int)) s) fun p => p.1 = i32 ((if k ≤ 8 then fdV c 8 (fdV b 8 (fdV a (8 - k) q)) else if k ≤ 16 then fdV c 8 (fdV b (16 - k) q) else fdV c (24 - k) q).1 : Int) ∧ Pf z0 g ρ W S V m RC s0 (if k ≤ 8 then fdV c 8 (fdV b 8 (fdV a (8 - k) q)) else if k ≤ 16 then fdV c 8 (fdV b (16 - k) q) else fdV c (24 - k) q) p.2 := by
  intro d
  induction d with
  | zero =>
    intro n k q s h1 h2 hq h
    obtain ⟨n, rfl⟩ : ∃ p, n = p + 1 := ⟨n - 1, by omega⟩
    have ek : k = 24 := by omega
    subst ek
    rw [show FX0_feed_b3 nf (n + 1) = FX0_feed_b3_s nf (FX0_feed_b3 nf n) from rfl]
    unfold FX0_feed_b3_s
    rw [if_pos (show (24 : Int32) ≤ i32 ((24 : Nat) : Int) by decide), if_neg (by omega), if_neg (by omega), Nat.sub_self]
    exact ok_gI h.1.1 rfl (ok_s ⟨h.1.2.2.2.2.2.2.1.1, h⟩)
  | succ d ih =>
    intro n k q s h1 h2 hq h
    obtain ⟨n, rfl⟩ : ∃ p, n = p + 1 := ⟨n - 1, by omega⟩
    have le8 : (8 : Int32) ≤ i32 (k : Int) ↔ 8 ≤ k := by
      rw [show (8 : Int32) = i32 8 from rfl, i32_le ⟨by omega, by omega⟩ ⟨by omega, by omega⟩]
      omega
    have le16 : (16 : Int32) ≤ i32 (k : Int) ↔ 16 ≤ k := by
      rw [show (16 : Int32) = i32 16 from rfl, i32_le ⟨by omega, by omega⟩ ⟨by omega, by omega⟩]
      omega
    rw [show FX0_feed_b3 nf (n + 1) = FX0_feed_b3_s nf (FX0_feed_b3 nf n) from rfl]
    unfold FX0_feed_b3_s
    rw [if_neg (show ¬ (24 : Int32) ≤ i32 (k : Int) from fun z => by have := (i32_le (a := 24) ⟨by omega, by omega⟩ ⟨by omega, by omega⟩).mp z; omega)]
    by_cases q8 : 8 ≤ k
    · rw [if_pos (le8.mpr q8)]
      by_cases q16 : 16 ≤ k
      · rw [if_pos (le16.mpr q16)]
        refine fc_34 (by omega) h hq fun s' h' => ?_
        have L := ih n (k + 1) _ s' (by omega) (by omega) (fdB_q hq) h'
        have e : (if k ≤ 8 then fdV c 8 (fdV b 8 (fdV a (8 - k) q)) else if k ≤ 16 then fdV c 8 (fdV b (16 - k) q) else fdV c (24 - k) q) = fdV c (24 - k) q := by
          rw [if_neg (by omega)]
          by_cases e : k = 16
          · rw [if_pos (by omega), e]
            rfl
          · rw [if_neg (by omega)]
        have e2 : 24 - k = (24 - (k + 1)) + 1 := by omega
        rw [if_neg (by omega), if_neg (by omega)] at L
        rw [e, e2]
        show Ok _ fun p : Int32 × CS => p.1 = i32 ((fdV c (24 - (k + 1)) (fdB q (bY c (8 * (24 - (k + 1)))))).1 : Int) ∧ Pf z0 g ρ W S V m RC s0 (fdV c (24 - (k + 1)) (fdB q (bY c (8 * (24 - (k + 1)))))) p.2
        rw [show 8 * (24 - (k + 1)) = 56 - 8 * (k % 8) by omega]
        exact L
      · rw [if_neg (fun z => q16 (le16.mp z))]
        refine fc_34 (by omega) h hq fun s' h' => ?_
        have L := ih n (k + 1) _ s' (by omega) (by omega) (fdB_q hq) h'
        have e : (if k ≤ 8 then fdV c 8 (fdV b 8 (fdV a (8 - k) q)) else if k ≤ 16 then fdV c 8 (fdV b (16 - k) q) else fdV c (24 - k) q) = fdV c 8 (fdV b (16 - k) q) := by
          by_cases e : k = 8
          · rw [if_pos (by omega), e]
            rfl
          · rw [if_neg (by omega), if_pos (by omega)]
        have e2 : 16 - k = (16 - (k + 1)) + 1 := by omega
        rw [if_neg (by omega), if_pos (by omega)] at L
        rw [e, e2]
        show Ok _ fun p : Int32 × CS => p.1 = i32 ((fdV c 8 (fdV b (16 - (k + 1)) (fdB q (bY b (8 * (16 - (k + 1))))))).1 : Int) ∧ Pf z0 g ρ W S V m RC s0 (fdV c 8 (fdV b (16 - (k + 1)) (fdB q (bY b (8 * (16 - (k + 1))))))) p.2
        rw [show 8 * (16 - (k + 1)) = 56 - 8 * (k % 8) by omega]
        exact L
    · rw [if_neg (fun z => q8 (le8.mp z))]
      refine fc_34 (by omega) h hq fun s' h' => ?_
      have L := ih n (k + 1) _ s' (by omega) (by omega) (fdB_q hq) h'
      have e2 : 8 - k = (8 - (k + 1)) + 1 := by omega
      rw [if_pos (by omega)] at L
      rw [if_pos (by omega), e2]
      show Ok _ fun p : Int32 × CS => p.1 = i32 ((fdV c 8 (fdV b 8 (fdV a (8 - (k + 1)) (fdB q (bY a (8 * (8 - (k + 1)))))))).1 : Int) ∧ Pf z0 g ρ W S V m RC s0 (fdV c 8 (fdV b 8 (fdV a (8 - (k + 1)) (fdB q (bY a (8 * (8 - (k + 1)))))))) p.2
      rw [show 8 * (8 - (k + 1)) = 56 - 8 * (k % 8) by omega]
      exact L
theorem upM_id {i : Nat} : upM m i (m i) = m := funext fun j => by
  unfold upM
  by_cases e : j = i
  · rw [if_pos e, e]
  · rw [if_neg e]
theorem ok_feed (hn : 100 ≤ nf) (b : B g ρ W S V m Tp RC s) (hp : Hp z0 ρ s) (hm : 0 ≤ m 0 ∧ m 0 ≤ 1000) (hT : ∀ k : Nat, (k : Int) < m 0 → Tp k = 10 ∨ (32 ≤ Tp k ∧ Tp k ≤ 126)) {x y z : Int64} : Ok (FX0_feed nf (g 0) x y z s) fun p => p.1 = i32 ((fdA x y z m Tp).1 : Int) ∧ Pf z0 g ρ W S V m RC s (fdA x y z m Tp) p.2 := by
  unfold FX0_feed
  refine ok_mz ?_ (fun p hp => ⟨by rw [hp.2.2.2.1]; exact Nat.le_refl _, by rw [hp.2.2.2.2]; exact Nat.le_refl _⟩)
  refine ok_gd b.1 rfl ?_
  have h0 : Pf z0 g ρ W S V m RC s ((m 0).toNat, Tp) s := by
    refine ⟨?_, hp, rfl, rfl⟩
    show B g ρ W S V (upM m 0 ((m 0).toNat : Int)) Tp RC s
    rw [Int.toNat_of_nonneg hm.1, upM_id]
    exact b
  have L := fc_3 (nf := nf) (a := x) (b := y) (c := z) 24 nf 0 _ s (by omega) (by omega) ⟨by show (m 0).toNat ≤ 1000; omega, fun k hk => hT k (by have hk : k < (m 0).toNat := hk; omega)⟩ h0
  rw [if_pos (Nat.zero_le 8), Nat.sub_zero] at L
  unfold fdA
  exact L
/-- the twin -/
def Pt (q : Nat × (Nat → Int)) (τ : TS) : Prop := tI τ 2 = i32 (q.1 : Int) ∧ ∀ k, k < q.1 → tA τ 1 k = i32 (q.2 k)
theorem ft_3 {v : Int64} : ∀ (d n : Nat) (q : Nat × (Nat → Int)) (τ1 : TS), d ≤ 8 → d < n → fdQ q → Tgx [0, 2] [1] τ τ1 → Pt q τ1 → Ok (T_lay_b3 nf n v (i32 (8 * (d : Int) - 8)) τ1) fun τ' => Tgx [0, 2] [1] τ τ' ∧ Pt (fdV v d q) τ' := by
  intro d
  induction d with
  | zero =>
    intro n q τ1 h1 h2 hq f h
    obtain ⟨n, rfl⟩ : ∃ p, n = p + 1 := ⟨n - 1, by omega⟩
    rw [show T_lay_b3 nf (n + 1) = T_lay_b3_s nf (T_lay_b3 nf n) from rfl]
    unfold T_lay_b3_s
    rw [if_pos (show i32 (8 * ((0 : Nat) : Int) - 8) < (0 : Int32) by decide)]
    exact ok_s ⟨f, h⟩
  | succ d ih =>
    intro n q τ1 h1 h2 hq f h
    obtain ⟨n, rfl⟩ : ∃ p, n = p + 1 := ⟨n - 1, by omega⟩
    have ed : i32 (8 * ((d + 1 : Nat) : Int) - 8) = i32 ((8 * d : Nat) : Int) := by congr 1; omega
    have e8 : i32 ((8 * d : Nat) : Int) + (-8) = i32 (8 * (d : Int) - 8) := by
      rw [show (-8 : Int32) = i32 (-8) from rfl, i32_add]
      congr 1
    have Lno : ¬ (bY v (8 * d) = 10 ∨ (¬ bY v (8 * d) < 32 ∧ ¬ 126 < bY v (8 * d))) → Ok (T_lay_b3 nf n v (i32 ((8 * d : Nat) : Int) + (-8)) τ1) fun τ' => Tgx [0, 2] [1] τ τ' ∧ Pt (fdV v d (fdB q (bY v (8 * d)))) τ' := fun hc => by
      have e : fdB q (bY v (8 * d)) = q := if_neg (fun z => hc z.1)
      rw [e8, e]
      exact ih n q τ1 (by omega) (by omega) hq f h
    have L38 : (bY v (8 * d) = 10 ∨ (¬ bY v (8 * d) < 32 ∧ ¬ 126 < bY v (8 * d))) → Ok (T_lay_b38 nf (T_lay_b3 nf n) v (i32 ((8 * d : Nat) : Int)) (bY v (8 * d)) τ1) fun τ' => Tgx [0, 2] [1] τ τ' ∧ Pt (fdV v d (fdB q (bY v (8 * d)))) τ' := fun hc => by
      have hq1 := hq.1
      unfold T_lay_b38
      rw [h.1, e8, show (1000 : Int32) = i32 1000 from rfl]
      refine ok_le ⟨by omega, by omega⟩ ⟨by omega, by omega⟩ (fun z => ?_) (fun z => ?_)
      · have e : fdB q (bY v (8 * d)) = q := if_neg (fun z => by omega)
        rw [e]
        exact ih n q τ1 (by omega) (by omega) hq f h
      · have e : fdB q (bY v (8 * d)) = (q.1 + 1, upF q.2 q.1 (bY v (8 * d)).toInt) := if_pos ⟨hc, by omega⟩
        have hq2 := fdB_q (c := bY v (8 * d)) hq
        refine ok_sA (by omega) (by omega) (by omega) (ok_n ?_)
        rw [Int.toNat_natCast, show tI (sA τ1 1 q.1 (bY v (8 * d))) 2 = i32 (q.1 : Int) from h.1]
        rw [e] at hq2 ⊢
        refine ih n _ _ (by omega) (by omega) hq2 (f.tr ((Tgx.sA rfl).tr (Tgx.sI rfl))) ⟨?_, fun k hk => ?_⟩
        · show i32 (q.1 : Int) + 1 = _
          exact i32_add q.1 1
        · have hk : k < q.1 + 1 := hk
          show tA (sA τ1 1 q.1 (bY v (8 * d))) 1 k = i32 (upF q.2 q.1 (bY v (8 * d)).toInt k)
          rw [rd_sA]
          unfold upF
          by_cases ek : k = q.1
          · rw [if_pos ⟨rfl, ek⟩, if_pos ek, i32_of]
          · rw [if_neg (fun z => ek z.2), if_neg ek]
            exact h.2 k (by omega)
    rw [show T_lay_b3 nf (n + 1) = T_lay_b3_s nf (T_lay_b3 nf n) from rfl]
    unfold T_lay_b3_s
    rw [ed, if_neg (show ¬ i32 ((8 * d : Nat) : Int) < (0 : Int32) from fun z => by have := (i32_lt (b := 0) ⟨by omega, by omega⟩ ⟨by omega, by omega⟩).mp z; omega), nm_eq, show ((shr64 v (i32 ((8 * d : Nat) : Int))).toInt32 &&& 255) = bY v (8 * d) from rfl]
    show Ok _ fun τ' => Tgx [0, 2] [1] τ τ' ∧ Pt (fdV v d (fdB q (bY v (8 * d)))) τ'
    generalize bY v (8 * d) = x at L38 Lno ⊢
    refine ok_if (fun c1 => L38 (.inl c1)) (fun c1 => ok_if (fun c2 => Lno fun z => ?_) (fun c2 => ok_if (fun c3 => Lno fun z => ?_) (fun c3 => L38 (.inr ⟨c2, c3⟩))))
    · rcases z with z | z
      · exact c1 z
      · exact z.1 c2
    · rcases z with z | z
      · exact c1 z
      · exact z.2 c3
theorem t_layB (hn : 100 ≤ nf) {v : Int64} {q : Nat × (Nat → Int)} {τ1 : TS} (hq : fdQ q) (f : Tgx [0, 2] [1] τ τ1) (h : Pt q τ1) : Ok (T_lay nf v τ1) fun τ' => Tgx [0, 2] [1] τ τ' ∧ Pt (fdV v 8 q) τ' := ft_3 (nf := nf) 8 nf q τ1 (by omega) (by omega) hq f h
theorem t_feed (hn : 100 ≤ nf) (tb : TB W S V m Tp RC τ) (hm : 0 ≤ m 0 ∧ m 0 ≤ 1000) (hT : ∀ k : Nat, (k : Int) < m 0 → Tp k = 10 ∨ (32 ≤ Tp k ∧ Tp k ≤ 126)) {x y z : Int64} : Ok (T_feed nf x y z τ) fun p => p.1 = i32 ((fdA x y z m Tp).1 : Int) ∧ Tgx [0, 2] [1] τ p.2 ∧ Pt (fdA x y z m Tp) p.2 := by
  have hq : fdQ ((m 0).toNat, Tp) := ⟨by show (m 0).toNat ≤ 1000; omega, fun k hk => hT k (by have hk : k < (m 0).toNat := hk; omega)⟩
  have h0 : Pt ((m 0).toNat, Tp) (sI τ 0 0) := by
    refine ⟨?_, fun k hk => ?_⟩
    · show tI τ 2 = i32 ((m 0).toNat : Int)
      rw [tb.2.2.2.1.1, Int.toNat_of_nonneg hm.1]
    · have hk : k < (m 0).toNat := hk
      exact tb.2.2.2.2.2.1 k (by omega)
  unfold T_feed
  rw [nm_eq]
  refine ok_b (t_layB hn hq (Tgx.sI rfl) h0) fun τ2 h2 => ok_b (t_layB hn (fdV_q 8 _ hq) h2.1 h2.2) fun τ3 h3 => ok_b (t_layB hn (fdV_q 8 _ (fdV_q 8 _ hq)) h3.1 h3.2) fun τ4 h4 => ok_s ⟨h4.2.1, h4.1, h4.2⟩
end FE
