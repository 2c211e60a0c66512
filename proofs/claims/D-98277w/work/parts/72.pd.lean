/-! LAYER 2: paces along a walk: the component -/
set_option maxRecDepth 100000
/-- the first of them that comes to so much -/
def fstS (f : Int → Int) (tg : Int) : Nat → Int → Int
  | 0, s => s
  | n + 1, s => if f s = tg then s else fstS f tg n (s + 1)
theorem fstS_sp {f : Int → Int} {tg : Int} : ∀ (n : Nat) (s : Int), (∃ i, s ≤ i ∧ i < s + n ∧ f i = tg) → f (fstS f tg n s) = tg ∧ s ≤ fstS f tg n s ∧ fstS f tg n s < s + n := by
  intro n
  induction n with
  | zero => intro s ⟨i, a, b, _⟩; omega
  | succ n ih =>
    intro s ⟨i, a, b, c⟩
    show f (if f s = tg then s else fstS f tg n (s + 1)) = tg ∧ s ≤ (if f s = tg then s else fstS f tg n (s + 1)) ∧ (if f s = tg then s else fstS f tg n (s + 1)) < s + ((n + 1 : Nat) : Int)
    by_cases q : f s = tg
    · rw [if_pos q]
      exact ⟨q, by omega, by omega⟩
    · rw [if_neg q]
      have := ih (s + 1) ⟨i, by
        by_cases e : i = s
        · rw [e] at c
          exact absurd c q
        · omega, by omega, c⟩
      exact ⟨this.1, by omega, by omega⟩
/-- of a line: what comes of each street, the least -/
def pF (W V : Nat → Int) (sec : Int) (k : Nat) (t : Int) (r : Nat) : Int → Int := pcS W (pcN W V sec ((V 0).toNat - (k + 1)) (k + 1)) (t + wtV W V sec k t) r
def pM (W V : Nat → Int) (sec : Int) (k : Nat) (t : Int) (r : Nat) : Int := mnR (pF W V sec k t r) (nsA W) (fsA W) 100000000
/-- the street's seconds -/
def pS (W V : Nat → Int) (sec : Int) (k : Nat) (t : Int) (r : Nat) : Int := fstS (pF W V sec k t r) (pM W V sec k t r) (nsA W) (fsA W)
def psP (W V : Nat → Int) (sec : Int) : Nat → Nat → Int → Nat → Int → Int
  | 0, _, _, _, c => c
  | n + 1, k, t, r, _ => psP W V sec n (k + 1) (t + (wtV W V sec k t + pS W V sec k t r)) (if pS W V sec k t r < W 2 then r - 1 else r) (pS W V sec k t r)
def pgV (W V : Nat → Int) (sec what : Int) : Int := if (0 ≤ sec ∧ sec ≤ 1000000) ∧ ¬ V 0 = 0 ∧ 0 ≤ what ∧ what ≤ 1 + V 0 then (if pcN W V sec (V 0).toNat 0 0 (rsA W).toNat = 100000000 then -1 else if what = 0 then pcN W V sec (V 0).toNat 0 0 (rsA W).toNat / 100000 else if what = 1 then sec + pcN W V sec (V 0).toNat 0 0 (rsA W).toNat % 100000 else psP W V sec (what - 1).toNat 0 0 (rsA W).toNat 0) else -1
section PE
variable {g : Nat → Nat} {ρ : Nat → Nat × Nat} {W : Nat → Int} {S : Nat → Nat → Int} {V m Tp : Nat → Int} {RC : Nat → List (Nat × Int)} {s : CS} {τ : TS} {T : Int} {nf : Nat} {sec : Int}
/-- a line that can be: how it goes on -/
theorem pc_on (hW : TW W) (hV : VW W V) {k : Nat} {t : Int} {r : Nat} (hk : (k : Int) < V 0) (h0 : 0 ≤ t) (hn : ¬ pcN W V sec ((V 0).toNat - k) k t r = 100000000) : cgA W (xW V k) (k - xW V k) (wV V k) = true ∧ ¬ pM W V sec k t r = 100000000 ∧ pcN W V sec ((V 0).toNat - k) k t r = pM W V sec k t r + (if 0 < wtV W V sec k t then 100000 else 0) ∧ pF W V sec k t r (pS W V sec k t r) = pM W V sec k t r ∧ fsA W ≤ pS W V sec k t r ∧ pS W V sec k t r ≤ swA W ∧ (pS W V sec k t r < W 2 → ¬ r = 0) ∧ pcN W V sec ((V 0).toNat - (k + 1)) (k + 1) (t + (wtV W V sec k t + pS W V sec k t r)) (if pS W V sec k t r < W 2 then r - 1 else r) = pM W V sec k t r := by
  have hf := fs_b hW
  have e1 : (V 0).toNat - k = ((V 0).toNat - (k + 1)) + 1 := by omega
  have e2 : pcN W V sec ((V 0).toNat - k) k t r = if cgA W (xW V k) (k - xW V k) (wV V k) = true then stF (wtV W V sec k t) (pM W V sec k t r) else 100000000 := by
    rw [e1]
    rfl
  rw [e2] at hn ⊢
  by_cases q : cgA W (xW V k) (k - xW V k) (wV V k) = true
  · rw [if_pos q] at hn ⊢
    have q2 : ¬ pM W V sec k t r = 100000000 := fun z => hn (by unfold stF; rw [if_pos z])
    have ex : ∃ i, fsA W ≤ i ∧ i < fsA W + nsA W ∧ pF W V sec k t r i = pM W V sec k t r := by
      rcases (mnR_sp (f := pF W V sec k t r) (nsA W) (fsA W) 100000000).2.2 with z | ⟨i, a1, a2, a3⟩
      · exact absurd z q2
      · exact ⟨i, a1, a2, a3.symm⟩
    have hs : pF W V sec k t r (pS W V sec k t r) = pM W V sec k t r ∧ fsA W ≤ pS W V sec k t r ∧ pS W V sec k t r < fsA W + nsA W := fstS_sp (nsA W) (fsA W) ex
    have h7 : pS W V sec k t r < W 2 → ¬ r = 0 := fun h z => by
      have := hs.1
      unfold pF pcS at this
      rw [if_pos h, if_pos z] at this
      exact q2 this.symm
    refine ⟨q, q2, by unfold stF; rw [if_neg q2], hs.1, hs.2.1, by omega, h7, ?_⟩
    have h8 := hs.1
    unfold pF pcS at h8
    rw [Int.add_assoc] at h8
    by_cases q3 : pS W V sec k t r < W 2
    · rw [if_pos q3, if_neg (h7 q3)] at h8
      rw [if_pos q3]
      exact h8
    · rw [if_neg q3] at h8
      rw [if_neg q3]
      exact h8
  · rw [if_neg q] at hn
    exact absurd rfl hn
/-- a row of the table, so far -/
def pRow (g : Nat → Nat) (W V : Nat → Int) (sec : Int) (s : CS) (k u t : Nat) : Prop := ∀ u2 t2 : Nat, (u2 : Int) ≤ rsA W → t2 ≤ 90 * k → (u2 < u ∨ (u2 = u ∧ t2 < t)) → cA s (g 23) (pIx k u2 t2) = i32 (pcN W V sec ((V 0).toNat - k) k t2 ((rsA W).toNat - u2))
theorem cp_28 (hn : 2000 ≤ nf) (hW : TW W) (hV : VW W V) (hs : 0 ≤ sec ∧ sec ≤ 1000000) {k u : Nat} (hk : (k : Int) ≤ V 0) (hu : (u : Int) ≤ rsA W) {s0 : CS} {k8 : Nat → Int32 → Int32 → CS → Option CS} {k14 : Nat → Int32 → Int32 → Int32 → CS → Option CS} {Q : CS → Prop} (hk14 : ∀ s', Fq ρ s0 s' → B g ρ W S V m Tp RC s' → pTb g W V sec s' (k + 1) → pRow g W V sec s' k (u + 1) 0 → Ok (k14 (g 0) (i32 sec) (i32 k) (i32 ((u + 1 : Nat) : Int)) s') Q) : ∀ (d n t : Nat) (s : CS), t + d = 90 * k + 1 → d < n → Fq ρ s0 s → B g ρ W S V m Tp RC s → pTb g W V sec s (k + 1) → pRow g W V sec s k u t → Ok (FX0_works_b28 nf k8 k14 n (g 0) (i32 sec) (i32 k) (i32 u) (i32 t) s) Q := by
  have v0 := hV.1
  have hrs := rs_b hW
  intro d
  induction d with
  | zero =>
    intro n t s h1 h2 hf b hT hR
    obtain ⟨n, rfl⟩ : ∃ q, n = q + 1 := ⟨n - 1, by omega⟩
    rw [show FX0_works_b28 nf k8 k14 (n + 1) = FX0_works_b28_s nf k8 k14 (FX0_works_b28 nf k8 k14 n) from rfl]
    unfold FX0_works_b28_s
    rw [show (90 : Int32) = i32 90 from rfl, i32_mul, show (1 : Int32) = i32 1 from rfl, i32_add]
    refine ok_lt ⟨by omega, by omega⟩ ⟨by omega, by omega⟩ (fun _ => ?_) (fun z => by omega)
    exact hk14 s hf b hT fun u2 t2 a1 a2 a3 => hR u2 t2 a1 a2 (by omega)
  | succ d ih =>
    intro n t s h1 h2 hf b hT hR
    obtain ⟨n, rfl⟩ : ∃ q, n = q + 1 := ⟨n - 1, by omega⟩
    have hix : pIx k u t < 163940 := by unfold pIx; omega
    have W1 : ∀ v : Int32, v = i32 (pcN W V sec ((V 0).toNat - k) k t ((rsA W).toNat - u)) → Ok (FX0_works_b28 nf k8 k14 n (g 0) (i32 sec) (i32 k) (i32 u) (i32 ((t + 1 : Nat) : Int)) (uA s (g 23) (pIx k u t) v)) Q := fun v hv => by
      have hq : Fq ρ s (uA s (g 23) (pIx k u t) v) := Fq.uA (by rw [(b.2.1 9 _ rfl).2.2]; rfl)
      have hrd : ∀ j, cA (uA s (g 23) (pIx k u t) v) (g 23) j = if j = pIx k u t then v else cA s (g 23) j := fun j => by
        show (if g 23 = g 23 then upd (cA s (g 23)) (pIx k u t) v else cA s (g 23)) j = _
        rw [if_pos rfl]
        rfl
      refine ih n (t + 1) _ (by omega) (by omega) (hf.tr hq) (b.q hq) (fun j u2 t2 a1 a2 a3 a4 => ?_) (fun u2 t2 a1 a2 a3 => ?_)
      · rw [hrd, if_neg (fun z => by have := pIx_inj (by omega) (by omega) (by omega) (by omega) z; omega)]
        exact hT j u2 t2 a1 a2 a3 a4
      · rw [hrd]
        by_cases e : u2 = u ∧ t2 = t
        · rw [e.1, e.2, if_pos rfl, hv]
        · rw [if_neg (fun z => e (pIx_inj (by omega) (by omega) (by omega) (by omega) z).2)]
          exact hR u2 t2 a1 a2 (by omega)
    rw [show FX0_works_b28 nf k8 k14 (n + 1) = FX0_works_b28_s nf k8 k14 (FX0_works_b28 nf k8 k14 n) from rfl]
    unfold FX0_works_b28_s
    rw [show (90 : Int32) = i32 90 from rfl, i32_mul, show (1 : Int32) = i32 1 from rfl, i32_add, i32_add]
    refine ok_lt ⟨by omega, by omega⟩ ⟨by omega, by omega⟩ (fun z => by omega) (fun _ => ?_)
    refine ok_gRs b.1 rfl (b.2.1 9 _ rfl).1 (ok_be (c_paceAt b) ?_)
    refine ok_gRs b.1 rfl (b.2.1 3 _ rfl).1 (ok_nn (ok_gI (b.2.1 3 _ rfl).2.1 rfl ?_))
    rw [b.2.2.2.2.2.1.1]
    refine ok_q ⟨by omega, by omega⟩ ⟨by omega, by omega⟩ (fun q => ?_) (fun q => ?_)
    · refine ok_nn (ok_tI (b.2.1 9 _ rfl).2.1 (by omega) (by show _ < ((163940 : Nat) : Int); omega) (by decide) ?_)
      rw [Int.toNat_natCast]
      exact W1 _ (by rw [show (V 0).toNat - k = 0 by omega]; rfl)
    · have L := c_worked (nf := nf) (d := (V 0).toNat - k - 1) (k := k) (u := u) (t := t) (by omega) b hW hV hs (by omega) hT hu (by omega)
      rw [show (V 0).toNat - k - 1 + 1 = (V 0).toNat - k by omega] at L
      refine ok_be L (ok_nn (ok_tI (b.2.1 9 _ rfl).2.1 (by omega) (by show _ < ((163940 : Nat) : Int); omega) (by decide) ?_))
      rw [Int.toNat_natCast]
      exact W1 _ rfl
theorem cp_14 (hn : 2000 ≤ nf) (hW : TW W) (hV : VW W V) (hs : 0 ≤ sec ∧ sec ≤ 1000000) {k : Nat} (hk : (k : Int) ≤ V 0) {s0 : CS} {k8 : Nat → Int32 → Int32 → CS → Option CS} {Q : CS → Prop} (hk8 : ∀ s', Fq ρ s0 s' → B g ρ W S V m Tp RC s' → pTb g W V sec s' k → Ok (k8 (g 0) (i32 sec) (i32 ((k : Int) - 1)) s') Q) : ∀ (d n u : Nat) (s : CS), (u : Int) + d = rsA W + 1 → d < n → Fq ρ s0 s → B g ρ W S V m Tp RC s → pTb g W V sec s (k + 1) → pRow g W V sec s k u 0 → Ok (FX0_works_b14 nf k8 n (g 0) (i32 sec) (i32 k) (i32 u) s) Q := by
  have v0 := hV.1
  have hrs := rs_b hW
  intro d
  induction d with
  | zero =>
    intro n u s h1 h2 hf b hT hR
    obtain ⟨n, rfl⟩ : ∃ q, n = q + 1 := ⟨n - 1, by omega⟩
    rw [show FX0_works_b14 nf k8 (n + 1) = FX0_works_b14_s nf k8 (FX0_works_b14 nf k8 n) from rfl]
    unfold FX0_works_b14_s
    refine ok_gRs b.1 rfl (b.2.1 2 _ rfl).1 (ok_nn (ok_be (c_runs b hW) ?_))
    refine ok_lt ⟨by omega, by omega⟩ ⟨by omega, by omega⟩ (fun _ => ?_) (fun z => by omega)
    have L := hk8 s hf b fun j u2 t2 a1 a2 a3 a4 => by
      by_cases e : j = k
      · rw [e] at a4 ⊢
        exact hR u2 t2 a3 a4 (by omega)
      · exact hT j u2 t2 (by omega) a2 a3 a4
    rw [show (-1 : Int32) = i32 (-1) from rfl, i32_add]
    exact L
  | succ d ih =>
    intro n u s h1 h2 hf b hT hR
    obtain ⟨n, rfl⟩ : ∃ q, n = q + 1 := ⟨n - 1, by omega⟩
    rw [show FX0_works_b14 nf k8 (n + 1) = FX0_works_b14_s nf k8 (FX0_works_b14 nf k8 n) from rfl]
    unfold FX0_works_b14_s
    refine ok_gRs b.1 rfl (b.2.1 2 _ rfl).1 (ok_nn (ok_be (c_runs b hW) ?_))
    refine ok_lt ⟨by omega, by omega⟩ ⟨by omega, by omega⟩ (fun z => by omega) (fun _ => ?_)
    exact cp_28 (nf := nf) hn hW hV hs hk (by omega) (fun s' f' b' t' r' => ih n (u + 1) s' (by omega) (by omega) f' b' t' r') (90 * k + 1) nf 0 s (by omega) (by omega) hf b hT hR
theorem cp_8 (hn : 2000 ≤ nf) (hW : TW W) (hV : VW W V) (hs : 0 ≤ sec ∧ sec ≤ 1000000) {s0 : CS} : ∀ (k n : Nat) (s : CS), (k : Int) ≤ V 0 + 1 → k < n → Fq ρ s0 s → B g ρ W S V m Tp RC s → pTb g W V sec s k → Ok (FX0_works_b8 nf n (g 0) (i32 sec) (i32 ((k : Int) - 1)) s) fun s' => Fq ρ s0 s' ∧ pTb g W V sec s' 0 := by
  have v0 := hV.1
  have hrs := rs_b hW
  intro k
  induction k with
  | zero =>
    intro n s h1 h2 hf b hT
    obtain ⟨n, rfl⟩ : ∃ q, n = q + 1 := ⟨n - 1, by omega⟩
    rw [show FX0_works_b8 nf (n + 1) = FX0_works_b8_s nf (FX0_works_b8 nf n) from rfl]
    unfold FX0_works_b8_s
    rw [if_pos (show i32 (((0 : Nat) : Int) - 1) < (0 : Int32) by decide)]
    exact ok_s ⟨hf, hT⟩
  | succ k ih =>
    intro n s h1 h2 hf b hT
    obtain ⟨n, rfl⟩ : ∃ q, n = q + 1 := ⟨n - 1, by omega⟩
    rw [show (((k + 1 : Nat) : Int) - 1) = (k : Int) by omega]
    rw [show FX0_works_b8 nf (n + 1) = FX0_works_b8_s nf (FX0_works_b8 nf n) from rfl]
    unfold FX0_works_b8_s
    rw [if_neg (show ¬ i32 (k : Int) < (0 : Int32) from fun z => by have := (i32_lt (b := 0) ⟨by omega, by omega⟩ ⟨by omega, by omega⟩).mp z; omega)]
    exact cp_14 (nf := nf) hn hW hV hs (by omega) (fun s' f' b' t' => ih n s' (by omega) (by omega) f' b' t') ((rsA W).toNat + 1) nf 0 s (by omega) (by omega) hf b hT (fun u2 t2 a1 a2 a3 => by omega)
theorem ok_works (hn : 2000 ≤ nf) (b : B g ρ W S V m Tp RC s) (hW : TW W) (hV : VW W V) (hs : 0 ≤ sec ∧ sec ≤ 1000000) : Ok (FX0_works nf (g 0) (i32 sec) s) fun s' => Fq ρ s s' ∧ pTb g W V sec s' 0 := by
  have v0 := hV.1
  unfold FX0_works
  refine ok_mq (ρ := ρ) ?_ (fun z hz => hz.1)
  refine ok_gd b.1 rfl (ok_gRs b.1 rfl (b.2.1 3 _ rfl).1 (ok_nn (ok_gI (b.2.1 3 _ rfl).2.1 rfl ?_)))
  rw [b.2.2.2.2.2.1.1]
  have L := cp_8 (nf := nf) (g := g) hn hW hV hs ((V 0).toNat + 1) nf s (by omega) (by omega) Fq.rf b (fun j u t a1 a2 a3 a4 => by omega)
  rw [show ((((V 0).toNat + 1 : Nat) : Int) - 1) = V 0 by omega] at L
  exact L
/-- the row of seconds up to the one that is asked for -/
theorem cp_179 (b : B g ρ W S V m Tp RC s) (hW : TW W) (hV : VW W V) (hT : pTb g W V sec s 0) {k u t : Nat} {what : Int} {k100 : Nat → Int32 → Int32 → Int32 → Int32 → Int32 → Int32 → CS → Option (Int32 × CS)} {Q : Int32 × CS → Prop} (hk : (k : Int) < V 0) (hu : (u : Int) ≤ rsA W) (ht : t ≤ 90 * k) (hwt : 0 ≤ wtV W V sec k t ∧ wtV W V sec k t ≤ 59) {r : Nat} (hr : r = (rsA W).toNat - u) (hM : 0 ≤ pM W V sec k t r ∧ pM W V sec k t r ≤ 100000000) {z : Int} (hk100 : Ok (k100 (g 0) (i32 sec) (i32 what) (i32 ((if z < W 2 then u + 1 else u : Nat) : Int)) (i32 ((t : Int) + (wtV W V sec k t + z))) (i32 z) (i32 ((k + 1 : Nat) : Int)) s) Q) : ∀ (d n : Nat) (x : Int), fstS (pF W V sec k t r) (pM W V sec k t r) d x = z → x + d = swA W + 1 → d < n → 1 ≤ x → pF W V sec k t r z = pM W V sec k t r → z ≤ swA W → Ok (FX0_pace_b179 nf k100 n (g 0) (i32 sec) (i32 what) (i32 u) (i32 t) (i32 x) (i32 k) (i32 (wtV W V sec k t)) (i32 (pM W V sec k t r)) s) Q := by
  have v0 := hV.1
  have w2 := hW.2.2.1
  have hf := fs_b hW
  have hrs := rs_b hW
  intro d
  induction d with
  | zero =>
    intro n x h1 h2 h3 h4 h5 h6
    have h1 : x = z := h1
    omega
  | succ d ih =>
    intro n x h1 h2 h3 h4 h5 h6
    obtain ⟨n, rfl⟩ : ∃ q, n = q + 1 := ⟨n - 1, by omega⟩
    have hT1 : pTb g W V sec s (k + 1) := fun j u t a1 a2 a3 a4 => hT j u t (by omega) a2 a3 a4
    have L := c_onAt (d := (V 0).toNat - (k + 1)) (k := k) (u := u) (t := t) (wt := wtV W V sec k t) (x := x) b hW hV (by omega) hT1 hu hwt ht (by omega)
    have hfb := pcF_b (sec := sec) (d := (V 0).toNat - (k + 1)) (k := k) (t := t) (wt := wtV W V sec k t) hW hV (r := r) (x := x) (by omega) hwt ht (by omega)
    have h1 : (if pF W V sec k t r x = pM W V sec k t r then x else fstS (pF W V sec k t r) (pM W V sec k t r) d (x + 1)) = z := h1
    rw [← hr] at L
    rw [show FX0_pace_b179 nf k100 (n + 1) = FX0_pace_b179_s nf k100 (FX0_pace_b179 nf k100 n) from rfl]
    unfold FX0_pace_b179_s
    rw [i32_add]
    refine ok_be L ?_
    show Ok (if i32 (pF W V sec k t r x) = i32 (pM W V sec k t r) then _ else _) Q
    have hfb : 0 ≤ pF W V sec k t r x ∧ (pF W V sec k t r x = 100000000 ∨ pF W V sec k t r x ≤ 2000000) := hfb
    refine ok_q ⟨by omega, by omega⟩ ⟨by omega, by omega⟩ (fun q => ?_) (fun q => ?_)
    · rw [if_pos q] at h1
      subst h1
      refine ok_gRs b.1 rfl (b.2.1 2 _ rfl).1 (ok_nn (ok_be (c_walk b hW) ?_))
      unfold FX0_pace_b220
      rw [nm_eq, i32_add, i32_add, show (1 : Int32) = i32 1 from rfl, i32_add, i32_add]
      refine ok_le ⟨by omega, by omega⟩ ⟨by omega, by omega⟩ (fun q3 => ?_) (fun q3 => ?_)
      · rw [if_neg (show ¬ x < W 2 by omega)] at hk100
        exact hk100
      · rw [if_pos q3] at hk100
        rw [nm_eq]
        exact hk100
    · rw [if_neg q] at h1
      rw [show (1 : Int32) = i32 1 from rfl, i32_add]
      exact ih n (x + 1) h1 (by omega) (by omega) (by omega) h5 h6
theorem cp_100 (hn : 2000 ≤ nf) (b : B g ρ W S V m Tp RC s) (hW : TW W) (hV : VW W V) (hs : 0 ≤ sec ∧ sec ≤ 1000000) (hT : pTb g W V sec s 0) {what : Int} (hw : 2 ≤ what ∧ what ≤ 1 + V 0) : ∀ (d n k u t : Nat) (c : Int), (k : Int) + d = what - 1 → d < n → (u : Int) ≤ rsA W → t ≤ 90 * k → ¬ pcN W V sec ((V 0).toNat - k) k t ((rsA W).toNat - u) = 100000000 → Ok (FX0_pace_b100 nf n (g 0) (i32 sec) (i32 what) (i32 u) (i32 t) (i32 c) (i32 k) s) fun p => p.1 = i32 (psP W V sec d k t ((rsA W).toNat - u) c) ∧ p.2 = s := by
  have v0 := hV.1
  have w2 := hW.2.2.1
  have hf := fs_b hW
  have hrs := rs_b hW
  intro d
  induction d with
  | zero =>
    intro n k u t c h1 h2 hu ht hN
    obtain ⟨n, rfl⟩ : ∃ q, n = q + 1 := ⟨n - 1, by omega⟩
    rw [show FX0_pace_b100 nf (n + 1) = FX0_pace_b100_s nf (FX0_pace_b100 nf n) from rfl]
    unfold FX0_pace_b100_s
    rw [show (2 : Int32) = i32 2 from rfl, i32_sub]
    refine ok_lt ⟨by omega, by omega⟩ ⟨by omega, by omega⟩ (fun _ => ?_) (fun z => by omega)
    exact ok_s ⟨rfl, rfl⟩
  | succ d ih =>
    intro n k u t c h1 h2 hu ht hN
    obtain ⟨n, rfl⟩ : ∃ q, n = q + 1 := ⟨n - 1, by omega⟩
    have hkV : (k : Int) < V 0 := by omega
    obtain ⟨p1, p2, p3, p4, p5, p6, p7, p8⟩ := pc_on hW hV hkV (show (0 : Int) ≤ t by omega) hN
    obtain ⟨k1, k2, k3, k4, k5⟩ := vw_k hW hV hkV
    have hle := (hV.2 k hkV).2.2.1
    have k2 : i32 (V (1 + 2 * k)) = wy (wV V k) := k2
    have hwt := wtV_b (sec := sec) (t := (t : Int)) hW hV hkV p1
    have hfb := pcF_b (sec := sec) (d := (V 0).toNat - (k + 1)) (k := k) (t := t) (wt := wtV W V sec k t) hW hV (r := (rsA W).toNat - u) (x := pS W V sec k t ((rsA W).toNat - u)) (by omega) hwt ht (by omega)
    have hM : 0 ≤ pM W V sec k t ((rsA W).toNat - u) ∧ pM W V sec k t ((rsA W).toNat - u) ≤ 2000000 := by
      have hfb : 0 ≤ pF W V sec k t ((rsA W).toNat - u) (pS W V sec k t ((rsA W).toNat - u)) ∧ (pF W V sec k t ((rsA W).toNat - u) (pS W V sec k t ((rsA W).toNat - u)) = 100000000 ∨ pF W V sec k t ((rsA W).toNat - u) (pS W V sec k t ((rsA W).toNat - u)) ≤ 2000000) := hfb
      rw [p4] at hfb
      omega
    rw [show FX0_pace_b100 nf (n + 1) = FX0_pace_b100_s nf (FX0_pace_b100 nf n) from rfl]
    unfold FX0_pace_b100_s
    rw [show (2 : Int32) = i32 2 from rfl, i32_sub]
    refine ok_lt ⟨by omega, by omega⟩ ⟨by omega, by omega⟩ (fun z => by omega) (fun _ => ?_)
    refine ok_be (c_xOf (by omega) b hW hV (by omega)) ?_
    refine ok_gRs b.1 rfl (b.2.1 3 _ rfl).1 (ok_nn (ok_gRs (b.2.1 3 _ rfl).2.1 rfl (b.2.1 20 _ rfl).1 (ok_nn (ok_lI (b.2.1 20 _ rfl).2.1 (by omega) (by show _ < ((13 : Nat) : Int); omega) (by decide) ?_))))
    rw [Int.toNat_natCast, (b_way b hkV).1, k2, i32_sub, i32_add, show (k : Int) - (xW V k : Int) = ((k - xW V k : Nat) : Int) by omega]
    refine ok_be (c_wts b hW k3 k4 (by omega) (by omega)) ?_
    refine ok_gRs b.1 rfl (b.2.1 9 _ rfl).1 (ok_be (c_paceAt b) (ok_nn (ok_lI (b.2.1 9 _ rfl).2.1 (by omega) (by show _ < ((163940 : Nat) : Int); unfold pIx; omega) (by decide) ?_)))
    rw [Int.toNat_natCast, hT k u t (by omega) (by omega) hu ht, p3, if_pos p1, show (0 : Int32) = i32 0 from rfl, show (100000 : Int32) = i32 100000 from rfl]
    unfold FX0_pace_b170
    have G : Ok ((FX0_fast s (g 0)).bind fun v2 => FX0_pace_b179 nf (FX0_pace_b100 nf n) nf (g 0) (i32 sec) (i32 what) (i32 u) (i32 t) v2 (i32 k) (i32 (wtV W V sec k t)) (i32 (pM W V sec k t ((rsA W).toNat - u))) s) fun p => p.1 = i32 (psP W V sec (d + 1) k t ((rsA W).toNat - u) c) ∧ p.2 = s := by
      refine ok_be (c_fast b hW) ?_
      refine cp_179 (nf := nf) (what := what) b hW hV hT hkV hu ht hwt rfl (by omega) (z := pS W V sec k t ((rsA W).toNat - u)) ?_ (nsA W) nf (fsA W) rfl (by omega) (by omega) (by omega) p4 (by omega)
      obtain ⟨q, hq⟩ : ∃ q : Nat, (t : Int) + (wtV W V sec k t + pS W V sec k t ((rsA W).toNat - u)) = q := ⟨((t : Int) + (wtV W V sec k t + pS W V sec k t ((rsA W).toNat - u))).toNat, by omega⟩
      have er : (rsA W).toNat - (if pS W V sec k t ((rsA W).toNat - u) < W 2 then u + 1 else u) = if pS W V sec k t ((rsA W).toNat - u) < W 2 then (rsA W).toNat - u - 1 else (rsA W).toNat - u := by
        by_cases q3 : pS W V sec k t ((rsA W).toNat - u) < W 2
        · rw [if_pos q3, if_pos q3]; omega
        · rw [if_neg q3, if_neg q3]
      have L := ih n (k + 1) (if pS W V sec k t ((rsA W).toNat - u) < W 2 then u + 1 else u) q (pS W V sec k t ((rsA W).toNat - u)) (by omega) (by omega) (by
        by_cases q3 : pS W V sec k t ((rsA W).toNat - u) < W 2
        · rw [if_pos q3]
          have := p7 q3
          omega
        · rw [if_neg q3]
          exact hu) (by omega) (by rw [er, ← hq, p8]; exact p2)
      rw [er, ← hq] at L
      exact L
    refine ok_le ⟨by omega, by omega⟩ (a := wtV W V sec k t) (b := 0) ⟨by omega, by omega⟩ (fun q => ?_) (fun q => ?_)
    · rw [if_neg (by omega), Int.add_zero, nm_eq, i32_sub, Int.sub_zero]
      exact G
    · rw [if_pos q, nm_eq, i32_sub, Int.add_sub_cancel]
      exact G
theorem ok_pace (hn : 2000 ≤ nf) (b : B g ρ W S V m Tp RC s) (hW : TW W) (hV : VW W V) {what : Int} (hs : ok32 sec) (hw : ok32 what) : Ok (FX0_pace nf (g 0) (i32 sec) (i32 what) s) fun p => p.1 = i32 (pgV W V sec what) ∧ Fq ρ s p.2 := by
  have v0 := hV.1
  have hrs := rs_b hW
  unfold FX0_pace pgV
  refine ok_mq (ρ := ρ) ?_ (fun z hz => hz.2)
  refine ok_gd b.1 rfl (ok_be (c_isSecond hs) ?_)
  by_cases q1 : 0 ≤ sec ∧ sec ≤ 1000000
  · rw [decide_eq_true q1, if_neg (show ¬ bi true = (0 : Int32) by decide)]
    refine ok_gRs b.1 rfl (b.2.1 3 _ rfl).1 (ok_nn (ok_gI (b.2.1 3 _ rfl).2.1 rfl ?_))
    rw [b.2.2.2.2.2.1.1, show (0 : Int32) = i32 0 from rfl]
    refine ok_q ⟨by omega, by omega⟩ ⟨by omega, by omega⟩ (fun q => ?_) (fun q => ?_)
    · rw [if_neg (fun z => z.2.1 q)]
      exact ok_s ⟨rfl, Fq.rf⟩
    · refine ok_gRs b.1 rfl (b.2.1 3 _ rfl).1 (ok_nn (ok_gI (b.2.1 3 _ rfl).2.1 rfl ?_))
      rw [b.2.2.2.2.2.1.1, show (1 : Int32) = i32 1 from rfl, i32_add]
      refine ok_be (c_i3 hw 0 (1 + V 0) (by omega)) ?_
      by_cases q2 : 0 ≤ what ∧ what ≤ 1 + V 0
      · rw [decide_eq_true q2, if_neg (show ¬ bi true = i32 0 by decide), if_pos ⟨q1, q, q2⟩]
        refine ok_b (ok_works hn b hW hV q1) fun s1 hs1 => ?_
        have b1 := b.q hs1.1
        have ca : FX0_paceAt s1 (g 0) (i32 0) (i32 0) (i32 0) = some (i32 0) := c_paceAt (k := 0) (u := 0) (t := 0) b1
        have hb := pcN_b (sec := sec) hW hV (V 0).toNat 0 0 (rsA W).toNat (by omega) (by omega)
        unfold pcB at hb
        have h0 := hs1.2 0 0 0 (by omega) (by omega) (by omega) (by omega)
        rw [Nat.sub_zero, Nat.sub_zero] at h0
        refine ok_gRs b1.1 rfl (b1.2.1 9 _ rfl).1 (ok_be ca (ok_nn (ok_lI (b1.2.1 9 _ rfl).2.1 (by omega) (by show _ < ((163940 : Nat) : Int); omega) (by decide) ?_)))
        have h0 : cA s1 (g 23) (0 : Int).toNat = i32 (pcN W V sec (V 0).toNat 0 0 (rsA W).toNat) := h0
        rw [h0, show (100000000 : Int32) = i32 100000000 from rfl, show (2 : Int32) = i32 2 from rfl]
        refine ok_q ⟨by omega, by omega⟩ ⟨by omega, by omega⟩ (fun q3 => ?_) (fun q3 => ?_)
        · rw [if_pos q3]
          exact ok_s ⟨rfl, hs1.1⟩
        · rw [if_neg q3]
          refine ok_le ⟨by omega, by omega⟩ hw (fun q4 => ?_) (fun q4 => ?_)
          · rw [if_neg (by omega), if_neg (by omega)]
            have L := cp_100 (nf := nf) (g := g) (s := s1) hn b1 hW hV q1 hs1.2 (what := what) (by omega) (what - 1).toNat nf 0 0 0 0 (by omega) (by omega) (by omega) (by omega) (by rw [Nat.sub_zero, Nat.sub_zero]; exact q3)
            rw [Nat.sub_zero] at L
            exact ok_w L fun p hp => ⟨hp.1, by rw [hp.2]; exact hs1.1⟩
          · refine ok_q hw ⟨by omega, by omega⟩ (fun q5 => ?_) (fun q5 => ?_)
            · rw [if_pos q5, show (100000 : Int32) = i32 100000 from rfl, div_c (by omega) (by omega) (by omega) (by omega)]
              exact ok_s ⟨rfl, hs1.1⟩
            · rw [if_neg q5, if_pos (by omega), show (100000 : Int32) = i32 100000 from rfl, rem_c (by omega) (by omega) (by omega) (by omega), i32_add]
              exact ok_s ⟨rfl, hs1.1⟩
      · rw [decide_eq_false q2, if_pos (show bi false = i32 0 from rfl), if_neg (fun z => q2 z.2.2)]
        exact ok_s ⟨rfl, Fq.rf⟩
  · rw [decide_eq_false q1, if_pos (show bi false = (0 : Int32) from rfl), if_neg (fun z => q1 z.1)]
    exact ok_s ⟨rfl, Fq.rf⟩
end PE
