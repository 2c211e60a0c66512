/-! LAYER 2: paces along a walk: the plain law -/
set_option maxRecDepth 100000
def mnR (f : Int → Int) : Nat → Int → Int → Int
  | 0, _, b => b
  | n + 1, s, b => mnR f n (s + 1) (mn2 b (f s))
theorem mnR_sp {f : Int → Int} : ∀ (n : Nat) (s b : Int), mnR f n s b ≤ b ∧ (∀ i, s ≤ i → i < s + n → mnR f n s b ≤ f i) ∧ (mnR f n s b = b ∨ ∃ i, s ≤ i ∧ i < s + n ∧ mnR f n s b = f i) := by
  intro n
  induction n with
  | zero => intro s b; exact ⟨Int.le_refl _, fun i h1 h2 => by omega, .inl rfl⟩
  | succ n ih =>
    intro s b
    obtain ⟨h1, h2, h3⟩ := ih (s + 1) (mn2 b (f s))
    have hm := mn2_le (a := b) (b := f s)
    show mnR f n (s + 1) (mn2 b (f s)) ≤ b ∧ (∀ i, s ≤ i → i < s + ((n + 1 : Nat) : Int) → mnR f n (s + 1) (mn2 b (f s)) ≤ f i) ∧ (mnR f n (s + 1) (mn2 b (f s)) = b ∨ ∃ i, s ≤ i ∧ i < s + ((n + 1 : Nat) : Int) ∧ mnR f n (s + 1) (mn2 b (f s)) = f i)
    refine ⟨by omega, fun i a1 a2 => ?_, ?_⟩
    · by_cases e : i = s
      · rw [e]; omega
      · exact h2 i (by omega) (by omega)
    · rcases h3 with z | ⟨i, a1, a2, a3⟩
      · rcases hm.2.2 with y | y
        · left; omega
        · right; exact ⟨s, by omega, by omega, by omega⟩
      · right; exact ⟨i, by omega, by omega, a3⟩
/-- a min under what grows -/
theorem mnR_map {f g h : Int → Int} {P : Int → Prop} (hg : ∀ a b, P a → P b → mn2 (g a) (g b) = g (mn2 a b)) (hP : ∀ a b, P a → P b → P (mn2 a b)) : ∀ (n : Nat) (s b : Int), P b → (∀ i, s ≤ i → i < s + n → P (f i)) → (∀ i, s ≤ i → i < s + n → h i = g (f i)) → mnR h n s (g b) = g (mnR f n s b) := by
  intro n
  induction n with
  | zero => intro s b _ _ _; rfl
  | succ n ih =>
    intro s b hb hf hh
    show mnR h n (s + 1) (mn2 (g b) (h s)) = g (mnR f n (s + 1) (mn2 b (f s)))
    rw [hh s (by omega) (by omega), hg _ _ hb (hf s (by omega) (by omega))]
    exact ih (s + 1) _ (hP _ _ hb (hf s (by omega) (by omega))) (fun i a1 a2 => hf i (by omega) (by omega)) (fun i a1 a2 => hh i (by omega) (by omega))
def wV (V : Nat → Int) (k : Nat) : Bool := decide (V (1 + 2 * k) = 1)
/-- how long one waits at a line -/
def wtV (W V : Nat → Int) (sec : Int) (k : Nat) (t : Int) : Int := wtA W (xW V k) (k - xW V k) (wV V k) (sec + t)
/-- by so many seconds for the street -/
def pcS (W : Nat → Int) (R : Int → Nat → Int) (u : Int) (r : Nat) (s : Int) : Int := if s < W 2 then (if r = 0 then 100000000 else R (u + s) (r - 1)) else R (u + s) r
def stF (wt v : Int) : Int := if v = 100000000 then 100000000 else v + (if 0 < wt then 100000 else 0)
def nsA (W : Nat → Int) : Nat := (swA W - fsA W + 1).toNat
def pcN (W V : Nat → Int) (sec : Int) : Nat → Nat → Int → Nat → Int
  | 0, _, t, _ => t
  | d + 1, k, t, r => if cgA W (xW V k) (k - xW V k) (wV V k) = true then stF (wtV W V sec k t) (mnR (pcS W (pcN W V sec d (k + 1)) (t + wtV W V sec k t) r) (nsA W) (fsA W) 100000000) else 100000000
section PC
variable {W V : Nat → Int} {sec : Int}
theorem fs_b (hW : TW W) : 1 ≤ fsA W ∧ fsA W ≤ swA W ∧ swA W ≤ 30 ∧ fsA W + nsA W = swA W + 1 := by
  have w2 := hW.2.2.1
  have h1 := rn_b hW
  have h2 := sl_b hW
  have : 1 ≤ fsA W ∧ fsA W ≤ swA W ∧ swA W ≤ 30 := by
    unfold fsA swA
    split <;> omega
  unfold nsA
  omega
theorem wtV_b (hW : TW W) (hV : VW W V) {k : Nat} {t : Int} (hk : (k : Int) < V 0) (hc : cgA W (xW V k) (k - xW V k) (wV V k) = true) : 0 ≤ wtV W V sec k t ∧ wtV W V sec k t ≤ 59 := by
  obtain ⟨k1, k2, k3, k4, k5⟩ := vw_k hW hV hk
  exact wt_b hW k3 k4 (cg_ev hc).2.2
/-- what they come to -/
def pcB (d : Nat) (t v : Int) : Prop := v = 100000000 ∨ (t ≤ v ∧ v ≤ t + 100089 * d)
theorem pcS_b (hW : TW W) {d : Nat} {R : Int → Nat → Int} {t wt : Int} {r : Nat} (hwt : 0 ≤ wt ∧ wt ≤ 59) (hR : ∀ t2 r2, 0 ≤ t2 → pcB d t2 (R t2 r2)) (h0 : 0 ≤ t) {s : Int} (hs : 1 ≤ s ∧ s ≤ 30) : pcS W R (t + wt) r s = 100000000 ∨ (t ≤ pcS W R (t + wt) r s ∧ pcS W R (t + wt) r s ≤ t + 89 + 100089 * d) := by
  unfold pcS
  have a := hR (t + wt + s) (r - 1) (by omega)
  have b := hR (t + wt + s) r (by omega)
  unfold pcB at a b
  split
  · split
    · exact .inl rfl
    · rcases a with a | a
      · exact .inl a
      · right; omega
  · rcases b with b | b
    · exact .inl b
    · right; omega
theorem pcN_b (hW : TW W) (hV : VW W V) : ∀ (d k : Nat) (t : Int) (r : Nat), (k : Int) + d = V 0 → 0 ≤ t → pcB d t (pcN W V sec d k t r) := by
  intro d
  induction d with
  | zero => intro k t r _ _; exact .inr ⟨Int.le_refl _, show t ≤ t + 100089 * ((0 : Nat) : Int) by omega⟩
  | succ d ih =>
    intro k t r hk h0
    have hkV : (k : Int) < V 0 := by omega
    have hf := fs_b hW
    show pcB (d + 1) t (if cgA W (xW V k) (k - xW V k) (wV V k) = true then stF (wtV W V sec k t) (mnR (pcS W (pcN W V sec d (k + 1)) (t + wtV W V sec k t) r) (nsA W) (fsA W) 100000000) else 100000000)
    by_cases q : cgA W (xW V k) (k - xW V k) (wV V k) = true
    · rw [if_pos q]
      have hwt := wtV_b (sec := sec) (t := t) hW hV hkV q
      unfold stF
      split
      · exact .inl rfl
      · rename_i h
        rcases (mnR_sp (f := pcS W (pcN W V sec d (k + 1)) (t + wtV W V sec k t) r) (nsA W) (fsA W) 100000000).2.2 with z | ⟨i, a1, a2, a3⟩
        · exact absurd z h
        · rw [a3] at h ⊢
          right
          rcases pcS_b hW (R := pcN W V sec d (k + 1)) (r := r) (s := i) hwt (fun t2 r2 h2 => ih (k + 1) t2 r2 (by omega) h2) h0 (by omega) with z | z
          · exact absurd z h
          · split <;> omega
    · rw [if_neg q]
      exact .inl rfl
/-- the component's place -/
def pIx (k u : Nat) (t : Nat) : Nat := (k * 10 + u) * 1171 + t
theorem pIx_inj {k u t k2 u2 t2 : Nat} (hu : u ≤ 9) (hu2 : u2 ≤ 9) (ht : t ≤ 1170) (ht2 : t2 ≤ 1170) (h : pIx k u t = pIx k2 u2 t2) : k = k2 ∧ u = u2 ∧ t = t2 := by
  unfold pIx at h
  omega
end PC
theorem ok_eq {α : Type} {o : Option α} {z : α} (h : Ok o fun v => v = z) : o = some z := by
  obtain ⟨v, h1, h2⟩ := h
  rw [h1, h2]
section PD
variable {g : Nat → Nat} {ρ : Nat → Nat × Nat} {W : Nat → Int} {S : Nat → Nat → Int} {V m Tp : Nat → Int} {RC : Nat → List (Nat × Int)} {s : CS} {τ : TS} {T : Int} {nf : Nat} {sec : Int}
theorem c_xOfL (b : B g ρ W S V m Tp RC s) (hW : TW W) (hV : VW W V) {st : Nat} (hst : (st : Int) ≤ V 0) : ∀ (d n k : Nat), k + d = st → d < n → FX0_xOf_b4 nf s n (g 0) (i32 st) (i32 (xW V k : Int)) (i32 (k : Int)) = some (i32 (xW V st : Int)) := by
  have v0 := hV.1
  intro d
  induction d with
  | zero =>
    intro n k h1 h2
    obtain ⟨n, rfl⟩ : ∃ q, n = q + 1 := ⟨n - 1, by omega⟩
    rw [show FX0_xOf_b4 nf s (n + 1) = FX0_xOf_b4_s nf s (FX0_xOf_b4 nf s n) from rfl]
    unfold FX0_xOf_b4_s
    rw [if_pos ((i32_le ⟨by omega, by omega⟩ ⟨by omega, by omega⟩).mpr (by omega)), show k = st by omega]
  | succ d ih =>
    intro n k h1 h2
    have hk : (k : Int) < V 0 := by omega
    obtain ⟨n, rfl⟩ : ∃ q, n = q + 1 := ⟨n - 1, by omega⟩
    have en : (k : Int).toNat = k := Int.toNat_natCast k
    have L := ih n (k + 1) (by omega) (by omega)
    obtain ⟨v1, -⟩ := hV.2 k hk
    rw [show FX0_xOf_b4 nf s (n + 1) = FX0_xOf_b4_s nf s (FX0_xOf_b4 nf s n) from rfl]
    unfold FX0_xOf_b4_s
    (try simp only [lits]) <;> simp (disch := omega) only [↓wps, ↓bcp b, bci b, nrm, wps, cmps, if_pos, if_neg, eq_self, if_true, if_false, Bool.false_eq_true, Bool.true_eq_false, dec_f, bld b, en, b_way b hk]
    have ex : xW V (k + 1) = xW V k + (if V (1 + 2 * k) = 0 then 1 else 0) := rfl
    rw [ex] at L
    by_cases q : V (1 + 2 * k) = 0
    · rw [if_pos q] at L
      rw [if_pos q]
      exact L
    · rw [if_neg q] at L
      rw [if_neg q]
      exact L
theorem c_xOf (hn : 100 ≤ nf) (b : B g ρ W S V m Tp RC s) (hW : TW W) (hV : VW W V) {st : Nat} (hst : (st : Int) ≤ V 0) : FX0_xOf nf s (g 0) (i32 st) = some (i32 (xW V st : Int)) := by
  have v0 := hV.1
  unfold FX0_xOf
  rw [(bcp b).1]
  exact c_xOfL b hW hV hst st nf 0 (by omega) (by omega)
theorem s_xAtL (tb : TB W S V m Tp RC τ) (hW : TW W) (hV : VW W V) {st : Nat} (hst : (st : Int) ≤ V 0) : ∀ (d n k : Nat), k + d = st → d < n → T_xAt_b4 nf τ n (i32 st) (i32 (xW V k : Int)) (i32 (k : Int)) = some (i32 (xW V st : Int)) := by
  have v0 := hV.1
  intro d
  induction d with
  | zero =>
    intro n k h1 h2
    obtain ⟨n, rfl⟩ : ∃ q, n = q + 1 := ⟨n - 1, by omega⟩
    rw [show T_xAt_b4 nf τ (n + 1) = T_xAt_b4_s nf τ (T_xAt_b4 nf τ n) from rfl]
    unfold T_xAt_b4_s
    rw [if_pos ((i32_le ⟨by omega, by omega⟩ ⟨by omega, by omega⟩).mpr (by omega)), show k = st by omega]
  | succ d ih =>
    intro n k h1 h2
    have hk : (k : Int) < V 0 := by omega
    obtain ⟨n, rfl⟩ : ∃ q, n = q + 1 := ⟨n - 1, by omega⟩
    have L := ih n (k + 1) (by omega) (by omega)
    obtain ⟨v1, -⟩ := hV.2 k hk
    have ex : xW V (k + 1) = xW V k + (if V (1 + 2 * k) = 0 then 1 else 0) := rfl
    rw [show T_xAt_b4 nf τ (n + 1) = T_xAt_b4_s nf τ (T_xAt_b4 nf τ n) from rfl]
    unfold T_xAt_b4_s
    rw [if_neg (fun z => by have := (i32_le ⟨by omega, by omega⟩ ⟨by omega, by omega⟩).mp z; omega), show (1 : Int32) + 2 * i32 (k : Int) = i32 ((1 + 2 * k : Nat) : Int) by rw [show (1 : Int32) = i32 1 from rfl, show (2 : Int32) = i32 2 from rfl, i32_mul, i32_add]; rfl, s_wk tb (by omega), show (1 : Int32) = i32 1 from rfl, i32_sub, i32_add, i32_add, nm_eq]
    rw [ex] at L
    rcases v1 with q | q
    · rw [if_pos q] at L
      rw [q]
      exact L
    · rw [if_neg (by omega)] at L
      rw [q, show (xW V k : Int) + (1 - 1) = ((xW V k + 0 : Nat) : Int) by omega]
      exact L
theorem s_xAt (hn : 100 ≤ nf) (tb : TB W S V m Tp RC τ) (hW : TW W) (hV : VW W V) {st : Nat} (hst : (st : Int) ≤ V 0) : T_xAt nf τ (i32 st) = some (i32 (xW V st : Int)) := by
  have v0 := hV.1
  unfold T_xAt
  exact s_xAtL tb hW hV hst st nf 0 (by omega) (by omega)
/-- the table from a step on -/
def pTb (g : Nat → Nat) (W V : Nat → Int) (sec : Int) (s : CS) (k : Nat) : Prop := ∀ (j u t : Nat), k ≤ j → (j : Int) ≤ V 0 → (u : Int) ≤ rsA W → t ≤ 90 * j → cA s (g 23) (pIx j u t) = i32 (pcN W V sec ((V 0).toNat - j) j t ((rsA W).toNat - u))
theorem c_paceAt (b : B g ρ W S V m Tp RC s) {k u t : Nat} : FX0_paceAt s (g 0) (i32 k) (i32 u) (i32 t) = some (i32 ((pIx k u t : Nat) : Int)) := by
  unfold FX0_paceAt
  rw [(bcp b).1, show (10 : Int32) = i32 10 from rfl, show (1171 : Int32) = i32 1171 from rfl, i32_mul, i32_add, i32_mul, i32_add]
  rfl
/-- one street -/
theorem c_onAt (b : B g ρ W S V m Tp RC s) (hW : TW W) (hV : VW W V) {d k u t : Nat} {wt x : Int} (hk : (k : Int) + (d + 1) = V 0) (hT : pTb g W V sec s (k + 1)) (hu : (u : Int) ≤ rsA W) (hwt : 0 ≤ wt ∧ wt ≤ 59) (ht : t ≤ 90 * k) (hx : 1 ≤ x ∧ x ≤ 30) : FX0_onAt s (g 0) (i32 k) (i32 u) (i32 ((t : Int) + wt)) (i32 x) = some (i32 (pcS W (pcN W V sec d (k + 1)) ((t : Int) + wt) ((rsA W).toNat - u) x)) := by
  have w2 := hW.2.2.1
  have v0 := hV.1
  have hrs := rs_b hW
  have L : ∀ u2 : Nat, (u2 : Int) ≤ rsA W + 1 → FX0_onAt_b19 s (g 0) (i32 k) (i32 ((t : Int) + wt)) (i32 x) (i32 u2) = some (i32 (if (u2 : Int) ≤ rsA W then pcN W V sec d (k + 1) ((t : Int) + wt + x) ((rsA W).toNat - u2) else 100000000)) := fun u2 hu2 => by
    obtain ⟨q, hq⟩ : ∃ q : Nat, ((t : Int) + wt + x) = q := ⟨((t : Int) + wt + x).toNat, by omega⟩
    refine ok_eq ?_
    unfold FX0_onAt_b19
    refine ok_gRs b.1 rfl (b.2.1 2 _ rfl).1 (ok_nn (ok_be (c_runs b hW) ?_))
    refine ok_le ⟨by omega, by omega⟩ ⟨by omega, by omega⟩ (fun h => ?_) (fun h => ?_)
    · refine ok_gRs b.1 rfl (b.2.1 9 _ rfl).1 ?_
      rw [show (1 : Int32) = i32 1 from rfl, i32_add, i32_add, hq]
      refine ok_be (c_paceAt b (k := k + 1)) (ok_nn (ok_lI (b.2.1 9 _ rfl).2.1 (by omega) (by show _ < ((163940 : Nat) : Int); unfold pIx; omega) (by decide) ?_))
      rw [Int.toNat_natCast, hT (k + 1) u2 q (Nat.le_refl _) (by omega) h (by omega), if_pos h, show (V 0).toNat - (k + 1) = d by omega]
      exact ok_s rfl
    · rw [if_neg (by omega)]
      exact ok_s rfl
  refine ok_eq ?_
  unfold FX0_onAt pcS
  refine ok_gd b.1 rfl (ok_gRs b.1 rfl (b.2.1 2 _ rfl).1 (ok_nn (ok_be (c_walk b hW) ?_)))
  refine ok_le ⟨by omega, by omega⟩ ⟨by omega, by omega⟩ (fun h => ?_) (fun h => ?_)
  · rw [if_neg (by omega), L u (by omega), if_pos hu]
    exact ok_s rfl
  · rw [if_pos h, show (1 : Int32) = i32 1 from rfl, i32_add, show (u : Int) + 1 = ((u + 1 : Nat) : Int) from rfl, L (u + 1) (by omega)]
    by_cases q : (rsA W).toNat - u = 0
    · rw [if_pos q, if_neg (by omega)]
      exact ok_s rfl
    · rw [if_neg q, if_pos (by omega), show (rsA W).toNat - u - 1 = (rsA W).toNat - (u + 1) by omega]
      exact ok_s rfl
theorem pcF_b (hW : TW W) (hV : VW W V) {d k : Nat} {t : Nat} {wt : Int} {r : Nat} {x : Int} (hk : (k : Int) + (d + 1) = V 0) (hwt : 0 ≤ wt ∧ wt ≤ 59) (ht : t ≤ 90 * k) (hx : 1 ≤ x ∧ x ≤ 30) : 0 ≤ pcS W (pcN W V sec d (k + 1)) ((t : Int) + wt) r x ∧ (pcS W (pcN W V sec d (k + 1)) ((t : Int) + wt) r x = 100000000 ∨ pcS W (pcN W V sec d (k + 1)) ((t : Int) + wt) r x ≤ 2000000) := by
  have v0 := hV.1
  rcases pcS_b hW (R := pcN W V sec d (k + 1)) (t := (t : Int)) (r := r) (s := x) hwt (fun t2 r2 h2 => pcN_b hW hV d (k + 1) t2 r2 (by omega) h2) (by omega) hx with z | z
  · omega
  · omega
theorem c_work52 (b : B g ρ W S V m Tp RC s) (hW : TW W) (hV : VW W V) {d k u t : Nat} {wt : Int} (hk : (k : Int) + (d + 1) = V 0) (hT : pTb g W V sec s (k + 1)) (hu : (u : Int) ≤ rsA W) (hwt : 0 ≤ wt ∧ wt ≤ 59) (ht : t ≤ 90 * k) : ∀ (n N : Nat) (x bst : Int), x + n = swA W + 1 → n < N → 1 ≤ x → 0 ≤ bst ∧ (bst = 100000000 ∨ bst ≤ 2000000) → FX0_worked_b52 nf s N (g 0) (i32 k) (i32 u) (i32 t) (i32 wt) (i32 bst) (i32 x) = some (i32 (stF wt (mnR (pcS W (pcN W V sec d (k + 1)) ((t : Int) + wt) ((rsA W).toNat - u)) n x bst))) := by
  have hf := fs_b hW
  have v0 := hV.1
  intro n
  induction n with
  | zero =>
    intro N x bst h1 h2 h3 hb
    obtain ⟨N, rfl⟩ : ∃ q, N = q + 1 := ⟨N - 1, by omega⟩
    refine ok_eq ?_
    rw [show FX0_worked_b52 nf s (N + 1) = FX0_worked_b52_s nf s (FX0_worked_b52 nf s N) from rfl]
    unfold FX0_worked_b52_s
    refine ok_be (c_slow0 b hW) ?_
    refine ok_lt ⟨by omega, by omega⟩ ⟨by omega, by omega⟩ (fun _ => ?_) (fun z => by omega)
    show Ok _ fun v => v = i32 (stF wt bst)
    unfold stF
    rw [show (100000000 : Int32) = i32 100000000 from rfl, show (0 : Int32) = i32 0 from rfl, show (100000 : Int32) = i32 100000 from rfl, i32_add, i32_add]
    refine ok_q ⟨by omega, by omega⟩ ⟨by omega, by omega⟩ (fun q => ?_) (fun q => ?_)
    · rw [if_pos q]
      exact ok_s rfl
    · rw [if_neg q]
      refine ok_le ⟨by omega, by omega⟩ ⟨by omega, by omega⟩ (fun q2 => ?_) (fun q2 => ?_)
      · rw [if_neg (by omega)]
        exact ok_s rfl
      · rw [if_pos q2]
        exact ok_s rfl
  | succ n ih =>
    intro N x bst h1 h2 h3 hb
    obtain ⟨N, rfl⟩ : ∃ q, N = q + 1 := ⟨N - 1, by omega⟩
    have hfb := pcF_b (sec := sec) hW hV (r := (rsA W).toNat - u) (x := x) hk hwt ht (by omega)
    have hm := mn2_le (a := bst) (b := pcS W (pcN W V sec d (k + 1)) ((t : Int) + wt) ((rsA W).toNat - u) x)
    refine ok_eq ?_
    rw [show FX0_worked_b52 nf s (N + 1) = FX0_worked_b52_s nf s (FX0_worked_b52 nf s N) from rfl]
    unfold FX0_worked_b52_s
    refine ok_be (c_slow0 b hW) ?_
    refine ok_lt ⟨by omega, by omega⟩ ⟨by omega, by omega⟩ (fun z => by omega) (fun _ => ?_)
    rw [i32_add]
    refine ok_be (c_onAt b hW hV hk hT hu hwt ht (by omega)) ?_
    rw [nm_eq, mn_c (by omega) (by omega) (by omega) (by omega), show (1 : Int32) = i32 1 from rfl, i32_add]
    exact ok_e (ih N (x + 1) _ (by omega) (by omega) (by omega) (by show 0 ≤ mn2 _ _ ∧ (mn2 _ _ = _ ∨ mn2 _ _ ≤ _); omega)) rfl
theorem c_worked (hn : 100 ≤ nf) (b : B g ρ W S V m Tp RC s) (hW : TW W) (hV : VW W V) {d k u t : Nat} (hs : 0 ≤ sec ∧ sec ≤ 1000000) (hk : (k : Int) + (d + 1) = V 0) (hT : pTb g W V sec s (k + 1)) (hu : (u : Int) ≤ rsA W) (ht : t ≤ 90 * k) : FX0_worked nf s (g 0) (i32 k) (i32 u) (i32 t) (i32 sec) = some (i32 (pcN W V sec (d + 1) k t ((rsA W).toNat - u))) := by
  have hf := fs_b hW
  have v0 := hV.1
  have hkV : (k : Int) < V 0 := by omega
  obtain ⟨k1, k2, k3, k4, k5⟩ := vw_k hW hV hkV
  have hle := (hV.2 k hkV).2.2.1
  have k2 : i32 (V (1 + 2 * k)) = wy (wV V k) := k2
  refine ok_eq ?_
  unfold FX0_worked
  refine ok_gd b.1 rfl (ok_be (c_xOf hn b hW hV (by omega)) ?_)
  refine ok_gRs b.1 rfl (b.2.1 3 _ rfl).1 (ok_nn (ok_gRs (b.2.1 3 _ rfl).2.1 rfl (b.2.1 20 _ rfl).1 (ok_nn (ok_lI (b.2.1 20 _ rfl).2.1 (by omega) (by show _ < ((13 : Nat) : Int); omega) (by decide) ?_))))
  rw [Int.toNat_natCast, (b_way b hkV).1, k2, i32_sub, i32_add, show (k : Int) - (xW V k : Int) = ((k - xW V k : Nat) : Int) by omega]
  refine ok_be (c_wts b hW k3 k4 (by omega) (by omega)) ?_
  show Ok _ fun v => v = i32 (if cgA W (xW V k) (k - xW V k) (wV V k) = true then stF (wtV W V sec k t) (mnR (pcS W (pcN W V sec d (k + 1)) ((t : Int) + wtV W V sec k t) ((rsA W).toNat - u)) (nsA W) (fsA W) 100000000) else 100000000)
  by_cases q : cgA W (xW V k) (k - xW V k) (wV V k) = true
  · have hwt := wtV_b (sec := sec) (t := (t : Int)) hW hV hkV q
    rw [if_pos q, if_pos q, show (0 : Int32) = i32 0 from rfl]
    refine ok_le ⟨by omega, by omega⟩ (b := wtV W V sec k t) ⟨by omega, by omega⟩ (fun _ => ?_) (fun z => by omega)
    refine ok_be (c_fast b hW) ?_
    exact ok_e (c_work52 b hW hV hk hT hu hwt ht (nsA W) nf (fsA W) 100000000 (by omega) (by omega) (by omega) (by omega)) rfl
  · rw [if_neg q, if_neg q, if_neg (show ¬ (0 : Int32) ≤ i32 (-1) by decide)]
    exact ok_s rfl
end PD
