/-! LAYER 2: the reader goes on to the next token -/
set_option maxRecDepth 100000
def TO (t : Nat → Int) (n : Nat) : Prop := n ≤ 1000 ∧ ∀ i, i < n → t i = 10 ∨ (32 ≤ t i ∧ t i ≤ 126)
/-- the reader and its text -/
def Rbs (s : CS) (r ta : Nat) (t : Nat → Int) (n : Nat) : Prop := s.1 r = some (true, 1, 0) ∧ s.1 ta = some (true, 103, 1000) ∧ cR s 100 r = some ta ∧ cI s 101 r = i32 (n : Int) ∧ ∀ i, i < n → cA s ta i = i32 (t i)
/-- the token at hand begins at f -/
def Rf (s : CS) (r ta : Nat) (t : Nat → Int) (n f : Nat) : Prop := Rbs s r ta t n ∧ cI s 102 r = i32 (tE t n f : Int) ∧ cI s 103 r = i32 (tS t n f : Int) ∧ cI s 104 r = i32 (f : Int) ∧ (tS t n f = 2 → cI s 105 r = i32 (nV t n f))
def Fn (r : Nat) (s s' : CS) : Prop := s'.1 = s.1 ∧ (∀ f a, ¬ (a = r ∧ 102 ≤ f ∧ f ≤ 105) → cI s' f a = cI s f a) ∧ cR s' = cR s ∧ cA s' = cA s ∧ cQ s' = cQ s ∧ cz s' = cz s ∧ cl s' = cl s
theorem Fn.rf {r : Nat} {s : CS} : Fn r s s := ⟨rfl, fun _ _ _ => rfl, rfl, rfl, rfl, rfl, rfl⟩
theorem Fn.tr {r : Nat} {s s1 s2 : CS} (h : Fn r s s1) (k : Fn r s1 s2) : Fn r s s2 := ⟨k.1.trans h.1, fun f a q => (k.2.1 f a q).trans (h.2.1 f a q), k.2.2.1.trans h.2.2.1, k.2.2.2.1.trans h.2.2.2.1, k.2.2.2.2.1.trans h.2.2.2.2.1, k.2.2.2.2.2.1.trans h.2.2.2.2.2.1, k.2.2.2.2.2.2.trans h.2.2.2.2.2.2⟩
theorem Fn.uI {r f : Nat} {v : Int32} {s : CS} (h : 102 ≤ f ∧ f ≤ 105) : Fn r s (uI s f r v) := ⟨rfl, (fun f' a q => if_neg (fun z => q ⟨z.2, by rw [z.1]; exact h⟩)), rfl, rfl, rfl, rfl, rfl⟩
theorem Fn.p {r z : Nat} {s s' : CS} (h : Fn r s s') : Fp r z s s' := fun a ha => ⟨by rw [h.1], fun f q => h.2.1 f a (fun z => q ⟨z.1, by omega, by omega⟩), fun f _ => by rw [h.2.2.1], by rw [h.2.2.2.1], by rw [h.2.2.2.2.1]⟩
theorem Sc.n {r p : Nat} {L : List Int} {s s' : CS} (k : Sc s p L) (h : Fn r s s') : Sc s' p L := by
  obtain ⟨h1, h2, ⟨v, w, h3, h4, h5⟩, h6⟩ := k
  refine ⟨?_, by rw [h.2.1 _ _ (fun z => by omega)]; exact h2, ⟨v, w, by rw [h.2.2.1]; exact h3, by rw [h.1]; exact h4, fun j hj => by rw [h.2.2.2.1]; exact h5 j hj⟩, h6⟩
  unfold isK at h1 ⊢
  rw [h.1]
  exact h1
theorem Rbs.n {r ta n : Nat} {t : Nat → Int} {s s' : CS} (k : Rbs s r ta t n) (h : Fn r s s') : Rbs s' r ta t n := ⟨by rw [h.1]; exact k.1, by rw [h.1]; exact k.2.1, by rw [h.2.2.1]; exact k.2.2.1, by rw [h.2.1 _ _ (fun z => by omega)]; exact k.2.2.2.1, fun i hi => by rw [h.2.2.2.1]; exact k.2.2.2.2 i hi⟩
def wL (i : Nat) : List Int := (sByt.getD i []).map Int32.toInt
/-- the constants -/
def Kst (st : Nat → Option Nat) (s : CS) : Prop := ∀ i, i < 12 → ∃ p, st (10 + i) = some p ∧ Sc s p (wL i)
theorem Kst.n {st : Nat → Option Nat} {r : Nat} {s s' : CS} (k : Kst st s) (h : Fn r s s') : Kst st s' := fun i hi => by
  obtain ⟨p, h1, h2⟩ := k i hi
  exact ⟨p, h1, h2.n h⟩
theorem sg_ix : ∀ z : Nat, z < 127 → (decide (ixS (wL 0) ((z : Nat) : Int) 0 < 0) = !isG ((z : Nat) : Int)) := by decide +kernel
section NX
variable {s : CS} {r ta n : Nat} {t : Nat → Int} {nf : Nat} {st : Nat → Option Nat}
def cAt (t : Nat → Int) (n i : Nat) : Int := if i < n then t i else 0
theorem c_rat (h : Rbs s r ta t n) (hT : TO t n) {i : Nat} (hi : i ≤ 1000) : FX1_at s r (i32 (i : Int)) = some (i32 (cAt t n i)) := by
  obtain ⟨h1, h2, h3, h4, h5⟩ := h
  have hn := hT.1
  have k1 : isK s r [1] = true := isK_o h1 rfl
  unfold FX1_at cAt
  rw [gd_t k1, gI_t k1, h4]
  by_cases q : i < n
  · rw [if_neg (fun z => by have := (i32_le (a := (n : Int)) (b := (i : Int)) ⟨by omega, by omega⟩ ⟨by omega, by omega⟩).mp z; omega), gR_t k1, h3, nn_eq, lI_i h2 (by omega) (by omega) (by omega), Int.toNat_natCast, h5 i q, if_pos q]
  · rw [if_pos ((i32_le ⟨by omega, by omega⟩ ⟨by omega, by omega⟩).mpr (by omega)), if_neg q]
    rfl
theorem cAt_b (hT : TO t n) (i : Nat) : 0 ≤ cAt t n i ∧ cAt t n i ≤ 126 := by
  unfold cAt
  split
  · rename_i h
    have := hT.2 i h
    omega
  · omega
theorem c_isL {z : Int} (hz : 0 ≤ z ∧ z ≤ 126) : FX1_isLetter s (i32 z) = some (bi (isL z)) := by
  unfold FX1_isLetter isL
  rw [show (97 : Int32) = i32 97 from rfl, show (122 : Int32) = i32 122 from rfl]
  by_cases q : 97 ≤ z ∧ z ≤ 122
  · rw [decide_eq_true q, if_neg (fun h => by have := (i32_lt ⟨by omega, by omega⟩ ⟨by omega, by omega⟩).mp h; omega), if_neg (fun h => by have := (i32_lt ⟨by omega, by omega⟩ ⟨by omega, by omega⟩).mp h; omega)]
    rfl
  · rw [decide_eq_false q]
    by_cases q2 : z < 97
    · rw [if_pos ((i32_lt ⟨by omega, by omega⟩ ⟨by omega, by omega⟩).mpr q2)]
      rfl
    · rw [if_neg (fun h => by have := (i32_lt ⟨by omega, by omega⟩ ⟨by omega, by omega⟩).mp h; omega), if_pos ((i32_lt ⟨by omega, by omega⟩ ⟨by omega, by omega⟩).mpr (by omega))]
      rfl
theorem c_isD {z : Int} (hz : 0 ≤ z ∧ z ≤ 126) : FX1_isDigit s (i32 z) = some (bi (isD z)) := by
  unfold FX1_isDigit isD
  rw [show (48 : Int32) = i32 48 from rfl, show (57 : Int32) = i32 57 from rfl]
  by_cases q : 48 ≤ z ∧ z ≤ 57
  · rw [decide_eq_true q, if_neg (fun h => by have := (i32_lt ⟨by omega, by omega⟩ ⟨by omega, by omega⟩).mp h; omega), if_neg (fun h => by have := (i32_lt ⟨by omega, by omega⟩ ⟨by omega, by omega⟩).mp h; omega)]
    rfl
  · rw [decide_eq_false q]
    by_cases q2 : z < 48
    · rw [if_pos ((i32_lt ⟨by omega, by omega⟩ ⟨by omega, by omega⟩).mpr q2)]
      rfl
    · rw [if_neg (fun h => by have := (i32_lt ⟨by omega, by omega⟩ ⟨by omega, by omega⟩).mp h; omega), if_pos ((i32_lt ⟨by omega, by omega⟩ ⟨by omega, by omega⟩).mpr (by omega))]
      rfl
/-- whether a run goes on -/
theorem run_at {p : Int → Bool} (hp : p 0 = false) (i : Nat) : run t n p i = if p (cAt t n i) = true then run t n p (i + 1) else i := by
  unfold cAt
  by_cases q : i < n
  · rw [if_pos q, run_s q]
  · rw [if_neg q, hp, if_neg (by decide), run_e (by omega)]
theorem nx_93 (hT : TO t n) {f : Nat} : ∀ (d m i : Nat) (s1 : CS), n + 1 - i ≤ d → d < m → f ≤ i → i ≤ n → Rbs s1 r ta t n → cI s1 102 r = i32 (i : Int) → cI s1 104 r = i32 (f : Int) → Fn r s s1 → Ok (FX1_next_b93 st nf m r s1) fun s' => Fn r s s' ∧ Rbs s' r ta t n ∧ cI s' 102 r = i32 ((run t n isL i : Nat) : Int) ∧ cI s' 103 r = i32 (((if run t n isL i - f ≤ 8 then 1 else 4 : Nat)) : Int) ∧ cI s' 104 r = i32 (f : Int) := by
  have hn := hT.1
  intro d
  induction d with
  | zero => intro m i s1 h1 h2 h3 h4; omega
  | succ d ih =>
    intro m i s1 h1 h2 h3 h4 hb e2 e4 hf
    obtain ⟨m, rfl⟩ : ∃ q, m = q + 1 := ⟨m - 1, by omega⟩
    have hr := run_at (t := t) (n := n) (p := isL) rfl i
    have hc := cAt_b hT i
    rw [show FX1_next_b93 st nf (m + 1) = FX1_next_b93_s st nf (FX1_next_b93 st nf m) from rfl]
    unfold FX1_next_b93_s
    refine ok_gI hb.1 rfl ?_
    rw [e2]
    refine ok_be (c_rat hb hT (by omega)) (ok_be (c_isL hc) ?_)
    cases hL : isL (cAt t n i) with
    | false =>
      rw [hL, if_neg (by decide)] at hr
      rw [if_pos (show bi false = (0 : Int32) from rfl), hr]
      refine ok_gI hb.1 rfl (ok_gI hb.1 rfl ?_)
      rw [e2, e4, i32_sub, show (8 : Int32) = i32 8 from rfl]
      refine ok_le ⟨by omega, by omega⟩ ⟨by omega, by omega⟩ (fun z => ?_) (fun z => ?_)
      · have fn : Fn r s1 (uI s1 103 r 1) := Fn.uI (by omega)
        refine ok_pI hb.1 rfl (ok_s ⟨hf.tr fn, hb.n fn, by rw [rI_n (by decide)]; exact e2, ?_, by rw [rI_n (by decide)]; exact e4⟩)
        rw [rI_t, if_pos (by omega)]
        rfl
      · have fn : Fn r s1 (uI s1 103 r 4) := Fn.uI (by omega)
        refine ok_pI hb.1 rfl (ok_s ⟨hf.tr fn, hb.n fn, by rw [rI_n (by decide)]; exact e2, ?_, by rw [rI_n (by decide)]; exact e4⟩)
        rw [rI_t, if_neg (by omega)]
        rfl
    | true =>
      rw [hL, if_pos rfl] at hr
      have hin : i < n := by
        refine Decidable.byContradiction fun q => ?_
        unfold cAt at hL
        rw [if_neg q] at hL
        cases hL
      rw [if_neg (show ¬ bi true = (0 : Int32) by decide), hr]
      refine ok_gI hb.1 rfl (ok_pI hb.1 rfl ?_)
      rw [e2, show (1 : Int32) = i32 1 from rfl, i32_add]
      have fn : Fn r s1 (uI s1 102 r (i32 ((i : Int) + 1))) := Fn.uI (by omega)
      exact ih m (i + 1) _ (by omega) (by omega) (by omega) (by omega) (hb.n fn) rI_t (by rw [rI_n (by decide)]; exact e4) (hf.tr fn)
theorem nvF_s {f i j : Nat} {v : Int} (h : i < j) : nvF t f (j - i) i v = nvF t f (j - (i + 1)) (i + 1) (if i - f < 4 then 10 * v + t i - 48 else v) := by
  rw [show j - i = (j - (i + 1)) + 1 by omega]
  rfl
theorem nx_165 (hT : TO t n) {f : Nat} : ∀ (d m i : Nat) (v : Int) (s1 : CS), n + 1 - i ≤ d → d < m → f ≤ i → i ≤ n → Rbs s1 r ta t n → cI s1 102 r = i32 (i : Int) → cI s1 104 r = i32 (f : Int) → cI s1 105 r = i32 v → Fn r s s1 → Ok (FX1_next_b165 st nf m r s1) fun s' => Fn r s s' ∧ Rbs s' r ta t n ∧ cI s' 102 r = i32 ((run t n isD i : Nat) : Int) ∧ cI s' 103 r = i32 (((if run t n isD i - f ≤ 4 then 2 else 4 : Nat)) : Int) ∧ cI s' 104 r = i32 (f : Int) ∧ cI s' 105 r = i32 (nvF t f (run t n isD i - i) i v) := by
  have hn := hT.1
  intro d
  induction d with
  | zero => intro m i v s1 h1 h2 h3 h4; omega
  | succ d ih =>
    intro m i v s1 h1 h2 h3 h4 hb e2 e4 e5 hf
    obtain ⟨m, rfl⟩ : ∃ q, m = q + 1 := ⟨m - 1, by omega⟩
    have hr := run_at (t := t) (n := n) (p := isD) rfl i
    have hc := cAt_b hT i
    rw [show FX1_next_b165 st nf (m + 1) = FX1_next_b165_s st nf (FX1_next_b165 st nf m) from rfl]
    unfold FX1_next_b165_s
    refine ok_gI hb.1 rfl ?_
    rw [e2]
    refine ok_be (c_rat hb hT (by omega)) (ok_be (c_isD hc) ?_)
    cases hL : isD (cAt t n i) with
    | false =>
      rw [hL, if_neg (by decide)] at hr
      rw [if_pos (show bi false = (0 : Int32) from rfl), hr, Nat.sub_self]
      refine ok_gI hb.1 rfl (ok_gI hb.1 rfl ?_)
      rw [e2, e4, i32_sub, show (4 : Int32) = i32 4 from rfl]
      refine ok_le ⟨by omega, by omega⟩ ⟨by omega, by omega⟩ (fun z => ?_) (fun z => ?_)
      · have fn : Fn r s1 (uI s1 103 r 2) := Fn.uI (by omega)
        refine ok_pI hb.1 rfl (ok_s ⟨hf.tr fn, hb.n fn, by rw [rI_n (by decide)]; exact e2, ?_, by rw [rI_n (by decide)]; exact e4, by rw [rI_n (by decide)]; exact e5⟩)
        rw [rI_t, if_pos (by omega)]
        rfl
      · have fn : Fn r s1 (uI s1 103 r (i32 4)) := Fn.uI (by omega)
        refine ok_pI hb.1 rfl (ok_s ⟨hf.tr fn, hb.n fn, by rw [rI_n (by decide)]; exact e2, ?_, by rw [rI_n (by decide)]; exact e4, by rw [rI_n (by decide)]; exact e5⟩)
        rw [rI_t, if_neg (by omega)]
        rfl
    | true =>
      rw [hL, if_pos rfl] at hr
      have hin : i < n := by
        refine Decidable.byContradiction fun q => ?_
        unfold cAt at hL
        rw [if_neg q] at hL
        cases hL
      have hle := (run_le t n isD (i + 1)).1
      have hat : cAt t n i = t i := if_pos hin
      rw [if_neg (show ¬ bi true = (0 : Int32) by decide), hr]
      rw [nvF_s (show i < run t n isD (i + 1) by omega)]
      refine ok_gI hb.1 rfl (ok_gI hb.1 rfl ?_)
      rw [e2, e4, i32_sub, show (4 : Int32) = i32 4 from rfl]
      have G : ∀ w : Int, w = (if i - f < 4 then 10 * v + t i - 48 else v) → Ok (FX1_next_b219 st nf (FX1_next_b165 st nf m) r (i32 w) r s1) fun s' => Fn r s s' ∧ Rbs s' r ta t n ∧ cI s' 102 r = i32 ((run t n isD (i + 1) : Nat) : Int) ∧ cI s' 103 r = i32 (((if run t n isD (i + 1) - f ≤ 4 then 2 else 4 : Nat)) : Int) ∧ cI s' 104 r = i32 (f : Int) ∧ cI s' 105 r = i32 (nvF t f (run t n isD (i + 1) - (i + 1)) (i + 1) (if i - f < 4 then 10 * v + t i - 48 else v)) := fun w hw => by
        unfold FX1_next_b219
        refine ok_pI hb.1 rfl ?_
        have f1 : Fn r s1 (uI s1 105 r (i32 w)) := Fn.uI (by omega)
        have hb1 := hb.n f1
        refine ok_gI hb1.1 rfl (ok_pI hb1.1 rfl ?_)
        rw [rI_n (by decide), e2, show (1 : Int32) = i32 1 from rfl, i32_add, ← hw]
        have f2 : Fn r (uI s1 105 r (i32 w)) (uI (uI s1 105 r (i32 w)) 102 r (i32 ((i : Int) + 1))) := Fn.uI (by omega)
        exact ih m (i + 1) w _ (by omega) (by omega) (by omega) (by omega) (hb1.n f2) rI_t (by rw [rI_n (by decide), rI_n (by decide)]; exact e4) (by rw [rI_n (by decide), rI_t]) ((hf.tr f1).tr f2)
      refine ok_le ⟨by omega, by omega⟩ ⟨by omega, by omega⟩ (fun z => ?_) (fun z => ?_)
      · refine ok_gI hb.1 rfl ?_
        rw [e5]
        exact G v (by rw [if_neg (by omega)])
      · refine ok_gI hb.1 rfl (ok_gI hb.1 rfl ?_)
        rw [e5, e2]
        refine ok_be (c_rat hb hT (by omega)) ?_
        rw [show (10 : Int32) = i32 10 from rfl, show (48 : Int32) = i32 48 from rfl, i32_mul, i32_add, i32_sub, hat]
        exact G _ (by rw [if_pos (by omega)])
theorem tE_L {f : Nat} (h : f < n) (hl : isL (t f) = true) : tE t n f = run t n isL f := by
  unfold tE
  rw [if_neg (by omega), if_pos hl]
theorem tE_D {f : Nat} (h : f < n) (hl : isL (t f) = false) (hd : isD (t f) = true) : tE t n f = run t n isD f := by
  unfold tE
  rw [if_neg (by omega), hl, if_neg (by decide), if_pos hd]
theorem nx_52 (hn : 2000 ≤ nf) (hT : TO t n) (hK : Kst st s) {f : Nat} {s1 : CS} (hf : f ≤ n) (hb : Rbs s1 r ta t n) (e2 : cI s1 102 r = i32 (f : Int)) (hF : Fn r s s1) (hnb : f < n → isB (t f) = false) : Ok (FX1_next_b52 st nf r s1) fun s' => Fn r s s' ∧ Rf s' r ta t n f := by
  have hn1 := hT.1
  unfold FX1_next_b52
  refine ok_gI hb.1 rfl (ok_pI hb.1 rfl ?_)
  rw [e2]
  have f2 : Fn r s1 (uI s1 104 r (i32 (f : Int))) := Fn.uI (by omega)
  have hb2 := hb.n f2
  have hF2 := hF.tr f2
  have e22 : cI (uI s1 104 r (i32 (f : Int))) 102 r = i32 (f : Int) := by rw [rI_n (by decide)]; exact e2
  have e24 : cI (uI s1 104 r (i32 (f : Int))) 104 r = i32 (f : Int) := rI_t
  generalize uI s1 104 r (i32 (f : Int)) = s2 at f2 hb2 hF2 e22 e24 ⊢
  refine ok_gI hb2.1 rfl (ok_gI hb2.1 rfl ?_)
  rw [e22, hb2.2.2.2.1]
  refine ok_q ⟨by omega, by omega⟩ ⟨by omega, by omega⟩ (fun z => ?_) (fun z => ?_)
  · have ef : tE t n f = f := if_pos (by omega)
    have es : tS t n f = 0 := if_pos (by omega)
    have fn : Fn r s2 (uI s2 103 r 0) := Fn.uI (by omega)
    refine ok_pI hb2.1 rfl (ok_s ⟨hF2.tr fn, hb2.n fn, ?_, ?_, ?_, fun h => by rw [es] at h; cases h⟩)
    · rw [rI_n (by decide), e22, ef]
    · rw [rI_t, es]
      rfl
    · rw [rI_n (by decide), e24]
  · have hfn : f < n := by omega
    have hc := cAt_b hT f
    have hat : cAt t n f = t f := if_pos hfn
    refine ok_gI hb2.1 rfl ?_
    rw [e22]
    refine ok_be (c_rat hb2 hT (by omega)) (ok_be (c_isL hc) ?_)
    rw [hat] at hc ⊢
    cases hL : isL (t f) with
    | true =>
      rw [if_neg (show ¬ bi true = (0 : Int32) by decide)]
      refine ok_w (nx_93 (nf := nf) (st := st) hT (n + 1 - f) nf f s2 (Nat.le_refl _) (by omega) (Nat.le_refl _) hf hb2 e22 e24 hF2) fun s' h => ?_
      obtain ⟨h1, h2, h3, h4, h5⟩ := h
      have eE := tE_L hfn hL
      refine ⟨h1, h2, by rw [h3, eE], ?_, h5, fun q => ?_⟩
      · rw [h4, ← eE]
        unfold tS
        rw [if_neg (show ¬ n ≤ f by omega), if_pos hL]
      · unfold tS at q
        rw [if_neg (show ¬ n ≤ f by omega), if_pos hL] at q
        split at q <;> omega
    | false =>
      rw [if_pos (show bi false = (0 : Int32) from rfl)]
      refine ok_gI hb2.1 rfl ?_
      rw [e22]
      refine ok_be (c_rat hb2 hT (by omega)) ?_
      rw [hat]
      refine ok_be (c_isD hc) ?_
      cases hD : isD (t f) with
      | true =>
        rw [if_neg (show ¬ bi true = (0 : Int32) by decide)]
        have fn : Fn r s2 (uI s2 105 r 0) := Fn.uI (by omega)
        refine ok_pI hb2.1 rfl ?_
        refine ok_w (nx_165 (nf := nf) (st := st) (s := s) hT (n + 1 - f) nf f 0 (uI s2 105 r 0) (Nat.le_refl _) (by omega) (Nat.le_refl _) hf (hb2.n fn) (by rw [rI_n (by decide)]; exact e22) (by rw [rI_n (by decide)]; exact e24) rI_t (hF2.tr fn)) fun s' h => ?_
        obtain ⟨h1, h2, h3, h4, h5, h6⟩ := h
        have eE := tE_D hfn hL hD
        refine ⟨h1, h2, by rw [h3, eE], ?_, h5, fun _ => ?_⟩
        · rw [h4, ← eE]
          unfold tS
          rw [if_neg (show ¬ n ≤ f by omega), hL, if_neg (show ¬ false = true by decide), if_pos hD]
        · rw [h6, ← eE]
          rfl
      | false =>
        rw [if_pos (show bi false = (0 : Int32) from rfl)]
        obtain ⟨p, hp1, hp2⟩ := hK 0 (by omega)
        have hp2 := hp2.n hF2
        have hp1 : st 10 = some p := hp1
        rw [hp1]
        refine ok_nn (ok_gI hb2.1 rfl ?_)
        rw [e22]
        refine ok_be (c_rat hb2 hT (by omega)) ?_
        rw [hat]
        have ec : i2c (i32 (t f)) = i32 (t f) := by
          have h1 := (ch_b (t f).toNat (by omega)).1
          rw [Int.toNat_of_nonneg hc.1] at h1
          have h2 : ∀ z : Nat, z < 127 → i2c (i32 ((z : Nat) : Int)) = i32 ((z : Nat) : Int) := by decide +kernel
          have := h2 (t f).toNat (by omega)
          rw [Int.toNat_of_nonneg hc.1] at this
          exact this
        rw [ec]
        have hix : FJ6_indexOf nf s2 p (i32 (t f)) = some (i32 (ixS (wL 0) (t f) 0)) := by
          have h1 : FJ6_indexOf_2 nf s2 p (i32 (t f)) 0 = some (i32 (ixS (wL 0) (t f) 0)) := sc_x (by omega) hp2 hc (a := 0) (Nat.zero_le _)
          unfold FJ6_indexOf
          rw [gd_t hp2.1, h1, bd_eq]
        refine ok_be hix ?_
        have hsg := sg_ix (t f).toNat (by omega)
        rw [Int.toNat_of_nonneg hc.1] at hsg
        have hixb : -1 ≤ ixS (wL 0) (t f) 0 ∧ ixS (wL 0) (t f) 0 ≤ 200 := by
          have h : ∀ z : Nat, z < 127 → -1 ≤ ixS (wL 0) ((z : Nat) : Int) 0 ∧ ixS (wL 0) ((z : Nat) : Int) 0 ≤ 200 := by decide +kernel
          have := h (t f).toNat (by omega)
          rw [Int.toNat_of_nonneg hc.1] at this
          exact this
        have eE : tE t n f = f + 1 := by
          unfold tE
          rw [if_neg (show ¬ n ≤ f by omega), hL, if_neg (show ¬ false = true by decide), hD, if_neg (show ¬ false = true by decide)]
        have G : ∀ k : Nat, tS t n f = k → (k = 3 ∨ k = 4) → Ok (FX1_next_b283 st nf r (i32 (k : Int)) r s2) fun s' => Fn r s s' ∧ Rf s' r ta t n f := fun k hk hk2 => by
          unfold FX1_next_b283
          refine ok_pI hb2.1 rfl ?_
          have f3 : Fn r s2 (uI s2 103 r (i32 (k : Int))) := Fn.uI (by omega)
          have hb3 := hb2.n f3
          refine ok_gI hb3.1 rfl (ok_pI hb3.1 rfl (ok_s ?_))
          have f4 : Fn r (uI s2 103 r (i32 (k : Int))) (uI (uI s2 103 r (i32 (k : Int))) 102 r (cI (uI s2 103 r (i32 (k : Int))) 102 r + 1)) := Fn.uI (by omega)
          refine ⟨(hF2.tr f3).tr f4, hb3.n f4, ?_, ?_, ?_, fun q => by omega⟩
          · rw [rI_t, rI_n (by decide), e22, eE]
            exact i32_add f 1
          · rw [rI_n (by decide), rI_t, hk]
          · rw [rI_n (by decide), rI_n (by decide), e24]
        have hS : tS t n f = if isG (t f) = true then 3 else 4 := by
          unfold tS
          rw [if_neg (show ¬ n ≤ f by omega), hL, if_neg (show ¬ false = true by decide), hD, if_neg (show ¬ false = true by decide)]
        rw [show (0 : Int32) = i32 0 from rfl]
        cases hG : isG (t f) with
        | true =>
          rw [hG] at hsg hS
          have := of_decide_eq_false hsg
          rw [if_neg (fun z => by have := (i32_lt ⟨by omega, by omega⟩ ⟨by omega, by omega⟩).mp z; omega)]
          exact G 3 hS (.inl rfl)
        | false =>
          rw [hG] at hsg hS
          have := of_decide_eq_true hsg
          rw [if_pos ((i32_lt ⟨by omega, by omega⟩ ⟨by omega, by omega⟩).mpr this)]
          exact G 4 hS (.inr rfl)
theorem isB_q {z : Int} (hz : 0 ≤ z ∧ z ≤ 126) : (i32 z = 10 ↔ z = 10) ∧ (i32 z = 32 ↔ z = 32) := ⟨i32_eq (b := 10) ⟨by omega, by omega⟩ ⟨by omega, by omega⟩, i32_eq (b := 32) ⟨by omega, by omega⟩ ⟨by omega, by omega⟩⟩
theorem nx_0 (hn : 2000 ≤ nf) (hT : TO t n) (hK : Kst st s) : ∀ (d m i : Nat) (s1 : CS), n + 1 - i ≤ d → d < m → i ≤ n → Rbs s1 r ta t n → cI s1 102 r = i32 (i : Int) → Fn r s s1 → Ok (FX1_next_b0 st nf m r s1) fun s' => Fn r s s' ∧ Rf s' r ta t n (run t n isB i) := by
  have hn1 := hT.1
  intro d
  induction d with
  | zero => intro m i s1 h1 h2 h3; omega
  | succ d ih =>
    intro m i s1 h1 h2 h3 hb e2 hF
    obtain ⟨m, rfl⟩ : ∃ q, m = q + 1 := ⟨m - 1, by omega⟩
    rw [show FX1_next_b0 st nf (m + 1) = FX1_next_b0_s st nf (FX1_next_b0 st nf m) from rfl]
    unfold FX1_next_b0_s
    refine ok_gI hb.1 rfl (ok_gI hb.1 rfl ?_)
    rw [e2, hb.2.2.2.1]
    refine ok_le ⟨by omega, by omega⟩ ⟨by omega, by omega⟩ (fun z => ?_) (fun z => ?_)
    · rw [run_e (by omega)]
      exact nx_52 hn hT hK h3 hb e2 hF (fun q => by omega)
    · have hin : i < n := by omega
      have hc : 0 ≤ t i ∧ t i ≤ 126 := by
        have := hT.2 i hin
        omega
      have hq := isB_q hc
      have go : isB (t i) = true → Ok (FX1_next_b39 st nf (FX1_next_b0 st nf m) r s1) fun s' => Fn r s s' ∧ Rf s' r ta t n (run t n isB i) := fun hB => by
        unfold FX1_next_b39
        refine ok_gI hb.1 rfl (ok_pI hb.1 rfl ?_)
        rw [e2, show (1 : Int32) = i32 1 from rfl, i32_add, run_s hin, if_pos hB]
        have fn : Fn r s1 (uI s1 102 r (i32 ((i : Int) + 1))) := Fn.uI (by omega)
        exact ih m (i + 1) _ (by omega) (by omega) (by omega) (hb.n fn) rI_t (hF.tr fn)
      refine ok_gRs hb.1 rfl hb.2.2.1 (ok_gI hb.1 rfl ?_)
      rw [e2]
      refine ok_nn (ok_lI hb.2.1 (by omega) (by omega) (by omega) ?_)
      rw [Int.toNat_natCast, hb.2.2.2.2 i hin]
      refine ok_if (fun c1 => go (decide_eq_true (.inl (hq.1.mp c1)))) (fun c1 => ?_)
      refine ok_gRs hb.1 rfl hb.2.2.1 (ok_gI hb.1 rfl ?_)
      rw [e2]
      refine ok_nn (ok_lI hb.2.1 (by omega) (by omega) (by omega) ?_)
      rw [Int.toNat_natCast, hb.2.2.2.2 i hin]
      refine ok_if (fun c2 => go (decide_eq_true (.inr (hq.2.mp c2)))) (fun c2 => ?_)
      have hB : isB (t i) = false := decide_eq_false (fun z => by
        rcases z with z | z
        · exact c1 (hq.1.mpr z)
        · exact c2 (hq.2.mpr z))
      rw [run_s hin, hB, if_neg (by decide)]
      exact nx_52 hn hT hK h3 hb e2 hF (fun _ => hB)
/-- the next token -/
theorem ok_next (hn : 2000 ≤ nf) (hT : TO t n) (hK : Kst st s) {p : Nat} (hp : p ≤ n) (hb : Rbs s r ta t n) (e2 : cI s 102 r = i32 (p : Int)) : Ok (FX1_next st nf r s) fun s' => Fn r s s' ∧ Rf s' r ta t n (run t n isB p) := by
  have hn1 := hT.1
  unfold FX1_next
  refine ok_mz (Q := fun s' => Fn r s s' ∧ Rf s' r ta t n (run t n isB p)) ?_ (fun z hz => ⟨by rw [hz.1.2.2.2.2.2.1]; exact Nat.le_refl _, by rw [hz.1.2.2.2.2.2.2]; exact Nat.le_refl _⟩)
  refine ok_gd hb.1 rfl ?_
  exact nx_0 hn hT hK (n + 1 - p) nf p s (Nat.le_refl _) (by omega) hp hb e2 Fn.rf
theorem ok_nextk (hn : 2000 ≤ nf) (hT : TO t n) (hK : Kst st s) {k : Nat} (hR : Rf s r ta t n (tP t n k)) : Ok (FX1_next st nf r s) fun s' => Fn r s s' ∧ Rf s' r ta t n (tP t n (k + 1)) := by
  have hb := tP_b (t := t) (n := n) k
  have hE : tE t n (tP t n k) ≤ n := by
    by_cases q : tP t n k < n
    · exact ((tE_b (t := t) (n := n) (f := tP t n k)).1 q).2
    · rw [(tE_b (t := t) (n := n) (f := tP t n k)).2 (by omega)]
      exact hb.1
  exact ok_next hn hT hK hE hR.1 hR.2.1
end NX
