/-! LAYER 2: which word is at hand: the component -/
set_option maxRecDepth 100000
def joinW : List (List Int) → List Int
  | [] => []
  | w :: ws => w ++ 32 :: joinW ws
def whI : List (List Int) → List Int → Nat → Int
  | [], _, _ => -1
  | x :: xs, w, k => if x = w then (k : Int) else whI xs w (k + 1)
/-- the word at hand -/
def wrd (t : Nat → Int) (n f : Nat) : List Int := lts t f (tE t n f)
def whV (ws : List (List Int)) (t : Nat → Int) (n f : Nat) : Int := if tS t n f = 1 then whI ws (wrd t n f) 0 else -1
theorem whI_b : ∀ (ws : List (List Int)) (w : List Int) (k : Nat), whI ws w k = -1 ∨ ((k : Int) ≤ whI ws w k ∧ whI ws w k < k + ws.length) := by
  intro ws
  induction ws with
  | nil => intro w k; exact .inl rfl
  | cons x xs ih =>
    intro w k
    show (if x = w then (k : Int) else whI xs w (k + 1)) = -1 ∨ _ ≤ (if x = w then (k : Int) else whI xs w (k + 1)) ∧ (if x = w then (k : Int) else whI xs w (k + 1)) < _
    rw [List.length_cons]
    split
    · right; omega
    · rcases ih w (k + 1) with z | z
      · exact .inl z
      · right; omega
theorem whV_b (ws : List (List Int)) (t : Nat → Int) (n f : Nat) : -1 ≤ whV ws t n f ∧ whV ws t n f < (ws.length : Int) := by
  unfold whV
  split
  · rcases whI_b ws (wrd t n f) 0 with z | z <;> omega
  · omega
theorem ix_at {L : List Int} {x : Int} : ∀ (d a b : Nat), b - a = d → a ≤ b → b < L.length → (∀ j, a ≤ j → j < b → ¬ L.getD j 0 = x) → L.getD b 0 = x → ixS L x a = (b : Int) := by
  intro d
  induction d with
  | zero =>
    intro a b h1 h2 h3 h4 h5
    have e : a = b := by omega
    unfold ixS
    rw [show L.length - a = (L.length - a - 1) + 1 by omega]
    show (if L.getD a 0 = x then (a : Int) else _) = _
    rw [e, if_pos h5]
  | succ d ih =>
    intro a b h1 h2 h3 h4 h5
    have L1 := ih (a + 1) b (by omega) (by omega) h3 (fun j q1 q2 => h4 j (by omega) q2) h5
    unfold ixS at L1 ⊢
    rw [show L.length - a = (L.length - (a + 1)) + 1 by omega]
    show (if L.getD a 0 = x then (a : Int) else _) = _
    rw [if_neg (h4 a (Nat.le_refl _) (by omega))]
    exact L1
theorem getD_drop {L M : List Int} {a : Nat} (h : L.drop a = M) (j : Nat) : L.getD (a + j) 0 = M.getD j 0 := by
  rw [← h, List.getD_eq_getElem?_getD, List.getD_eq_getElem?_getD, List.getElem?_drop]
theorem join_l {x : List Int} {xs : List (List Int)} {j : Nat} (h : j < x.length) : (joinW (x :: xs)).getD j 0 = x.getD j 0 := by
  show (x ++ 32 :: joinW xs).getD j 0 = _
  rw [List.getD_eq_getElem?_getD, List.getD_eq_getElem?_getD, List.getElem?_append_left h]
theorem join_e {x : List Int} {xs : List (List Int)} : (joinW (x :: xs)).getD x.length 0 = 32 := by
  show (x ++ 32 :: joinW xs).getD x.length 0 = _
  rw [List.getD_eq_getElem?_getD, List.getElem?_append_right (Nat.le_refl _), Nat.sub_self]
  rfl
theorem join_d {x : List Int} {xs : List (List Int)} : (joinW (x :: xs)).drop (x.length + 1) = joinW xs := by
  show (x ++ 32 :: joinW xs).drop (x.length + 1) = _
  rw [← List.drop_drop, List.drop_left]
  rfl
theorem join_n {x : List Int} {xs : List (List Int)} : (joinW (x :: xs)).length = x.length + 1 + (joinW xs).length := by
  show (x ++ 32 :: joinW xs).length = _
  rw [List.length_append, List.length_cons]
  omega
theorem lts_n (t : Nat → Int) (f e : Nat) : (lts t f e).length = e - f := by
  unfold lts
  rw [List.length_map, List.length_range]
theorem lts_g {t : Nat → Int} {f e j : Nat} (h : j < e - f) : (lts t f e).getD j 0 = t (f + j) := by
  unfold lts
  rw [List.getD_eq_getElem?_getD, List.getElem?_map, List.getElem?_range h]
  rfl
theorem list_eq {x y : List Int} (h : x.length = y.length) (k : ∀ j, j < x.length → x.getD j 0 = y.getD j 0) : x = y := by
  apply List.ext_getElem h
  intro j h1 h2
  have := k j h1
  rw [List.getD_eq_getElem?_getD, List.getD_eq_getElem?_getD, List.getElem?_eq_getElem h1, List.getElem?_eq_getElem h2] at this
  exact this
section WH
variable {s : CS} {r ta n : Nat} {t : Nat → Int} {nf : Nat} {st : Nat → Option Nat} {f : Nat}
theorem tS_le (h : tS t n f = 1) : f < n ∧ tE t n f ≤ n ∧ f < tE t n f ∧ tE t n f - f ≤ 8 ∧ isL (t f) = true := by
  have q : ¬ n ≤ f := fun z => by rw [(tS_b.2).mpr z] at h; cases h
  have he := (tE_b (t := t) (n := n) (f := f)).1 (by omega)
  unfold tS at h
  rw [if_neg q] at h
  cases hl : isL (t f) with
  | false =>
    rw [hl, if_neg (by decide)] at h
    repeat' (split at h)
    all_goals omega
  | true =>
    rw [hl, if_pos rfl] at h
    by_cases e : tE t n f - f ≤ 8
    · exact ⟨by omega, he.2, he.1, e, rfl⟩
    · rw [if_neg e] at h
      omega
theorem wh_55 (hT : TO t n) (hR : Rf s r ta t n f) (hw : tS t n f = 1) {p : Nat} {L x : List Int} {xs : List (List Int)} {a k : Nat} (hS : Sc s p L) (hd : L.drop a = joinW (x :: xs)) (hl : tE t n f - f = x.length) {k4 : Nat → Nat → Int32 → Int32 → Option Int32} {z : Option Int32} (hyes : x = wrd t n f → z = some (i32 (k : Int))) (hno : ¬ x = wrd t n f → z = k4 r p (i32 (k : Int) + 1) (i32 ((a : Int) + ((x.length : Int) + 1)))) : ∀ (d m i : Nat), i + d = x.length → d + 1 < m → (∀ j, j < i → x.getD j 0 = t (f + j)) → FX1_which_b55 st nf s k4 m r p (i32 (k : Int)) (i32 (a : Int)) (i32 (x.length : Int)) 1 (i32 (i : Int)) = z := by
  obtain ⟨⟨h1, h2, h3, h4, h5⟩, g2, g3, g4, g5⟩ := id hR
  have hn := hT.1
  obtain ⟨w1, w2, w3, w4, w5⟩ := tS_le hw
  have k1 : isK s r [1] = true := isK_o h1 rfl
  have hLen : a + (x.length + 1 + (joinW xs).length) = L.length := by
    have := congrArg List.length hd
    rw [List.length_drop, join_n] at this
    have : a ≤ L.length := by
      refine Decidable.byContradiction fun q => ?_
      rw [List.drop_eq_nil_of_le (by omega)] at hd
      have := congrArg List.length hd
      rw [join_n, List.length_nil] at this
      omega
    omega
  have h7 := hS.2.2.2.2
  have e103 : ∀ flag : Int32, FX1_which_b103 st nf s k4 r p (i32 (k : Int)) (i32 (a : Int)) (i32 (x.length : Int)) flag = if flag = 0 then k4 r p (i32 (k : Int) + 1) (i32 ((a : Int) + ((x.length : Int) + 1))) else some (i32 (k : Int)) := fun flag => by
    unfold FX1_which_b103
    rw [nm_eq, show (i32 (x.length : Int) + 1 : Int32) = i32 ((x.length : Int) + 1) from i32_add _ 1, i32_add]
  intro d
  induction d with
  | zero =>
    intro m i g1 g2' hj
    obtain ⟨m, rfl⟩ : ∃ q, m = q + 1 := ⟨m - 1, by omega⟩
    rw [show FX1_which_b55 st nf s k4 (m + 1) = FX1_which_b55_s st nf s k4 (FX1_which_b55 st nf s k4 m) from rfl]
    unfold FX1_which_b55_s
    rw [if_neg (show ¬ (1 : Int32) = 0 by decide), if_pos ((i32_le ⟨by omega, by omega⟩ ⟨by omega, by omega⟩).mpr (by omega)), e103, if_neg (show ¬ (1 : Int32) = 0 by decide)]
    refine (hyes (list_eq ?_ fun j hj2 => ?_)).symm
    · unfold wrd
      rw [lts_n]
      omega
    · unfold wrd
      rw [lts_g (by omega)]
      exact hj j (by omega)
  | succ d ih =>
    intro m i g1 g2' hj
    obtain ⟨m, rfl⟩ : ∃ q, m = q + 1 := ⟨m - 1, by omega⟩
    have ht := hT.2 (f + i) (by omega)
    have hg : L.getD (a + i) 0 = x.getD i 0 := by rw [getD_drop hd, join_l (by omega)]
    have hz := hS.2.2.2.1 _ (getD_m (L := L) (j := a + i) (by omega))
    rw [hg] at hz
    rw [show FX1_which_b55 st nf s k4 (m + 1) = FX1_which_b55_s st nf s k4 (FX1_which_b55 st nf s k4 m) from rfl]
    unfold FX1_which_b55_s
    rw [if_neg (show ¬ (1 : Int32) = 0 by decide), if_neg (fun q => by have := (i32_le (a := (x.length : Int)) (b := (i : Int)) ⟨by omega, by omega⟩ ⟨by omega, by omega⟩).mp q; omega), gR_t k1, gI_t k1, h3, nn_eq, g4, i32_add, i32_add, show (f : Int) + (i : Int) = ((f + i : Nat) : Int) by omega, show (a : Int) + (i : Int) = ((a + i : Nat) : Int) by omega, lI_i h2 (by omega) (by omega) (by omega), Int.toNat_natCast, h5 (f + i) (by omega), sc_c hS (by omega), hg, bd_eq, show (i32 (i : Int) + 1 : Int32) = i32 ((i + 1 : Nat) : Int) from i32_add i 1]
    by_cases q : t (f + i) = x.getD i 0
    · rw [if_pos (by rw [q])]
      exact ih m (i + 1) (by omega) (by omega) fun j hj2 => by
        by_cases e : j = i
        · rw [e]; exact q.symm
        · exact hj j (by omega)
    · rw [if_neg (fun e => q ((i32_eq ⟨by omega, by omega⟩ ⟨by omega, by omega⟩).mp e))]
      obtain ⟨m, rfl⟩ : ∃ q, m = q + 1 := ⟨m - 1, by omega⟩
      rw [show FX1_which_b55 st nf s k4 (m + 1) = FX1_which_b55_s st nf s k4 (FX1_which_b55 st nf s k4 m) from rfl]
      unfold FX1_which_b55_s
      rw [if_pos rfl, e103, if_pos rfl]
      refine (hno fun e => q ?_).symm
      rw [e]
      unfold wrd
      rw [lts_g (by omega)]
theorem wh_4 (hnf : 300 ≤ nf) (hT : TO t n) (hR : Rf s r ta t n f) {p : Nat} {L : List Int} (hS : Sc s p L) : ∀ (rest : List (List Int)) (m k a : Nat), (∀ x ∈ rest, ∀ z ∈ x, ¬ z = 32) → a ≤ L.length → L.drop a = joinW rest → rest.length < m → k + rest.length ≤ 100 → FX1_which_b4 st nf s m r p (i32 (k : Int)) (i32 (a : Int)) = some (i32 (if tS t n f = 1 then whI rest (wrd t n f) k else -1)) := by
  obtain ⟨⟨h1, h2, h3, h4, h5⟩, g2, g3, g4, g5⟩ := id hR
  have hn := hT.1
  have k1 : isK s r [1] = true := isK_o h1 rfl
  have h7 := hS.2.2.2.2
  have hsb := (tS_b (t := t) (n := n) (f := f)).1
  intro rest
  induction rest with
  | nil =>
    intro m k a hw ha hd hm hk
    obtain ⟨m, rfl⟩ : ∃ q, m = q + 1 := ⟨m - 1, by omega⟩
    have hl : L.length ≤ a := List.drop_eq_nil_iff.mp hd
    rw [show FX1_which_b4 st nf s (m + 1) = FX1_which_b4_s st nf s (FX1_which_b4 st nf s m) from rfl]
    unfold FX1_which_b4_s
    rw [sc_l hS, bd_eq, if_pos ((i32_le ⟨by omega, by omega⟩ ⟨by omega, by omega⟩).mpr (by omega))]
    show some (i32 (-1)) = _
    congr 2
    split <;> rfl
  | cons x xs ih =>
    intro m k a hw ha hd hm hk
    obtain ⟨m, rfl⟩ : ∃ q, m = q + 1 := ⟨m - 1, by omega⟩
    rw [List.length_cons] at hm hk
    have hLen : a + (x.length + 1 + (joinW xs).length) = L.length := by
      have := congrArg List.length hd
      rw [List.length_drop, join_n] at this
      omega
    rw [show FX1_which_b4 st nf s (m + 1) = FX1_which_b4_s st nf s (FX1_which_b4 st nf s m) from rfl]
    unfold FX1_which_b4_s
    rw [sc_l hS, bd_eq, if_neg (fun q => by have := (i32_le (a := (L.length : Int)) (b := (a : Int)) ⟨by omega, by omega⟩ ⟨by omega, by omega⟩).mp q; omega), gI_t k1, g3, show (1 : Int32) = i32 1 from rfl]
    by_cases q : tS t n f = 1
    · obtain ⟨w1, w2, w3, w4, w5⟩ := tS_le q
      have hix : ixS L 32 a = ((a + x.length : Nat) : Int) := by
        refine ix_at x.length a (a + x.length) (by omega) (by omega) (by omega) (fun j j1 j2 => ?_) ?_
        · have e := getD_drop hd (j - a)
          rw [show a + (j - a) = j by omega, join_l (by omega)] at e
          rw [e]
          exact hw x (List.mem_cons_self ..) _ (getD_m (by omega))
        · rw [getD_drop hd, join_e]
      have hi2 : FJ6_indexOf_2 nf s p 32 (i32 (a : Int)) = some (i32 (ixS L 32 a)) := sc_x (x := 32) hnf hS (by omega) ha
      rw [if_pos (by rw [q]; rfl), hi2, hix, bd_eq, i32_sub, show ((a + x.length : Nat) : Int) - (a : Int) = (x.length : Int) by omega, nm_eq, gI_t k1, gI_t k1, g2, g4, i32_sub, show (tE t n f : Int) - (f : Int) = ((tE t n f - f : Nat) : Int) by omega, if_pos q]
      have hd2 : L.drop (a + (x.length + 1)) = joinW xs := by rw [← List.drop_drop, hd, join_d]
      have N := ih m (k + 1) (a + (x.length + 1)) (fun y hy => hw y (List.mem_cons_of_mem _ hy)) (by omega) hd2 (by omega) (by omega)
      rw [if_pos q] at N
      have N : FX1_which_b4 st nf s m r p (i32 (k : Int) + i32 1) (i32 ((a : Int) + ((x.length : Int) + 1))) = some (i32 (whI xs (wrd t n f) (k + 1))) := by
        rw [i32_add]
        exact N
      show _ = some (i32 (if x = wrd t n f then (k : Int) else whI xs (wrd t n f) (k + 1)))
      by_cases hl : tE t n f - f = x.length
      · rw [if_pos (by rw [hl])]
        refine wh_55 (k := k) hT hR q hS hd hl (fun e => by rw [if_pos e]) (fun e => by rw [if_neg e]; exact N.symm) x.length nf 0 (by omega) (by omega) (fun j hj => by omega)
      · rw [if_neg (show ¬ i32 ((tE t n f - f : Nat) : Int) = i32 (x.length : Int) from fun e => hl (by have := (i32_eq (a := ((tE t n f - f : Nat) : Int)) (b := (x.length : Int)) ⟨by omega, by omega⟩ ⟨by omega, by omega⟩).mp e; omega))]
        have hne : ¬ x = wrd t n f := fun e => hl (by rw [e]; unfold wrd; rw [lts_n])
        rw [if_neg hne]
        obtain ⟨q2, hq2⟩ : ∃ q2, nf = q2 + 1 := ⟨nf - 1, by omega⟩
        have e55 : ∀ u : Nat, FX1_which_b55 st nf s (FX1_which_b4 st nf s m) (u + 1) r p (i32 (k : Int)) (i32 (a : Int)) (i32 (x.length : Int)) 0 0 = FX1_which_b4 st nf s m r p (i32 (k : Int) + i32 1) (i32 ((a : Int) + ((x.length : Int) + 1))) := fun u => by
          rw [show FX1_which_b55 st nf s (FX1_which_b4 st nf s m) (u + 1) = FX1_which_b55_s st nf s (FX1_which_b4 st nf s m) (FX1_which_b55 st nf s (FX1_which_b4 st nf s m) u) from rfl]
          unfold FX1_which_b55_s FX1_which_b103
          rw [if_pos rfl, if_pos rfl, nm_eq, show (1 : Int32) = i32 1 from rfl, i32_add (x.length : Int) 1, i32_add (a : Int)]
        have e56 := e55 (nf - 1)
        rw [show nf - 1 + 1 = nf by omega] at e56
        rw [e56, N]
    · rw [if_neg (show ¬ i32 (tS t n f) = i32 1 from fun z => q (by have := (i32_eq (a := tS t n f) (b := 1) ⟨by omega, by omega⟩ ⟨by omega, by omega⟩).mp z; omega)), if_neg q]
      rfl
theorem c_which (hnf : 300 ≤ nf) (hT : TO t n) (hR : Rf s r ta t n f) {p : Nat} {ws : List (List Int)} (hS : Sc s p (joinW ws)) (hw : ∀ x ∈ ws, ∀ z ∈ x, ¬ z = 32) (hl : ws.length < 100) : FX1_which st nf s r p = some (i32 (whV ws t n f)) := by
  unfold FX1_which
  rw [gd_t (isK_o hR.1.1 rfl)]
  exact wh_4 hnf hT hR hS ws nf 0 0 hw (Nat.zero_le _) rfl (by omega) (by omega)
end WH
