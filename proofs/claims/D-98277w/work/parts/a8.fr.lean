/-! LAYER 2: a rule's name: the component -/
set_option maxRecDepth 100000
theorem ch2_b : ∀ z : Nat, z < 127 → i2c (i32 (z : Int)) = i32 (z : Int) ∧ i2b (i32 (z : Int)) = i32 (z : Int) ∧ isy (i32 (z : Int)) = true ∧ isyb (i32 (z : Int)) = true := by decide +kernel
theorem ch2_i {z : Int} (h : 0 ≤ z ∧ z ≤ 126) : i2c (i32 z) = i32 z ∧ i2b (i32 z) = i32 z ∧ isy (i32 z) = true ∧ isyb (i32 z) = true := by
  have := ch2_b z.toNat (by omega)
  rw [Int.toNat_of_nonneg h.1] at this
  exact this
/-- a builder o with its bytes v holds the first m of what u tells -/
def Bld (s : CS) (o v m : Nat) (u : Nat → Int) : Prop := s.1 o = some (true, 24, 0) ∧ cR s 2400 o = some v ∧ s.1 v = some (true, 103, 8) ∧ cI s 2401 o = i32 0 ∧ cI s 2403 o = i32 (m : Int) ∧ ∀ j, j < m → cA s v j = i32 (u j)
section FR
variable {s : CS} {o v m : Nat} {u : Nat → Int} {st : Nat → Option Nat} {nf : Nat}
theorem mz_ok {α : Type} {s : CS} {p : α → CS} {o : Option α} {Q : α → Prop} (h : Ok o (fun z => (cz s ≤ cz (p z) ∧ cl s ≤ cl (p z)) ∧ Q z)) : Ok (mz s p o) Q := ok_w (ok_mz h fun z hz => hz.1) fun z hz => hz.2
theorem bl_lat (h : Bld s o v m u) : FJ14_isLatin1 s o = some 1 := by
  have k1 : isK s o [24] = true := isK_o h.1 rfl
  unfold FJ14_isLatin1
  rw [gd_t k1, if_neg (by decide), gI_t k1, h.2.2.2.1]
  rfl
theorem bl_app (h : Bld s o v m u) (hm : m < 8) (hu : 0 ≤ u m ∧ u m ≤ 126) : FJ15_append o (i32 (u m)) s = some (some o, uA (uI s 2403 o (i32 ((m + 1 : Nat) : Int))) v m (i32 (u m))) := by
  obtain ⟨h1, h2, h3, h4, h5, h6⟩ := id h
  have k1 : isK s o [24] = true := isK_o h1 rfl
  obtain ⟨c1, c2, c3, c4⟩ := ch2_i hu
  have E : FJ14_ensureCapacityInternal o (i32 ((m + 1 : Nat) : Int)) s = some s := by
    unfold FJ14_ensureCapacityInternal
    rw [gd_t k1, gR_t k1, h2, nn_eq, aLn_i h3 (by decide), gI_t k1, h4, show shr32 (i32 ((8 : Nat) : Int)) (i32 0) = i32 8 from by decide, nm_eq, i32_sub, if_pos (show i32 (((m + 1 : Nat) : Int) - 8) ≤ 0 from (i32_le (a := ((m + 1 : Nat) : Int) - 8) (b := 0) ⟨by omega, by omega⟩ ⟨by omega, by omega⟩).mpr (by omega))]
    exact mz_s ⟨Nat.le_refl _, Nat.le_refl _⟩
  have A : FJ14_append o (i32 (u m)) s = some (some o, uA (uI s 2403 o (i32 ((m + 1 : Nat) : Int))) v m (i32 (u m))) := by
    unfold FJ14_append FJ7_canEncode_2
    rw [gd_t k1, gI_t k1, h5, show (1 : Int32) = i32 1 from rfl, i32_add, show (m : Int) + 1 = ((m + 1 : Nat) : Int) by omega, E, bd_eq, bl_lat h, bd_eq, if_neg (show ¬ (1 : Int32) = 0 by decide), show (255 : Int32) = i32 255 from rfl, if_neg (show ¬ i32 255 < i32 (u m) from fun z => by have := (i32_lt (a := 255) (b := u m) ⟨by omega, by omega⟩ ⟨by omega, by omega⟩).mp z; omega), bd_eq, if_neg (show ¬ i32 1 = 0 by decide), gR_t k1, h2, gI_t k1, h5]
    unfold pI
    rw [if_pos (isW_o h1 rfl)]
    dsimp only
    rw [nn_eq, c2, gd_t c3, i32_add, tI_i (s := uI s 2403 o (i32 ((m : Int) + 1))) h3 (by omega) (by omega) (by omega), Int.toNat_natCast]
    exact mz_s ⟨Nat.le_refl _, Nat.le_refl _⟩
  unfold FJ15_append
  rw [gd_t k1, A, bd2_eq]
  exact mz_s ⟨Nat.le_refl _, Nat.le_refl _⟩
theorem Bld.nx (h : Bld s o v m u) : Bld (uA (uI s 2403 o (i32 ((m + 1 : Nat) : Int))) v m (i32 (u m))) o v (m + 1) u := by
  obtain ⟨h1, h2, h3, h4, h5, h6⟩ := h
  refine ⟨h1, h2, h3, ?_, ?_, fun j hj => ?_⟩
  · show cI (uI s 2403 o (i32 ((m + 1 : Nat) : Int))) 2401 o = _
    rw [rI_n (by decide)]
    exact h4
  · show cI (uI s 2403 o (i32 ((m + 1 : Nat) : Int))) 2403 o = _
    exact rI_t
  rw [rd_uA]
  by_cases q : j = m
  · rw [if_pos ⟨rfl, q⟩, q]
  · rw [if_neg (fun z => q z.2)]
    exact h6 j (by omega)
/-- the first bytes anew -/
theorem bl_cpy (h3 : s.1 v = some (true, 103, 8)) (h6 : ∀ j, j < m → cA s v j = i32 (u j)) (hu : ∀ j, j < m → 0 ≤ u j ∧ u j ≤ 126) (hm : 1 ≤ m ∧ m ≤ 8) (hF : Fh s) : Ok (FJ5_copyOfRange v 0 (i32 (m : Int)) s) fun p => (cz s ≤ cz p.2 ∧ cl s ≤ cl p.2) ∧ p.1 = some (cz s) ∧ p.2.1 (cz s) = some (true, 103, m) ∧ (∀ j, j < m → cA p.2 (cz s) j = i32 (u j)) ∧ Ex (cz s) s p.2 ∧ Fh p.2 ∧ cz p.2 = cz s + 1 ∧ cl p.2 = cl s + m := by
  have hlt := hF _ _ _ _ h3
  have Z : ∀ {α : Type} {p : α → CS} {o : Option α} {Q : α → Prop}, Ok o (fun z => (cz s ≤ cz (p z) ∧ cl s ≤ cl (p z)) ∧ Q z) → Ok (mz s p o) (fun z => (cz s ≤ cz (p z) ∧ cl s ≤ cl (p z)) ∧ Q z) := fun h => ok_mz h fun z hz => hz.1
  unfold FJ5_copyOfRange
  refine Z ?_
  rw [if_pos (show (0 : Int32) = 0 from rfl), aLn_i h3 (by decide)]
  refine ok_q ⟨by omega, by omega⟩ ⟨by omega, by omega⟩ (fun q => ?_) (fun q => ?_)
  · have q : m = 8 := by omega
    subst q
    have hk : (uN s 103 8 8).1 (cz s) = some (true, 103, 8) := if_pos rfl
    unfold clB
    rw [h3]
    dsimp only
    rw [if_pos ?_]
    · refine ok_g (isW_o (s := uAr (uN s 103 8 8) (cz s) (cA s v)) hk rfl) (ok_s ⟨⟨by show cz s ≤ cz s + 1; omega, by show cl s ≤ cl s + 8; omega⟩, rfl, hk, fun j hj => ?_, ?_, ?_, rfl, rfl⟩)
      · show cA (uAr (uN s 103 8 8) (cz s) (cA s v)) (cz s) j = _
        rw [rAr_t]
        exact h6 j hj
      · refine Ex.tr (Ex.uN (c := 103) (n := 8) (k := 8) (Nat.le_refl _)) fun a ha => ⟨rfl, fun _ => rfl, fun _ => rfl, ?_, rfl⟩
        exact rAr_n (by omega)
      · exact Fh.e (s := uN s 103 8 8) hF.uN rfl rfl
    · rw [Bool.true_and, Bool.and_eq_true]
      refine ⟨rfl, ?_⟩
      rw [List.all_eq_true]
      intro i hi
      have hi := List.mem_range.mp hi
      rw [h6 i hi]
      exact (ch2_i (hu i hi)).2.2.2
  · have q : m < 8 := by omega
    have hk : (uN s 103 m m).1 (cz s) = some (true, 103, m) := if_pos rfl
    have hx : Ex (cz s) s (uN s 103 m m) := Ex.uN (Nat.le_refl _)
    have hz : cz (uN s 103 m m) = cz s + 1 := rfl
    have hl : cl (uN s 103 m m) = cl s + m := rfl
    have hFN : Fh (uN s 103 m m) := hF.uN
    unfold FJ5_copyOfRange_b10
    refine ok_2 (P := fun p => (cz s ≤ cz p.2 ∧ cl s ≤ cl p.2) ∧ p.1 = some (cz s) ∧ p.2.1 (cz s) = some (true, 103, m) ∧ (∀ j, j < m → cA p.2 (cz s) j = i32 (u j)) ∧ Ex (cz s) s p.2 ∧ Fh p.2 ∧ cz p.2 = cz s + 1 ∧ cl p.2 = cl s + m) ?_ fun r t h => ok_s h
    unfold FJ5_copyOfRangeByte
    refine Z ?_
    unfold FJ5_checkLength
    rw [if_pos (show (0 : Int32) ≤ i32 (m : Int) from (i32_le (a := 0) (b := (m : Int)) ⟨by omega, by omega⟩ ⟨by omega, by omega⟩).mpr (by omega)), mz_s (p := fun z => z) (s := s) (z := s) ⟨Nat.le_refl _, Nat.le_refl _⟩, bd_eq, show (0 : Int32) = i32 0 from rfl, i32_sub, show (m : Int) - 0 = (m : Int) by omega, nm_eq]
    unfold nwA
    rw [if_pos (i32_inb_t (by omega) (by omega) (by omega)), i32_clamp (by omega) ⟨by omega, by omega⟩, Int.toNat_natCast]
    have h3' : (uN s 103 m m).1 v = some (true, 103, 8) := by rw [(hx v hlt).1]; exact h3
    dsimp only
    rw [aLn_i h3' (by decide), i32_sub, show ((8 : Nat) : Int) - 0 = 8 by omega]
    have emn : mn32 (i32 8) (i32 (m : Int)) = i32 (m : Int) := by
      rw [mn_c (by omega) (by omega) (by omega) (by omega), if_pos (by omega)]
    rw [emn]
    have c0 : (i32 0).toNatClampNeg = 0 := rfl
    have cm : (i32 (m : Int)).toNatClampNeg = m := by rw [i32_clamp (by omega) ⟨by omega, by omega⟩, Int.toNat_natCast]
    have eA : cA (uN s 103 m m) v = cA s v := (hx v hlt).2.2.2.1
    unfold cpB
    rw [if_pos ?_]
    · rw [c0, cm, eA]
      generalize uN s 103 m m = s4 at *
      refine ok_s ⟨⟨by show cz s ≤ cz s4; omega, by show cl s ≤ cl s4; omega⟩, rfl, hk, fun j hj => ?_, hx.tr fun a ha => ⟨rfl, fun _ => rfl, fun _ => rfl, rAr_n (by omega), rfl⟩, Fh.e (s := s4) hFN rfl rfl, hz, hl⟩
      show cA (uAr s4 (cz s) _) (cz s) j = _
      rw [rAr_t, cpy_in hj]
      exact h6 j hj
    · rw [Bool.and_eq_true]
      refine ⟨?_, ?_⟩
      · unfold cpG
        rw [h3', hk]
        simp only [c0, cm]
        have n0 : ¬ i32 0 < 0 := by decide
        have nm : ¬ i32 (m : Int) < 0 := fun z => by
          have := (i32_lt (a := (m : Int)) (b := 0) ⟨by omega, by omega⟩ ⟨by omega, by omega⟩).mp z
          omega
        rw [decide_eq_true ⟨n0, n0, nm, by omega, by omega⟩]
        rfl
      · rw [cm, c0, List.all_eq_true]
        intro i hi
        have hi := List.mem_range.mp hi
        rw [Nat.zero_add, eA, h6 i hi]
        exact (ch2_i (hu i hi)).2.2.2
/-- the builder's text as a string -/
theorem bl_str (h : Bld s o v m u) (hu : ∀ j, j < m → 0 ≤ u j ∧ u j ≤ 126) (hm : 1 ≤ m ∧ m ≤ 8) (hF : Fh s) : Ok (FJ15_toString o s) fun p => p.1 = some (cz s) ∧ p.2.1 (cz s) = some (true, 23, 0) ∧ Sc p.2 (cz s) ((List.range m).map u) ∧ Ex (cz s) s p.2 ∧ Fh p.2 ∧ cz p.2 = cz s + 2 ∧ cl p.2 = cl s + 4 + m := by
  obtain ⟨h1, h2, h3, h4, h5, h6⟩ := id h
  have hlo := hF _ _ _ _ h1
  have hlv := hF _ _ _ _ h3
  unfold FJ15_toString
  refine mz_ok (ok_gd h1 rfl ?_)
  unfold nwO
  have hx : Ex (cz s) s (uN s 23 0 4) := Ex.uN (Nat.le_refl _)
  have hk : (uN s 23 0 4).1 (cz s) = some (true, 23, 0) := if_pos rfl
  have hz : cz (uN s 23 0 4) = cz s + 1 := rfl
  have hl : cl (uN s 23 0 4) = cl s + 4 := rfl
  have hFN : Fh (uN s 23 0 4) := hF.uN
  generalize uN s 23 0 4 = s2 at *
  obtain ⟨x1, x2, x3, x4, x5⟩ := hx o hlo
  obtain ⟨y1, y2, y3, y4, y5⟩ := hx v hlv
  have hB : Bld s2 o v m u := ⟨by rw [x1]; exact h1, by rw [x3]; exact h2, by rw [y1]; exact h3, by rw [x2]; exact h4, by rw [x2]; exact h5, fun j hj => by rw [y4]; exact h6 j hj⟩
  have k2 : isK s2 o [24] = true := isK_o hB.1 rfl
  have Z : ∀ {α : Type} {p : α → CS} {o : Option α} {Q : α → Prop}, Ok o (fun z => (cz s2 ≤ cz (p z) ∧ cl s2 ≤ cl (p z)) ∧ Q z) → Ok (mz s2 p o) (fun z => (cz s2 ≤ cz (p z) ∧ cl s2 ≤ cl (p z)) ∧ Q z) := fun h => ok_mz h fun z hz => hz.1
  refine ok_b (P := fun s3 => (cz s2 ≤ cz s3 ∧ cl s2 ≤ cl s3) ∧ s3.1 (cz s) = some (true, 23, 0) ∧ Sc s3 (cz s) ((List.range m).map u) ∧ Ex (cz s) s s3 ∧ Fh s3 ∧ cz s3 = cz s + 2 ∧ cl s3 = cl s + 4 + m) ?_ fun s3 h3 => ok_s ⟨⟨by have := h3.1.1; show cz s ≤ cz s3; omega, by have := h3.1.2; show cl s ≤ cl s3; omega⟩, rfl, h3.2⟩
  unfold FJ6_init
  refine Z (ok_b (P := fun s3 => (cz s2 ≤ cz s3 ∧ cl s2 ≤ cl s3) ∧ s3.1 (cz s) = some (true, 23, 0) ∧ Sc s3 (cz s) ((List.range m).map u) ∧ Ex (cz s) s s3 ∧ Fh s3 ∧ cz s3 = cz s + 2 ∧ cl s3 = cl s + 4 + m) ?_ fun s3 h3 => ok_s h3)
  unfold FJ6_init_2
  refine Z ?_
  unfold FJ14_getValue FJ15_length FJ14_length
  rw [gd_t k2, gR_t k2, hB.2.1, bd_eq, gd_t k2, gd_t k2, gI_t k2, hB.2.2.2.2.1, bd_eq, bd_eq, bl_lat hB, bd_eq, if_neg (show ¬ (1 : Int32) = 0 by decide)]
  refine ok_g (by decide) (ok_pI hk rfl ?_)
  rw [nn_eq]
  refine ok_2 (bl_cpy (s := uI s2 2301 (cz s) 0) (u := u) hB.2.2.1 hB.2.2.2.2.2 hu hm (hFN.e rfl rfl)) fun r t ht => ?_
  obtain ⟨t0, t1, t2, t3, t4, t5, t6, t7⟩ := ht
  have t1 : r = some (cz s2) := t1
  have t2 : t.1 (cz s2) = some (true, 103, m) := t2
  have t3 : ∀ j, j < m → cA t (cz s2) j = i32 (u j) := t3
  have t4 : Ex (cz s2) (uI s2 2301 (cz s) 0) t := t4
  have t6 : cz t = cz s2 + 1 := t6
  have t7 : cl t = cl s2 + m := t7
  obtain ⟨z1, z2, z3, z4, z5⟩ := t4 (cz s) (by omega)
  have hkt : t.1 (cz s) = some (true, 23, 0) := by rw [z1]; exact hk
  have hlen : ((List.range m).map u).length = m := by rw [List.length_map, List.length_range]
  rw [t1]
  refine ok_pR hkt rfl (ok_s ⟨⟨by show cz s2 ≤ cz t; omega, by show cl s2 ≤ cl t; omega⟩, hkt, ⟨isK_o hkt rfl, ?_, ⟨cz s2, true, rR_t, by rw [hlen]; exact t2, fun j hj => ?_⟩, fun z hz2 => ?_, ?_⟩, ?_, t5.e rfl rfl, by show cz t = _; omega, by show cl t = _; omega⟩)
  · show cI t 2301 (cz s) = 0
    rw [z2, rI_t]
  · rw [hlen] at hj
    show cA t (cz s2) j = _
    rw [t3 j hj, List.getD_eq_getElem?_getD, List.getElem?_map, List.getElem?_range hj]
    rfl
  · obtain ⟨j, hj, e⟩ := List.mem_map.mp hz2
    rw [← e]
    exact hu j (List.mem_range.mp hj)
  · rw [hlen]; omega
  · exact (hx.tr (Ex.uI (Nat.le_refl _))).tr ((t4.le (by omega)).tr (Ex.uR (Nat.le_refl _)))
/-- equal strings -/
theorem st_eq {p q : Nat} {L M : List Int} (hn : 300 ≤ nf) (hp : Sc s p L) (hq : Sc s q M) (hne : ¬ p = q) : FJ6_equals nf s p q = some (bi (decide (L = M))) := by
  obtain ⟨p1, p2, ⟨a, wa, p3, p4, p5⟩, p6, p7⟩ := hp
  obtain ⟨q1, q2, ⟨b, wb, q3, q4, q5⟩, q6, q7⟩ := hq
  have lp : ∀ d m i : Nat, L.length = M.length → L.length - i = d → d < m → i ≤ L.length → FJ7_equals_b9 nf s m a b (i32 (i : Int)) = some (bi (decide (L.drop i = M.drop i))) := by
    intro d
    induction d with
    | zero =>
      intro m i h0 h1 h2 h3
      obtain ⟨m, rfl⟩ : ∃ q, m = q + 1 := ⟨m - 1, by omega⟩
      rw [show FJ7_equals_b9 nf s (m + 1) = FJ7_equals_b9_s nf s (FJ7_equals_b9 nf s m) from rfl]
      unfold FJ7_equals_b9_s
      rw [aLn_i p4 (by decide), if_pos ((i32_le ⟨by omega, by omega⟩ ⟨by omega, by omega⟩).mpr (by omega)), List.drop_of_length_le (by omega), List.drop_of_length_le (by omega)]
      rfl
    | succ d ih =>
      intro m i h0 h1 h2 h3
      obtain ⟨m, rfl⟩ : ∃ q, m = q + 1 := ⟨m - 1, by omega⟩
      have hi : i < L.length := by omega
      have him : i < M.length := by omega
      have bL := p6 _ (getD_m hi)
      have bM := q6 _ (getD_m him)
      have eL : L.getD i 0 = L[i] := by rw [List.getD_eq_getElem?_getD, List.getElem?_eq_getElem hi]; rfl
      have eM : M.getD i 0 = M[i] := by rw [List.getD_eq_getElem?_getD, List.getElem?_eq_getElem him]; rfl
      rw [show FJ7_equals_b9 nf s (m + 1) = FJ7_equals_b9_s nf s (FJ7_equals_b9 nf s m) from rfl]
      unfold FJ7_equals_b9_s
      rw [aLn_i p4 (by decide), if_neg (show ¬ i32 (L.length : Int) ≤ i32 (i : Int) from fun z => by have := (i32_le (a := (L.length : Int)) (b := (i : Int)) ⟨by omega, by omega⟩ ⟨by omega, by omega⟩).mp z; omega), lI_i p4 (by omega) (by omega) (by omega), lI_i q4 (by omega) (by omega) (by omega), Int.toNat_natCast, p5 i hi, q5 i him, List.drop_eq_getElem_cons hi, List.drop_eq_getElem_cons him, show (1 : Int32) = i32 1 from rfl, i32_add, show (i : Int) + 1 = ((i + 1 : Nat) : Int) by omega]
      by_cases e : L.getD i 0 = M.getD i 0
      · rw [if_pos (by rw [e]), ih m (i + 1) h0 (by omega) (by omega) (by omega)]
        congr 2
        rw [← eL, ← eM, e]
        apply decide_eq_decide.mpr
        exact ⟨fun z => by rw [z], fun z => (List.cons.inj z).2⟩
      · rw [if_neg (fun z => e ((i32_eq ⟨by omega, by omega⟩ ⟨by omega, by omega⟩).mp z)), decide_eq_false (fun z => e (by rw [eL, eM]; exact (List.cons.inj z).1))]
        rfl
  have B : FJ6_equals_b36 nf s p q = some (bi (decide (L = M))) := by
    unfold FJ6_equals_b36 FJ7_equals
    rw [gR_t p1, gR_t q1, p3, q3, nn_eq, nn_eq, aLn_i p4 (by decide), aLn_i q4 (by decide)]
    by_cases e : L.length = M.length
    · have h0 := lp L.length nf 0 e (by omega) (by omega) (Nat.zero_le _)
      rw [List.drop_zero, List.drop_zero, show i32 ((0 : Nat) : Int) = (0 : Int32) from rfl] at h0
      rw [if_pos (by rw [e]), h0, bd_eq]
      cases decide (L = M) with
      | true => rfl
      | false => rfl
    · rw [if_neg (fun z => e (by have := (i32_eq (a := (L.length : Int)) (b := (M.length : Int)) ⟨by omega, by omega⟩ ⟨by omega, by omega⟩).mp z; omega)), bd_eq, if_pos rfl, decide_eq_false (fun z => e (by rw [z]))]
      rfl
  unfold FJ6_equals
  rw [gd_t p1, if_neg (fun z => hne (Option.some.inj z)), gd_t q1, if_neg (by decide), gd_t q1, if_neg (by decide), gI_t p1, gI_t q1, p2, q2, if_pos rfl, B]
end FR
/-- a name that is new -/
def frP (t : Nat → Int) (n : Nat) (names : List (List Int)) (k : Nat) : Int ⊕ (List Int × Nat) := if ¬ (tS t n (tP t n k) = 1 ∧ whV kpW t n (tP t n k) < 0) then .inl (1 + 16 * (tP t n k : Int)) else if wrd t n (tP t n k) ∈ names then .inl (3 + 16 * (tP t n k : Int)) else .inr (wrd t n (tP t n k), k + 1)
/-- the string of a name, newly made -/
def RFr (r : Nat) (s : CS) (a : Option Nat) (b : List Int) (s' : CS) : Prop := (∃ p, a = some p ∧ s'.1 p = some (true, 23, 0) ∧ Sc s' p b ∧ cz s ≤ p) ∧ K6 r s s'
section FS
variable {r ta n : Nat} {t : Nat → Int} {st : Nat → Option Nat} {s s0 : CS} {nf : Nat}
/-- a throw of a Wrong, some cells made before -/
theorem ok_twp {α β : Type} {R : α → β → CS → Prop} {u k : Nat} {s1 : CS} {kd f : Int} (hb : Pb r s0 s1) (hc : cz s1 ≤ cz s0 + 16 * (n - tP t n k)) (hl : cl s1 ≤ cl s0 + 64 * (n - tP t n k)) (hr : s1.1 r = some (true, 1, 0)) (h4 : cI s1 104 r = i32 f) : Ok (bd2 (FX1_wrong st r (i32 kd) s1) fun r4 s3 => nn r4 fun p5 => gd (isK s3 p5 [10]) (some ((.inl p5 : Nat ⊕ α), s3))) (Po R r ta t n u s0 k (.inl (kd + 16 * f) : Int ⊕ (β × Nat))) := by
  refine ok_2 (ok_wrong hr hb.2.1 h4) fun a b h => ?_
  obtain ⟨q, h1, h2, h3, h5, h6, h7⟩ := h
  have h1 : a = some q := h1
  have h6 : cz b = cz s1 + 1 := h6
  have h7 : cl b = cl s1 + 7 := h7
  subst h1
  exact ok_nn (ok_g h2 (ok_s ⟨hb.tr h5, ⟨q, rfl, h2, h3⟩, by show cz b ≤ _; omega, by show cl b ≤ _; omega⟩))
/-- the names' strings -/
def Nms (s : CS) (o na nb : Nat) (NL : List Nat) (names : List (List Int)) : Prop := s.1 o = some (true, 2, 0) ∧ cR s 211 o = some na ∧ Lsr s na nb NL ∧ NL.length = names.length ∧ ∀ i, i < names.length → Sc s (NL.getD i 0) (names.getD i [])
theorem Lsr.b {a b : Nat} {L : List Nat} {s' : CS} (h : Lsr s a b L) (hF : Fh s) (k : Pb r s s') : Lsr s' a b L := by
  obtain ⟨l1, l2, l3⟩ := h.lt hF
  obtain ⟨h1, h2, ⟨m, hm, m1⟩, h5, h6, h7⟩ := h
  obtain ⟨a1, a2, a3, a4, a5⟩ := k.1 a l1
  obtain ⟨b1, b2, b3, b4, b5⟩ := k.1 b l2
  exact ⟨by rw [a1]; exact h1, by rw [a3 _ (fun z => by omega)]; exact h2, ⟨m, by rw [b1]; exact hm, m1⟩, by rw [a2 _ (fun z => by omega)]; exact h5, fun j hj => by rw [b5]; exact h6 j hj, fun y hy => isK_e (k.1 y (l3 y hy)).1 (h7 y hy)⟩
theorem Nms.b {o na nb : Nat} {NL : List Nat} {names : List (List Int)} {s' : CS} (h : Nms s o na nb NL names) (hF : Fh s) (k : Pb r s s') : Nms s' o na nb NL names := by
  obtain ⟨h1, h2, h3, h4, h5⟩ := h
  obtain ⟨a1, a2, a3, a4, a5⟩ := k.1 o (hF _ _ _ _ h1)
  exact ⟨by rw [a1]; exact h1, by rw [a3 _ (fun z => by omega)]; exact h2, h3.b hF k, h4, fun i hi => (h5 i hi).b hF k⟩
theorem fr_71 (hn : 2000 ≤ nf) (hT : TO t n) {k : Nat} {o na nb p : Nat} {NL : List Nat} {names : List (List Int)} {s1 : CS} (hF0 : Fh s0) (hb : Pb r s0 s1) (h6 : K6 r s0 s1) (hc : cz s1 ≤ cz s0 + 4 ∧ cl s1 ≤ cl s0 + 24) (hK : Kst st s1) (hR : Rf s1 r ta t n (tP t n k)) (ho : cR s1 107 r = some o) (hN : Nms s1 o na nb NL names) (hl : names.length ≤ 4) (hp : Sc s1 p (wrd t n (tP t n k))) (hpk : s1.1 p = some (true, 23, 0)) (hp0 : cz s0 ≤ p) (hpn : ¬ p ∈ NL) (hlt : tP t n k < n) : ∀ (d m j : Nat), j + d = names.length → d < m → (∀ i, i < j → ¬ names.getD i [] = wrd t n (tP t n k)) → Ok (FX1_fresh_b71 st nf m r (some p) (i32 (j : Int)) s1) (Po (RFr r s0) r ta t n 10 s0 k (if wrd t n (tP t n k) ∈ names then .inl (3 + 16 * (tP t n k : Int)) else .inr (wrd t n (tP t n k), k + 1))) := by
  obtain ⟨n1, n2, n3, n4, n5⟩ := id hN
  have hF1 := hb.2.1
  have hlt2 := tP_lt hlt
  intro d
  induction d with
  | zero =>
    intro m j h1 h2 hno
    obtain ⟨m, rfl⟩ : ∃ q, m = q + 1 := ⟨m - 1, by omega⟩
    rw [show FX1_fresh_b71 st nf (m + 1) = FX1_fresh_b71_s st nf (FX1_fresh_b71 st nf m) from rfl]
    unfold FX1_fresh_b71_s
    refine ok_gR hR.1.1 rfl ?_
    rw [ho, nn_eq]
    refine ok_gR n1 rfl ?_
    rw [n2, nn_eq, ls_size n3, bd_eq, n4]
    refine ok_le ⟨by omega, by omega⟩ ⟨by omega, by omega⟩ (fun _ => ?_) (fun z => by omega)
    have hnot : ¬ wrd t n (tP t n k) ∈ names := fun z => by
      obtain ⟨i, hi, e⟩ := List.getElem_of_mem z
      refine hno i (by omega) ?_
      rw [List.getD_eq_getElem?_getD, List.getElem?_eq_getElem hi]
      exact e
    rw [if_neg hnot]
    refine ok_b (ok_nextk hn hT hK hR) fun s2 h2 => ok_s ?_
    have b2 := Pb.n hF1 h2.1
    have e1 := b2.1 p (hF1 _ _ _ _ hpk)
    refine ⟨hb.tr b2, ⟨some p, rfl, ⟨p, rfl, by rw [e1.1]; exact hpk, hp.b hF1 b2, hp0⟩, h6.tr (K6.fn h2.1)⟩, h2.2, hb.tr b2, by omega, ?_, ?_⟩
    · show cz s2 + _ + _ ≤ _
      rw [h2.1.2.2.2.2.2.1]; omega
    · show cl s2 + _ + _ ≤ _
      rw [h2.1.2.2.2.2.2.2]; omega
  | succ d ih =>
    intro m j h1 h2 hno
    obtain ⟨m, rfl⟩ : ∃ q, m = q + 1 := ⟨m - 1, by omega⟩
    have hj : j < names.length := by omega
    have hjm : NL.getD j 0 ∈ NL := by
      rw [List.getD_eq_getElem?_getD, List.getElem?_eq_getElem (by omega)]
      exact List.getElem_mem _
    rw [show FX1_fresh_b71 st nf (m + 1) = FX1_fresh_b71_s st nf (FX1_fresh_b71 st nf m) from rfl]
    unfold FX1_fresh_b71_s
    refine ok_gR hR.1.1 rfl ?_
    rw [ho, nn_eq]
    refine ok_gR n1 rfl ?_
    rw [n2, nn_eq, ls_size n3, bd_eq, n4]
    refine ok_le ⟨by omega, by omega⟩ ⟨by omega, by omega⟩ (fun z => by omega) (fun _ => ?_)
    refine ok_gR hR.1.1 rfl ?_
    rw [ho, nn_eq]
    refine ok_gR n1 rfl ?_
    rw [n2, nn_eq, ls_get n3 (by omega) (by omega), bd_eq, nn_eq]
    refine ok_g (n5 j hj).1 ?_
    rw [nn_eq, st_eq (by omega) (n5 j hj) hp (fun z => hpn (by rw [← z]; exact hjm)), bd_eq]
    by_cases e : names.getD j [] = wrd t n (tP t n k)
    · have hin : wrd t n (tP t n k) ∈ names := by
        rw [← e, List.getD_eq_getElem?_getD, List.getElem?_eq_getElem hj]
        exact List.getElem_mem _
      rw [decide_eq_true e, if_neg (show ¬ bi true = (0 : Int32) by decide), if_pos hin, show (3 : Int32) = i32 3 from rfl]
      exact ok_twp (kd := 3) hb (by omega) (by omega) hR.1.1 hR.2.2.2.1
    · rw [decide_eq_false e, if_pos (show bi false = (0 : Int32) from rfl), show (1 : Int32) = i32 1 from rfl, i32_add, show (j : Int) + 1 = ((j + 1 : Nat) : Int) by omega]
      exact ih m (j + 1) (by omega) (by omega) fun i hi => by
        by_cases q : i = j
        · rw [q]; exact e
        · exact hno i (by omega)
theorem fr_38 (hn : 2000 ≤ nf) (hT : TO t n) {k : Nat} {o na nb : Nat} {NL : List Nat} {names : List (List Int)} (hF0 : Fh s0) (hK0 : Kst st s0) (hR0 : Rf s0 r ta t n (tP t n k)) (ho : cR s0 107 r = some o) (hN : Nms s0 o na nb NL names) (hl : names.length ≤ 4) (hS : tS t n (tP t n k) = 1) : ∀ (d m j : Nat) (s1 : CS), j + d = (wrd t n (tP t n k)).length → d < m → Ex (cz s0) s0 s1 → Fh s1 → cz s1 = cz s0 + 2 → cl s1 = cl s0 + 12 → Bld s1 (cz s0) (cz s0 + 1) j (fun i => t (tP t n k + i)) → Ok (FX1_fresh_b38 st nf m r (cz s0) (i32 ((tP t n k + j : Nat) : Int)) s1) (Po (RFr r s0) r ta t n 10 s0 k (if wrd t n (tP t n k) ∈ names then .inl (3 + 16 * (tP t n k : Int)) else .inr (wrd t n (tP t n k), k + 1))) := by
  obtain ⟨g1, g2, g3, g4, g5⟩ := tS_le hS
  have hn1 := hT.1
  have hwl : (wrd t n (tP t n k)).length = tE t n (tP t n k) - tP t n k := by unfold wrd; rw [lts_n]
  have hw : wrd t n (tP t n k) = (List.range (tE t n (tP t n k) - tP t n k)).map fun i => t (tP t n k + i) := rfl
  intro d
  induction d with
  | zero =>
    intro m j s1 h1 h2 hx hF hz hL hB
    obtain ⟨m, rfl⟩ : ∃ q, m = q + 1 := ⟨m - 1, by omega⟩
    have hR1 := hR0.b hF0 hx
    rw [show FX1_fresh_b38 st nf (m + 1) = FX1_fresh_b38_s st nf (FX1_fresh_b38 st nf m) from rfl]
    unfold FX1_fresh_b38_s
    refine ok_gI hR1.1.1 rfl ?_
    rw [hR1.2.1]
    refine ok_le ⟨by omega, by omega⟩ ⟨by omega, by omega⟩ (fun _ => ?_) (fun z => by omega)
    have ej : j = tE t n (tP t n k) - tP t n k := by omega
    refine ok_2 (bl_str hB (fun i hi => by have := hT.2 (tP t n k + i) (by omega); omega) (by omega) hF) fun a s2 hs => ?_
    obtain ⟨k1, k2, k3, k4, k5, k6, k7⟩ := hs
    have k1 : a = some (cz s1) := k1
    have k2 : s2.1 (cz s1) = some (true, 23, 0) := k2
    have k4 : Ex (cz s1) s1 s2 := k4
    have k5 : Fh s2 := k5
    have k6 : cz s2 = cz s1 + 2 := k6
    have k7 : cl s2 = cl s1 + 4 + j := k7
    have k33 : Sc s2 (cz s1) (wrd t n (tP t n k)) := by rw [hw, ← ej]; exact k3
    have hx2 : Ex (cz s0) s0 s2 := hx.tr (k4.le (by omega))
    have hb2 : Pb r s0 s2 := Pb.x hx2 k5 (by omega) (by omega)
    have hN2 := hN.b hF0 hb2
    subst k1
    rw [show (0 : Int32) = i32 ((0 : Nat) : Int) from rfl]
    refine fr_71 (s0 := s0) hn hT hF0 hb2 ⟨(hx2 r (hF0 _ _ _ _ hR0.1.1)).2.1 _, fun f => (hx2 r (hF0 _ _ _ _ hR0.1.1)).2.2.1 f⟩ ⟨by omega, by omega⟩ (hK0.b hF0 hb2) (hR0.b hF0 hx2) (by rw [(hx2 r (hF0 _ _ _ _ hR0.1.1)).2.2.1]; exact ho) hN2 hl k33 k2 (by omega) (fun z => ?_) g1 names.length nf 0 (by omega) (by omega) (fun i hi => absurd hi (Nat.not_lt_zero i))
    have := (hN.2.2.1.lt hF0).2.2 _ z
    omega
  | succ d ih =>
    intro m j s1 h1 h2 hx hF hz hL hB
    obtain ⟨m, rfl⟩ : ∃ q, m = q + 1 := ⟨m - 1, by omega⟩
    have hR1 := hR0.b hF0 hx
    have hj : j < 8 := by omega
    have hjn : tP t n k + j < n := by omega
    have htj := hT.2 _ hjn
    rw [show FX1_fresh_b38 st nf (m + 1) = FX1_fresh_b38_s st nf (FX1_fresh_b38 st nf m) from rfl]
    unfold FX1_fresh_b38_s
    refine ok_gI hR1.1.1 rfl ?_
    rw [hR1.2.1]
    refine ok_le ⟨by omega, by omega⟩ ⟨by omega, by omega⟩ (fun z => by omega) (fun _ => ?_)
    refine ok_gRs hR1.1.1 rfl hR1.1.2.2.1 ?_
    rw [nn_eq]
    refine ok_lI hR1.1.2.1 (by omega) (by omega) (by omega) ?_
    rw [Int.toNat_natCast, hR1.1.2.2.2.2 _ hjn, (ch2_i (z := t (tP t n k + j)) (by omega)).1]
    have A := bl_app (u := fun i => t (tP t n k + i)) hB hj (by omega)
    rw [A, bd2_eq, show (1 : Int32) = i32 1 from rfl, i32_add, show ((tP t n k + j : Nat) : Int) + 1 = ((tP t n k + (j + 1) : Nat) : Int) by omega]
    refine ih m (j + 1) _ (by omega) (by omega) ((hx.tr (Ex.uI (by omega))).tr (Ex.uA (by omega))) (hF.e rfl rfl) hz hL hB.nx
theorem ok_fresh (hn : 2000 ≤ nf) (hT : TO t n) {k : Nat} {o na nb : Nat} {NL : List Nat} {names : List (List Int)} (hF : Fh s) (hK : Kst st s) (hR : Rf s r ta t n (tP t n k)) (ho : cR s 107 r = some o) (hN : Nms s o na nb NL names) (hl : names.length ≤ 4) : Ok (FX1_fresh st nf r s) (Po (RFr r s) r ta t n 10 s k (frP t n names k)) := by
  have hs := (tS_b (t := t) (n := n) (f := tP t n k)).1
  have hb := whV_b kpW t n (tP t n k)
  have hlk : (kpW.length : Int) = 20 := rfl
  obtain ⟨p, p1, p2⟩ := hK 8 (by omega)
  rw [wL_s.2.2.2.2.2.2.2] at p2
  unfold FX1_fresh frP
  refine Po.mz (ok_gd hR.1.1 rfl (ok_gI hR.1.1 rfl ?_))
  rw [hR.2.2.1, show (1 : Int32) = i32 1 from rfl]
  refine ok_q ⟨by omega, by omega⟩ ⟨by omega, by omega⟩ (fun q => ?_) (fun q => ?_)
  · have q : tS t n (tP t n k) = 1 := by omega
    rw [show st 18 = some p from p1]
    refine ok_nn (ok_be (c_which (by omega) hT hR p2 wW_n.2.2.2.2.2.2.2 (by decide)) ?_)
    rw [show (0 : Int32) = i32 0 from rfl]
    refine ok_lt ⟨by omega, by omega⟩ ⟨by omega, by omega⟩ (fun q2 => ?_) (fun q2 => ?_)
    · rw [if_neg (show ¬ ¬ (tS t n (tP t n k) = 1 ∧ whV kpW t n (tP t n k) < 0) from fun z => z ⟨q, q2⟩)]
      unfold nwO
      have hx1 : Ex (cz s) s (uN s 24 0 4) := Ex.uN (Nat.le_refl _)
      have hk1 : (uN s 24 0 4).1 (cz s) = some (true, 24, 0) := if_pos rfl
      have hF1 : Fh (uN s 24 0 4) := hF.uN
      have hz1 : cz (uN s 24 0 4) = cz s + 1 := rfl
      have hl1 : cl (uN s 24 0 4) = cl s + 4 := rfl
      have e3 : cI (uN s 24 0 4) 2403 (cz s) = 0 := if_pos rfl
      generalize uN s 24 0 4 = s1 at *
      refine ok_b (P := fun s2 => Ex (cz s) s s2 ∧ Fh s2 ∧ cz s2 = cz s + 2 ∧ cl s2 = cl s + 12 ∧ Bld s2 (cz s) (cz s + 1) 0 (fun i => t (tP t n k + i))) ?_ fun s2 h2 => ?_
      · unfold FJ15_init
        refine mz_ok (ok_b (P := fun s2 => (cz s1 ≤ cz s2 ∧ cl s1 ≤ cl s2) ∧ Ex (cz s) s s2 ∧ Fh s2 ∧ cz s2 = cz s + 2 ∧ cl s2 = cl s + 12 ∧ Bld s2 (cz s) (cz s + 1) 0 (fun i => t (tP t n k + i))) ?_ fun s2 h2 => ok_s h2)
        unfold FJ14_init
        refine ok_mz ?_ fun z hz => hz.1
        rw [if_neg (by decide)]
        unfold nwA
        rw [show (8 : Int32) = i32 ((8 : Nat) : Int) from rfl, if_pos (i32_inb_t (by omega) (by omega) (by omega)), i32_clamp (by omega) ⟨by omega, by omega⟩, Int.toNat_natCast]
        have hx2 : Ex (cz s1) s1 (uN s1 103 8 8) := Ex.uN (Nat.le_refl _)
        have hk2 : (uN s1 103 8 8).1 (cz s1) = some (true, 103, 8) := if_pos rfl
        have hz2 : cz (uN s1 103 8 8) = cz s1 + 1 := rfl
        have hl2 : cl (uN s1 103 8 8) = cl s1 + 8 := rfl
        have hF2 : Fh (uN s1 103 8 8) := hF1.uN
        dsimp only
        generalize uN s1 103 8 8 = s2 at *
        obtain ⟨x1, x2, x3, x4, x5⟩ := hx2 (cz s) (by omega)
        have hk : s2.1 (cz s) = some (true, 24, 0) := by rw [x1]; exact hk1
        refine ok_pR hk rfl (ok_g (by decide) (ok_pI (by exact hk) rfl (ok_s ⟨⟨by show cz s1 ≤ cz s2; omega, by show cl s1 ≤ cl s2; omega⟩, (hx1.tr (hx2.le (by omega))).tr ((Ex.uR (Nat.le_refl _)).tr (Ex.uI (Nat.le_refl _))), hF2.e rfl rfl, by show cz s2 = _; omega, by show cl s2 = _; omega, ⟨hk, ?_, ?_, rI_t, ?_, fun i hi => absurd hi (Nat.not_lt_zero i)⟩⟩)))
        · show cR (uR s2 2400 (cz s) (some (cz s1))) 2400 (cz s) = _
          rw [rR_t, hz1]
        · show s2.1 (cz s + 1) = _
          rw [← hz1]
          exact hk2
        · rw [rI_n (by decide)]
          show cI s2 2403 (cz s) = _
          rw [x2, e3]
          rfl
      · obtain ⟨g1, g2, g3, g4, g5⟩ := h2
        have hR2 := hR.b hF g1
        refine ok_gI hR2.1.1 rfl ?_
        rw [hR2.2.2.2.1]
        have hwl : (wrd t n (tP t n k)).length ≤ 8 := (wrd_b q).1
        exact fr_38 hn hT hF hK hR ho hN hl q (wrd t n (tP t n k)).length nf 0 s2 (by omega) (by omega) g1 g2 g3 g4 g5
    · rw [if_pos (show ¬ (tS t n (tP t n k) = 1 ∧ whV kpW t n (tP t n k) < 0) from fun z => by omega)]
      exact ok_tw (kd := 1) hR.1.1 hF hR.2.2.2.1
  · rw [if_pos (show ¬ (tS t n (tP t n k) = 1 ∧ whV kpW t n (tP t n k) < 0) from fun z => by omega)]
    exact ok_tw (kd := 1) hR.1.1 hF hR.2.2.2.1
end FS
