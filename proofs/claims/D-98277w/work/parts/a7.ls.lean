/-! LAYER 2: lists of objects -/
set_option maxRecDepth 100000
/-- a list a with its array b holds L -/
def Lsr (s : CS) (a b : Nat) (L : List Nat) : Prop := s.1 a = some (true, 22, 0) ∧ cR s 2200 a = some b ∧ (∃ m, s.1 b = some (true, 106, m) ∧ L.length ≤ m ∧ 1 ≤ m ∧ m ≤ 1000) ∧ cI s 2201 a = i32 (L.length : Int) ∧ (∀ k, k < L.length → cQ s b k = some (L.getD k 0)) ∧ ∀ y ∈ L, isK s y [4, 5, 6, 16, 23] = true
/-- nothing but a list and its array is another -/
def Eab (a b : Nat) (s s' : CS) : Prop := (∀ c, c < cz s → s'.1 c = s.1 c ∧ (¬ c = a → (∀ f, cI s' f c = cI s f c) ∧ ∀ f, cR s' f c = cR s f c) ∧ cA s' c = cA s c ∧ (¬ c = b → cQ s' c = cQ s c)) ∧ Fh s' ∧ cz s ≤ cz s' ∧ cz s' ≤ cz s + 1 ∧ cl s ≤ cl s' ∧ cl s' ≤ cl s + 16
theorem shr_1 : ∀ m : Nat, m < 128 → shr32 (i32 (m : Int)) 1 = i32 ((m / 2 : Nat) : Int) := by decide +kernel
theorem rN {s : CS} {c n k a : Nat} (h : a < cz s) : (uN s c n k).1 a = s.1 a ∧ (∀ f, cI (uN s c n k) f a = cI s f a) ∧ (∀ f, cR (uN s c n k) f a = cR s f a) ∧ cA (uN s c n k) a = cA s a ∧ cQ (uN s c n k) a = cQ s a := Ex.uN (Nat.le_refl (cz s)) a h
theorem cpy_in {α : Type} {f g : Nat → α} {n j : Nat} (h : j < n) : va_cpy f g 0 0 n j = f j := by
  unfold va_cpy
  rw [if_pos (by omega)]
  congr 1
  omega
theorem rQr_t {s : CS} {a : Nat} {f : Nat → Option Nat} : cQ (uQr s a f) a = f := if_pos rfl
theorem rQr_n {s : CS} {a b : Nat} {f : Nat → Option Nat} (h : ¬ b = a) : cQ (uQr s a f) b = cQ s b := if_neg h
theorem rAr_t {s : CS} {a : Nat} {f : Nat → Int32} : cA (uAr s a f) a = f := if_pos rfl
theorem rAr_n {s : CS} {a b : Nat} {f : Nat → Int32} (h : ¬ b = a) : cA (uAr s a f) b = cA s b := if_neg h
theorem isK_e {s s' : CS} {a : Nat} {cs : List Nat} (e : s'.1 a = s.1 a) (h : isK s a cs = true) : isK s' a cs = true := by
  unfold isK at h ⊢
  rw [e]
  exact h
section LS
variable {s : CS} {a b x : Nat} {L : List Nat} {st : Nat → Option Nat}
theorem Lsr.lt (h : Lsr s a b L) (hF : Fh s) : a < cz s ∧ b < cz s ∧ ∀ y ∈ L, y < cz s := by
  obtain ⟨h1, h2, ⟨m, h3, h4⟩, h5, h6, h7⟩ := h
  exact ⟨hF _ _ _ _ h1, hF _ _ _ _ h3, fun y hy => isK_lt hF (h7 y hy)⟩
/-- room is left: the element is written -/
theorem ls_b11 {z : Int} {m : Nat} (ha : s.1 a = some (true, 22, 0)) (hb : s.1 b = some (true, 106, m)) (hx : isK s x [4, 5, 6, 16, 23] = true) (h0 : 0 ≤ z ∧ z < m) (hm : m ≤ 1000) : FJ2_add_2_b11 st a x (some b) (i32 z) s = some (uI (uQ s b z.toNat (some x)) 2201 a (i32 (z + 1))) := by
  unfold FJ2_add_2_b11
  rw [nn_eq, gd_t hx, tR_i hb h0.1 h0.2 (by omega)]
  unfold pI
  rw [if_pos (isW_o (s := uQ s b z.toNat (some x)) ha rfl), show (1 : Int32) = i32 1 from rfl, i32_add]
theorem ok_add (h : Lsr s a b L) (hF : Fh s) (hx : isK s x [4, 5, 6, 16, 23] = true) (hl : L.length ≤ 10) (h3 : ∃ p, st 3 = some p) : Ok (FJ2_add st a x s) fun p => ∃ b', Lsr p.2 a b' (L ++ [x]) ∧ Eab a b s p.2 ∧ (b' = b ∨ b' = cz s) := by
  obtain ⟨l1, l2, l3⟩ := h.lt hF
  have lx := isK_lt hF hx
  obtain ⟨h1, h2, ⟨m, hm, m1, m2, m3⟩, h5, h6, h7⟩ := h
  obtain ⟨p3, e3⟩ := h3
  have nab : ¬ a = b := fun e => by rw [e, hm] at h1; cases h1
  have hlen : (L ++ [x]).length = L.length + 1 := by rw [List.length_append]; rfl
  have hgd : ∀ k, k < L.length → (L ++ [x]).getD k 0 = L.getD k 0 := fun k hk => by
    rw [List.getD_eq_getElem?_getD, List.getElem?_append_left hk, ← List.getD_eq_getElem?_getD]
  have hgx : (L ++ [x]).getD L.length 0 = x := by
    rw [List.getD_eq_getElem?_getD, List.getElem?_append_right (Nat.le_refl _), Nat.sub_self]
    rfl
  have hmz : ∀ {α : Type} {p : α → CS} {o : Option α} {Q : α → Prop}, Ok o (fun z => (cz s ≤ cz (p z) ∧ cl s ≤ cl (p z)) ∧ Q z) → Ok (mz s p o) Q := fun h => ok_w (ok_mz h fun z hz => hz.1) fun z hz => hz.2
  unfold FJ2_add
  refine hmz (ok_gd h1 rfl (ok_gI h1 rfl (ok_pI h1 rfl (ok_gR (by exact h1) rfl (ok_gI (by exact h1) rfl ?_)))))
  rw [rI_n (by decide), h5, show cR (uI s 2600 a (cI s 2600 a + 1)) 2200 a = some b from h2, nn_eq]
  have f2 : (uI s 2600 a (cI s 2600 a + 1)).1 = s.1 ∧ (∀ f c, ¬ c = a → cI (uI s 2600 a (cI s 2600 a + 1)) f c = cI s f c) ∧ cR (uI s 2600 a (cI s 2600 a + 1)) = cR s ∧ cA (uI s 2600 a (cI s 2600 a + 1)) = cA s ∧ cQ (uI s 2600 a (cI s 2600 a + 1)) = cQ s ∧ cz (uI s 2600 a (cI s 2600 a + 1)) = cz s ∧ cl (uI s 2600 a (cI s 2600 a + 1)) = cl s := ⟨rfl, fun f c q => rI_a q, rfl, rfl, rfl, rfl, rfl⟩
  have e22 : cI (uI s 2600 a (cI s 2600 a + 1)) 2201 a = i32 (L.length : Int) := (rI_n (by decide)).trans h5
  generalize uI s 2600 a (cI s 2600 a + 1) = s2 at *
  obtain ⟨k1, k2, k3, k4, k5, k6, k7⟩ := f2
  have ha2 : s2.1 a = some (true, 22, 0) := by rw [k1]; exact h1
  have hb2 : s2.1 b = some (true, 106, m) := by rw [k1]; exact hm
  have hx2 : isK s2 x [4, 5, 6, 16, 23] = true := isK_e (by rw [k1]) hx
  have M2 : ∀ {o : Option CS} {Q : CS → Prop}, Ok o (fun z => (cz s ≤ cz z ∧ cl s ≤ cl z) ∧ Q z) → Ok (mz s2 (fun z => z) o) (fun z => (cz s ≤ cz z ∧ cl s ≤ cl z) ∧ Q z) := fun h => ok_mz h fun z hz => by rw [k6, k7]; exact hz.1
  refine ok_b (P := fun s6 => (cz s ≤ cz s6 ∧ cl s ≤ cl s6) ∧ ∃ b', Lsr s6 a b' (L ++ [x]) ∧ Eab a b s s6 ∧ (b' = b ∨ b' = cz s)) ?_ fun s6 h6 => ok_s ⟨h6.1, h6.2⟩
  unfold FJ2_add_2
  refine M2 (ok_gd ha2 rfl ?_)
  rw [aLn_i hb2 (by decide)]
  refine ok_q ⟨by omega, by omega⟩ ⟨by omega, by omega⟩ (fun q => ?_) (fun q => ?_)
  · have q : L.length = m := by omega
    have hF2 : Fh s2 := hF.e k1 k6
    have Z : ∀ {α : Type} {p : α → CS} {o : Option α} {Q : α → Prop}, Ok o (fun z => (cz s2 ≤ cz (p z) ∧ cl s2 ≤ cl (p z)) ∧ Q z) → Ok (mz s2 p o) (fun z => (cz s2 ≤ cz (p z) ∧ cl s2 ≤ cl (p z)) ∧ Q z) := fun h => ok_mz h fun z hz => hz.1
    have emx : (m : Int) + (if (1 : Int) < ((m / 2 : Nat) : Int) then ((m / 2 : Nat) : Int) else 1) = ((m + (if 1 < m / 2 then m / 2 else 1) : Nat) : Int) := by
      by_cases z : 1 < m / 2
      · rw [if_pos z, if_pos (by omega)]; omega
      · rw [if_neg z, if_neg (by omega)]; omega
    have N : FJ3_newLength (i32 (m : Int)) (i32 ((m : Int) + 1) - i32 (m : Int)) (shr32 (i32 (m : Int)) 1) s2 = some (i32 ((m + (if 1 < m / 2 then m / 2 else 1) : Nat) : Int), s2) := by
      have eb : m + (if 1 < m / 2 then m / 2 else 1) ≤ 15 := by split <;> omega
      unfold FJ3_newLength
      rw [shr_1 m (by omega), i32_sub, show (m : Int) + 1 - (m : Int) = 1 by omega, mx_c (by omega) (by omega) (by omega) (by omega), nm_eq, i32_add, emx, if_neg (show ¬ i32 ((m + (if 1 < m / 2 then m / 2 else 1) : Nat) : Int) ≤ 0 from fun z => by have := (i32_le (a := ((m + (if 1 < m / 2 then m / 2 else 1) : Nat) : Int)) (b := 0) ⟨by omega, by omega⟩ ⟨by omega, by omega⟩).mp z; omega), show (2147483639 : Int32) = i32 2147483639 from rfl, if_neg (show ¬ i32 2147483639 < i32 ((m + (if 1 < m / 2 then m / 2 else 1) : Nat) : Int) from fun z => by have := (i32_lt (a := 2147483639) (b := ((m + (if 1 < m / 2 then m / 2 else 1) : Nat) : Int)) ⟨by omega, by omega⟩ ⟨by omega, by omega⟩).mp z; omega)]
      exact mz_s ⟨Nat.le_refl _, Nat.le_refl _⟩
    obtain ⟨m', em', hm'1, hm'2⟩ : ∃ m', m' = m + (if 1 < m / 2 then m / 2 else 1) ∧ m < m' ∧ m' ≤ 15 := ⟨_, rfl, by split <;> omega, by split <;> omega⟩
    rw [← em'] at N
    have hk4 : (uN s2 106 m' m').1 (cz s2) = some (true, 106, m') := if_pos rfl
    have hxN : ∀ c, c < cz s → (uN s2 106 m' m').1 c = s.1 c ∧ (∀ f, cI (uN s2 106 m' m') f c = cI s2 f c) ∧ (∀ f, cR (uN s2 106 m' m') f c = cR s f c) ∧ cA (uN s2 106 m' m') c = cA s c ∧ cQ (uN s2 106 m' m') c = cQ s c := fun c hc => by
      obtain ⟨r1, r2, r3, r4, r5⟩ := rN (s := s2) (c := 106) (n := m') (k := m') (a := c) (by rw [k6]; exact hc)
      exact ⟨by rw [r1, k1], r2, fun f => by rw [r3, k3], by rw [r4, k4], by rw [r5, k5]⟩
    have hFN : Fh (uN s2 106 m' m') := hF2.uN
    have hzN : cz (uN s2 106 m' m') = cz s + 1 := by rw [← k6]; rfl
    have hlN : cl (uN s2 106 m' m') = cl s + m' := by rw [← k7]; rfl
    have C : Ok (FJ5_copyOf st b (i32 (m' : Int)) s2) fun p => (cz s2 ≤ cz p.2 ∧ cl s2 ≤ cl p.2) ∧ p.1 = some (cz s) ∧ p.2 = uQr (uN s2 106 m' m') (cz s) (va_cpy (cQ (uN s2 106 m' m') b) (cQ (uN s2 106 m' m') (cz s)) 0 0 m) := by
      unfold FJ5_copyOf
      refine Z (ok_g (isW_o hb2 rfl) ?_)
      rw [e3, nn_eq]
      refine ok_2 (P := fun p => (cz s2 ≤ cz p.2 ∧ cl s2 ≤ cl p.2) ∧ p.1 = some (cz s) ∧ p.2 = uQr (uN s2 106 m' m') (cz s) (va_cpy (cQ (uN s2 106 m' m') b) (cQ (uN s2 106 m' m') (cz s)) 0 0 m)) ?_ fun r t h => ok_s h
      unfold FJ5_copyOf_2
      refine Z ?_
      rw [e3, nn_eq, if_pos rfl]
      unfold nwA FJ5_copyOf_2_b24
      rw [if_pos (i32_inb_t (by omega) (by omega) (by omega)), i32_clamp (by omega) ⟨by omega, by omega⟩, Int.toNat_natCast]
      dsimp only
      rw [aLn_i (s := uN s2 106 m' m') (show (uN s2 106 m' m').1 b = some (true, 106, m) by rw [(hxN b l2).1]; exact hm) (by decide)]
      have emn : mn32 (i32 (m : Int)) (i32 (m' : Int)) = i32 (m : Int) := by
        rw [mn_c (by omega) (by omega) (by omega) (by omega), if_neg (by omega)]
      have c0 : (0 : Int32).toNatClampNeg = 0 := rfl
      have cm : (i32 (m : Int)).toNatClampNeg = m := by rw [i32_clamp (by omega) ⟨by omega, by omega⟩, Int.toNat_natCast]
      rw [emn]
      unfold cpQ
      rw [if_pos ?_]
      · rw [c0, cm]
        rw [k6]
        exact ok_s ⟨⟨by show cz s ≤ cz (uN s2 106 m' m'); rw [hzN]; omega, by show cl s2 ≤ cl (uN s2 106 m' m'); rw [hlN, k7]; omega⟩, rfl, rfl⟩
      · rw [Bool.and_eq_true]
        refine ⟨?_, ?_⟩
        · unfold cpG
          rw [(hxN b l2).1, hm, hk4]
          simp only [c0, cm]
          have n0 : ¬ (0 : Int32) < 0 := by decide
          have nm : ¬ i32 (m : Int) < 0 := fun z => by
            have := (i32_lt (a := (m : Int)) (b := 0) ⟨by omega, by omega⟩ ⟨by omega, by omega⟩).mp z
            omega
          rw [decide_eq_true ⟨n0, n0, nm, by omega, by omega⟩]
          rfl
        · rw [cm, c0, List.all_eq_true]
          intro i hi
          have hi := List.mem_range.mp hi
          rw [(hxN b l2).2.2.2.2, Nat.zero_add, h6 i (by omega)]
          have hmem : L.getD i 0 ∈ L := by
            rw [List.getD_eq_getElem?_getD, List.getElem?_eq_getElem (by omega)]
            exact List.getElem_mem _
          exact isK_e ((hxN _ (l3 _ hmem)).1) (h7 _ hmem)
    refine ok_2 (P := fun p => p.1 = some (cz s) ∧ p.2 = uR (uQr (uN s2 106 m' m') (cz s) (va_cpy (cQ (uN s2 106 m' m') b) (cQ (uN s2 106 m' m') (cz s)) 0 0 m)) 2200 a (some (cz s))) ?_ fun r t h => ?_
    · unfold FJ2_grow
      refine ok_w (Z (Q := fun p => p.1 = some (cz s) ∧ p.2 = uR (uQr (uN s2 106 m' m') (cz s) (va_cpy (cQ (uN s2 106 m' m') b) (cQ (uN s2 106 m' m') (cz s)) 0 0 m)) 2200 a (some (cz s))) (ok_gd ha2 rfl (ok_gI ha2 rfl ?_))) fun z hz => hz.2
      rw [e22, show (1 : Int32) = i32 1 from rfl, i32_add, q]
      refine ok_2 (P := fun p => (cz s2 ≤ cz p.2 ∧ cl s2 ≤ cl p.2) ∧ p.1 = some (cz s) ∧ p.2 = uR (uQr (uN s2 106 m' m') (cz s) (va_cpy (cQ (uN s2 106 m' m') b) (cQ (uN s2 106 m' m') (cz s)) 0 0 m)) 2200 a (some (cz s))) ?_ fun r t h => ok_s h
      unfold FJ2_grow_2
      refine Z (ok_gd ha2 rfl (ok_gR ha2 rfl ?_))
      rw [k3, h2, nn_eq, aLn_i hb2 (by decide), if_pos (show (0 : Int32) < i32 (m : Int) from (i32_lt (a := 0) (b := (m : Int)) ⟨by omega, by omega⟩ ⟨by omega, by omega⟩).mpr (by omega))]
      unfold FJ2_grow_2_b20
      rw [N, bd2_eq]
      refine ok_gR ha2 rfl ?_
      rw [k3, h2, nn_eq]
      refine ok_2 C fun r5 s5 h5 => ?_
      obtain ⟨g0, g1, g2⟩ := h5
      have g1 : r5 = some (cz s) := g1
      subst g1
      dsimp only at g2
      subst g2
      refine ok_pR (c := 22) (n := 0) (by show (uN s2 106 m' m').1 a = some (true, 22, 0); rw [(hxN a l1).1]; exact h1) rfl (ok_s ⟨g0, rfl, rfl⟩)
    · obtain ⟨g1, g2⟩ := h
      have g1 : r = some (cz s) := g1
      subst g1
      dsimp only at g2
      have tk : t.1 = (uN s2 106 m' m').1 := by rw [g2]; rfl
      have tz : cz t = cz s + 1 ∧ cl t = cl s + m' := by rw [g2]; exact ⟨hzN, hlN⟩
      have tI : ∀ f c, cI t f c = cI (uN s2 106 m' m') f c := fun f c => by rw [g2]; rfl
      have tR : ∀ f c, cR t f c = if f = 2200 ∧ c = a then some (cz s) else cR (uN s2 106 m' m') f c := fun f c => by rw [g2]; rfl
      have tA : ∀ c, cA t c = cA (uN s2 106 m' m') c := fun c => by rw [g2]; rfl
      have tQ : ∀ c, cQ t c = if c = cz s then va_cpy (cQ (uN s2 106 m' m') b) (cQ (uN s2 106 m' m') (cz s)) 0 0 m else cQ (uN s2 106 m' m') c := fun c => by rw [g2]; rfl
      clear g2
      have hat : t.1 a = some (true, 22, 0) := by rw [tk, (hxN a l1).1]; exact h1
      have hbt : t.1 (cz s) = some (true, 106, m') := by rw [tk, ← k6]; exact hk4
      have hxt : isK t x [4, 5, 6, 16, 23] = true := isK_e (by rw [tk, (hxN x lx).1]) hx
      rw [ls_b11 (z := (L.length : Int)) hat hbt hxt ⟨by omega, by omega⟩ (by omega), Int.toNat_natCast]
      refine ok_s ⟨⟨by show cz s ≤ cz t; omega, by show cl s ≤ cl t; omega⟩, cz s, ⟨hat, ?_, ⟨m', hbt, by rw [hlen]; omega, by omega, by omega⟩, ?_, fun k hk => ?_, fun y hy => ?_⟩, ⟨fun c hc => ⟨?_, fun q2 => ⟨fun f => ?_, fun f => ?_⟩, ?_, fun q2 => ?_⟩, ?_, by show cz s ≤ cz t; omega, by show cz t ≤ cz s + 1; omega, by show cl s ≤ cl t; omega, by show cl t ≤ cl s + 16; omega⟩, .inr rfl⟩
      · show cR t 2200 a = _
        rw [tR, if_pos ⟨rfl, rfl⟩]
      · rw [rI_t, hlen]
        rfl
      · show cQ (uQ t (cz s) L.length (some x)) (cz s) k = _
        rw [rd_uQ]
        by_cases z : k = L.length
        · rw [if_pos ⟨rfl, z⟩, z, hgx]
        · rw [hlen] at hk
          rw [if_neg (fun y => z y.2), tQ, if_pos rfl, cpy_in (by omega), (hxN b l2).2.2.2.2, hgd k (by omega)]
          exact h6 k (by omega)
      · refine isK_e (s := s) ?_ ?_
        · show t.1 y = _
          rw [tk]
          refine (hxN y ?_).1
          rcases List.mem_append.mp hy with z | z
          · exact l3 y z
          · rw [List.mem_singleton.mp z]; exact lx
        · rcases List.mem_append.mp hy with z | z
          · exact h7 y z
          · rw [List.mem_singleton.mp z]; exact hx
      · show t.1 c = _
        rw [tk]
        exact (hxN c hc).1
      · rw [rI_a q2]
        show cI t f c = _
        rw [tI, (hxN c hc).2.1, k2 f c q2]
      · show cR t f c = _
        rw [tR, if_neg (fun z => q2 z.2)]
        exact (hxN c hc).2.2.1 f
      · show cA t c = _
        rw [tA]
        exact (hxN c hc).2.2.2.1
      · funext i
        show cQ (uQ t (cz s) L.length (some x)) c i = _
        rw [rd_uQ, if_neg (fun z => by omega), tQ, if_neg (by omega), (hxN c hc).2.2.2.2]
      · refine Fh.e (s := uN s2 106 m' m') hFN ?_ ?_
        · show t.1 = _
          exact tk
        · show cz t = _
          rw [tz.1, hzN]
  · have q : L.length < m := by omega
    rw [ls_b11 (z := (L.length : Int)) ha2 hb2 hx2 ⟨by omega, by omega⟩ (by omega), Int.toNat_natCast]
    refine ok_s ⟨⟨by show cz s ≤ cz s2; omega, by show cl s ≤ cl s2; omega⟩, b, ⟨ha2, by show cR s2 2200 a = _; rw [k3]; exact h2, ⟨m, hb2, by rw [hlen]; omega, m2, m3⟩, by rw [rI_t, hlen]; rfl, fun k hk => ?_, fun y hy => ?_⟩, ⟨fun c hc => ⟨by show s2.1 c = _; rw [k1], fun q2 => ⟨fun f => ?_, fun f => ?_⟩, ?_, fun q2 => ?_⟩, ?_, by show cz s ≤ cz s2; omega, by show cz s2 ≤ cz s + 1; omega, by show cl s ≤ cl s2; omega, by show cl s2 ≤ cl s + 16; omega⟩, .inl rfl⟩
    · show cQ (uQ s2 b L.length (some x)) b k = _
      rw [rd_uQ]
      by_cases z : k = L.length
      · rw [if_pos ⟨rfl, z⟩, z, hgx]
      · rw [hlen] at hk
        rw [if_neg (fun y => z y.2), k5, hgd k (by omega)]
        exact h6 k (by omega)
    · refine isK_e (s := s) (by show s2.1 y = _; rw [k1]) ?_
      rcases List.mem_append.mp hy with z | z
      · exact h7 y z
      · rw [List.mem_singleton.mp z]; exact hx
    · rw [rI_a q2]
      exact k2 f c q2
    · show cR s2 f c = _
      rw [k3]
    · show cA s2 c = _
      rw [k4]
    · funext i
      show cQ (uQ s2 b L.length (some x)) c i = _
      rw [rd_uQ, if_neg (fun z => q2 z.1), k5]
    · refine Fh.e (s := s) hF ?_ ?_
      · show s2.1 = _
        exact k1
      · show cz s2 = _
        exact k6
theorem ls_size (h : Lsr s a b L) : FJ2_size s a = some (i32 (L.length : Int)) := by
  have k1 : isK s a [22] = true := isK_o h.1 rfl
  unfold FJ2_size
  rw [gd_t k1, gI_t k1, h.2.2.2.1]
theorem ls_get (h : Lsr s a b L) (hl : L.length ≤ 1000) {k : Nat} (hk : k < L.length) : FJ2_get s a (i32 (k : Int)) = some (some (L.getD k 0)) := by
  obtain ⟨h1, h2, ⟨m, hm, m1, m2, m3⟩, h5, h6, h7⟩ := h
  have k1 : isK s a [22] = true := isK_o h1 rfl
  unfold FJ2_get FJ16_checkIndex FJ9_checkIndex FJ2_elementData
  rw [gd_t k1, gI_t k1, h5, if_neg (show ¬ i32 (k : Int) < 0 from fun z => by have := (i32_lt (a := (k : Int)) (b := 0) ⟨by omega, by omega⟩ ⟨by omega, by omega⟩).mp z; omega), if_pos ((i32_lt ⟨by omega, by omega⟩ ⟨by omega, by omega⟩).mpr (by omega)), bd_eq, bd_eq, gd_t k1, gR_t k1, h2, nn_eq, lR_i hm (by omega) (by omega) (by omega), Int.toNat_natCast, h6 k hk, bd_eq]
end LS
