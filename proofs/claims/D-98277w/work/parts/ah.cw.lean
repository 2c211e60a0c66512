/-! LAYER 2: walks read: the component -/
set_option maxRecDepth 100000
/-- a walk under way: object o, arrays wa, sa, c lines counted -/
def Wks (o wa sa : Nat) (v : WKV) (s : CS) : Prop := s.1 o = some (true, 7, 0) ∧ cR s 700 o = some wa ∧ cR s 701 o = some sa ∧ s.1 wa = some (true, 100, 13) ∧ s.1 sa = some (true, 100, 13) ∧ cI s 702 o = i32 (v.2.1 : Int) ∧ ∀ i, i < v.2.1 → cA s wa i = i32 (v.1 (1 + 2 * i)) ∧ cA s sa i = i32 (v.1 (2 + 2 * i))
def RTK (o wa sa : Nat) (a : Option Nat) (v : WKV) (s : CS) : Prop := a = some o ∧ Wks o wa sa v s
section CW
variable {r ta n z0 o wa sa by_ la ba : Nat} {t : Nat → Int} {st : Nat → Option Nat} {s s' s0 : CS} {nf : Nat} {v : WKV} {k : Nat} {W : Nat → Int}
theorem Wks.f (h : Wks o wa sa v s) (ho : Fg s s' o) (hw : Fg s s' wa) (hs : Fg s s' sa) : Wks o wa sa v s' := by
  obtain ⟨h1, h2, h3, h4, h5, h6, h7⟩ := h
  exact ⟨by rw [ho.1]; exact h1, by rw [ho.2.2.1 _ (by decide)]; exact h2, by rw [ho.2.2.1 _ (by decide)]; exact h3, by rw [hw.1]; exact h4, by rw [hs.1]; exact h5, by rw [ho.2.1 _ (by decide)]; exact h6, fun i hi => by rw [hw.2.2.2.1, hs.2.2.2.1]; exact h7 i hi⟩
/-- the reader before token k, a walk v under way -/
def Vst (st : Nat → Option Nat) (r ta : Nat) (t : Nat → Int) (n z0 o wa sa : Nat) (s0 : CS) (v : WKV) (s : CS) (k : Nat) : Prop := Fh s ∧ Kz st z0 s ∧ Rf s r ta t n (tP t n k) ∧ z0 ≤ cz s ∧ (Fp r z0 s0 s ∧ Wks o wa sa v s ∧ (z0 ≤ o ∧ z0 ≤ wa ∧ z0 ≤ sa ∧ ¬ wa = sa)) ∧ r < z0 ∧ ta < z0
theorem Vst.b {k' : Nat} (h : Vst st r ta t n z0 o wa sa s0 v s k) (g : Pb r s s') (hR : Rf s' r ta t n (tP t n k')) : Vst st r ta t n z0 o wa sa s0 v s' k' := by
  obtain ⟨h1, h2, h3, h4, ⟨h5, h6, h7⟩, h8⟩ := h
  exact ⟨g.2.1, h2.z (g.z h4), hR, Nat.le_trans h4 g.2.2.1, ⟨h5.tr (g.1.le h4), h6.f (g.g (h1 _ _ _ _ h6.1)) (g.g (h1 _ _ _ _ h6.2.2.2.1)) (g.g (h1 _ _ _ _ h6.2.2.2.2.1)), h7⟩, h8⟩
theorem Vst.m {v' : WKV} (h : Vst st r ta t n z0 o wa sa s0 v s k) {l : List Nat} (g : Fm l s s') (hl : ∀ a ∈ l, z0 ≤ a) (hW : Wks o wa sa v' s') : Vst st r ta t n z0 o wa sa s0 v' s' k := by
  obtain ⟨h1, h2, h3, h4, ⟨h5, h6, h7⟩, h8, h9⟩ := h
  exact ⟨g.2.1, h2.z (g.z (r := r) hl h4), h3.m h1 g (fun z => by have := hl _ z; omega) (fun z => by have := hl _ z; omega), Nat.le_trans h4 g.2.2.1, ⟨h5.tr (g.z (r := r) hl h4).1, hW, h7⟩, h8, h9⟩
theorem wk_13 (hn : 2000 ≤ nf) (hT : TO t n) (hW : TW W) (hRo : ∀ s, Fp r z0 s0 s → Ro s W by_ la ba) : ∀ (d m : Nat) (s : CS) (k : Nat) (v : WKV), n - tP t n k < d → d ≤ m → Vst st r ta t n z0 o wa sa s0 v s k → WII W v → Ok (FX1_walk_b13 st nf m r by_ o (i32 (v.2.2.1 : Int)) (i32 (v.2.2.2 : Int)) s) (Poz (RTK o wa sa) r ta t n z0 0 s k (wkL t n W d v k)) := by
  have w0 := hW.1
  have w1 := hW.2.1
  intro d
  induction d with
  | zero => intro m s k v h; omega
  | succ d ih =>
    intro m s k v h1 h2 h hI
    obtain ⟨m, rfl⟩ : ∃ q, m = q + 1 := ⟨m - 1, by omega⟩
    have hR := h.2.2.1
    have hs := (tS_b (t := t) (n := n) (f := tP t n k))
    have hb := whV_b owW t n (tP t n k)
    have hll : (owW.length : Int) = 2 := rfl
    obtain ⟨c1, c2, c3, c4, c5, c6⟩ := id hI
    unfold wkL
    rw [show FX1_walk_b13 st nf (m + 1) = FX1_walk_b13_s st nf (FX1_walk_b13 st nf m) from rfl]
    unfold FX1_walk_b13_s
    refine ok_gI hR.1.1 rfl ?_
    rw [hR.2.2.1, show (0 : Int32) = i32 0 from rfl]
    refine ok_q ⟨by omega, by omega⟩ ⟨by omega, by omega⟩ (fun q => ?_) (fun q => ?_)
    · rw [if_pos (show tS t n (tP t n k) = 0 by omega)]
      exact ok_s ⟨Pz.rf h.1, ⟨some o, rfl, rfl, h.2.2.2.2.1.2.1⟩, hR, Pcz.rf h.1⟩
    · rw [if_neg (show ¬ tS t n (tP t n k) = 0 by omega)]
      have hlt := tS_lt (t := t) (show ¬ tS t n (tP t n k) = 0 by omega)
      have hlp := tP_lt hlt
      obtain ⟨p, q1, q2⟩ := h.2.1.k 7 (by omega)
      rw [wL_s.2.2.2.2.2.2.1] at q2
      rw [show st 17 = some p from q1, nn_eq]
      refine ok_be (c_which (by omega) hT hR q2 wW_n.2.2.2.2.2.2.1 (by decide)) ?_
      have E : ∀ kd : Int, Ok (bd2 (FX1_wrong st r (i32 kd) s) fun r4 s3 => nn r4 fun p5 => gd (isK s3 p5 [10]) (some ((.inl p5 : Nat ⊕ Option Nat), s3))) (Poz (RTK o wa sa) r ta t n z0 0 s k (.inl (kd + 16 * (tP t n k : Int)))) := fun kd => ok_twz (Pcz.rf h.1) h.2.2.2.1 hR.1.1 hR.2.2.2.1
      refine ok_le ⟨by omega, by omega⟩ ⟨by omega, by omega⟩ (fun q3 => ?_) (fun q3 => ?_)
      · rw [if_neg (show ¬ whV owW t n (tP t n k) < 0 by omega)]
        have hj : whV owW t n (tP t n k) = 0 ∨ whV owW t n (tP t n k) = 1 := by omega
        have L := c_leads (x := v.2.2.1) (y := v.2.2.2) (way := decide (whV owW t n (tP t n k) = 1)) hW (hRo s h.2.2.2.2.1.1) (by omega) (by omega)
        have ew := wy_i hj
        generalize whV owW t n (tP t n k) = j at *
        rw [← ew] at L
        refine ok_be L ?_
        cases hld : (thA W v.2.2.1 v.2.2.2 (decide (j = 1)) && !brA W v.2.2.1 v.2.2.2 (decide (j = 1))) with
        | false =>
          rw [if_pos (show bi false = i32 0 from rfl), if_pos rfl, show (2 : Int32) = i32 2 from rfl]
          exact E 2
        | true =>
          rw [if_neg (show ¬ bi true = i32 0 by decide), if_neg (show ¬ (true = false) by decide)]
          have hW1 := h.2.2.2.2.1.2.1
          refine ok_gI hW1.1 rfl ?_
          rw [hW1.2.2.2.2.2.1, show (13 : Int32) = i32 13 from rfl]
          refine ok_q ⟨by omega, by omega⟩ ⟨by omega, by omega⟩ (fun q4 => ?_) (fun q4 => ?_)
          · rw [if_pos (show v.2.1 = 13 by omega), show (5 : Int32) = i32 5 from rfl]
            exact E 5
          · rw [if_neg (show ¬ v.2.1 = 13 by omega)]
            refine ok_b (ok_nextk hn hT h.2.1.k hR) fun s6 h6 => ?_
            have cc := Pc.nx h.1 hlt h6.1
            have h6' := h.b cc.1 h6.2
            have p6 : Pcz r t n z0 16 s k s6 (k + 1) := cc.z h.2.2.2.1
            obtain ⟨⟨u1, u2, u3, u4, u5, u6, u7⟩, x1, x2, x3, x4⟩ := h6'.2.2.2.2.1.2
            refine ok_gRs u1 rfl u2 (ok_gI u1 rfl ?_)
            rw [u6, nn_eq]
            refine ok_tI u4 (by omega) (by omega) (by omega) ?_
            rw [Int.toNat_natCast]
            refine ok_gRs (s := uA s6 wa v.2.1 (i32 j)) u1 rfl u3 (ok_gI (s := uA s6 wa v.2.1 (i32 j)) u1 rfl (ok_pI (s := uA s6 wa v.2.1 (i32 j)) u1 rfl ?_))
            rw [show cI (uA s6 wa v.2.1 (i32 j)) 702 o = i32 (v.2.1 : Int) from u6, show (1 : Int32) = i32 1 from rfl, i32_add, show (v.2.1 : Int) + 1 = ((v.2.1 + 1 : Nat) : Int) by omega, show (9999 : Int32) = i32 9999 from rfl]
            -- the way written, the line counted
            have fm : Fm [wa, o] s6 (uI (uA s6 wa v.2.1 (i32 j)) 702 o (i32 ((v.2.1 + 1 : Nat) : Int))) := ⟨fun a ha => ⟨rfl, fun q => by
              have n1 : ¬ a = wa := fun z => q (by rw [z]; simp)
              have n2 : ¬ a = o := fun z => q (by rw [z]; simp)
              exact ⟨fun f => rI_a n2, fun f => rfl, if_neg n1, rfl⟩⟩, h6'.1.e rfl rfl, Nat.le_refl _, Nat.le_refl _⟩
            have hl1 : ∀ a ∈ [wa, o], z0 ≤ a := fun a ha => by
              simp at ha
              rcases ha with rfl | rfl
              · exact x2
              · exact x1
            have hF13 : Fh (uI (uA s6 wa v.2.1 (i32 j)) 702 o (i32 ((v.2.1 + 1 : Nat) : Int))) := fm.2.1
            have hR13 := h6.2.m h6'.1 fm (fun z => by have := hl1 _ z; have := h6'.2.2.2.2.2.1; omega) (fun z => by have := hl1 _ z; have := h6'.2.2.2.2.2.2; omega)
            have hK13 := h6'.2.1.z (fm.z (r := r) hl1 h6'.2.2.2.1)
            have p13 := p6.al 0 (fm.z (r := r) (z0 := z0) hl1 h6'.2.2.2.1) (Nat.le_refl _) (Nat.le_refl _)
            have hz13 : z0 ≤ cz (uI (uA s6 wa v.2.1 (i32 j)) 702 o (i32 ((v.2.1 + 1 : Nat) : Int))) := h6'.2.2.2.1
            have f13 : Fp r z0 s0 (uI (uA s6 wa v.2.1 (i32 j)) 702 o (i32 ((v.2.1 + 1 : Nat) : Int))) := h6'.2.2.2.2.1.1.tr (fm.z (r := r) hl1 h6'.2.2.2.1).1
            have A13 : ∀ i, cA (uI (uA s6 wa v.2.1 (i32 j)) 702 o (i32 ((v.2.1 + 1 : Nat) : Int))) wa i = if i = v.2.1 then i32 j else cA s6 wa i := fun i => by
              show cA (uA s6 wa v.2.1 (i32 j)) wa i = _
              rw [rd_uA]
              by_cases z : i = v.2.1
              · rw [if_pos ⟨rfl, z⟩, if_pos z]
              · rw [if_neg (fun y => z y.2), if_neg z]
            have B13 : cA (uI (uA s6 wa v.2.1 (i32 j)) 702 o (i32 ((v.2.1 + 1 : Nat) : Int))) sa = cA s6 sa := if_neg (fun z => x4 z.symm)
            have I13 : cI (uI (uA s6 wa v.2.1 (i32 j)) 702 o (i32 ((v.2.1 + 1 : Nat) : Int))) 702 o = i32 ((v.2.1 + 1 : Nat) : Int) := rI_t
            have k13 : (uI (uA s6 wa v.2.1 (i32 j)) 702 o (i32 ((v.2.1 + 1 : Nat) : Int))).1 = s6.1 := rfl
            have R13 : cR (uI (uA s6 wa v.2.1 (i32 j)) 702 o (i32 ((v.2.1 + 1 : Nat) : Int))) = cR s6 := rfl
            generalize uI (uA s6 wa v.2.1 (i32 j)) 702 o (i32 ((v.2.1 + 1 : Nat) : Int)) = s13 at *
            refine ok_thz p13 hz13 (ok_number_2 hn hT hK13.k hF13 hR13 ⟨by omega, by omega⟩ ⟨by omega, by omega⟩) fun a x k2 s14 hx2 g14 p14 hN hR14 => ?_
            obtain ⟨y1, y2, y3, y4, rfl⟩ := nmP_v hx2
            obtain ⟨hN, hK6⟩ := hN
            subst hN
            have hlo := h6'.1 _ _ _ _ u1
            have hlw := h6'.1 _ _ _ _ u4
            have hls := h6'.1 _ _ _ _ u5
            have hc13 : cz s6 ≤ cz s13 := fm.2.2.1
            have go := g14.g (a := o) (by omega)
            have gw := g14.g (a := wa) (by omega)
            have gs := g14.g (a := sa) (by omega)
            rw [nn_eq]
            have hsa14 : s14.1 sa = some (true, 100, 13) := by rw [gs.1, k13]; exact u5
            refine ok_tI hsa14 (by omega) (by omega) (by omega) ?_
            rw [Int.toNat_natCast]
            have fm2 : Fm [sa] s14 (uA s14 sa v.2.1 (i32 x)) := Fm.uA g14.2.1
            have hl2 : ∀ a ∈ [sa], z0 ≤ a := fun a ha => by rw [List.mem_singleton.mp ha]; exact x3
            have hz14 : z0 ≤ cz s14 := Nat.le_trans hz13 g14.2.2.1
            have p17 := p14.al 0 (fm2.z (r := r) (z0 := z0) hl2 hz14) (Nat.le_refl _) (Nat.le_refl _)
            have hV : Vst st r ta t n z0 o wa sa s0 (wkS v j x) (uA s14 sa v.2.1 (i32 x)) (k + 1 + 1) := by
              refine ⟨g14.2.1.e rfl rfl, (hK13.z (g14.z hz13)).z (fm2.z (r := r) hl2 hz14), hR14.m g14.2.1 fm2 (fun z => by have := hl2 _ z; have := h6'.2.2.2.2.2.1; omega) (fun z => by have := hl2 _ z; have := h6'.2.2.2.2.2.2; omega), hz14, ⟨(f13.tr (g14.1.le hz13)).tr (fm2.z (r := r) hl2 hz14).1, ⟨?_, ?_, ?_, ?_, ?_, ?_, fun i hi => ?_⟩, x1, x2, x3, x4⟩, h6'.2.2.2.2.2⟩
              · show s14.1 o = _
                rw [go.1, k13]; exact u1
              · show cR s14 700 o = _
                rw [go.2.2.1 _ (by decide), R13]; exact u2
              · show cR s14 701 o = _
                rw [go.2.2.1 _ (by decide), R13]; exact u3
              · show s14.1 wa = _
                rw [gw.1, k13]; exact u4
              · exact hsa14
              · show cI s14 702 o = _
                rw [go.2.1 _ (by decide)]; exact I13
              · have hi : i < v.2.1 + 1 := hi
                have ewa : cA (uA s14 sa v.2.1 (i32 x)) wa = cA s14 wa := if_neg x4
                rw [ewa, gw.2.2.2.1, A13, rd_uA, gs.2.2.2.1, B13]
                show _ = i32 (upW (upW v.1 (1 + 2 * v.2.1) j) (2 + 2 * v.2.1) x (1 + 2 * i)) ∧ _ = i32 (upW (upW v.1 (1 + 2 * v.2.1) j) (2 + 2 * v.2.1) x (2 + 2 * i))
                rw [upW_n (by omega)]
                by_cases z : i = v.2.1
                · rw [if_pos z, z, upW_t, if_pos ⟨rfl, rfl⟩, upW_t]
                  exact ⟨rfl, rfl⟩
                · rw [if_neg z, upW_n (by omega), if_neg (fun y => z y.2), upW_n (by omega), upW_n (by omega)]
                  exact u7 i (by omega)
            obtain ⟨gA, gB⟩ := (Bool.and_eq_true _ _).mp hld
            have gB : brA W v.2.2.1 v.2.2.2 (decide (j = 1)) = false := by
              cases z : brA W v.2.2.1 v.2.2.2 (decide (j = 1)) with
              | false => rfl
              | true => rw [z] at gB; cases gB
            have hI2 := wkS_g (s := x) hI hj ⟨y3, y4⟩ gA gB (by omega)
            have FIN : Ok (FX1_walk_b125 st nf (FX1_walk_b13 st nf m) r by_ o (i32 ((wkS v j x).2.2.1 : Int)) (i32 ((wkS v j x).2.2.2 : Int)) (uA s14 sa v.2.1 (i32 x))) (Poz (RTK o wa sa) r ta t n z0 0 s k (bP (ndP (isSg t n 59 (tP t n (k + 1 + 1))) (tP t n (k + 1 + 1)) (k + 1 + 1)) fun _ k2 => wkL t n W d (wkS v j x) k2)) := by
              unfold FX1_walk_b125
              rw [show (59 : Int32) = i32 59 from rfl]
              refine ok_thz p17 hV.2.2.2.1 (ok_need_2 hn hT hV.2.1.k hV.1 hV.2.2.1 (by omega)) fun a b k3 s3 hx g3 p3 hU hR3 => ?_
              obtain ⟨hd1, rfl⟩ := ndP_i hx
              have h3 := hV.b g3 hR3
              have hlt2 := isSg_lt hd1
              have l2 := tP_lt hlt2
              have l3 := tP_lt (tS_2 y1).1
              exact ok_w (ih m s3 (k + 1 + 1 + 1) _ (by omega) (by omega) h3 hI2) fun p hp => (Poz.of p3 hp).le (Nat.zero_le _)
            rcases hj with rfl | rfl
            · rw [if_pos (show i32 0 = i32 0 from rfl), i32_add, show (v.2.2.1 : Int) + 1 = ((v.2.2.1 + 1 : Nat) : Int) by omega]
              exact FIN
            · rw [if_neg (show ¬ i32 1 = i32 0 by decide), i32_add, show (v.2.2.2 : Int) + 1 = ((v.2.2.2 + 1 : Nat) : Int) by omega]
              exact FIN
      · rw [if_pos q3, show (1 : Int32) = i32 1 from rfl]
        exact E 1
/-- a new walk -/
theorem ok_7 (hF : Fh s) : Ok (FX7_init (cz s) (uN s 7 0 3)) fun s' => (cz (uN s 7 0 3) ≤ cz s' ∧ cl (uN s 7 0 3) ≤ cl s') ∧ Ex (cz s) s s' ∧ Fh s' ∧ cz s' = cz s + 3 ∧ cl s' = cl s + 29 ∧ Wks (cz s) (cz s + 1) (cz s + 2) (fun _ => 0, 0, 0, 0) s' := by
  have hx1 : Ex (cz s) s (uN s 7 0 3) := Ex.uN (Nat.le_refl _)
  have hk1 : (uN s 7 0 3).1 (cz s) = some (true, 7, 0) := if_pos rfl
  have hI1 : cI (uN s 7 0 3) 702 (cz s) = i32 0 := if_pos rfl
  have hz1 : cz (uN s 7 0 3) = cz s + 1 := rfl
  have hl1 : cl (uN s 7 0 3) = cl s + 3 := rfl
  have hF1 : Fh (uN s 7 0 3) := hF.uN
  generalize uN s 7 0 3 = s1 at *
  unfold FX7_init
  refine ok_mz ?_ fun z hz => hz.1
  unfold nwA
  rw [show (13 : Int32) = i32 ((13 : Nat) : Int) from rfl, if_pos (i32_inb_t (by omega) (by omega) (by omega)), i32_clamp (by omega) ⟨by omega, by omega⟩, Int.toNat_natCast]
  have hy := fun a (ha : a < cz s1) => rN (s := s1) (c := 100) (n := 13) (k := 13) ha
  have hky : (uN s1 100 13 13).1 (cz s1) = some (true, 100, 13) := if_pos rfl
  have hzy : cz (uN s1 100 13 13) = cz s1 + 1 := rfl
  have hly : cl (uN s1 100 13 13) = cl s1 + 13 := rfl
  have hFy : Fh (uN s1 100 13 13) := hF1.uN
  have hxy : Ex (cz s) s1 (uN s1 100 13 13) := Ex.uN (by omega)
  dsimp only
  generalize uN s1 100 13 13 = s2 at *
  obtain ⟨y1, y2, y3, y4, y5⟩ := hy (cz s) (by omega)
  have hk2 : s2.1 (cz s) = some (true, 7, 0) := by rw [y1]; exact hk1
  refine ok_pR hk2 rfl ?_
  rw [if_pos (i32_inb_t (by omega) (by omega) (by omega))]
  have er : cR (uR s2 700 (cz s) (some (cz s1))) 700 (cz s) = some (cz s1) := rR_t
  have ek : (uR s2 700 (cz s) (some (cz s1))).1 = s2.1 := rfl
  have eI : cI (uR s2 700 (cz s) (some (cz s1))) = cI s2 := rfl
  have ez : cz (uR s2 700 (cz s) (some (cz s1))) = cz s2 ∧ cl (uR s2 700 (cz s) (some (cz s1))) = cl s2 := ⟨rfl, rfl⟩
  have hF3 : Fh (uR s2 700 (cz s) (some (cz s1))) := hFy.e rfl rfl
  have hx3 : Ex (cz s) s2 (uR s2 700 (cz s) (some (cz s1))) := Ex.uR (Nat.le_refl _)
  generalize uR s2 700 (cz s) (some (cz s1)) = s3 at *
  have hw := fun a (ha : a < cz s3) => rN (s := s3) (c := 100) (n := 13) (k := 13) ha
  have hkw : (uN s3 100 13 13).1 (cz s3) = some (true, 100, 13) := if_pos rfl
  have hzw : cz (uN s3 100 13 13) = cz s3 + 1 := rfl
  have hlw : cl (uN s3 100 13 13) = cl s3 + 13 := rfl
  have hFw : Fh (uN s3 100 13 13) := hF3.uN
  have hxw : Ex (cz s) s3 (uN s3 100 13 13) := Ex.uN (by omega)
  generalize uN s3 100 13 13 = s4 at *
  obtain ⟨w1, w2, w3, w4, w5⟩ := hw (cz s) (by omega)
  have hk4 : s4.1 (cz s) = some (true, 7, 0) := by rw [w1, ek]; exact hk2
  refine ok_pR hk4 rfl (ok_s ⟨⟨by show cz s1 ≤ cz s4; omega, by show cl s1 ≤ cl s4; omega⟩, hx1.tr (hxy.tr (hx3.tr (hxw.tr (Ex.uR (Nat.le_refl _))))), hFw.e rfl rfl, by show cz s4 = _; omega, by show cl s4 = _; omega, hk4, ?_, ?_, ?_, ?_, ?_, fun i hi => absurd hi (Nat.not_lt_zero i)⟩)
  · rw [rR_n (by decide), w3, er, hz1]
  · rw [rR_t, show cz s3 = cz s + 2 by omega]
  · show s4.1 (cz s + 1) = _
    rw [(hw _ (by omega)).1, ek, ← hz1]
    exact hky
  · show s4.1 (cz s + 2) = _
    rw [show cz s + 2 = cz s3 by omega]
    exact hkw
  · show cI s4 702 (cz s) = _
    rw [w2, eI, y2]
    exact hI1
/-- a walk read -/
theorem ok_cwalk (hn : 2000 ≤ nf) (hT : TO t n) (hW : TW W) (hF : Fh s) (hK : Kst st s) (hR : Rf s r ta t n (tP t n 0)) (hRo : ∀ s', Fp r (cz s) s s' → Ro s' W by_ la ba) : Ok (FX1_walk st nf r by_ s) fun p => Pt0 r s p.2 ∧ (cz p.2 ≤ cz s + 4 + 16 * n ∧ cl p.2 ≤ cl s + 36 + 64 * n) ∧ match wkX t n W with
    | .inl e => ∃ q, p.1 = .inl q ∧ isK p.2 q [10] = true ∧ cI p.2 1000 q = i32 e
    | .inr (v, _) => p.1 = .inr (some (cz s)) ∧ Wks (cz s) (cz s + 1) (cz s + 2) v p.2 := by
  have hn1 := hT.1
  have w0 := hW.1
  have w1 := hW.2.1
  have hrlt := hF _ _ _ _ hR.1.1
  have htlt := hF _ _ _ _ hR.1.2.1
  have hb := (tP_b (t := t) (n := n) 0).1
  unfold FX1_walk wkX
  refine ok_mz (ok_gd hR.1.1 rfl ?_) fun z hz => ⟨hz.1.2.2.1, hz.1.2.2.2⟩
  unfold nwO
  refine ok_b (ok_7 hF) fun s3 h => ?_
  obtain ⟨g0, g1, g2, g3, g4, g5⟩ := h
  have hK3 : Kz st (cz s) s3 := (hK.z hF).z ((Pb.x (r := r) g1 g2 (by omega) (by omega)).z (Nat.le_refl _))
  have hV : Vst st r ta t n (cz s) (cz s) (cz s + 1) (cz s + 2) s (fun _ => 0, 0, 0, 0) s3 0 := ⟨g2, hK3, hR.b hF g1, by omega, ⟨Fp.x g1, g5, by omega, by omega, by omega, by omega⟩, hrlt, htlt⟩
  have M := wk_13 hn hT hW hRo 1001 nf s3 0 (fun _ => 0, 0, 0, 0) (by omega) (by omega) hV ⟨Nat.zero_le _, rfl, rfl, by show ((0 : Nat) : Int) < W 0; omega, by show ((0 : Nat) : Int) < W 1; omega, fun k hk => absurd hk (Nat.not_lt_zero k)⟩
  rw [show (0 : Int32) = i32 ((0 : Nat) : Int) from rfl]
  refine ok_w M fun p hp => ?_
  obtain ⟨⟨f1, f2, f3, f4⟩, hp⟩ := hp
  have hP : Pt0 r s p.2 := by
    refine ⟨fun a ha => ?_, f2, by omega, by omega⟩
    obtain ⟨x1, x2, x3, x4, x5⟩ := g1 a ha
    obtain ⟨z1, z2, z3, z4, z5⟩ := f1 a ha
    exact ⟨z1.trans x1, fun f q => (z2 f q).trans (x2 f), fun f q => (z3 f (fun z => q ⟨z.1, .inl z.2⟩)).trans (x3 f), z4.trans x4, z5.trans x5⟩
  have hn0 : n - tP t n 0 ≤ n := Nat.sub_le _ _
  cases hx2 : wkL t n W 1001 (fun _ => 0, 0, 0, 0) 0 with
  | inl e =>
    rw [hx2] at hp
    obtain ⟨hp1, hp2, hp3⟩ := hp
    exact ⟨hP, ⟨by omega, by omega⟩, hp1⟩
  | inr y =>
    obtain ⟨v, k⟩ := y
    rw [hx2] at hp
    obtain ⟨⟨a, q1, q2, q3⟩, hp2, hp3⟩ := hp
    have hp3 : Pcz r t n (cz s) 0 s3 0 p.2 k := hp3
    exact ⟨hP, ⟨by have := hp3.2.2.1; omega, by have := hp3.2.2.2; omega⟩, by rw [q1, q2], q3⟩
end CW
