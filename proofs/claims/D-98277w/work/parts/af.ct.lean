/-! LAYER 2: whole towns: the component -/
set_option maxRecDepth 100000
def RTW (z0 r o : Nat) (ρ0 : Nat → Nat × Nat) (a : Option Nat) (w : TV) (s : CS) : Prop := a = some o ∧ Uwx z0 r o ρ0 w s
section CT
variable {r ta n z0 o : Nat} {t : Nat → Int} {st : Nat → Option Nat} {s s' : CS} {nf : Nat} {ρ0 : Nat → Nat × Nat} {w w' : TV} {k k' : Nat}
theorem c_isTold (h : Ust st r ta t n z0 o ρ0 w s k) (hI : TII t n w k) {j : Nat} (hj : j < 8) : FX1_isTold s r (i32 (j : Int)) = some (bi (w.2.1.testBit j)) := by
  obtain ⟨o1, o2, o3, o4, o5, o6⟩ := h.ob
  have hR := h.2.2.1
  have k1 : isK s r [1] = true := isK_o hR.1.1 rfl
  have ko : isK s o [2] = true := isK_o o2 rfl
  obtain ⟨hh, nb, ρ, h9, e1, -⟩ := id h.2.2.2.2.1.2.2
  obtain ⟨t1, t2, t3, t4, t5, t6⟩ := h9.1.2.2
  rw [e1] at t1 t2 t3 t4 t5 t6
  obtain ⟨b0, b1, b2, b3, b4, b5⟩ := id hI.2.2.1
  obtain ⟨a0, a1, a2, a3, a4, a5, a6, -⟩ := id hI.1
  have L : ∀ {z : Int}, ok32 z → (i32 z < 0 ↔ z < 0) := fun h => i32_lt (b := 0) h ⟨by omega, by omega⟩
  have dd : ∀ (i : Nat), i < 8 → (i32 (j : Int) = i32 (i : Int) ↔ j = i) := fun i hi => ⟨fun z => by have := (i32_eq (a := (j : Int)) (b := (i : Int)) ⟨by omega, by omega⟩ ⟨by omega, by omega⟩).mp z; omega, fun z => by rw [z]⟩
  unfold FX1_isTold
  rw [gd_t k1, show (0 : Int32) = i32 ((0 : Nat) : Int) from rfl, show (1 : Int32) = i32 ((1 : Nat) : Int) from rfl, show (2 : Int32) = i32 ((2 : Nat) : Int) from rfl, show (3 : Int32) = i32 ((3 : Nat) : Int) from rfl, show (4 : Int32) = i32 ((4 : Nat) : Int) from rfl]
  rcases (show j = 0 ∨ j = 1 ∨ j = 2 ∨ j = 3 ∨ j = 4 ∨ 5 ≤ j by omega) with z | z | z | z | z | z
  · subst z
    rw [if_pos rfl, gR_t k1, o1, nn_eq, gI_t ko, t1]
    cases hb : w.2.1.testBit 0 with
    | false =>
      rw [if_neg (show ¬ (false = true) by decide), if_pos (show i32 (-1) < i32 ((0 : Nat) : Int) by decide)]
      rfl
    | true =>
      rw [if_pos rfl, if_neg (show ¬ i32 (w.1 2) < i32 ((0 : Nat) : Int) from fun z => by have := (L ⟨by omega, by omega⟩).mp z; omega)]
      rfl
  · subst z
    rw [if_neg (show ¬ i32 ((1 : Nat) : Int) = i32 ((0 : Nat) : Int) by decide), if_pos rfl, gR_t k1, o1, nn_eq, gI_t ko, t2, b2]
    by_cases q : 0 ≤ w.1 3
    · rw [decide_eq_true q, if_neg (show ¬ i32 (w.1 3) < i32 ((0 : Nat) : Int) from fun z => by have := (L ⟨by omega, by omega⟩).mp z; omega)]
      rfl
    · rw [decide_eq_false q, if_pos (show i32 (w.1 3) < i32 ((0 : Nat) : Int) from (L ⟨by omega, by omega⟩).mpr (by omega))]
      rfl
  · subst z
    rw [if_neg (show ¬ i32 ((2 : Nat) : Int) = i32 ((0 : Nat) : Int) by decide), if_neg (show ¬ i32 ((2 : Nat) : Int) = i32 ((1 : Nat) : Int) by decide), if_pos rfl, gR_t k1, o1, nn_eq, gI_t ko, t3, b3]
    by_cases q : 0 ≤ w.1 4
    · rw [decide_eq_true q, if_neg (show ¬ i32 (w.1 4) < i32 ((0 : Nat) : Int) from fun z => by have := (L ⟨by omega, by omega⟩).mp z; omega)]
      rfl
    · rw [decide_eq_false q, if_pos (show i32 (w.1 4) < i32 ((0 : Nat) : Int) from (L ⟨by omega, by omega⟩).mpr (by omega))]
      rfl
  · subst z
    rw [if_neg (show ¬ i32 ((3 : Nat) : Int) = i32 ((0 : Nat) : Int) by decide), if_neg (show ¬ i32 ((3 : Nat) : Int) = i32 ((1 : Nat) : Int) by decide), if_neg (show ¬ i32 ((3 : Nat) : Int) = i32 ((2 : Nat) : Int) by decide), if_pos rfl, gR_t k1, o1, nn_eq, gI_t ko, t4]
    cases hb : w.2.1.testBit 3 with
    | false =>
      rw [if_neg (show ¬ (false = true) by decide), if_pos (show i32 (-1) < i32 ((0 : Nat) : Int) by decide)]
      rfl
    | true =>
      rw [if_pos rfl, if_neg (show ¬ i32 (w.1 5) < i32 ((0 : Nat) : Int) from fun z => by have := (L ⟨by omega, by omega⟩).mp z; omega)]
      rfl
  · subst z
    rw [if_neg (show ¬ i32 ((4 : Nat) : Int) = i32 ((0 : Nat) : Int) by decide), if_neg (show ¬ i32 ((4 : Nat) : Int) = i32 ((1 : Nat) : Int) by decide), if_neg (show ¬ i32 ((4 : Nat) : Int) = i32 ((2 : Nat) : Int) by decide), if_neg (show ¬ i32 ((4 : Nat) : Int) = i32 ((3 : Nat) : Int) by decide), if_pos rfl, gR_t k1, o1, nn_eq, gI_t ko, t6, b5]
    rcases (show w.1 6 = 0 ∨ w.1 6 = 1 by omega) with q | q <;> rw [q] <;> rfl
  · rw [if_neg (fun y => by have := (dd 0 (by omega)).mp y; omega), if_neg (fun y => by have := (dd 1 (by omega)).mp y; omega), if_neg (fun y => by have := (dd 2 (by omega)).mp y; omega), if_neg (fun y => by have := (dd 3 (by omega)).mp y; omega), if_neg (fun y => by have := (dd 4 (by omega)).mp y; omega), td_5 _ b0 j hj z]
    rfl
/-- a line's end, then the rest -/
theorem tl_247 (hn : 2000 ≤ nf) (hT : TO t n) {d : Nat} {K : Nat → CS → Option ((Nat ⊕ Option Nat) × CS)} (ih : ∀ (s : CS) (k : Nat) (w : TV), n - tP t n k < d → Ust st r ta t n z0 o ρ0 w s k → TII t n w k → Ok (K r s) (Poz (RTW z0 r o ρ0) r ta t n z0 0 s k (twL t n d w k))) {u k2 : Nat} (h0 : Pcz r t n z0 u s k s' k2) (h : Ust st r ta t n z0 o ρ0 w s' k2) (hI : TII t n w k2) (hd : n - tP t n k2 < d + 1) : Ok (FX1_town_b247 st nf K r s') (Poz (RTW z0 r o ρ0) r ta t n z0 0 s k (bP (ndP (isSg t n 59 (tP t n k2)) (tP t n k2) k2) fun _ k3 => twL t n d w k3)) := by
  unfold FX1_town_b247
  rw [show (59 : Int32) = i32 59 from rfl]
  refine ok_thz h0 h.2.2.2.1 (ok_need_2 hn hT h.2.1.k h.1 h.2.2.1 (by omega)) fun a b k3 s3 hx g3 p3 hU hR3 => ?_
  obtain ⟨hd1, rfl⟩ := ndP_i hx
  have h3 := h.b g3 hR3 hU.1
  have hlt2 := isSg_lt hd1
  have hl := tP_lt hlt2
  exact ok_w (ih s3 (k2 + 1) w (by omega) h3 (TII_e hI hI.1 hI.2.1 hI.2.2.1 rfl rfl (fun _ _ => rfl) (by omega))) fun p hp => (Poz.of p3 hp).le (Nat.zero_le _)
theorem tl_111 (hn : 2000 ≤ nf) (hT : TO t n) (h3 : ∃ p, st 3 = some p) {d : Nat} {K : Nat → CS → Option ((Nat ⊕ Option Nat) × CS)} (ih : ∀ (s : CS) (k : Nat) (w : TV), n - tP t n k < d → Ust st r ta t n z0 o ρ0 w s k → TII t n w k → Ok (K r s) (Poz (RTW z0 r o ρ0) r ta t n z0 0 s k (twL t n d w k))) (h : Ust st r ta t n z0 o ρ0 w s k) (hI : TII t n w k) (hd : n - tP t n k < d + 1) (hlt : tP t n k < n) {j : Nat} (hj : j < 8) (hb : w.2.1.testBit j = false) (h7 : ¬ (j = 7 ∧ w.2.2.1.length = 4)) : Ok (FX1_town_b111 st nf K r (i32 (j : Int)) s) (Poz (RTW z0 r o ρ0) r ta t n z0 0 s k (bP (lnB t n w (j : Int) (k + 1)) fun w' k2 => bP (ndP (isSg t n 59 (tP t n k2)) (tP t n k2) k2) fun _ k3 => twL t n d w' k3)) := by
  have hl := tP_lt hlt
  have hb32 := hI.2.2.1.1
  unfold FX1_town_b111
  refine ok_b (ok_nextk hn hT h.2.1.k h.2.2.1) fun s1 h1 => ?_
  have c1 := Pc.nx h.1 hlt h1.1
  have hU := h.b c1.1 h1.2 h1.1.k6
  have p1 : Pcz r t n z0 16 s k s1 (k + 1) := c1.z h.2.2.2.1
  have hR1 := h1.2
  obtain ⟨o1, o2, o3, o4, o5, o6⟩ := hU.ob
  have hI1 : TII t n w (k + 1) := TII_e hI hI.1 hI.2.1 hI.2.2.1 rfl rfl (fun _ _ => rfl) (by omega)
  have G : ∀ (w' : TV) (k2 : Nat), lnB t n w (j : Int) (k + 1) = .inr (w', k2) → TII t n w' k2 ∧ tP t n (k + 1) ≤ tP t n k2 := fun w' k2 e => lnB_g hI ⟨by omega, by omega⟩ (by rw [Int.toNat_natCast]; exact hb) (fun z => h7 ⟨by omega, z.2⟩) (by omega) e
  have dd : ∀ (i : Nat), i < 8 → ¬ j = i → ¬ i32 (j : Int) = i32 (i : Int) := fun i hi q z => q (by have := (i32_eq (a := (j : Int)) (b := (i : Int)) ⟨by omega, by omega⟩ ⟨by omega, by omega⟩).mp z; omega)
  -- one number
  have N : ∀ (lo hi : Int), ok32 lo → ok32 hi → ¬ j = 4 → j < 5 → lnB t n w (j : Int) (k + 1) = (bP (nmP t n lo hi (tP t n (k + 1)) (k + 1)) fun v k1 => .inr (onS w j v, k1)) → Ok (thr (FX1_number_2 st nf r (i32 lo) (i32 hi) s1) fun v25 s24 => nn (some o) fun p26 => pI s24 p26 [2] (tdf j) v25 fun s27 => FX1_town_b247 st nf K r s27) (Poz (RTW z0 r o ρ0) r ta t n z0 0 s k (bP (lnB t n w (j : Int) (k + 1)) fun w' k2 => bP (ndP (isSg t n 59 (tP t n k2)) (tP t n k2) k2) fun _ k3 => twL t n d w' k3)) := fun lo hi hlo hhi q4 q5 eL => by
    have eB : (bP (lnB t n w (j : Int) (k + 1)) fun w' k2 => bP (ndP (isSg t n 59 (tP t n k2)) (tP t n k2) k2) fun _ k3 => twL t n d w' k3) = bP (nmP t n lo hi (tP t n (k + 1)) (k + 1)) fun v k1 => bP (ndP (isSg t n 59 (tP t n k1)) (tP t n k1) k1) fun _ k3 => twL t n d (onS w j v) k3 := by
      rw [eL]
      cases nmP t n lo hi (tP t n (k + 1)) (k + 1) <;> rfl
    rw [eB]
    refine ok_thz p1 hU.2.2.2.1 (ok_number_2 hn hT hU.2.1.k hU.1 hR1 hlo hhi) fun a v k2 s2 hx g2 p2 hN hR2 => ?_
    obtain ⟨x1, x2, x3, x4, rfl⟩ := nmP_v hx
    obtain ⟨hN, hK6⟩ := hN
    subst hN
    have h2 := hU.b g2 hR2 hK6.1
    obtain ⟨o1, o2, o3, o4, o5, o6⟩ := h2.ob
    rw [nn_eq]
    refine ok_pI o2 rfl ?_
    have fm : Fm [o] s2 (uI s2 (tdf j) o (i32 v)) := Fm.uI h2.1
    have hl1 : ∀ a ∈ [o], z0 ≤ a := fun a ha => by rw [List.mem_singleton.mp ha]; exact o3
    have h2' := h2.m fm hl1 (Uwx.on h2 q5 hb32)
    have hg := G (onS w j v) (k + 1 + 1) (by rw [eL, hx]; rfl)
    exact tl_247 hn hT ih (p2.al 0 (fm.z (r := r) (z0 := z0) hl1 h2.2.2.2.1) (Nat.le_refl _) (Nat.le_refl _)) h2' hg.1 (by omega)
  rw [show (0 : Int32) = i32 ((0 : Nat) : Int) from rfl, show (1 : Int32) = i32 ((1 : Nat) : Int) from rfl, show (2 : Int32) = i32 ((2 : Nat) : Int) from rfl, show (3 : Int32) = i32 ((3 : Nat) : Int) from rfl, show (4 : Int32) = i32 ((4 : Nat) : Int) from rfl, show (5 : Int32) = i32 ((5 : Nat) : Int) from rfl, show (6 : Int32) = i32 ((6 : Nat) : Int) from rfl, show (30 : Int32) = i32 30 from rfl, show (9 : Int32) = i32 9 from rfl]
  rcases (show j = 0 ∨ j = 1 ∨ j = 2 ∨ j = 3 ∨ j = 4 ∨ j = 5 ∨ j = 6 ∨ j = 7 by omega) with z | z | z | z | z | z | z | z
  · subst z
    rw [if_pos rfl]
    exact ok_gRs hR1.1.1 rfl o1 (N 1 30 ⟨by omega, by omega⟩ ⟨by omega, by omega⟩ (by omega) (by omega) rfl)
  · subst z
    rw [if_neg (dd 0 (by omega) (by omega)), if_pos rfl]
    exact ok_gRs hR1.1.1 rfl o1 (N 1 30 ⟨by omega, by omega⟩ ⟨by omega, by omega⟩ (by omega) (by omega) rfl)
  · subst z
    rw [if_neg (dd 0 (by omega) (by omega)), if_neg (dd 1 (by omega) (by omega)), if_pos rfl]
    exact ok_gRs hR1.1.1 rfl o1 (N 1 30 ⟨by omega, by omega⟩ ⟨by omega, by omega⟩ (by omega) (by omega) rfl)
  · subst z
    rw [if_neg (dd 0 (by omega) (by omega)), if_neg (dd 1 (by omega) (by omega)), if_neg (dd 2 (by omega) (by omega)), if_pos rfl]
    exact ok_gRs hR1.1.1 rfl o1 (N 0 9 ⟨by omega, by omega⟩ ⟨by omega, by omega⟩ (by omega) (by omega) rfl)
  · subst z
    rw [if_neg (dd 0 (by omega) (by omega)), if_neg (dd 1 (by omega) (by omega)), if_neg (dd 2 (by omega) (by omega)), if_neg (dd 3 (by omega) (by omega)), if_pos rfl]
    refine ok_gRs hR1.1.1 rfl o1 ?_
    rw [nn_eq]
    refine ok_g (by decide) (ok_pI o2 rfl ?_)
    have fm : Fm [o] s1 (uI s1 (tdf 4) o (i32 1)) := Fm.uI hU.1
    have hl1 : ∀ a ∈ [o], z0 ≤ a := fun a ha => by rw [List.mem_singleton.mp ha]; exact o3
    have h2' := hU.m fm hl1 (Uwx.on hU (j := 4) (v := 1) (by omega) hb32)
    have hg := G (onS w 4 1) (k + 1) rfl
    exact tl_247 hn hT ih (p1.al 0 (fm.z (r := r) (z0 := z0) hl1 hU.2.2.2.1) (Nat.le_refl _) (Nat.le_refl _)) h2' hg.1 (by omega)
  · subst z
    rw [if_neg (dd 0 (by omega) (by omega)), if_neg (dd 1 (by omega) (by omega)), if_neg (dd 2 (by omega) (by omega)), if_neg (dd 3 (by omega) (by omega)), if_neg (dd 4 (by omega) (by omega)), if_pos rfl]
    refine ok_thy p1 (x := lnB t n w ((5 : Nat) : Int) (k + 1)) (ok_light hn hT hU hI.1) fun a w' k2 s2 hx g2 p2 hN hR2 => ?_
    have hg := G w' k2 hx
    exact tl_247 hn hT ih p2 ⟨g2.2.1, hU.2.1.z g2, hR2, Nat.le_trans hU.2.2.2.1 g2.2.2.1, hN, hU.2.2.2.2.2⟩ hg.1 (by omega)
  · subst z
    rw [if_neg (dd 0 (by omega) (by omega)), if_neg (dd 1 (by omega) (by omega)), if_neg (dd 2 (by omega) (by omega)), if_neg (dd 3 (by omega) (by omega)), if_neg (dd 4 (by omega) (by omega)), if_neg (dd 5 (by omega) (by omega)), if_pos rfl]
    refine ok_thy p1 (x := lnB t n w ((6 : Nat) : Int) (k + 1)) (ok_bar hn hT hU hI.1) fun a w' k2 s2 hx g2 p2 hN hR2 => ?_
    have hg := G w' k2 hx
    exact tl_247 hn hT ih p2 ⟨g2.2.1, hU.2.1.z g2, hR2, Nat.le_trans hU.2.2.2.1 g2.2.2.1, hN, hU.2.2.2.2.2⟩ hg.1 (by omega)
  · subst z
    rw [if_neg (dd 0 (by omega) (by omega)), if_neg (dd 1 (by omega) (by omega)), if_neg (dd 2 (by omega) (by omega)), if_neg (dd 3 (by omega) (by omega)), if_neg (dd 4 (by omega) (by omega)), if_neg (dd 5 (by omega) (by omega)), if_neg (dd 6 (by omega) (by omega))]
    have h8 := hI.1.2.2.2.2.2.2.2.2.1
    have hlen := hI.2.2.2.1
    refine ok_thy p1 (x := lnB t n w ((7 : Nat) : Int) (k + 1)) (ok_rule hn hT h3 hU hI.1 ⟨hI.2.2.2.2.1.symm, by omega⟩) fun a w' k2 s2 hx g2 p2 hN hR2 => ?_
    have hg := G w' k2 hx
    exact tl_247 hn hT ih p2 ⟨g2.2.1, hU.2.1.z g2, hR2, Nat.le_trans hU.2.2.2.1 g2.2.2.1, hN, hU.2.2.2.2.2⟩ hg.1 (by omega)
theorem tl_47 (hn : 2000 ≤ nf) (hT : TO t n) (h3 : ∃ p, st 3 = some p) : ∀ (d m : Nat) (s : CS) (k : Nat) (w : TV), n - tP t n k < d → d ≤ m → Ust st r ta t n z0 o ρ0 w s k → TII t n w k → Ok (FX1_town_b47 st nf m r s) (Poz (RTW z0 r o ρ0) r ta t n z0 0 s k (twL t n d w k)) := by
  intro d
  induction d with
  | zero => intro m s k w h; omega
  | succ d ih =>
    intro m s k w h1 h2 h hI
    obtain ⟨m, rfl⟩ : ∃ q, m = q + 1 := ⟨m - 1, by omega⟩
    have hR := h.2.2.1
    obtain ⟨o1, o2, o3, o4, o5, o6⟩ := h.ob
    have hs := (tS_b (t := t) (n := n) (f := tP t n k))
    have hb := whV_b lnW t n (tP t n k)
    have hll : (lnW.length : Int) = 8 := rfl
    unfold twL
    rw [show FX1_town_b47 st nf (m + 1) = FX1_town_b47_s st nf (FX1_town_b47 st nf m) from rfl]
    unfold FX1_town_b47_s
    refine ok_gI hR.1.1 rfl ?_
    rw [hR.2.2.1, show (0 : Int32) = i32 0 from rfl]
    refine ok_q ⟨by omega, by omega⟩ ⟨by omega, by omega⟩ (fun q => ?_) (fun q => ?_)
    · rw [if_pos (show tS t n (tP t n k) = 0 by omega)]
      exact ok_gRs hR.1.1 rfl o1 (ok_s ⟨Pz.rf h.1, ⟨some o, rfl, rfl, h.2.2.2.2.1⟩, hR, Pcz.rf h.1⟩)
    · rw [if_neg (show ¬ tS t n (tP t n k) = 0 by omega)]
      have hlt := tS_lt (t := t) (show ¬ tS t n (tP t n k) = 0 by omega)
      obtain ⟨p, q1, q2⟩ := h.2.1.k 2 (by omega)
      rw [wL_s.2.1] at q2
      rw [show st 12 = some p from q1, nn_eq]
      refine ok_be (c_which (by omega) hT hR q2 wW_n.2.1 (by decide)) ?_
      rw [lnX_R]
      unfold lnR
      generalize whV lnW t n (tP t n k) = j at hb ⊢
      have E : ∀ kd : Int, Ok (bd2 (FX1_wrong st r (i32 kd) s) fun r4 s3 => nn r4 fun p5 => gd (isK s3 p5 [10]) (some ((.inl p5 : Nat ⊕ Option Nat), s3))) (Poz (RTW z0 r o ρ0) r ta t n z0 0 s k (.inl (kd + 16 * (tP t n k : Int)))) := fun kd => ok_twz (Pcz.rf h.1) h.2.2.2.1 hR.1.1 hR.2.2.2.1
      refine ok_le ⟨by omega, by omega⟩ ⟨by omega, by omega⟩ (fun q3 => ?_) (fun q3 => ?_)
      · rw [if_neg (show ¬ j < 0 by omega)]
        obtain ⟨j, rfl⟩ : ∃ q : Nat, j = q := ⟨j.toNat, by omega⟩
        rw [Int.toNat_natCast]
        refine ok_be (c_isTold h hI (by omega)) ?_
        cases hbit : w.2.1.testBit j with
        | true =>
          rw [if_neg (show ¬ bi true = i32 0 by decide), if_pos rfl, show (3 : Int32) = i32 3 from rfl]
          exact E 3
        | false =>
          rw [if_pos (show bi false = i32 0 from rfl), if_neg (show ¬ (false = true) by decide), show (7 : Int32) = i32 7 from rfl]
          have H : ¬ (j = 7 ∧ w.2.2.1.length = 4) → Ok (FX1_town_b111 st nf (FX1_town_b47 st nf m) r (i32 (j : Int)) s) (Poz (RTW z0 r o ρ0) r ta t n z0 0 s k (bP (bP (lnB t n w (j : Int) (k + 1)) fun w' k2 => bP (ndP (isSg t n 59 (tP t n k2)) (tP t n k2) k2) fun _ k3 => .inr (w', k3)) fun w' k' => twL t n d w' k')) := fun z => by
            have eB : (bP (bP (lnB t n w (j : Int) (k + 1)) fun w' k2 => bP (ndP (isSg t n 59 (tP t n k2)) (tP t n k2) k2) fun _ k3 => .inr (w', k3)) fun w' k' => twL t n d w' k') = bP (lnB t n w (j : Int) (k + 1)) fun w' k2 => bP (ndP (isSg t n 59 (tP t n k2)) (tP t n k2) k2) fun _ k3 => twL t n d w' k3 := by
              cases lnB t n w (j : Int) (k + 1) with
              | inl e => rfl
              | inr y =>
                obtain ⟨w', k2⟩ := y
                show bP (bP (ndP (isSg t n 59 (tP t n k2)) (tP t n k2) k2) fun _ k3 => .inr (w', k3)) (fun w' k' => twL t n d w' k') = bP (ndP (isSg t n 59 (tP t n k2)) (tP t n k2) k2) fun _ k3 => twL t n d w' k3
                cases ndP (isSg t n 59 (tP t n k2)) (tP t n k2) k2 <;> rfl
            rw [eB]
            exact tl_111 hn hT h3 (fun s k w a1 a2 a3 => ih m s k w a1 (by omega) a2 a3) h hI h1 hlt (by omega) hbit z
          refine ok_q ⟨by omega, by omega⟩ ⟨by omega, by omega⟩ (fun q7 => ?_) (fun q7 => ?_)
          · obtain ⟨hh, nb, ρ, h9, e1, -⟩ := id h.2.2.2.2.1.2.2
            obtain ⟨NL, hN⟩ := h9.2.1
            rw [e1] at hN
            have h8 := hI.1.2.2.2.2.2.2.2.2.1
            have hlen := hI.2.2.2.1
            refine ok_gRs hR.1.1 rfl o1 ?_
            rw [nn_eq]
            refine ok_gRs o2 rfl hN.2.1 ?_
            rw [nn_eq]
            refine ok_be (ls_size hN.2.2.1) ?_
            rw [hN.2.2.2.1, show (4 : Int32) = i32 4 from rfl]
            refine ok_q ⟨by omega, by omega⟩ ⟨by omega, by omega⟩ (fun q8 => ?_) (fun q8 => ?_)
            · rw [if_pos ⟨q7, by omega⟩, show (5 : Int32) = i32 5 from rfl]
              exact E 5
            · rw [if_neg (fun z => by omega)]
              exact H (fun z => by omega)
          · rw [if_neg (fun z => q7 z.1)]
            exact H (fun z => by omega)
      · rw [if_pos q3, show (1 : Int32) = i32 1 from rfl]
        exact E 1
end CT
