/-! LAYER 2: a whole line of a light; rules: the component -/
set_option maxRecDepth 100000
section LJ
variable {r ta n z0 o : Nat} {t : Nat → Int} {st : Nat → Option Nat} {s s' : CS} {nf : Nat} {ρ0 : Nat → Nat × Nat} {w w' : TV} {k k' : Nat}
theorem li_37 (hn : 2000 ≤ nf) (hT : TO t n) (hW : TW w.1) {s0 : CS} {k0 u : Nat} (h0 : Pcz r t n z0 u s0 k0 s k) (h : Ust st r ta t n z0 o ρ0 w s k) {x : Nat} (hx : (x : Int) < w.1 0) : Ok (FX1_light_b37 st nf r (i32 (x : Int)) s) (Poz (RLN z0 r o ρ0) r ta t n z0 u s0 k0 (bP (nmP t n 0 (w.1 1 - 1) (tP t n k) k) fun y k2 => if whV kdW t n (tP t n k2) < 0 then .inl (1 + 16 * (tP t n k2 : Int)) else liP2 t n w (6 * y.toNat + x) (whV kdW t n (tP t n k2)) (k2 + 1))) := by
  have a0 := hW.1
  have a1 := hW.2.1
  have a9 := hW.2.2.2.2.2.2.2.2.2.1
  have hR := h.2.2.1
  obtain ⟨o1, o2, o3, o4, o5, o6⟩ := h.ob
  unfold FX1_light_b37
  refine ok_gRs hR.1.1 rfl o1 ?_
  rw [nn_eq]
  refine ok_gI o2 rfl ?_
  rw [o6, show (0 : Int32) = i32 0 from rfl, show (1 : Int32) = i32 1 from rfl, i32_sub]
  refine ok_thz h0 h.2.2.2.1 (ok_number_2 hn hT h.2.1.k h.1 hR ⟨by omega, by omega⟩ ⟨by omega, by omega⟩) fun a y k1 s1 hx1 g1 p1 hN hR1 => ?_
  obtain ⟨y1, y2, y3, y4, rfl⟩ := nmP_v hx1
  obtain ⟨hN, hK6⟩ := hN
  subst hN
  have h1 := h.b g1 hR1 hK6.1
  clear hx1 y2
  obtain ⟨y, rfl⟩ : ∃ q : Nat, y = q := ⟨y.toNat, by omega⟩
  rw [Int.toNat_natCast]
  have hc : 6 * y + x < 54 := by omega
  obtain ⟨pk, q1, q2⟩ := h1.2.1.k 3 (by omega)
  rw [wL_s.2.2.1] at q2
  have hb := whV_b kdW t n (tP t n (k + 1))
  have hl : (kdW.length : Int) = 4 := rfl
  rw [show st 13 = some pk from q1, nn_eq]
  refine ok_be (c_which (by omega) hT hR1 q2 wW_n.2.2.1 (by decide)) ?_
  have hlt4 : 0 ≤ whV kdW t n (tP t n (k + 1)) → tP t n (k + 1) < n := fun z => whV_lt z
  generalize whV kdW t n (tP t n (k + 1)) = kd at hb hlt4 ⊢
  refine ok_le ⟨by omega, by omega⟩ ⟨by omega, by omega⟩ (fun q => ?_) (fun q => ?_)
  · rw [if_neg (show ¬ kd < 0 by omega)]
    unfold liP2
    refine ok_b (ok_nextk hn hT h1.2.1.k hR1) fun s2 h2 => ?_
    have c2 := (Pc.nx h1.1 (hlt4 q) h2.1)
    have h2' := h1.b c2.1 h2.2 h2.1.k6
    have p2 := p1.tr (c2.z h1.2.2.2.1)
    obtain ⟨pr, q3, q4⟩ := h2'.2.1.k 4 (by omega)
    rw [wL_s.2.2.2.1] at q4
    rw [show st 14 = some pr from q3, nn_eq]
    refine ok_thz p2 h2'.2.2.2.1 (ok_need hn hT h2'.2.1.k h2'.1 h2.2 q4 wW_n.2.2.2.1 (by decide)) fun b u1 k3 s3 hx3 g3 p3 hU hR3 => ?_
    obtain ⟨hd1, rfl⟩ := ndP_i hx3
    have h3 := h2'.b g3 hR3 hU.1
    obtain ⟨o1, o2, o3, o4, o5, o6⟩ := h3.ob
    obtain ⟨la, l1, l2, l3, l4⟩ := h3.la
    have hs3 := (tS_b (t := t) (n := n) (f := tP t n (k + 1 + 1 + 1))).1
    have GO : ¬ (tS t n (tP t n (k + 1 + 1 + 1)) = 2 ∧ kd < 2 ∧ (1 ≤ nV t n (tP t n (k + 1 + 1 + 1)) ∧ nV t n (tP t n (k + 1 + 1 + 1)) ≤ 60) ∧ 1200 < lcI (w.1 9) (nV t n (tP t n (k + 1 + 1 + 1)))) → Ok (FX1_light_b144 st nf r (i32 (x : Int)) (i32 (y : Int)) (i32 kd) s3) (Poz (RLN z0 r o ρ0) r ta t n z0 u s0 k0 (if tS t n (tP t n (k + 1 + 1 + 1)) = 2 ∧ kd < 2 ∧ (1 ≤ nV t n (tP t n (k + 1 + 1 + 1)) ∧ nV t n (tP t n (k + 1 + 1 + 1)) ≤ 60) ∧ 1200 < lcI (w.1 9) (nV t n (tP t n (k + 1 + 1 + 1))) then .inl (4 + 16 * (tP t n (k + 1 + 1 + 1) : Int)) else bP (nmP t n 1 60 (tP t n (k + 1 + 1 + 1)) (k + 1 + 1 + 1)) fun rd k4 => bP (nwP t n ovW 0 (rd - 1) k4) fun ov k6 => bP (nwP t n foW 0 rd k6) fun le k8 => .inr (liS w (6 * y + x) kd rd ov le, k8))) := fun z => by
      rw [if_neg z]
      exact ok_w (li_144 hn hT hW p3 h3 hc (by omega)) fun p hp => hp.le (by omega)
    refine ok_gI hR3.1.1 rfl ?_
    rw [hR3.2.2.1, show (2 : Int32) = i32 2 from rfl]
    refine ok_q ⟨by omega, by omega⟩ ⟨by omega, by omega⟩ (fun q5 => ?_) (fun q5 => GO (fun z => by omega))
    have q5 : tS t n (tP t n (k + 1 + 1 + 1)) = 2 := by omega
    refine ok_le ⟨by omega, by omega⟩ ⟨by omega, by omega⟩ (fun q6 => GO (fun z => by omega)) (fun q6 => ?_)
    have hv := nV_b (tS_2 q5).1 (tS_2 q5).2.2 (tS_2 q5).2.1
    have L := c_value (nf := nf) (by omega) hT hR3 q5
    rw [show (60 : Int32) = i32 60 from rfl]
    refine ok_be L (ok_be (c_in (by omega) (by omega) (by omega) (by omega) (by omega) (by omega)) ?_)
    by_cases q7 : 1 ≤ nV t n (tP t n (k + 1 + 1 + 1)) ∧ nV t n (tP t n (k + 1 + 1 + 1)) ≤ 60
    · rw [decide_eq_true q7, if_neg (show ¬ bi true = i32 0 by decide)]
      refine ok_gRs hR3.1.1 rfl o1 ?_
      rw [nn_eq]
      refine ok_gI o2 rfl (ok_gRs hR3.1.1 rfl o1 ?_)
      rw [nn_eq]
      refine ok_gI o2 rfl (ok_be L ?_)
      rw [l3]
      obtain ⟨cm, ecm⟩ : ∃ q : Nat, w.1 9 = q := ⟨(w.1 9).toNat, by omega⟩
      obtain ⟨rn, ern⟩ : ∃ q : Nat, nV t n (tP t n (k + 1 + 1 + 1)) = q := ⟨(nV t n (tP t n (k + 1 + 1 + 1))).toNat, by omega⟩
      have hgp : 0 < Nat.gcd cm rn := Nat.gcd_pos_of_pos_left rn (by omega)
      have hgl : Nat.gcd cm rn ≤ cm := Nat.le_of_dvd (by omega) (Nat.gcd_dvd_left cm rn)
      have EQ : FX0_gcd s3 50 (i32 (w.1 9)) (i32 (nV t n (tP t n (k + 1 + 1 + 1)))) = some (i32 ((Nat.gcd cm rn : Nat) : Int)) := by
        rw [ecm, ern]
        exact c_gcdI (by omega) (by omega)
      have elc : lcI (w.1 9) (nV t n (tP t n (k + 1 + 1 + 1))) = ((cm / Nat.gcd cm rn * rn : Nat) : Int) := by
        unfold lcI
        rw [ecm, ern, Int.toNat_natCast, Int.toNat_natCast]
      have hle : cm / Nat.gcd cm rn * rn ≤ 1200 * 60 := Nat.mul_le_mul (Nat.le_trans (Nat.div_le_self _ _) (by omega)) (by omega)
      have EQ2 : i32 (w.1 9) / i32 ((Nat.gcd cm rn : Nat) : Int) * i32 (nV t n (tP t n (k + 1 + 1 + 1))) = i32 (lcI (w.1 9) (nV t n (tP t n (k + 1 + 1 + 1)))) := by
        rw [elc, ecm, ern, div_c (by omega) (by omega) (by omega) (by omega), i32_mul, Int.natCast_mul, Int.natCast_ediv]
      refine ok_be EQ (ok_d32 (by omega) (by omega) (ok_be L ?_))
      rw [EQ2, show (1200 : Int32) = i32 1200 from rfl]
      refine ok_le ⟨by omega, by omega⟩ ⟨by omega, by omega⟩ (fun q8 => GO (fun z => by omega)) (fun q8 => ?_)
      rw [if_pos ⟨q5, q6, q7, q8⟩]
      exact ok_twz (kd := 4) p3 h3.2.2.2.1 hR3.1.1 hR3.2.2.2.1
    · rw [decide_eq_false q7, if_pos (show bi false = i32 0 from rfl)]
      exact GO (fun z => q7 z.2.2.1)
  · rw [if_pos q]
    exact ok_twz (kd := 1) p1 h1.2.2.2.1 hR1.1.1 hR1.2.2.2.1
theorem ok_light (hn : 2000 ≤ nf) (hT : TO t n) (h : Ust st r ta t n z0 o ρ0 w s k) (hW : TW w.1) : Ok (FX1_light st nf r s) (Poz (RLN z0 r o ρ0) r ta t n z0 0 s k (liP t n w k)) := by
  have a0 := hW.1
  have a1 := hW.2.1
  obtain ⟨o1, o2, o3, o4, o5, o6⟩ := h.ob
  have hr := h.2.2.1.1.1
  unfold FX1_light liP
  refine Poz.mz (ok_gd hr rfl (ok_gRs hr rfl o1 ?_))
  rw [nn_eq]
  refine ok_gI o2 rfl ?_
  rw [o5, show (0 : Int32) = i32 0 from rfl, show (1 : Int32) = i32 1 from rfl, i32_sub]
  refine ok_thz (Pcz.rf h.1) h.2.2.2.1 (ok_number_2 hn hT h.2.1.k h.1 h.2.2.1 ⟨by omega, by omega⟩ ⟨by omega, by omega⟩) fun a x k1 s1 hx1 g1 p1 hN hR1 => ?_
  obtain ⟨x1, x2, x3, x4, rfl⟩ := nmP_v hx1
  obtain ⟨hN, hK6⟩ := hN
  subst hN
  have h1 := h.b g1 hR1 hK6.1
  clear hx1 x2
  obtain ⟨x, rfl⟩ : ∃ q : Nat, x = q := ⟨x.toNat, by omega⟩
  rw [Int.toNat_natCast]
  have hs1 := (tS_b (t := t) (n := n) (f := tP t n (k + 1))).1
  have GO : ¬ (tS t n (tP t n (k + 1)) = 2 ∧ (0 ≤ nV t n (tP t n (k + 1)) ∧ nV t n (tP t n (k + 1)) ≤ w.1 1 - 1) ∧ 0 < w.1 (10 + 4 * (6 * (nV t n (tP t n (k + 1))).toNat + x))) → Ok (FX1_light_b37 st nf r (i32 (x : Int)) s1) (Poz (RLN z0 r o ρ0) r ta t n z0 0 s k (if tS t n (tP t n (k + 1)) = 2 ∧ (0 ≤ nV t n (tP t n (k + 1)) ∧ nV t n (tP t n (k + 1)) ≤ w.1 1 - 1) ∧ 0 < w.1 (10 + 4 * (6 * (nV t n (tP t n (k + 1))).toNat + x)) then .inl (3 + 16 * (tP t n (k + 1) : Int)) else bP (nmP t n 0 (w.1 1 - 1) (tP t n (k + 1)) (k + 1)) fun y k2 => if whV kdW t n (tP t n k2) < 0 then .inl (1 + 16 * (tP t n k2 : Int)) else liP2 t n w (6 * y.toNat + x) (whV kdW t n (tP t n k2)) (k2 + 1))) := fun z => by
    rw [if_neg z]
    exact ok_w (li_37 hn hT hW p1 h1 (by omega)) fun p hp => hp.le (Nat.zero_le _)
  refine ok_gI hR1.1.1 rfl ?_
  rw [hR1.2.2.1, show (2 : Int32) = i32 2 from rfl]
  refine ok_q ⟨by omega, by omega⟩ ⟨by omega, by omega⟩ (fun q5 => ?_) (fun q5 => GO (fun z => by omega))
  have q5 : tS t n (tP t n (k + 1)) = 2 := by omega
  refine ok_be (c_isLit (by omega) hT h1 hW (by omega) q5) ?_
  by_cases q : (0 ≤ nV t n (tP t n (k + 1)) ∧ nV t n (tP t n (k + 1)) ≤ w.1 1 - 1) ∧ 0 < w.1 (10 + 4 * (6 * (nV t n (tP t n (k + 1))).toNat + x))
  · rw [decide_eq_true q, if_neg (show ¬ bi true = i32 0 by decide), if_pos ⟨q5, q⟩, show (3 : Int32) = i32 3 from rfl]
    exact ok_twz (kd := 3) p1 h1.2.2.2.1 hR1.1.1 hR1.2.2.2.1
  · rw [decide_eq_false q, if_pos (show bi false = i32 0 from rfl)]
    exact GO (fun z => q z.2)
end LJ
