/-! LAYER 2: paces along a walk: the twin's ask -/
set_option maxRecDepth 100000
section PU
variable {W : Nat → Int} {S : Nat → Nat → Int} {V m Tp : Nat → Int} {RC : Nat → List (Nat × Int)} {τ : TS} {T : Int} {nf : Nat} {sec : Int}
theorem tIp_b {k t r : Nat} (hk : k ≤ 12) (ht : t ≤ 90 * k) (hr : r ≤ 9) : tIp k t r < 156000 := by
  unfold tIp
  omega
theorem tIp_inj {k t r k2 t2 r2 : Nat} (hr : r ≤ 9) (hr2 : r2 ≤ 9) (ht : t < 1200) (ht2 : t2 < 1200) (h : tIp k t r = tIp k2 t2 r2) : k = k2 ∧ t = t2 ∧ r = r2 := by
  unfold tIp at h
  omega
theorem Mpc.sA {k t r : Nat} (hM : Mpc W V sec τ) (hW : TW W) (hV : VW W V) (hk : (k : Int) < V 0) (ht : t ≤ 90 * k) (hr : (r : Int) ≤ rsA W) {v : Int} (hv : v = wvP (pcN W V sec ((V 0).toNat - k) k t r)) : Mpc W V sec (sA τ 36 (tIp k t r) (i32 v)) := by
  have v0 := hV.1
  have hrs := rs_b hW
  refine ⟨hM.1, fun k2 t2 r2 h1 h2 h3 => ?_⟩
  rw [tA_sA, if_pos rfl]
  by_cases e : tIp k2 t2 r2 = tIp k t r
  · right
    obtain ⟨e1, e2, e3⟩ := tIp_inj (by omega) (by omega) (by omega) (by omega) e
    rw [e, upd_e, hv, e1, e2, e3]
  · rw [upd_n _ _ e]
    exact hM.2 k2 t2 r2 h1 h2 h3
theorem t_bp49 (hn : 100 ≤ nf) (hW : TW W) (hV : VW W V) (hs : 0 ≤ sec ∧ sec ≤ 1000000) {k t r : Nat} {rc : Int32 → Int32 → Int32 → TS → Option (Int32 × TS)} {τ0 : TS} (tb0 : TB W S V m Tp RC τ0) (hk : (k : Int) < V 0) (ht : t ≤ 90 * k) (hr : (r : Int) ≤ rsA W) (hrc : ∀ (t2 r2 : Nat) (τ2 : TS), Tk τ0 τ2 → Mpc W V sec τ2 → t2 ≤ 90 * (k + 1) → (r2 : Int) ≤ rsA W → Ok (rc (i32 ((k + 1 : Nat) : Int)) (i32 t2) (i32 r2) τ2) fun p => p.1 = i32 (wvP (pcN W V sec ((V 0).toNat - (k + 1)) (k + 1) t2 r2)) ∧ Tk τ2 p.2 ∧ Mpc W V sec p.2) : ∀ (n N : Nat) (x bst : Int) (τ : TS), x + n = swA W + 1 → n < N → 1 ≤ x → 1 ≤ bst ∧ bst ≤ 2000000000 → mnR (hF W V sec k t r) n x bst = wvP (pcN W V sec ((V 0).toNat - k) k t r) → Tk τ0 τ → Mpc W V sec τ → Ok (T_bestPace_b49 nf rc N (i32 k) (i32 t) (i32 r) (i32 ((tIp k t r : Nat) : Int)) (i32 bst) (i32 x) τ) fun p => p.1 = i32 (wvP (pcN W V sec ((V 0).toNat - k) k t r)) ∧ Tk τ0 p.2 ∧ Mpc W V sec p.2 := by
  have v0 := hV.1
  have hrs := rs_b hW
  have hf := fs_b hW
  have hix := tIp_b (k := k) (t := t) (r := r) (by omega) ht (by omega)
  intro n
  induction n with
  | zero =>
    intro N x bst τ h1 h2 h3 h4 h5 hq hM
    obtain ⟨N, rfl⟩ : ∃ q, N = q + 1 := ⟨N - 1, by omega⟩
    have tb := tb0.q hq.1
    have h5 : bst = wvP (pcN W V sec ((V 0).toNat - k) k t r) := h5
    rw [show T_bestPace_b49 nf rc (N + 1) = T_bestPace_b49_s nf rc (T_bestPace_b49 nf rc N) from rfl]
    unfold T_bestPace_b49_s
    refine ok_be (s_slowest hW tb.1) ?_
    refine ok_lt ⟨by omega, by omega⟩ ⟨by omega, by omega⟩ (fun _ => ?_) (fun z => by omega)
    refine ok_sA (by omega) (by show _ < ((156000 : Nat) : Int); omega) (by decide) (ok_ld (by omega) (by show _ < ((156000 : Nat) : Int); omega) (by decide) ?_)
    rw [Int.toNat_natCast, tA_sA, if_pos rfl, upd_e, h5]
    exact ok_s ⟨rfl, hq.tr (Tk.sA rfl rfl), hM.sA hW hV hk ht hr rfl⟩
  | succ n ih =>
    intro N x bst τ h1 h2 h3 h4 h5 hq hM
    obtain ⟨N, rfl⟩ : ∃ q, N = q + 1 := ⟨N - 1, by omega⟩
    have tb := tb0.q hq.1
    have hb := hF_b (sec := sec) (r := r) (x := x) hW hV hk ht (by omega)
    have hm := mn2_le (a := bst) (b := hF W V sec k t r x)
    rw [show T_bestPace_b49 nf rc (N + 1) = T_bestPace_b49_s nf rc (T_bestPace_b49 nf rc N) from rfl]
    unfold T_bestPace_b49_s
    refine ok_be (s_slowest hW tb.1) ?_
    refine ok_lt ⟨by omega, by omega⟩ ⟨by omega, by omega⟩ (fun z => by omega) (fun _ => ?_)
    refine ok_2 (t_paceBy hn tb hW hV hs hM hk ht hr (by omega) (fun t2 r2 a1 a2 => hrc t2 r2 τ hq hM a1 a2)) fun v τ1 hv => ?_
    have hv0 : v = i32 (hF W V sec k t r x) := hv.1
    rw [hv0, show (1 : Int32) = i32 1 from rfl, i32_add]
    have h5 : mnR (hF W V sec k t r) n (x + 1) (mn2 bst (hF W V sec k t r x)) = wvP (pcN W V sec ((V 0).toNat - k) k t r) := h5
    refine ok_le ⟨by omega, by omega⟩ ⟨by omega, by omega⟩ (fun q => ?_) (fun q => ?_)
    · have e : mn2 bst (hF W V sec k t r x) = bst := if_neg (by omega)
      rw [e] at h5
      exact ih N (x + 1) bst τ1 (by omega) (by omega) (by omega) h4 h5 (hq.tr hv.2.1) hv.2.2
    · have e : mn2 bst (hF W V sec k t r x) = hF W V sec k t r x := if_pos q
      rw [e] at h5
      exact ih N (x + 1) (hF W V sec k t r x) τ1 (by omega) (by omega) (by omega) hb h5 (hq.tr hv.2.1) hv.2.2
theorem t_bestPace (hn : 100 ≤ nf) (hW : TW W) (hV : VW W V) (hs : 0 ≤ sec ∧ sec ≤ 1000000) {τ0 : TS} (tb0 : TB W S V m Tp RC τ0) : ∀ (d dp k t r : Nat) (τ : TS), (k : Int) + d = V 0 → d < dp → t ≤ 90 * k → (r : Int) ≤ rsA W → Tk τ0 τ → Mpc W V sec τ → Ok (T_bestPace nf dp (i32 k) (i32 t) (i32 r) τ) fun p => p.1 = i32 (wvP (pcN W V sec ((V 0).toNat - k) k t r)) ∧ Tk τ p.2 ∧ Mpc W V sec p.2 := by
  have v0 := hV.1
  have hrs := rs_b hW
  have hf := fs_b hW
  intro d
  induction d with
  | zero =>
    intro dp k t r τ h1 h2 ht hr hq hM
    obtain ⟨dp, rfl⟩ : ∃ q, dp = q + 1 := ⟨dp - 1, by omega⟩
    have tb := tb0.q hq.1
    show Ok (T_bestPace_s nf (T_bestPace nf dp) _ _ _ _) _
    unfold T_bestPace_s
    rw [show (0 : Int32) = i32 ((0 : Nat) : Int) from rfl, s_wk tb (by omega)]
    refine ok_q ⟨by omega, by omega⟩ ⟨by omega, by omega⟩ (fun _ => ?_) (fun z => by omega)
    rw [show (V 0).toNat - k = 0 by omega, show (1 : Int32) = i32 1 from rfl, i32_add]
    have e : wvP (pcN W V sec 0 k t r) = 1 + (t : Int) := by
      show (if (t : Int) = 100000000 then (2000000000 : Int) else t + 1) = _
      rw [if_neg (by omega)]
      omega
    rw [e]
    exact ok_s ⟨rfl, Tk.rf, hM⟩
  | succ d ih =>
    intro dp k t r τ h1 h2 ht hr hq hM
    obtain ⟨dp, rfl⟩ : ∃ q, dp = q + 1 := ⟨dp - 1, by omega⟩
    have tb := tb0.q hq.1
    have hk : (k : Int) < V 0 := by omega
    have hix := tIp_b (k := k) (t := t) (r := r) (by omega) ht (by omega)
    have hb := tw_b (sec := sec) hW hV (k := k) (t := t) (r := r) (by omega) ht
    show Ok (T_bestPace_s nf (T_bestPace nf dp) _ _ _ _) _
    unfold T_bestPace_s
    rw [show (0 : Int32) = i32 ((0 : Nat) : Int) from rfl, s_wk tb (by omega)]
    refine ok_q ⟨by omega, by omega⟩ ⟨by omega, by omega⟩ (fun z => by omega) (fun _ => ?_)
    have ei : (((i32 (k : Int)) * 1200 + i32 (t : Int)) * 10) + i32 (r : Int) = i32 ((tIp k t r : Nat) : Int) := by
      rw [show (1200 : Int32) = i32 1200 from rfl, show (10 : Int32) = i32 10 from rfl, i32_mul, i32_add, i32_mul, i32_add]
      rfl
    rw [ei, nm_eq]
    refine ok_ld (by omega) (by show _ < ((156000 : Nat) : Int); omega) (by decide) ?_
    rw [Int.toNat_natCast]
    rcases hM.2 k t r hk ht hr with z | z
    · rw [z, if_pos (show i32 0 = i32 ((0 : Nat) : Int) from rfl)]
      refine ok_be (s_fastest hW tb.1) ?_
      exact t_bp49 hn hW hV hs tb hk ht hr (fun t2 r2 τ2 a1 a2 a3 a4 => ih dp (k + 1) t2 r2 τ2 (by omega) (by omega) a3 a4 (hq.tr a1) a2) (nsA W) nf (fsA W) 2000000000 τ (by omega) (by omega) (by omega) (by omega) (hF_mn hW hV hk ht) Tk.rf hM
    · rw [z, if_neg (fun y => by have := (i32_eq ⟨by omega, by omega⟩ ⟨by omega, by omega⟩).mp y; omega)]
      refine ok_ld (by omega) (by show _ < ((156000 : Nat) : Int); omega) (by decide) ?_
      rw [Int.toNat_natCast, z]
      exact ok_s ⟨rfl, Tk.rf, hM⟩
/-- the row of seconds up to the one that is asked for -/
theorem tp_169 (hn : 100 ≤ nf) (hW : TW W) (hV : VW W V) (hs : 0 ≤ sec ∧ sec ≤ 1000000) {τ0 : TS} (tb0 : TB W S V m Tp RC τ0) {k t r : Nat} {what : Int} {k155 : Int32 → Int32 → Int32 → Int32 → Int32 → Int32 → TS → Option (Int32 × TS)} {Q : Int32 × TS → Prop} (hk : (k : Int) < V 0) (ht : t ≤ 90 * k) (hr : (r : Int) ≤ rsA W) (hN : ¬ pcN W V sec ((V 0).toNat - k) k t r = 100000000) {z : Int} (hk155 : ∀ τ', Tk τ0 τ' → Mpc W V sec τ' → Ok (k155 (i32 sec) (i32 what) (i32 (if z < W 2 then (r : Int) - 1 else r)) (i32 ((t : Int) + (wtV W V sec k t + z))) (i32 z) (i32 ((k + 1 : Nat) : Int)) τ') Q) : ∀ (d n : Nat) (x : Int) (τ : TS), fstS (pF W V sec k t r) (pM W V sec k t r) d x = z → x + d = swA W + 1 → d < n → 1 ≤ x → pF W V sec k t r z = pM W V sec k t r → z ≤ swA W → Tk τ0 τ → Mpc W V sec τ → Ok (T_pace_b169 nf k155 n (i32 sec) (i32 what) (i32 r) (i32 t) (i32 x) (i32 k) τ) Q := by
  have v0 := hV.1
  have w2 := hW.2.2.1
  have hf := fs_b hW
  have hrs := rs_b hW
  obtain ⟨p1, p2, p3, -⟩ := pc_on hW hV hk (show (0 : Int) ≤ t by omega) hN
  obtain ⟨k1, k2, k3, k4, k5⟩ := vw_k hW hV hk
  have hle := (hV.2 k hk).2.2.1
  have k2 : i32 (V (1 + 2 * k)) = wy (wV V k) := k2
  have hwt := wtV_b (sec := sec) (t := (t : Int)) hW hV hk p1
  have hst := stW_b (wt := wtV W V sec k t)
  have hnb := pcN_b (sec := sec) hW hV ((V 0).toNat - k) k t r (by omega) (by omega)
  unfold pcB at hnb
  have e3 : pcN W V sec ((V 0).toNat - k) k t r = pM W V sec k t r + stW (wtV W V sec k t) := p3
  have eT : wvP (pcN W V sec ((V 0).toNat - k) k t r) = pM W V sec k t r + 1 + stW (wtV W V sec k t) := by
    unfold wvP
    rw [if_neg hN]
    omega
  have hfb := tw_b (sec := sec) hW hV (k := k) (t := t) (r := r) (by omega) ht
  intro d
  induction d with
  | zero =>
    intro n x τ h1 h2 h3 h4 h5 h6 hq hM
    have h1 : x = z := h1
    omega
  | succ d ih =>
    intro n x τ h1 h2 h3 h4 h5 h6 hq hM
    obtain ⟨n, rfl⟩ : ∃ q, n = q + 1 := ⟨n - 1, by omega⟩
    have tb := tb0.q hq.1
    have hP := pF_P (sec := sec) (r := r) (x := x) hW hV hk p1 ht (by omega)
    unfold pcP at hP
    have hhb := hF_b (sec := sec) (r := r) (x := x) hW hV hk ht (by omega)
    have h1 : (if pF W V sec k t r x = pM W V sec k t r then x else fstS (pF W V sec k t r) (pM W V sec k t r) d (x + 1)) = z := h1
    rw [show T_pace_b169 nf k155 (n + 1) = T_pace_b169_s nf k155 (T_pace_b169 nf k155 n) from rfl]
    unfold T_pace_b169_s
    refine ok_2 (t_paceBy hn tb hW hV hs hM hk ht hr (by omega) (fun t2 r2 a1 a2 => t_bestPace hn hW hV hs tb ((V 0).toNat - (k + 1)) 20 (k + 1) t2 r2 τ (by omega) (by omega) a1 a2 Tk.rf hM)) fun v τ1 hv => ?_
    have q1 := hq.tr hv.2.1
    have tb1 := tb0.q q1.1
    refine ok_2 (t_bestPace hn hW hV hs tb1 ((V 0).toNat - k) 20 k t r τ1 (by omega) (by omega) ht hr Tk.rf hv.2.2) fun v3 τ3 hv3 => ?_
    have q3 := q1.tr hv3.2.1
    have tb3 := tb0.q q3.1
    have hv0 : v = i32 (hF W V sec k t r x) := hv.1
    have hv30 : v3 = i32 (wvP (pcN W V sec ((V 0).toNat - k) k t r)) := hv3.1
    have eH : hF W V sec k t r x = if pF W V sec k t r x = 100000000 then 2000000000 else pF W V sec k t r x + 1 + stW (wtV W V sec k t) := by
      unfold hF
      rw [if_pos p1]
      rfl
    have hiff : hF W V sec k t r x = wvP (pcN W V sec ((V 0).toNat - k) k t r) ↔ pF W V sec k t r x = pM W V sec k t r := by
      rw [eH, eT]
      split <;> omega
    rw [hv0, hv30]
    refine ok_q ⟨by omega, by omega⟩ ⟨by omega, by omega⟩ (fun q => ?_) (fun q => ?_)
    · rw [if_pos (hiff.mp q)] at h1
      subst h1
      refine ok_be (s_xAt hn tb3 hW hV (by omega)) ?_
      rw [show (1 : Int32) + 2 * i32 (k : Int) = i32 ((1 + 2 * k : Nat) : Int) by rw [show (1 : Int32) = i32 1 from rfl, show (2 : Int32) = i32 2 from rfl, i32_mul, i32_add]; rfl, s_wk tb3 (by omega), k2, i32_sub, show (k : Int) - (xW V k : Int) = ((k - xW V k : Nat) : Int) by omega, i32_add]
      refine ok_be (s_waitFor hn hW tb3.1 k3 k4 ⟨by omega, by omega⟩ (cg_ev p1).2.2) ?_
      rw [nm_eq, show (2 : Int32) = i32 ((2 : Nat) : Int) from rfl, s_ld τ3 tb3.1 (by omega), nm_eq, nm_eq, i32_add, i32_add, show (1 : Int32) = i32 1 from rfl, i32_add, show (0 : Int32) = i32 0 from rfl, i32_sub, i32_sub]
      have K := hk155 τ3 q3 hv3.2.2
      refine ok_le ⟨by omega, by omega⟩ ⟨by omega, by omega⟩ (fun q4 => ?_) (fun q4 => ?_)
      · rw [if_neg (show ¬ x < W 2 by omega)] at K
        rw [Int.sub_zero]
        exact K
      · rw [if_pos q4] at K
        exact K
    · rw [if_neg (fun y => q (hiff.mpr y))] at h1
      rw [show (1 : Int32) = i32 1 from rfl, i32_add]
      exact ih n (x + 1) τ3 h1 (by omega) (by omega) (by omega) h5 h6 q3 hv3.2.2
theorem tp_155 (hn : 100 ≤ nf) (hW : TW W) (hV : VW W V) (hs : 0 ≤ sec ∧ sec ≤ 1000000) {τ0 : TS} (tb0 : TB W S V m Tp RC τ0) {what : Int} (hw : 2 ≤ what ∧ what ≤ 1 + V 0) : ∀ (d n k t r : Nat) (c : Int) (τ : TS), (k : Int) + d = what - 1 → d < n → t ≤ 90 * k → (r : Int) ≤ rsA W → ¬ pcN W V sec ((V 0).toNat - k) k t r = 100000000 → Tk τ0 τ → Mpc W V sec τ → Ok (T_pace_b155 nf n (i32 sec) (i32 what) (i32 r) (i32 t) (i32 c) (i32 k) τ) fun p => p.1 = i32 (psP W V sec d k t r c) ∧ Tk τ0 p.2 := by
  have v0 := hV.1
  have w2 := hW.2.2.1
  have hf := fs_b hW
  have hrs := rs_b hW
  intro d
  induction d with
  | zero =>
    intro n k t r c τ h1 h2 ht hr hN hq hM
    obtain ⟨n, rfl⟩ : ∃ q, n = q + 1 := ⟨n - 1, by omega⟩
    rw [show T_pace_b155 nf (n + 1) = T_pace_b155_s nf (T_pace_b155 nf n) from rfl]
    unfold T_pace_b155_s
    rw [show (2 : Int32) = i32 2 from rfl, i32_sub]
    refine ok_lt ⟨by omega, by omega⟩ ⟨by omega, by omega⟩ (fun _ => ?_) (fun z => by omega)
    exact ok_s ⟨rfl, hq⟩
  | succ d ih =>
    intro n k t r c τ h1 h2 ht hr hN hq hM
    obtain ⟨n, rfl⟩ : ∃ q, n = q + 1 := ⟨n - 1, by omega⟩
    have tb := tb0.q hq.1
    have hk : (k : Int) < V 0 := by omega
    obtain ⟨p1, p2, p3, p4, p5, p6, p7, p8⟩ := pc_on hW hV hk (show (0 : Int) ≤ t by omega) hN
    have hwt := wtV_b (sec := sec) (t := (t : Int)) hW hV hk p1
    rw [show T_pace_b155 nf (n + 1) = T_pace_b155_s nf (T_pace_b155 nf n) from rfl]
    unfold T_pace_b155_s
    rw [show (2 : Int32) = i32 2 from rfl, i32_sub]
    refine ok_lt ⟨by omega, by omega⟩ ⟨by omega, by omega⟩ (fun z => by omega) (fun _ => ?_)
    refine ok_be (s_fastest hW tb.1) ?_
    refine tp_169 (nf := nf) hn hW hV hs tb0 hk ht hr hN (what := what) (z := pS W V sec k t r) (fun τ' q' M' => ?_) (nsA W) nf (fsA W) τ rfl (by omega) (by omega) (by omega) p4 (by omega) hq hM
    obtain ⟨q, hq2⟩ : ∃ q : Nat, (t : Int) + (wtV W V sec k t + pS W V sec k t r) = q := ⟨((t : Int) + (wtV W V sec k t + pS W V sec k t r)).toNat, by omega⟩
    have er : (if pS W V sec k t r < W 2 then (r : Int) - 1 else r) = (((if pS W V sec k t r < W 2 then r - 1 else r) : Nat) : Int) := by
      by_cases q3 : pS W V sec k t r < W 2
      · have := p7 q3
        rw [if_pos q3, if_pos q3]
        omega
      · rw [if_neg q3, if_neg q3]
    have L := ih n (k + 1) q (if pS W V sec k t r < W 2 then r - 1 else r) (pS W V sec k t r) τ' (by omega) (by omega) (by omega) (by rw [← er]; split <;> omega) (by rw [← hq2, p8]; exact p2) q' M'
    rw [← hq2] at L
    rw [er]
    exact L
/-- a time, and at how many corners one stands -/
theorem pc_mod (hW : TW W) (hV : VW W V) : ∀ (d k : Nat) (t : Int) (r : Nat), (k : Int) + d = V 0 → 0 ≤ t → pcN W V sec d k t r = 100000000 ∨ ∃ (a : Int), 0 ≤ a ∧ t ≤ pcN W V sec d k t r - 100000 * a ∧ pcN W V sec d k t r - 100000 * a ≤ t + 89 * d := by
  intro d
  induction d with
  | zero => intro k t r _ _; exact .inr ⟨0, by omega, show t ≤ t - 100000 * 0 by omega, show t - 100000 * 0 ≤ t + 89 * ((0 : Nat) : Int) by omega⟩
  | succ d ih =>
    intro k t r hk h0
    have hkV : (k : Int) < V 0 := by omega
    have hf := fs_b hW
    by_cases q : pcN W V sec (d + 1) k t r = 100000000
    · exact .inl q
    · right
      have ed : d + 1 = (V 0).toNat - k := by omega
      rw [ed] at q ⊢
      obtain ⟨p1, p2, p3, p4, p5, p6, p7, p8⟩ := pc_on hW hV hkV h0 q
      have hwt := wtV_b (sec := sec) (t := t) hW hV hkV p1
      rw [p3]
      rcases ih (k + 1) (t + (wtV W V sec k t + pS W V sec k t r)) (if pS W V sec k t r < W 2 then r - 1 else r) (by omega) (by omega) with z | ⟨a, a1, a2, a3⟩
      · rw [show d = (V 0).toNat - (k + 1) by omega, p8] at z
        exact absurd z p2
      · rw [show d = (V 0).toNat - (k + 1) by omega, p8] at a2 a3
        by_cases q5 : 0 < wtV W V sec k t
        · refine ⟨a + 1, by omega, ?_, ?_⟩
          · rw [if_pos q5]; omega
          · rw [if_pos q5]; omega
        · refine ⟨a, by omega, ?_, ?_⟩
          · rw [if_neg q5]; omega
          · rw [if_neg q5]; omega
theorem tp_87 (hn : 100 ≤ nf) (hW : TW W) (hV : VW W V) (hs : 0 ≤ sec ∧ sec ≤ 1000000) (tb : TB W S V m Tp RC τ) {what : Int} (hv0 : ¬ V 0 = 0) (hw : 0 ≤ what ∧ what ≤ 1 + V 0) (hM : Mpc W V sec τ) : Ok (T_pace_b87 nf (i32 sec) (i32 what) (i32 (rsA W)) τ) fun p => p.1 = i32 (pgV W V sec what) ∧ Tk τ p.2 := by
  have v0 := hV.1
  have hrs := rs_b hW
  unfold T_pace_b87 pgV
  rw [if_pos ⟨hs, hv0, hw⟩]
  have L := t_bestPace (nf := nf) hn hW hV hs tb (V 0).toNat 20 0 0 (rsA W).toNat τ (by omega) (by omega) (by omega) (by omega) Tk.rf hM
  rw [← toI hrs.1, Nat.sub_zero] at L
  have hb := tw_b (sec := sec) hW hV (k := 0) (t := 0) (r := (rsA W).toNat) (by omega) (by omega)
  have hm := pc_mod (sec := sec) hW hV (V 0).toNat 0 0 (rsA W).toNat (by omega) (by omega)
  have hN := pcN_b (sec := sec) hW hV (V 0).toNat 0 0 (rsA W).toNat (by omega) (by omega)
  unfold pcB at hN
  rw [Nat.sub_zero] at hb
  have L : Ok (T_bestPace nf 20 0 0 (i32 (rsA W)) τ) fun p => p.1 = i32 (wvP (pcN W V sec (V 0).toNat 0 0 (rsA W).toNat)) ∧ Tk τ p.2 ∧ Mpc W V sec p.2 := L
  have hb : 1 ≤ wvP (pcN W V sec (V 0).toNat 0 0 (rsA W).toNat) ∧ wvP (pcN W V sec (V 0).toNat 0 0 (rsA W).toNat) ≤ 2000000000 := hb
  refine ok_2 L fun v τ1 hv => ?_
  have hv1 : v = i32 (wvP (pcN W V sec (V 0).toNat 0 0 (rsA W).toNat)) := hv.1
  rw [hv1]
  have tb1 := tb.q hv.2.1.1
  unfold T_pace_b110
  rw [show (2000000000 : Int32) = i32 2000000000 from rfl, show (2 : Int32) = i32 2 from rfl]
  refine ok_q ⟨by omega, by omega⟩ ⟨by omega, by omega⟩ (fun q3 => ?_) (fun q3 => ?_)
  · have e : pcN W V sec (V 0).toNat 0 0 (rsA W).toNat = 100000000 := by
      unfold wvP at q3
      split at q3 <;> omega
    rw [q3, if_pos rfl, if_pos e]
    exact ok_s ⟨rfl, hv.2.1⟩
  · have e : ¬ pcN W V sec (V 0).toNat 0 0 (rsA W).toNat = 100000000 := fun z => q3 (by rw [z]; rfl)
    have ew : wvP (pcN W V sec (V 0).toNat 0 0 (rsA W).toNat) = pcN W V sec (V 0).toNat 0 0 (rsA W).toNat + 1 := if_neg e
    rw [if_neg e]
    refine ok_le ⟨by omega, by omega⟩ ⟨by omega, by omega⟩ (fun q4 => ?_) (fun q4 => ?_)
    · rw [if_neg (show ¬ what = 0 by omega), if_neg (show ¬ what = 1 by omega)]
      have K := tp_155 (nf := nf) hn hW hV hs tb (what := what) (by omega) (what - 1).toNat nf 0 0 (rsA W).toNat 0 τ1 (by omega) (by omega) (by omega) (by omega) (by rw [Nat.sub_zero]; exact e) hv.2.1 hv.2.2
      rw [← toI hrs.1] at K
      exact K
    · rw [ew] at q3 hb ⊢
      rcases hm with z | ⟨a, a1, a2, a3⟩
      · exact absurd z e
      · rw [if_neg (fun y => q3 ((i32_eq ⟨by omega, by omega⟩ ⟨by omega, by omega⟩).mp y)), show (0 : Int32) = i32 0 from rfl, show (100000 : Int32) = i32 100000 from rfl]
        refine ok_q ⟨by omega, by omega⟩ ⟨by omega, by omega⟩ (fun q5 => ?_) (fun q5 => ?_)
        · rw [if_pos q5, div_c (by omega) (by omega) (by omega) (by omega), show (pcN W V sec (V 0).toNat 0 0 (rsA W).toNat + 1) / 100000 = pcN W V sec (V 0).toNat 0 0 (rsA W).toNat / 100000 by omega]
          exact ok_s ⟨rfl, hv.2.1⟩
        · rw [if_neg q5, if_pos (show what = 1 by omega), rem_c (by omega) (by omega) (by omega) (by omega), i32_add, show (1 : Int32) = i32 1 from rfl, i32_sub, show sec + (pcN W V sec (V 0).toNat 0 0 (rsA W).toNat + 1) % 100000 - 1 = sec + pcN W V sec (V 0).toNat 0 0 (rsA W).toNat % 100000 by omega]
          exact ok_s ⟨rfl, hv.2.1⟩
theorem tp_42 (hn : 100 ≤ nf) (hW : TW W) (hV : VW W V) (hs : 0 ≤ sec ∧ sec ≤ 1000000) {τ0 : TS} (tb0 : TB W S V m Tp RC τ0) {what : Int} (hv0 : ¬ V 0 = 0) (hw : 0 ≤ what ∧ what ≤ 1 + V 0) : ∀ (d n j : Nat) (τ : TS), j + d = 156000 → d < n → Tk τ0 τ → (∀ q, q < j → tA τ 36 q = i32 0) → Ok (T_pace_b42 nf n (i32 sec) (i32 what) (i32 j) τ) fun p => p.1 = i32 (pgV W V sec what) ∧ Tk τ0 p.2 := by
  have v0 := hV.1
  have hrs := rs_b hW
  have h5 := hW.2.2.2.2.2.1
  have h6 := hW.2.2.2.2.2.2.1
  intro d
  induction d with
  | zero =>
    intro n j τ h1 h2 hq hj
    obtain ⟨n, rfl⟩ : ∃ q, n = q + 1 := ⟨n - 1, by omega⟩
    have hk : Tk τ (sI τ 37 (i32 sec)) := Tk.sI rfl rfl
    have tb := tb0.q (hq.tr hk).1
    have hM : Mpc W V sec (sI τ 37 (i32 sec)) := by
      refine ⟨by rw [tI_sI, if_pos rfl], fun k t r a1 a2 a3 => .inl ?_⟩
      rw [tA_sI]
      exact hj _ (by rw [show j = 156000 by omega]; exact tIp_b (by omega) a2 (by omega))
    have L := tp_87 (nf := nf) hn hW hV hs tb hv0 hw hM
    rw [show T_pace_b42 nf (n + 1) = T_pace_b42_s nf (T_pace_b42 nf n) from rfl]
    unfold T_pace_b42_s
    rw [show (156000 : Int32) = i32 156000 from rfl]
    refine ok_le ⟨by omega, by omega⟩ ⟨by omega, by omega⟩ (fun _ => ?_) (fun z => by omega)
    rw [nm_eq]
    generalize sI τ 37 (i32 sec) = τ1 at hk tb hM L ⊢
    rw [show (6 : Int32) = i32 ((6 : Nat) : Int) from rfl, s_ld τ1 tb.1 (by omega), show (1 : Int32) = i32 1 from rfl]
    have fin : ∀ p : Int32 × TS, (p.1 = i32 (pgV W V sec what) ∧ Tk τ1 p.2) → (p.1 = i32 (pgV W V sec what) ∧ Tk τ0 p.2) := fun p hp => ⟨hp.1, (hq.tr hk).tr hp.2⟩
    unfold rsA at L
    refine ok_q ⟨by omega, by omega⟩ ⟨by omega, by omega⟩ (fun q => ?_) (fun q => ?_)
    · rw [if_pos q] at L
      exact ok_w L fin
    · rw [if_neg q] at L
      rw [show (5 : Int32) = i32 ((5 : Nat) : Int) from rfl, s_ld τ1 tb.1 (by omega)]
      exact ok_w L fin
  | succ d ih =>
    intro n j τ h1 h2 hq hj
    obtain ⟨n, rfl⟩ : ∃ q, n = q + 1 := ⟨n - 1, by omega⟩
    rw [show T_pace_b42 nf (n + 1) = T_pace_b42_s nf (T_pace_b42 nf n) from rfl]
    unfold T_pace_b42_s
    rw [show (156000 : Int32) = i32 156000 from rfl]
    refine ok_le ⟨by omega, by omega⟩ ⟨by omega, by omega⟩ (fun z => by omega) (fun _ => ?_)
    refine ok_sA (by omega) (by show _ < ((156000 : Nat) : Int); omega) (by decide) ?_
    rw [Int.toNat_natCast, show (1 : Int32) = i32 1 from rfl, i32_add]
    refine ih n (j + 1) _ (by omega) (by omega) (hq.tr (Tk.sA rfl rfl)) fun q hq2 => ?_
    rw [tA_sA, if_pos rfl]
    by_cases e : q = j
    · rw [e, upd_e]
      rfl
    · rw [upd_n _ _ e]
      exact hj q (by omega)
theorem t_pace (hn : 160000 ≤ nf) (tb : TB W S V m Tp RC τ) (hW : TW W) (hV : VW W V) {what : Int} (hs : ok32 sec) (hw : ok32 what) : Ok (T_pace nf (i32 sec) (i32 what) τ) fun p => p.1 = i32 (pgV W V sec what) ∧ Tk τ p.2 := by
  have v0 := hV.1
  have hk := tk_z τ
  have tb2 : TB W S V m Tp RC (sI τ 0 0) := tb.q hk.1
  unfold T_pace
  rw [nm_eq]
  generalize sI τ 0 0 = τ1 at hk tb2 ⊢
  refine ok_be (s_isSecond hs) ?_
  by_cases q1 : 0 ≤ sec ∧ sec ≤ 1000000
  · rw [decide_eq_true q1, if_neg (show ¬ bi true = (0 : Int32) by decide), show (0 : Int32) = i32 ((0 : Nat) : Int) from rfl, s_wk tb2 (by omega), show (1 : Int32) = i32 1 from rfl, i32_add]
    refine ok_be (s_w3 hw 0 (1 + V 0) (by omega)) ?_
    by_cases q2 : 0 ≤ what ∧ what ≤ 1 + V 0
    · rw [decide_eq_true q2, if_neg (show ¬ bi true = i32 ((0 : Nat) : Int) by decide), s_wk tb2 (by omega)]
      refine ok_q ⟨by omega, by omega⟩ ⟨by omega, by omega⟩ (fun q => ?_) (fun q => ?_)
      · unfold pgV
        rw [if_neg (fun z => z.2.1 q)]
        exact ok_s ⟨rfl, hk⟩
      · exact ok_w (tp_42 (nf := nf) (by omega) hW hV q1 tb2 q q2 156000 nf 0 τ1 rfl (by omega) Tk.rf (fun q hq => absurd hq (by omega))) fun p hp => ⟨hp.1, hk.tr hp.2⟩
    · rw [decide_eq_false q2, if_pos (show bi false = i32 ((0 : Nat) : Int) from rfl)]
      unfold pgV
      rw [if_neg (fun z => q2 z.2.2)]
      exact ok_s ⟨rfl, hk⟩
  · rw [decide_eq_false q1, if_pos (show bi false = (0 : Int32) from rfl)]
    unfold pgV
    rw [if_neg (fun z => q1 z.1)]
    exact ok_s ⟨rfl, hk⟩
end PU
